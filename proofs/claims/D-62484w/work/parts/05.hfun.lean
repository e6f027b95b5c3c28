/-- java/lang/AbstractStringBuilder.<init>(I)V -/
def x_ASB_init_J14 (st : HS) (l0 : Nat) (w0 : Nat) (w1 : Nat) : Option HS :=
  (hP st w1 5 0 (.ref w0)).bind fun st1 =>
  (hP st1 l0 5 1 (.int 0)).bind fun st2 =>
  some st2
def x_ASB_init (st : HS) (this : Nat) (a1 : Int32) : Option HS :=
  if (1 : Int32) = 0 then
    none
  else
    (some (hNx st)).bind fun ad1 =>
    (hNewA st 1 a1).bind fun st2 =>
    x_ASB_init_J14 st2 this ad1 this
/-- java/lang/Math.max(II)I -/
def x_Math_max (st : HS) (a0 : Int32) (a1 : Int32) : Option Int32 :=
  if a0 < a1 then
    some a1
  else
    some a0
/-- jdk/internal/util/ArraysSupport.newLength(III)I -/
def x_AS_newLength (st : HS) (a0 : Int32) (a1 : Int32) (a2 : Int32) : Option Int32 :=
  (x_Math_max st a1 a2).bind fun x1 =>
  (some ((a0 + x1))).bind fun x2 =>
  if x2 ≤ 0 then
    none
  else
    if 2147483639 < x2 then
      none
    else
      some x2
/-- java/lang/AbstractStringBuilder.newCapacity(I)I -/
def x_ASB_newCapacity (st : HS) (this : Nat) (a1 : Int32) : Option Int32 :=
  (hR st this 5 0).bind fun x1 =>
  x1.bind fun ad2 =>
  (hLen st ad2).bind fun x3 =>
  (hI st this 5 1).bind fun x4 =>
  (some ((a1 <<< (x4 &&& 31)))).bind fun x5 =>
  (some ((x5 - x3))).bind fun x6 =>
  (hI st this 5 1).bind fun x7 =>
  (x_AS_newLength st x3 x6 (x3 + (2 <<< (x7 &&& 31)))).bind fun x8 =>
  if x8 = 2147483647 then
    none
  else
    (hI st this 5 1).bind fun x9 =>
    some (x8 >>> (x9 &&& 31))
/-- java/lang/Math.min(II)I -/
def x_Math_min (st : HS) (a0 : Int32) (a1 : Int32) : Option Int32 :=
  if a1 < a0 then
    some a1
  else
    some a0
/-- java/util/Arrays.copyOf([BI)[B -/
def x_Arr_copyOf_J17 (st : HS) (l0 : Nat) (l1 : Int32) (w0 : Nat) : Option (Option Nat × HS) :=
  (hLen st l0).bind fun x1 =>
  (x_Math_min st x1 l1).bind fun x2 =>
  (hCpy st l0 0 w0 0 x2).bind fun st3 =>
  some ((some w0), st3)
def x_Arr_copyOf (st : HS) (a0 : Nat) (a1 : Int32) : Option (Option Nat × HS) :=
  (hLen st a0).bind fun x1 =>
  if a1 = x1 then
    none
  else
    (some (hNx st)).bind fun ad2 =>
    (hNewA st 1 a1).bind fun st3 =>
    x_Arr_copyOf_J17 st3 a0 a1 ad2
/-- java/lang/AbstractStringBuilder.ensureCapacityInternal(I)V -/
def x_ASB_ensureCapacityInternal_J35 (st : HS) (w0 : Option Nat) (w1 : Nat) : Option HS :=
  (hP st w1 5 0 (va_rf w0)).bind fun st1 =>
  some st1
def x_ASB_ensureCapacityInternal (st : HS) (this : Nat) (a1 : Int32) : Option HS :=
  (hR st this 5 0).bind fun x1 =>
  x1.bind fun ad2 =>
  (hLen st ad2).bind fun x3 =>
  (hI st this 5 1).bind fun x4 =>
  (some ((x3 >>> (x4 &&& 31)))).bind fun x5 =>
  if (a1 - x5) ≤ 0 then
    some st
  else
    (hR st this 5 0).bind fun x6 =>
    (hIs st this 5).bind fun u7 =>
    (x_ASB_newCapacity st this a1).bind fun x8 =>
    (hI st this 5 1).bind fun x9 =>
    x6.bind fun ad10 =>
    (x_Arr_copyOf st ad10 (x8 <<< (x9 &&& 31))).bind fun q11 =>
    x_ASB_ensureCapacityInternal_J35 q11.2 q11.1 this
/-- java/lang/AbstractStringBuilder.isLatin1()Z -/
def x_ASB_isLatin1 (st : HS) (this : Nat) : Option Int32 :=
  if (1 : Int32) = 0 then
    some 0
  else
    (hI st this 5 1).bind fun x1 =>
    if x1 = 0 then
      some 1
    else
      some 0
/-- java/lang/StringLatin1.canEncode(C)Z -/
def x_L1_canEncode (st : HS) (a0 : Int32) : Option Int32 :=
  if 255 < a0 then
    some 0
  else
    some 1
/-- java/lang/AbstractStringBuilder.append(C)Ljava/lang/AbstractStringBuilder; -/
def x_ASB_append_J10 (st : HS) (l0 : Nat) (l1 : Int32) : Option (Option Nat × HS) :=
  (hIs st l0 5).bind fun u1 =>
  (x_ASB_isLatin1 st l0).bind fun x2 =>
  if x2 = 0 then
    none
  else
    (x_L1_canEncode st l1).bind fun x3 =>
    if x3 = 0 then
      none
    else
      (hR st l0 5 0).bind fun x4 =>
      (hI st l0 5 3).bind fun x5 =>
      (hP st l0 5 3 (.int (x5 + 1))).bind fun st6 =>
      x4.bind fun ad7 =>
      (hWi st6 ad7 1 x5 (vp_nar .byte ((l1 : Int32).toInt8.toInt32))).bind fun st8 =>
      some ((some l0), st8)
def x_ASB_append (st : HS) (this : Nat) (a1 : Int32) : Option (Option Nat × HS) :=
  (hI st this 5 3).bind fun x1 =>
  (hIs st this 5).bind fun u2 =>
  (x_ASB_ensureCapacityInternal st this (x1 + 1)).bind fun st3 =>
  x_ASB_append_J10 st3 this a1
/-- java/lang/AbstractStringBuilder.getValue()[B -/
def x_ASB_getValue (st : HS) (this : Nat) : Option (Option Nat) :=
  (hR st this 5 0).bind fun x1 =>
  some x1
/-- java/lang/AbstractStringBuilder.length()I -/
def x_ASB_length (st : HS) (this : Nat) : Option Int32 :=
  (hI st this 5 3).bind fun x1 =>
  some x1
/-- java/lang/AbstractStringBuilder.setLength(I)V -/
def x_ASB_setLength_J76 (st : HS) (l0 : Nat) (l1 : Int32) : Option HS :=
  (hP st l0 5 3 (.int l1)).bind fun st1 =>
  some st1
def x_ASB_setLength_J18 (st : HS) (l0 : Nat) (l1 : Int32) : Option HS :=
  (hI st l0 5 3).bind fun x1 =>
  if l1 ≤ x1 then
    (hI st l0 5 3).bind fun x2 =>
    if x2 ≤ l1 then
      x_ASB_setLength_J76 st l0 l1
    else
      (hP st l0 5 2 (.int 1)).bind fun st3 =>
      x_ASB_setLength_J76 st3 l0 l1
  else
    none
def x_ASB_setLength (st : HS) (this : Nat) (a1 : Int32) : Option HS :=
  if 0 ≤ a1 then
    (hIs st this 5).bind fun u1 =>
    (x_ASB_ensureCapacityInternal st this a1).bind fun st2 =>
    x_ASB_setLength_J18 st2 this a1
  else
    none
/-- java/lang/StringBuilder.<init>()V -/
def x_SB_init_J6 (st : HS) : Option HS :=
  some st
def x_SB_init (st : HS) (this : Nat) : Option HS :=
  (x_ASB_init st this 16).bind fun st1 =>
  x_SB_init_J6 st1
/-- java/lang/StringBuilder.append(C)Ljava/lang/StringBuilder; -/
def x_SB_append_J5 (st : HS) (l0 : Nat) (w0 : Option Nat) : Option (Option Nat × HS) :=
  some ((some l0), st)
def x_SB_append (st : HS) (this : Nat) (a1 : Int32) : Option (Option Nat × HS) :=
  (hIs st this 5).bind fun u1 =>
  (x_ASB_append st this a1).bind fun q2 =>
  x_SB_append_J5 q2.2 this q2.1
/-- java/lang/StringBuilder.length()I -/
def x_SB_length (st : HS) (this : Nat) : Option Int32 :=
  (hIs st this 5).bind fun u1 =>
  (x_ASB_length st this).bind fun x2 =>
  some x2
/-- java/lang/StringBuilder.setLength(I)V -/
def x_SB_setLength_J5 (st : HS) : Option HS :=
  some st
def x_SB_setLength (st : HS) (this : Nat) (a1 : Int32) : Option HS :=
  (hIs st this 5).bind fun u1 =>
  (x_ASB_setLength st this a1).bind fun st2 =>
  x_SB_setLength_J5 st2
/-- java/util/Arrays.checkLength(II)V -/
def x_Arr_checkLength (st : HS) (a0 : Int32) (a1 : Int32) : Option Unit :=
  if a0 ≤ a1 then
    some ()
  else
    none
/-- java/util/Arrays.copyOfRangeByte([BII)[B -/
def x_Arr_copyOfRangeByte_J12 (st : HS) (l0 : Nat) (l1 : Int32) (l3 : Int32) (w0 : Nat) : Option (Option Nat × HS) :=
  (hLen st l0).bind fun x1 =>
  (x_Math_min st (x1 - l1) l3).bind fun x2 =>
  (hCpy st l0 l1 w0 0 x2).bind fun st3 =>
  some ((some w0), st3)
def x_Arr_copyOfRangeByte (st : HS) (a0 : Nat) (a1 : Int32) (a2 : Int32) : Option (Option Nat × HS) :=
  (x_Arr_checkLength st a1 a2).bind fun x1 =>
  (some ((a2 - a1))).bind fun x2 =>
  (some (hNx st)).bind fun ad3 =>
  (hNewA st 1 x2).bind fun st4 =>
  x_Arr_copyOfRangeByte_J12 st4 a0 a1 x2 ad3
/-- java/util/Arrays.copyOfRange([BII)[B -/
def x_Arr_copyOfRange_J21 (st : HS) (w0 : Nat) : Option (Option Nat × HS) :=
  (hLen st w0).bind fun x1 =>
  (hB st w0).bind fun u2 =>
  some ((some w0), st)
def x_Arr_copyOfRange_J16 (st : HS) (w0 : Option Nat) : Option (Option Nat × HS) :=
  some (w0, st)
def x_Arr_copyOfRange_J10 (st : HS) (l0 : Nat) (l1 : Int32) (l2 : Int32) : Option (Option Nat × HS) :=
  (x_Arr_copyOfRangeByte st l0 l1 l2).bind fun q1 =>
  x_Arr_copyOfRange_J16 q1.2 q1.1
def x_Arr_copyOfRange (st : HS) (a0 : Nat) (a1 : Int32) (a2 : Int32) : Option (Option Nat × HS) :=
  if a1 = 0 then
    (hLen st a0).bind fun x1 =>
    if a2 = x1 then
      (some (hNx st)).bind fun ad3 =>
      (hCln st a0).bind fun st2 =>
      x_Arr_copyOfRange_J21 st2 ad3
    else
      x_Arr_copyOfRange_J10 st a0 a1 a2
  else
    x_Arr_copyOfRange_J10 st a0 a1 a2
/-- java/lang/String.<init>(Ljava/lang/AbstractStringBuilder;Ljava/lang/Void;)V -/
def x_Str_init2_J35 (st : HS) (w0 : Option Nat) (w1 : Nat) : Option HS :=
  (hP st w1 6 0 (va_rf w0)).bind fun st1 =>
  some st1
def x_Str_init2 (st : HS) (this : Nat) (a1 : Nat) (a2 : Option Nat) : Option HS :=
  (hIs st a1 5).bind fun u1 =>
  (x_ASB_getValue st a1).bind fun x2 =>
  (hIs st a1 5).bind fun u3 =>
  (x_SB_length st a1).bind fun x4 =>
  (hIs st a1 5).bind fun u5 =>
  (x_ASB_isLatin1 st a1).bind fun x6 =>
  if x6 = 0 then
    none
  else
    (hP st this 6 1 (.int 0)).bind fun st7 =>
    x2.bind fun ad8 =>
    (x_Arr_copyOfRange st7 ad8 0 x4).bind fun q9 =>
    x_Str_init2_J35 q9.2 q9.1 this
/-- java/lang/String.<init>(Ljava/lang/StringBuilder;)V -/
def x_Str_init_J6 (st : HS) : Option HS :=
  some st
def x_Str_init (st : HS) (this : Nat) (a1 : Nat) : Option HS :=
  (x_Str_init2 st this a1 none).bind fun st1 =>
  x_Str_init_J6 st1
/-- java/lang/StringBuilder.toString()Ljava/lang/String; -/
def x_SB_toString_J8 (st : HS) (w0 : Nat) : Option (Option Nat × HS) :=
  some ((some w0), st)
def x_SB_toString_J3 (st : HS) (l0 : Nat) (w0 : Nat) : Option (Option Nat × HS) :=
  (x_Str_init st w0 l0).bind fun st1 =>
  x_SB_toString_J8 st1 w0
def x_SB_toString (st : HS) (this : Nat) : Option (Option Nat × HS) :=
  (some (hNx st)).bind fun ad1 =>
  (some (hNew st 6)).bind fun st2 =>
  x_SB_toString_J3 st2 this ad1
/-- java/lang/String.isLatin1()Z -/
def x_Str_isLatin1 (st : HS) (this : Nat) : Option Int32 :=
  if (1 : Int32) = 0 then
    some 0
  else
    (hI st this 6 1).bind fun x1 =>
    if x1 = 0 then
      some 1
    else
      some 0
/-- jdk/internal/util/Preconditions.checkIndex(IILjava/util/function/BiFunction;)I -/
def x_Pre_checkIndex (st : HS) (a0 : Int32) (a1 : Int32) (a2 : Option Nat) : Option Int32 :=
  if a0 < 0 then
    none
  else
    if a0 < a1 then
      some a0
    else
      none
/-- java/lang/String.checkIndex(II)V -/
def x_Str_checkIndex (st : HS) (a0 : Int32) (a1 : Int32) : Option Unit :=
  (x_Pre_checkIndex st a0 a1 (hFm st)).bind fun x1 =>
  some ()
/-- java/lang/StringLatin1.charAt([BI)C -/
def x_L1_charAt (st : HS) (a0 : Nat) (a1 : Int32) : Option Int32 :=
  (hLen st a0).bind fun x1 =>
  (x_Str_checkIndex st a1 x1).bind fun x2 =>
  (hAi st a0 1 a1).bind fun x3 =>
  (nchk .char ((((x3 &&& 255) : Int32).toUInt32 % 65536).toInt32)).bind fun x4 =>
  some x4
/-- java/lang/String.charAt(I)C -/
def x_Str_charAt (st : HS) (this : Nat) (a1 : Int32) : Option Int32 :=
  (hIs st this 6).bind fun u1 =>
  (x_Str_isLatin1 st this).bind fun x2 =>
  if x2 = 0 then
    none
  else
    (hR st this 6 0).bind fun x3 =>
    x3.bind fun ad4 =>
    (x_L1_charAt st ad4 a1).bind fun x5 =>
    (nchk .char x5).bind fun x6 =>
    some x6
/-- java/lang/String.coder()B -/
def x_Str_coder (st : HS) (this : Nat) : Option Int32 :=
  if (1 : Int32) = 0 then
    none
  else
    (hI st this 6 1).bind fun x1 =>
    (nchk .byte x1).bind fun x2 =>
    some x2
/-- java/lang/StringLatin1.equals([B[B)Z -/
def x_L1_equals_L9 : Nat → HS → Nat → Nat → Int32 → Option Int32
  | 0, _, _, _, _ => none
  | n + 1, st, l0, l1, l2 =>
    (hLen st l0).bind fun x1 =>
    if x1 ≤ l2 then
      some 1
    else
      (hAi st l0 1 l2).bind fun x2 =>
      (hAi st l1 1 l2).bind fun x3 =>
      if x2 = x3 then
        (some (l2 + 1)).bind fun x4 =>
        x_L1_equals_L9 n st l0 l1 x4
      else
        some 0
def x_L1_equals (st : HS) (a0 : Nat) (a1 : Nat) : Option Int32 :=
  (hLen st a0).bind fun x1 =>
  (hLen st a1).bind fun x2 =>
  if x1 = x2 then
    x_L1_equals_L9 1000 st a0 a1 0
  else
    some 0
/-- java/lang/String.equals(Ljava/lang/Object;)Z -/
def x_Str_equals_J36 (st : HS) (l0 : Nat) (l2 : Nat) : Option Int32 :=
  (hR st l0 6 0).bind fun x1 =>
  (hR st l2 6 0).bind fun x2 =>
  x2.bind fun ad3 =>
  x1.bind fun ad4 =>
  (x_L1_equals st ad4 ad3).bind fun x5 =>
  if x5 = 0 then
    some 0
  else
    some 1
def x_Str_equals (st : HS) (this : Nat) (a1 : Nat) : Option Int32 :=
  if (some this) = (some a1) then
    some 1
  else
    (hIs st a1 6).bind fun u1 =>
    if (1 : Int32) = 0 then
      some 0
    else
      (hIs st a1 6).bind fun u2 =>
      if (1 : Int32) = 0 then
        x_Str_equals_J36 st this a1
      else
        (hI st this 6 1).bind fun x3 =>
        (hI st a1 6 1).bind fun x4 =>
        if x3 = x4 then
          x_Str_equals_J36 st this a1
        else
          some 0
/-- java/lang/String.length()I -/
def x_Str_length (st : HS) (this : Nat) : Option Int32 :=
  (hR st this 6 0).bind fun x1 =>
  x1.bind fun ad2 =>
  (hLen st ad2).bind fun x3 =>
  (hIs st this 6).bind fun u4 =>
  (x_Str_coder st this).bind fun x5 =>
  some (x3 >>> (x5 &&& 31))
/-- java/lang/StringLatin1.canEncode(I)Z -/
def x_L1_canEncodeI (st : HS) (a0 : Int32) : Option Int32 :=
  if a0 < 0 then
    some 0
  else
    if 255 < a0 then
      some 0
    else
      some 1
/-- java/lang/StringLatin1.indexOfChar([BIII)I -/
def x_L1_indexOfChar_L7 : Nat → HS → Nat → Int32 → Int32 → Int32 → Option Int32
  | 0, _, _, _, _, _ => none
  | n + 1, st, l0, l3, l4, l5 =>
    if l3 ≤ l5 then
      some (-1)
    else
      (hAi st l0 1 l5).bind fun x1 =>
      if x1 = l4 then
        some l5
      else
        (some (l5 + 1)).bind fun x2 =>
        x_L1_indexOfChar_L7 n st l0 l3 l4 x2
def x_L1_indexOfChar (st : HS) (a0 : Nat) (a1 : Int32) (a2 : Int32) (a3 : Int32) : Option Int32 :=
  (some ((a1 : Int32).toInt8.toInt32)).bind fun x1 =>
  x_L1_indexOfChar_L7 1000 st a0 a3 x1 a2
/-- java/lang/StringLatin1.indexOf([BIII)I -/
def x_L1_indexOf (st : HS) (a0 : Nat) (a1 : Int32) (a2 : Int32) (a3 : Int32) : Option Int32 :=
  (x_L1_canEncodeI st a1).bind fun x1 =>
  if x1 = 0 then
    some (-1)
  else
    (x_Math_max st a2 0).bind fun x2 =>
    (hLen st a0).bind fun x3 =>
    (x_Math_min st a3 x3).bind fun x4 =>
    if x2 < x4 then
      (x_L1_indexOfChar st a0 a1 x2 x4).bind fun x5 =>
      some x5
    else
      some (-1)
/-- java/lang/String.indexOf(II)I -/
def x_Str_indexOf2 (st : HS) (this : Nat) (a1 : Int32) (a2 : Int32) : Option Int32 :=
  (hIs st this 6).bind fun u1 =>
  (x_Str_isLatin1 st this).bind fun x2 =>
  if x2 = 0 then
    none
  else
    (hR st this 6 0).bind fun x3 =>
    (hIs st this 6).bind fun u4 =>
    (x_Str_length st this).bind fun x5 =>
    x3.bind fun ad6 =>
    (x_L1_indexOf st ad6 a1 a2 x5).bind fun x7 =>
    some x7
/-- java/lang/String.indexOf(I)I -/
def x_Str_indexOf (st : HS) (this : Nat) (a1 : Int32) : Option Int32 :=
  (hIs st this 6).bind fun u1 =>
  (x_Str_indexOf2 st this a1 0).bind fun x2 =>
  some x2
/-- java/lang/Math.floorMod(II)I -/
def x_Math_floorMod (st : HS) (a0 : Int32) (a1 : Int32) : Option Int32 :=
  (if a1 = 0 then none else some ()).bind fun u1 =>
  (some ((a0 - a0 / a1 * a1))).bind fun x2 =>
  if 0 ≤ (a0 ^^^ a1) then
    some x2
  else
    if x2 = 0 then
      some x2
    else
      some (x2 + a1)
/-- java/lang/Enum.ordinal()I -/
def x_Enum_ordinal (st : HS) (this : Nat) : Option Int32 :=
  (hI st this 8 0).bind fun x1 =>
  some x1
/-- NoteSheet$Reader.<init>()V -/
def x_Rdr_init_J18 (st : HS) (w0 : Nat) (w1 : Nat) : Option HS :=
  (hP st w1 4 5 (.ref w0)).bind fun st1 =>
  some st1
def x_Rdr_init_J10 (st : HS) (l0 : Nat) (w0 : Nat) (w1 : Nat) : Option HS :=
  (hP st w1 4 4 (.ref w0)).bind fun st1 =>
  (some (hNx st1)).bind fun ad2 =>
  (hNewA st1 0 64).bind fun st3 =>
  x_Rdr_init_J18 st3 ad2 l0
def x_Rdr_init (st : HS) (this : Nat) : Option HS :=
  (some (hNx st)).bind fun ad1 =>
  (hNewA st 5 64).bind fun st2 =>
  x_Rdr_init_J10 st2 this ad1 this
/-- NoteSheet$Cell.<init>(I)V -/
def x_Cell_init (st : HS) (this : Nat) (a1 : Int32) : Option HS :=
  (hP st this 1 1 (.int 1)).bind fun st1 =>
  (hP st1 this 1 0 (.int a1)).bind fun st2 =>
  some st2
/-- NoteSheet.<init>(I)V -/
def x_NS_init_J88 (k_74 : HS → Nat → Int32 → Option HS) (st : HS) (l0 : Nat) (l2 : Int32) (w0 : Nat) (w1 : Int32) (w2 : Option Nat) : Option HS :=
  (x_Cell_init st w0 l2).bind fun st1 =>
  w2.bind fun ad2 =>
  (hWr st1 ad2 4 w1 w0).bind fun st3 =>
  (some (l2 + 1)).bind fun x4 =>
  k_74 st3 l0 x4
def x_NS_init_L74 : Nat → HS → Nat → Int32 → Option HS
  | 0, _, _, _ => none
  | n + 1, st, l0, l2 =>
    if 12 ≤ l2 then
      some st
    else
      (hR st l0 0 1).bind fun x1 =>
      (some (hNx st)).bind fun ad2 =>
      (some (hNew st 1)).bind fun st3 =>
      x_NS_init_J88 (x_NS_init_L74 n) st3 l0 l2 ad2 l2 x1
def x_NS_init_J69 (st : HS) (l0 : Nat) (w0 : Int32) (w1 : Nat) : Option HS :=
  (hP st w1 0 0 (.int w0)).bind fun st1 =>
  x_NS_init_L74 1000 st1 l0 0
def x_NS_init_J44 (st : HS) (l0 : Nat) (l1 : Int32) (w0 : Nat) (w1 : Nat) : Option HS :=
  (hP st w1 0 9 (.ref w0)).bind fun st1 =>
  if 1 ≤ l1 then
    if l1 ≤ 12 then
      x_NS_init_J69 st1 l0 l1 l0
    else
      x_NS_init_J69 st1 l0 12 l0
  else
    x_NS_init_J69 st1 l0 1 l0
def x_NS_init_J32 (st : HS) (l0 : Nat) (l1 : Int32) (w0 : Nat) (w1 : Nat) : Option HS :=
  (hP st w1 0 3 (.ref w0)).bind fun st1 =>
  (hP st1 l0 0 4 (.int 1)).bind fun st2 =>
  (some (hNx st2)).bind fun ad3 =>
  (hNewA st2 0 3).bind fun st4 =>
  x_NS_init_J44 st4 l0 l1 ad3 l0
def x_NS_init_J28 (st : HS) (l0 : Nat) (l1 : Int32) (w0 : Nat) (w1 : Nat) : Option HS :=
  (x_Rdr_init st w0).bind fun st1 =>
  x_NS_init_J32 st1 l0 l1 w0 w1
def x_NS_init_J21 (st : HS) (l0 : Nat) (l1 : Int32) (w0 : Nat) (w1 : Nat) : Option HS :=
  (hP st w1 0 2 (.ref w0)).bind fun st1 =>
  (some (hNx st1)).bind fun ad2 =>
  (some (hNew st1 4)).bind fun st3 =>
  x_NS_init_J28 st3 l0 l1 ad2 l0
def x_NS_init_J17 (st : HS) (l0 : Nat) (l1 : Int32) (w0 : Nat) (w1 : Nat) : Option HS :=
  (x_SB_init st w0).bind fun st1 =>
  x_NS_init_J21 st1 l0 l1 w0 w1
def x_NS_init_J10 (st : HS) (l0 : Nat) (l1 : Int32) (w0 : Nat) (w1 : Nat) : Option HS :=
  (hP st w1 0 1 (.ref w0)).bind fun st1 =>
  (some (hNx st1)).bind fun ad2 =>
  (some (hNew st1 5)).bind fun st3 =>
  x_NS_init_J17 st3 l0 l1 ad2 l0
def x_NS_init (st : HS) (this : Nat) (a1 : Int32) : Option HS :=
  (some (hNx st)).bind fun ad1 =>
  (hNewA st 4 12).bind fun st2 =>
  x_NS_init_J10 st2 this a1 ad1 this
/-- NoteSheet.type(C)Z -/
def x_NS_type_J69 (st : HS) (w0 : Option Nat) : Option (Int32 × HS) :=
  some (1, st)
def x_NS_type_J42 (st : HS) (l0 : Nat) (l1 : Int32) (w0 : Int32) : Option (Int32 × HS) :=
  if w0 = 0 then
    some (0, st)
  else
    (hR st l0 0 2).bind fun x1 =>
    x1.bind fun ad2 =>
    (hIs st ad2 5).bind fun u3 =>
    (x_SB_length st ad2).bind fun x4 =>
    if x4 < 30 then
      (hR st l0 0 2).bind fun x5 =>
      x5.bind fun ad6 =>
      (hIs st ad6 5).bind fun u7 =>
      (x_SB_append st ad6 l1).bind fun q8 =>
      x_NS_type_J69 q8.2 q8.1
    else
      some (0, st)
def x_NS_type_J41 (st : HS) (l0 : Nat) (l1 : Int32) : Option (Int32 × HS) :=
  x_NS_type_J42 st l0 l1 0
def x_NS_type_J37 (st : HS) (l0 : Nat) (l1 : Int32) : Option (Int32 × HS) :=
  x_NS_type_J42 st l0 l1 1
def x_NS_type_J24 (st : HS) (l0 : Nat) (l1 : Int32) : Option (Int32 × HS) :=
  if l1 ≤ 0 then
    x_NS_type_J41 st l0 l1
  else
    (hIs st (hKc st 11) 6).bind fun u1 =>
    (x_Str_indexOf st (hKc st 11) l1).bind fun x2 =>
    if x2 < 0 then
      x_NS_type_J41 st l0 l1
    else
      x_NS_type_J37 st l0 l1
def x_NS_type_J12 (st : HS) (l0 : Nat) (l1 : Int32) : Option (Int32 × HS) :=
  if l1 < 48 then
    x_NS_type_J24 st l0 l1
  else
    if l1 ≤ 57 then
      x_NS_type_J37 st l0 l1
    else
      x_NS_type_J24 st l0 l1
def x_NS_type (st : HS) (this : Nat) (a1 : Int32) : Option (Int32 × HS) :=
  if a1 < 65 then
    x_NS_type_J12 st this a1
  else
    if a1 ≤ 76 then
      x_NS_type_J37 st this a1
    else
      x_NS_type_J12 st this a1
/-- NoteSheet.cell(I)LNoteSheet$Cell; -/
def x_NS_cell_J10 (st : HS) : Option (Option Nat) :=
  some none
def x_NS_cell (st : HS) (this : Nat) (a1 : Int32) : Option (Option Nat) :=
  if a1 < 0 then
    x_NS_cell_J10 st
  else
    if a1 < 12 then
      (hR st this 0 1).bind fun x1 =>
      x1.bind fun ad2 =>
      (hAr st ad2 4 a1).bind fun x3 =>
      some x3
    else
      x_NS_cell_J10 st
/-- NoteSheet.change(I)V -/
def x_NS_change_L12 : Nat → HS → Nat → Int32 → Int32 → Option HS
  | 0, _, _, _, _ => none
  | n + 1, st, l0, l1, l2 =>
    if l1 < l2 then
      some st
    else
      (hR st l0 0 9).bind fun x1 =>
      (hI st l0 0 4).bind fun x2 =>
      x1.bind fun ad3 =>
      (hWi st ad3 0 l2 x2).bind fun st4 =>
      (some (l2 + 1)).bind fun x5 =>
      x_NS_change_L12 n st4 l0 l1 x5
def x_NS_change (st : HS) (this : Nat) (a1 : Int32) : Option HS :=
  (hI st this 0 4).bind fun x1 =>
  (hP st this 0 4 (.int (x1 + 1))).bind fun st2 =>
  x_NS_change_L12 1000 st2 this a1 0
/-- NoteSheet$Reader.peek()C -/
def x_Rdr_peek (st : HS) (this : Nat) : Option Int32 :=
  (hI st this 4 1).bind fun x1 =>
  (hR st this 4 0).bind fun x2 =>
  x2.bind fun ad3 =>
  (hIs st ad3 6).bind fun u4 =>
  (x_Str_length st ad3).bind fun x5 =>
  if x5 ≤ x1 then
    (nchk .char 0).bind fun x6 =>
    some x6
  else
    (hI st this 4 3).bind fun x7 =>
    if x7 = 0 then
      (hR st this 4 0).bind fun x9 =>
      (hI st this 4 1).bind fun x10 =>
      x9.bind fun ad11 =>
      (hIs st ad11 6).bind fun u12 =>
      (x_Str_charAt st ad11 x10).bind fun x13 =>
      (nchk .char x13).bind fun x14 =>
      some x14
    else
      (nchk .char 0).bind fun x8 =>
      some x8
/-- NoteSheet$Reader.takes(C)Z -/
def x_Rdr_takes_J28 (st : HS) (l2 : Int32) (w0 : Int32) (w1 : Int32) (w2 : Nat) : Option (Int32 × HS) :=
  (hP st w2 4 1 (.int (w1 + w0))).bind fun st1 =>
  (bchk l2).bind fun x2 =>
  some (x2, st1)
def x_Rdr_takes_J13 (st : HS) (l0 : Nat) (w0 : Int32) : Option (Int32 × HS) :=
  (hI st l0 4 1).bind fun x1 =>
  if w0 = 0 then
    x_Rdr_takes_J28 st w0 0 x1 l0
  else
    x_Rdr_takes_J28 st w0 1 x1 l0
def x_Rdr_takes (st : HS) (this : Nat) (a1 : Int32) : Option (Int32 × HS) :=
  (hIs st this 4).bind fun u1 =>
  (x_Rdr_peek st this).bind fun x2 =>
  if x2 = a1 then
    x_Rdr_takes_J13 st this 1
  else
    x_Rdr_takes_J13 st this 0
/-- NoteSheet$Reader.put(LNoteSheet$Op;I)I -/
def x_Rdr_put (st : HS) (this : Nat) (a1 : Nat) (a2 : Int32) : Option (Int32 × HS) :=
  (hR st this 4 4).bind fun x1 =>
  (hI st this 4 2).bind fun x2 =>
  x1.bind fun ad3 =>
  (hWr st ad3 5 x2 a1).bind fun st4 =>
  (hR st4 this 4 5).bind fun x5 =>
  (hI st4 this 4 2).bind fun x6 =>
  x5.bind fun ad7 =>
  (hWi st4 ad7 0 x6 a2).bind fun st8 =>
  (hI st8 this 4 2).bind fun x9 =>
  (hP st8 this 4 2 (.int (x9 + 1))).bind fun st10 =>
  (hI st10 this 4 2).bind fun x11 =>
  some ((x11 - 1), st10)
/-- NoteSheet$Reader.need(C)V -/
def x_Rdr_need_J21 (st : HS) (w0 : Int32) (w1 : Nat) : Option HS :=
  (bchk w0).bind fun x1 =>
  (hP st w1 4 3 (.int x1)).bind fun st2 =>
  some st2
def x_Rdr_need_J16 (st : HS) (w0 : Nat) : Option HS :=
  x_Rdr_need_J21 st 1 w0
def x_Rdr_need (st : HS) (this : Nat) (a1 : Int32) : Option HS :=
  (hI st this 4 3).bind fun x1 =>
  if x1 = 0 then
    (hIs st this 4).bind fun u2 =>
    (x_Rdr_takes st this a1).bind fun q3 =>
    if q3.1 = 0 then
      x_Rdr_need_J16 q3.2 this
    else
      x_Rdr_need_J21 q3.2 0 this
  else
    x_Rdr_need_J16 st this
/-- NoteSheet$Reader.formula(I)V -/
def x_Rdr_formula (g_comparison : HS → Nat → Int32 → Option HS) (g_one : HS → Nat → Int32 → Option HS) (st : HS) (this : Nat) (a1 : Int32) : Option HS :=
  (hIs st this 4).bind fun u1 =>
  (g_comparison st this a1).bind fun st2 =>
  (hIs st2 this 4).bind fun u3 =>
  (x_Rdr_takes st2 this 63).bind fun q4 =>
  if q4.1 = 0 then
    some q4.2
  else
    (hIs q4.2 this 4).bind fun u5 =>
    (x_Rdr_put q4.2 this (hKc q4.2 9) 0).bind fun q6 =>
    (hIs q6.2 this 4).bind fun u7 =>
    (g_one q6.2 this a1).bind fun st8 =>
    (hIs st8 this 4).bind fun u9 =>
    (x_Rdr_need st8 this 58).bind fun st10 =>
    (hIs st10 this 4).bind fun u11 =>
    (x_Rdr_put st10 this (hKc st10 10) 0).bind fun q12 =>
    (hR q12.2 this 4 5).bind fun x13 =>
    (hI q12.2 this 4 2).bind fun x14 =>
    x13.bind fun ad15 =>
    (hWi q12.2 ad15 0 q6.1 x14).bind fun st16 =>
    (hIs st16 this 4).bind fun u17 =>
    (g_one st16 this a1).bind fun st18 =>
    (hR st18 this 4 5).bind fun x19 =>
    (hI st18 this 4 2).bind fun x20 =>
    x19.bind fun ad21 =>
    (hWi st18 ad21 0 q12.1 x20).bind fun st22 =>
    some st22
/-- NoteSheet$Formula.<init>(Ljava/lang/String;[LNoteSheet$Op;[II)V -/
def x_Form_init_L29 : Nat → HS → Nat → Nat → Nat → Int32 → Int32 → Option HS
  | 0, _, _, _, _, _, _ => none
  | n + 1, st, l0, l2, l3, l4, l5 =>
    if l4 ≤ l5 then
      some st
    else
      (hR st l0 2 1).bind fun x1 =>
      (hAr st l2 5 l5).bind fun x2 =>
      x1.bind fun ad3 =>
      x2.bind fun ad4 =>
      (hWr st ad3 5 l5 ad4).bind fun st5 =>
      (hR st5 l0 2 2).bind fun x6 =>
      (hAi st5 l3 0 l5).bind fun x7 =>
      x6.bind fun ad8 =>
      (hWi st5 ad8 0 l5 x7).bind fun st9 =>
      (some (l5 + 1)).bind fun x10 =>
      x_Form_init_L29 n st9 l0 l2 l3 l4 x10
def x_Form_init_J23 (st : HS) (l0 : Nat) (l2 : Nat) (l3 : Nat) (l4 : Int32) (w0 : Nat) (w1 : Nat) : Option HS :=
  (hP st w1 2 2 (.ref w0)).bind fun st1 =>
  x_Form_init_L29 1000 st1 l0 l2 l3 l4 0
def x_Form_init_J15 (st : HS) (l0 : Nat) (l2 : Nat) (l3 : Nat) (l4 : Int32) (w0 : Nat) (w1 : Nat) : Option HS :=
  (hP st w1 2 1 (.ref w0)).bind fun st1 =>
  (some (hNx st1)).bind fun ad2 =>
  (hNewA st1 0 l4).bind fun st3 =>
  x_Form_init_J23 st3 l0 l2 l3 l4 ad2 l0
def x_Form_init (st : HS) (this : Nat) (a1 : Nat) (a2 : Nat) (a3 : Nat) (a4 : Int32) : Option HS :=
  (hP st this 2 0 (.ref a1)).bind fun st1 =>
  (some (hNx st1)).bind fun ad2 =>
  (hNewA st1 5 a4).bind fun st3 =>
  x_Form_init_J15 st3 this a2 a3 a4 ad2 this
/-- NoteSheet.set(III)Z -/
def x_NS_set_J98 (st : HS) (l2 : Int32) (l3 : Int32) (l4 : Nat) : Option (Int32 × HS) :=
  (hP st l4 1 1 (.int 1)).bind fun st1 =>
  (hP st1 l4 1 3 (.int l2)).bind fun st2 =>
  (hP st2 l4 1 4 (.int l3)).bind fun st3 =>
  (hP st3 l4 1 8 (.null)).bind fun st4 =>
  some (1, st4)
def x_NS_set_J89 (st : HS) (l0 : Nat) (l2 : Int32) (l3 : Int32) (l4 : Nat) : Option (Int32 × HS) :=
  (hI st l0 0 4).bind fun x1 =>
  (hP st l4 1 5 (.int x1)).bind fun st2 =>
  x_NS_set_J98 st2 l2 l3 l4
def x_NS_set_J69 (st : HS) (l0 : Nat) (l2 : Int32) (l3 : Int32) (l4 : Nat) (w0 : Int32) (w1 : Nat) : Option (Int32 × HS) :=
  (hIs st w1 0).bind fun u1 =>
  (x_NS_change st w1 w0).bind fun st2 =>
  (hI st2 l4 1 1).bind fun x3 =>
  if x3 = 0 then
    x_NS_set_J89 st2 l0 l2 l3 l4
  else
    (hI st2 l4 1 3).bind fun x4 =>
    if x4 = l2 then
      x_NS_set_J98 st2 l2 l3 l4
    else
      x_NS_set_J89 st2 l0 l2 l3 l4
def x_NS_set_J51 (st : HS) (l0 : Nat) (l2 : Int32) (l3 : Int32) (l4 : Nat) : Option (Int32 × HS) :=
  (hI st l4 1 1).bind fun x1 =>
  if x1 = 0 then
    x_NS_set_J69 st l0 l2 l3 l4 2 l0
  else
    (hI st l4 1 4).bind fun x2 =>
    x_NS_set_J69 st l0 l2 l3 l4 x2 l0
def x_NS_set (st : HS) (this : Nat) (a1 : Int32) (a2 : Int32) (a3 : Int32) : Option (Int32 × HS) :=
  (hIs st this 0).bind fun u1 =>
  (x_NS_cell st this a1).bind fun x2 =>
  if x2 = none then
    some (0, st)
  else
    if a3 < 0 then
      some (0, st)
    else
      if a3 ≤ 2 then
        x2.bind fun ad3 =>
        (hI st ad3 1 1).bind fun x4 =>
        if x4 = 0 then
          x_NS_set_J51 st this a2 a3 ad3
        else
          (hI st ad3 1 3).bind fun x5 =>
          if x5 = a2 then
            (hI st ad3 1 4).bind fun x6 =>
            if x6 = a3 then
              some (1, st)
            else
              x_NS_set_J51 st this a2 a3 ad3
          else
            x_NS_set_J51 st this a2 a3 ad3
      else
        some (0, st)
/-- NoteSheet.bring(LNoteSheet$Cell;)V -/
def x_NS_bring_J175 (g_unchanged : HS → Nat → Nat → Option (Int32 × HS)) (g_workOut : HS → Nat → Nat → Option HS) (st : HS) (l1 : Nat) : Option HS :=
  (hP st l1 1 2 (.int 0)).bind fun st1 =>
  some st1
def x_NS_bring_J170 (g_unchanged : HS → Nat → Nat → Option (Int32 × HS)) (g_workOut : HS → Nat → Nat → Option HS) (st : HS) (l0 : Nat) (l1 : Nat) : Option HS :=
  (hIs st l0 0).bind fun u1 =>
  (g_workOut st l0 l1).bind fun st2 =>
  x_NS_bring_J175 g_unchanged g_workOut st2 l1
def x_NS_bring_J133 (g_unchanged : HS → Nat → Nat → Option (Int32 × HS)) (g_workOut : HS → Nat → Nat → Option HS) (st : HS) (l0 : Nat) (l1 : Nat) (w0 : Int32) : Option HS :=
  if w0 = 0 then
    x_NS_bring_J170 g_unchanged g_workOut st l0 l1
  else
    (hI st l1 1 10).bind fun x1 =>
    (hP st l1 1 10 (.int (x1 + 1))).bind fun st2 =>
    (hI st2 l0 0 7).bind fun x3 =>
    (hP st2 l0 0 7 (.int (x3 + 1))).bind fun st4 =>
    (hR st4 l1 1 8).bind fun x5 =>
    (hI st4 l0 0 4).bind fun x6 =>
    x5.bind fun ad7 =>
    (hP st4 ad7 3 2 (.int x6)).bind fun st8 =>
    x_NS_bring_J175 g_unchanged g_workOut st8 l1
def x_NS_bring_J104 (g_unchanged : HS → Nat → Nat → Option (Int32 × HS)) (g_workOut : HS → Nat → Nat → Option HS) (st : HS) (l0 : Nat) (l1 : Nat) : Option HS :=
  (hR st l1 1 8).bind fun x1 =>
  if x1 = none then
    x_NS_bring_J170 g_unchanged g_workOut st l0 l1
  else
    (hI st l1 1 6).bind fun x2 =>
    (hR st l1 1 8).bind fun x3 =>
    x3.bind fun ad4 =>
    (hI st ad4 3 2).bind fun x5 =>
    if x5 < x2 then
      x_NS_bring_J170 g_unchanged g_workOut st l0 l1
    else
      (hR st l1 1 8).bind fun x6 =>
      x6.bind fun ad7 =>
      (hIs st l0 0).bind fun u8 =>
      (g_unchanged st l0 ad7).bind fun q9 =>
      x_NS_bring_J133 g_unchanged g_workOut q9.2 l0 l1 q9.1
def x_NS_bring_J36 (g_unchanged : HS → Nat → Nat → Option (Int32 × HS)) (g_workOut : HS → Nat → Nat → Option HS) (st : HS) (l0 : Nat) (l1 : Nat) : Option HS :=
  (hP st l1 1 2 (.int 1)).bind fun st1 =>
  (hR st1 l1 1 8).bind fun x2 =>
  if x2 = none then
    x_NS_bring_J104 g_unchanged g_workOut st1 l0 l1
  else
    (hR st1 l0 0 9).bind fun x3 =>
    (hR st1 l1 1 8).bind fun x4 =>
    x4.bind fun ad5 =>
    (hI st1 ad5 3 4).bind fun x6 =>
    x3.bind fun ad7 =>
    (hAi st1 ad7 0 x6).bind fun x8 =>
    (hR st1 l1 1 8).bind fun x9 =>
    x9.bind fun ad10 =>
    (hI st1 ad10 3 2).bind fun x11 =>
    if x11 < x8 then
      x_NS_bring_J104 g_unchanged g_workOut st1 l0 l1
    else
      (hI st1 l1 1 11).bind fun x12 =>
      (hP st1 l1 1 11 (.int (x12 + 1))).bind fun st13 =>
      (hI st13 l0 0 8).bind fun x14 =>
      (hP st13 l0 0 8 (.int (x14 + 1))).bind fun st15 =>
      (hR st15 l1 1 8).bind fun x16 =>
      (hI st15 l0 0 4).bind fun x17 =>
      x16.bind fun ad18 =>
      (hP st15 ad18 3 2 (.int x17)).bind fun st19 =>
      x_NS_bring_J175 g_unchanged g_workOut st19 l1
def x_NS_bring (g_unchanged : HS → Nat → Nat → Option (Int32 × HS)) (g_workOut : HS → Nat → Nat → Option HS) (st : HS) (this : Nat) (a1 : Nat) : Option HS :=
  (hI st a1 1 1).bind fun x1 =>
  if x1 = 0 then
    (hI st a1 1 2).bind fun x2 =>
    if x2 = 0 then
      (hR st a1 1 8).bind fun x3 =>
      if x3 = none then
        x_NS_bring_J36 g_unchanged g_workOut st this a1
      else
        (hR st a1 1 8).bind fun x4 =>
        x4.bind fun ad5 =>
        (hI st ad5 3 2).bind fun x6 =>
        (hI st this 0 4).bind fun x7 =>
        if x6 = x7 then
          some st
        else
          x_NS_bring_J36 g_unchanged g_workOut st this a1
    else
      some st
  else
    some st
/-- NoteSheet$Cell.sinceWhen()I -/
def x_Cell_sinceWhen (st : HS) (this : Nat) : Option Int32 :=
  (hI st this 1 1).bind fun x1 =>
  if x1 = 0 then
    (hR st this 1 8).bind fun x2 =>
    if x2 = none then
      some 0
    else
      (hR st this 1 8).bind fun x3 =>
      x3.bind fun ad4 =>
      (hI st ad4 3 3).bind fun x5 =>
      some x5
  else
    (hI st this 1 5).bind fun x6 =>
    some x6
/-- NoteSheet$Cell.steady()I -/
def x_Cell_steady (st : HS) (this : Nat) : Option Int32 :=
  (hI st this 1 1).bind fun x1 =>
  if x1 = 0 then
    (hR st this 1 8).bind fun x2 =>
    if x2 = none then
      some 0
    else
      (hR st this 1 8).bind fun x3 =>
      x3.bind fun ad4 =>
      (hI st ad4 3 4).bind fun x5 =>
      some x5
  else
    (hI st this 1 4).bind fun x6 =>
    some x6
/-- NoteSheet.unchanged(LNoteSheet$Note;)Z -/
def x_NS_unchanged_J26 (g_bring : HS → Nat → Nat → Option HS) (k_4 : HS → Nat → Nat → Int32 → Int32 → Option (Int32 × HS)) (st : HS) (l0 : Nat) (l1 : Nat) (l2 : Int32) (l3 : Int32) (l4 : Nat) : Option (Int32 × HS) :=
  (hI st l4 1 2).bind fun x1 =>
  if x1 = 0 then
    (hIs st l4 1).bind fun u2 =>
    (x_Cell_sinceWhen st l4).bind fun x3 =>
    (hI st l1 3 2).bind fun x4 =>
    if x3 ≤ x4 then
      (hIs st l4 1).bind fun u5 =>
      (x_Cell_steady st l4).bind fun x6 =>
      (x_Math_min st l2 x6).bind fun x7 =>
      (some (l3 + 1)).bind fun x8 =>
      k_4 st l0 l1 x7 x8
    else
      some (0, st)
  else
    some (0, st)
def x_NS_unchanged_L4 (g_bring : HS → Nat → Nat → Option HS) : Nat → HS → Nat → Nat → Int32 → Int32 → Option (Int32 × HS)
  | 0, _, _, _, _, _ => none
  | n + 1, st, l0, l1, l2, l3 =>
    (hI st l1 3 7).bind fun x1 =>
    if x1 ≤ l3 then
      (hP st l1 3 4 (.int l2)).bind fun st2 =>
      some (1, st2)
    else
      (hR st l1 3 6).bind fun x3 =>
      x3.bind fun ad4 =>
      (hAr st ad4 4 l3).bind fun x5 =>
      x5.bind fun ad6 =>
      (hIs st l0 0).bind fun u7 =>
      (g_bring st l0 ad6).bind fun st8 =>
      x_NS_unchanged_J26 g_bring (x_NS_unchanged_L4 g_bring n) st8 l0 l1 l2 l3 ad6
def x_NS_unchanged (g_bring : HS → Nat → Nat → Option HS) (st : HS) (this : Nat) (a1 : Nat) : Option (Int32 × HS) :=
  x_NS_unchanged_L4 g_bring 1000 st this a1 2 0
/-- NoteSheet$Note.<init>()V -/
def x_Note_init_J10 (st : HS) (w0 : Nat) (w1 : Nat) : Option HS :=
  (hP st w1 3 6 (.ref w0)).bind fun st1 =>
  some st1
def x_Note_init (st : HS) (this : Nat) : Option HS :=
  (some (hNx st)).bind fun ad1 =>
  (hNewA st 4 12).bind fun st2 =>
  x_Note_init_J10 st2 ad1 this
/-- NoteSheet.workOut(LNoteSheet$Cell;)V -/
def x_NS_workOut_J131 (g_result : HS → Nat → Nat → Nat → Option (Int64 × HS)) (st : HS) (l0 : Nat) (l1 : Nat) (l2 : Int32) (l4 : Nat) (w0 : Int32) (w1 : Nat) : Option HS :=
  (hP st w1 3 3 (.int w0)).bind fun st1 =>
  (hI st1 l0 0 4).bind fun x2 =>
  (hP st1 l4 3 2 (.int x2)).bind fun st3 =>
  (hI st3 l0 0 5).bind fun x4 =>
  (hP st3 l0 0 5 (.int (x4 + 1))).bind fun st5 =>
  (hI st5 l0 0 5).bind fun x6 =>
  (hP st5 l4 3 5 (.int x6)).bind fun st7 =>
  (hP st7 l1 1 8 (.ref l4)).bind fun st8 =>
  (bchk l2).bind fun x9 =>
  (hP st8 l1 1 2 (.int x9)).bind fun st10 =>
  some st10
def x_NS_workOut_J111 (g_result : HS → Nat → Nat → Nat → Option (Int64 × HS)) (st : HS) (l0 : Nat) (l1 : Nat) (l2 : Int32) (l3 : Option Nat) (l4 : Nat) (w0 : Int32) : Option HS :=
  if w0 = 0 then
    (hI st l0 0 4).bind fun x1 =>
    x_NS_workOut_J131 g_result st l0 l1 l2 l4 x1 l4
  else
    l3.bind fun ad2 =>
    (hI st ad2 3 3).bind fun x3 =>
    x_NS_workOut_J131 g_result st l0 l1 l2 l4 x3 l4
def x_NS_workOut_J110 (g_result : HS → Nat → Nat → Nat → Option (Int64 × HS)) (st : HS) (l0 : Nat) (l1 : Nat) (l2 : Int32) (l3 : Option Nat) (l4 : Nat) : Option HS :=
  x_NS_workOut_J111 g_result st l0 l1 l2 l3 l4 0
def x_NS_workOut_J106 (g_result : HS → Nat → Nat → Nat → Option (Int64 × HS)) (st : HS) (l0 : Nat) (l1 : Nat) (l2 : Int32) (l3 : Nat) (l4 : Nat) : Option HS :=
  x_NS_workOut_J111 g_result st l0 l1 l2 (some l3) l4 1
def x_NS_workOut_J62 (g_result : HS → Nat → Nat → Nat → Option (Int64 × HS)) (st : HS) (l0 : Nat) (l1 : Nat) (l2 : Int32) (l3 : Option Nat) (l4 : Nat) (w0 : Int64) (w1 : Nat) : Option HS :=
  (hP st w1 3 1 (.long w0)).bind fun st1 =>
  (hP st1 l4 3 0 (.int 1)).bind fun st2 =>
  if l3 = none then
    x_NS_workOut_J110 g_result st2 l0 l1 l2 l3 l4
  else
    l3.bind fun ad3 =>
    (hI st2 ad3 3 2).bind fun x4 =>
    (hI st2 l0 0 4).bind fun x5 =>
    if x4 = x5 then
      x_NS_workOut_J106 g_result st2 l0 l1 l2 ad3 l4
    else
      (hI st2 ad3 3 0).bind fun x6 =>
      if x6 = 0 then
        x_NS_workOut_J110 g_result st2 l0 l1 l2 (some ad3) l4
      else
        (hJ st2 ad3 3 1).bind fun x7 =>
        (hJ st2 l4 3 1).bind fun x8 =>
        if (lg_cmp x7 x8) = 0 then
          x_NS_workOut_J106 g_result st2 l0 l1 l2 ad3 l4
        else
          x_NS_workOut_J110 g_result st2 l0 l1 l2 (some ad3) l4
def x_NS_workOut_J42 (g_result : HS → Nat → Nat → Nat → Option (Int64 × HS)) (st : HS) (l0 : Nat) (l1 : Nat) (l2 : Int32) (l3 : Option Nat) (w0 : Nat) : Option HS :=
  (hP st w0 3 4 (.int 2)).bind fun st1 =>
  (hR st1 l1 1 7).bind fun x2 =>
  x2.bind fun ad3 =>
  (hIs st1 l0 0).bind fun u4 =>
  (g_result st1 l0 ad3 w0).bind fun q5 =>
  x_NS_workOut_J62 g_result q5.2 l0 l1 l2 l3 w0 q5.1 w0
def x_NS_workOut_J38 (g_result : HS → Nat → Nat → Nat → Option (Int64 × HS)) (st : HS) (l0 : Nat) (l1 : Nat) (l2 : Int32) (l3 : Option Nat) (w0 : Nat) : Option HS :=
  (x_Note_init st w0).bind fun st1 =>
  x_NS_workOut_J42 g_result st1 l0 l1 l2 l3 w0
def x_NS_workOut (g_result : HS → Nat → Nat → Nat → Option (Int64 × HS)) (st : HS) (this : Nat) (a1 : Nat) : Option HS :=
  (hI st a1 1 2).bind fun x1 =>
  (hP st a1 1 2 (.int 1)).bind fun st2 =>
  (hI st2 a1 1 9).bind fun x3 =>
  (hP st2 a1 1 9 (.int (x3 + 1))).bind fun st4 =>
  (hI st4 this 0 6).bind fun x5 =>
  (hP st4 this 0 6 (.int (x5 + 1))).bind fun st6 =>
  (hR st6 a1 1 8).bind fun x7 =>
  (some (hNx st6)).bind fun ad8 =>
  (some (hNew st6 3)).bind fun st9 =>
  x_NS_workOut_J38 g_result st9 this a1 x1 x7 ad8
/-- NoteSheet$Note.add(LNoteSheet$Cell;)V -/
def x_Note_add_L2 : Nat → HS → Nat → Nat → Int32 → Option HS
  | 0, _, _, _, _ => none
  | n + 1, st, l0, l1, l2 =>
    (hI st l0 3 7).bind fun x1 =>
    if x1 ≤ l2 then
      (hR st l0 3 6).bind fun x2 =>
      (hI st l0 3 7).bind fun x3 =>
      x2.bind fun ad4 =>
      (hWr st ad4 4 x3 l1).bind fun st5 =>
      (hI st5 l0 3 7).bind fun x6 =>
      (hP st5 l0 3 7 (.int (x6 + 1))).bind fun st7 =>
      some st7
    else
      (hR st l0 3 6).bind fun x8 =>
      x8.bind fun ad9 =>
      (hAr st ad9 4 l2).bind fun x10 =>
      if x10 = (some l1) then
        some st
      else
        (some (l2 + 1)).bind fun x11 =>
        x_Note_add_L2 n st l0 l1 x11
def x_Note_add (st : HS) (this : Nat) (a1 : Nat) : Option HS :=
  x_Note_add_L2 1000 st this a1 0
/-- NoteSheet.given(LNoteSheet$Cell;LNoteSheet$Note;)J -/
def x_NS_given_J26 (g_value : HS → Nat → Nat → Option (Int64 × HS)) (st : HS) (l1 : Nat) (l2 : Nat) (w0 : Int64) : Option (Int64 × HS) :=
  (hI st l2 3 4).bind fun x1 =>
  (hIs st l1 1).bind fun u2 =>
  (x_Cell_steady st l1).bind fun x3 =>
  (x_Math_min st x1 x3).bind fun x4 =>
  (hP st l2 3 4 (.int x4)).bind fun st5 =>
  some (w0, st5)
def x_NS_given (g_value : HS → Nat → Nat → Option (Int64 × HS)) (st : HS) (this : Nat) (a1 : Nat) (a2 : Nat) : Option (Int64 × HS) :=
  (hIs st a2 3).bind fun u1 =>
  (x_Note_add st a2 a1).bind fun st2 =>
  (hI st2 a1 1 2).bind fun x3 =>
  if x3 = 0 then
    (hIs st2 this 0).bind fun u4 =>
    (g_value st2 this a1).bind fun q5 =>
    x_NS_given_J26 g_value q5.2 a1 a2 q5.1
  else
    (hP st2 a2 3 4 (.int 0)).bind fun st6 =>
    some ((1099511627776 : Int64), st6)
/-- NoteSheet.value(LNoteSheet$Cell;)J -/
def x_NS_value_J33 (g_bring : HS → Nat → Nat → Option HS) (g_workOut : HS → Nat → Nat → Option HS) (st : HS) (l0 : Nat) (l1 : Nat) : Option (Int64 × HS) :=
  (hI st l0 0 5).bind fun x1 =>
  (hP st l0 0 5 (.int (x1 + 1))).bind fun st2 =>
  (hR st2 l1 1 8).bind fun x3 =>
  (hI st2 l0 0 5).bind fun x4 =>
  x3.bind fun ad5 =>
  (hP st2 ad5 3 5 (.int x4)).bind fun st6 =>
  (hR st6 l1 1 8).bind fun x7 =>
  x7.bind fun ad8 =>
  (hJ st6 ad8 3 1).bind fun x9 =>
  some (x9, st6)
def x_NS_value_J18 (g_bring : HS → Nat → Nat → Option HS) (g_workOut : HS → Nat → Nat → Option HS) (st : HS) (l0 : Nat) (l1 : Nat) : Option (Int64 × HS) :=
  (hR st l1 1 8).bind fun x1 =>
  x1.bind fun ad2 =>
  (hI st ad2 3 0).bind fun x3 =>
  if x3 = 0 then
    (hIs st l0 0).bind fun u4 =>
    (g_workOut st l0 l1).bind fun st5 =>
    x_NS_value_J33 g_bring g_workOut st5 l0 l1
  else
    x_NS_value_J33 g_bring g_workOut st l0 l1
def x_NS_value (g_bring : HS → Nat → Nat → Option HS) (g_workOut : HS → Nat → Nat → Option HS) (st : HS) (this : Nat) (a1 : Nat) : Option (Int64 × HS) :=
  (hI st a1 1 1).bind fun x1 =>
  if x1 = 0 then
    (hIs st this 0).bind fun u2 =>
    (g_bring st this a1).bind fun st3 =>
    x_NS_value_J18 g_bring g_workOut st3 this a1
  else
    (hI st a1 1 3).bind fun x4 =>
    some ((x4 : Int32).toInt64, st)
/-- NoteSheet.both(LNoteSheet$Op;JJ)J -/
def x_NS_both (st : HS) (a0 : Nat) (a1 : Int64) (a2 : Int64) : Option Int64 :=
  (hIs st a0 8).bind fun u1 =>
  (x_Enum_ordinal st a0).bind fun x2 =>
  if x2 = 3 then
    some ((((a1 + a2)).toInt32 : Int32).toInt64)
  else
  if x2 = 4 then
    some ((((a1 - a2)).toInt32 : Int32).toInt64)
  else
  if x2 = 5 then
    some ((((a1 * a2)).toInt32 : Int32).toInt64)
  else
  if x2 = 6 then
    if (lg_cmp a1 a2) = 0 then
      some (1 : Int64)
    else
      some (0 : Int64)
  else
  if x2 = 7 then
    if 0 ≤ (lg_cmp a1 a2) then
      some (0 : Int64)
    else
      some (1 : Int64)
  else
    if (lg_cmp a1 a2) = 0 then
      some (1 : Int64)
    else
      some (0 : Int64)
/-- NoteSheet.result(LNoteSheet$Formula;LNoteSheet$Note;)J -/
def x_NS_result_J263 (g_given : HS → Nat → Nat → Nat → Option (Int64 × HS)) (k_11 : HS → Nat → Nat → Nat → Nat → Int32 → Int32 → Option (Int64 × HS)) (st : HS) (l0 : Nat) (l1 : Nat) (l2 : Nat) (l3 : Nat) (l4 : Int32) (l5 : Int32) : Option (Int64 × HS) :=
  k_11 st l0 l1 l2 l3 l4 l5
def x_NS_result_J227 (g_given : HS → Nat → Nat → Nat → Option (Int64 × HS)) (k_11 : HS → Nat → Nat → Nat → Nat → Int32 → Int32 → Option (Int64 × HS)) (st : HS) (l0 : Nat) (l1 : Nat) (l2 : Nat) (l3 : Nat) (l4 : Int32) (w0 : Int32) : Option (Int64 × HS) :=
  x_NS_result_J263 g_given k_11 st l0 l1 l2 l3 l4 w0
def x_NS_result_J163 (g_given : HS → Nat → Nat → Nat → Option (Int64 × HS)) (k_11 : HS → Nat → Nat → Nat → Nat → Int32 → Int32 → Option (Int64 × HS)) (st : HS) (l0 : Nat) (l1 : Nat) (l2 : Nat) (l3 : Nat) (l4 : Int32) (l5 : Int32) (w0 : Int64) : Option (Int64 × HS) :=
  if (lg_cmp w0 (1099511627776 : Int64)) = 0 then
    some ((1099511627776 : Int64), st)
  else
    (some (l4 + 1)).bind fun x1 =>
    (hWl st l3 l4 w0).bind fun st2 =>
    x_NS_result_J263 g_given k_11 st2 l0 l1 l2 l3 x1 l5
def x_NS_result_J137 (g_given : HS → Nat → Nat → Nat → Option (Int64 × HS)) (k_11 : HS → Nat → Nat → Nat → Nat → Int32 → Int32 → Option (Int64 × HS)) (st : HS) (l0 : Nat) (l1 : Nat) (l2 : Nat) (l3 : Nat) (l4 : Int32) (l5 : Int32) (w0 : Int64) : Option (Int64 × HS) :=
  x_NS_result_J163 g_given k_11 st l0 l1 l2 l3 l4 l5 w0
def x_NS_result_L11 (g_given : HS → Nat → Nat → Nat → Option (Int64 × HS)) : Nat → HS → Nat → Nat → Nat → Nat → Int32 → Int32 → Option (Int64 × HS)
  | 0, _, _, _, _, _, _, _ => none
  | n + 1, st, l0, l1, l2, l3, l4, l5 =>
    (hR st l1 2 1).bind fun x1 =>
    x1.bind fun ad2 =>
    (hLen st ad2).bind fun x3 =>
    if x3 ≤ l5 then
      (hAl st l3 0).bind fun x4 =>
      some (x4, st)
    else
      (hR st l1 2 2).bind fun x5 =>
      x5.bind fun ad6 =>
      (hAi st ad6 0 l5).bind fun x7 =>
      (hR st l1 2 1).bind fun x8 =>
      x8.bind fun ad9 =>
      (hAr st ad9 5 l5).bind fun x10 =>
      (some (l5 + 1)).bind fun x11 =>
      x10.bind fun ad12 =>
      (hIs st ad12 8).bind fun u13 =>
      (x_Enum_ordinal st ad12).bind fun x14 =>
      if x14 = 0 then
        (some (l4 + 1)).bind fun x15 =>
        (hWl st l3 l4 ((x7 : Int32).toInt64)).bind fun st16 =>
        x_NS_result_J263 g_given (x_NS_result_L11 g_given n) st16 l0 l1 l2 l3 x15 x11
      else
      if x14 = 1 then
        if (some ad12) = (some (hKc st 1)) then
          (hR st l0 0 1).bind fun x26 =>
          x26.bind fun ad27 =>
          (hAr st ad27 4 x7).bind fun x28 =>
          x28.bind fun ad29 =>
          (hIs st l0 0).bind fun u30 =>
          (g_given st l0 ad29 l2).bind fun q31 =>
          x_NS_result_J137 g_given (x_NS_result_L11 g_given n) q31.2 l0 l1 l2 l3 l4 x11 q31.1
        else
          (hR st l0 0 1).bind fun x17 =>
          (some (l4 + (-1))).bind fun x18 =>
          (hAl st l3 x18).bind fun x19 =>
          (x_Math_floorMod st ((x19).toInt32) 12).bind fun x20 =>
          x17.bind fun ad21 =>
          (hAr st ad21 4 x20).bind fun x22 =>
          x22.bind fun ad23 =>
          (hIs st l0 0).bind fun u24 =>
          (g_given st l0 ad23 l2).bind fun q25 =>
          x_NS_result_J163 g_given (x_NS_result_L11 g_given n) q25.2 l0 l1 l2 l3 x18 x11 q25.1
      else
      if x14 = 2 then
        if (some ad12) = (some (hKc st 1)) then
          (hR st l0 0 1).bind fun x41 =>
          x41.bind fun ad42 =>
          (hAr st ad42 4 x7).bind fun x43 =>
          x43.bind fun ad44 =>
          (hIs st l0 0).bind fun u45 =>
          (g_given st l0 ad44 l2).bind fun q46 =>
          x_NS_result_J137 g_given (x_NS_result_L11 g_given n) q46.2 l0 l1 l2 l3 l4 x11 q46.1
        else
          (hR st l0 0 1).bind fun x32 =>
          (some (l4 + (-1))).bind fun x33 =>
          (hAl st l3 x33).bind fun x34 =>
          (x_Math_floorMod st ((x34).toInt32) 12).bind fun x35 =>
          x32.bind fun ad36 =>
          (hAr st ad36 4 x35).bind fun x37 =>
          x37.bind fun ad38 =>
          (hIs st l0 0).bind fun u39 =>
          (g_given st l0 ad38 l2).bind fun q40 =>
          x_NS_result_J163 g_given (x_NS_result_L11 g_given n) q40.2 l0 l1 l2 l3 x33 x11 q40.1
      else
      if x14 = 3 then
        (some (l4 + (-1))).bind fun x47 =>
        (hAl st l3 (x47 - 1)).bind fun x48 =>
        (hAl st l3 x47).bind fun x49 =>
        (x_NS_both st ad12 x48 x49).bind fun x50 =>
        (hWl st l3 (x47 - 1) x50).bind fun st51 =>
        x_NS_result_J263 g_given (x_NS_result_L11 g_given n) st51 l0 l1 l2 l3 x47 x11
      else
      if x14 = 4 then
        (some (l4 + (-1))).bind fun x52 =>
        (hAl st l3 (x52 - 1)).bind fun x53 =>
        (hAl st l3 x52).bind fun x54 =>
        (x_NS_both st ad12 x53 x54).bind fun x55 =>
        (hWl st l3 (x52 - 1) x55).bind fun st56 =>
        x_NS_result_J263 g_given (x_NS_result_L11 g_given n) st56 l0 l1 l2 l3 x52 x11
      else
      if x14 = 5 then
        (some (l4 + (-1))).bind fun x57 =>
        (hAl st l3 (x57 - 1)).bind fun x58 =>
        (hAl st l3 x57).bind fun x59 =>
        (x_NS_both st ad12 x58 x59).bind fun x60 =>
        (hWl st l3 (x57 - 1) x60).bind fun st61 =>
        x_NS_result_J263 g_given (x_NS_result_L11 g_given n) st61 l0 l1 l2 l3 x57 x11
      else
      if x14 = 6 then
        (hAl st l3 (l4 - 1)).bind fun x62 =>
        (hWl st l3 (l4 - 1) ((((-x62)).toInt32 : Int32).toInt64)).bind fun st63 =>
        x_NS_result_J263 g_given (x_NS_result_L11 g_given n) st63 l0 l1 l2 l3 l4 x11
      else
      if x14 = 7 then
        (some (l4 + (-1))).bind fun x64 =>
        (hAl st l3 (x64 - 1)).bind fun x65 =>
        (hAl st l3 x64).bind fun x66 =>
        (x_NS_both st ad12 x65 x66).bind fun x67 =>
        (hWl st l3 (x64 - 1) x67).bind fun st68 =>
        x_NS_result_J263 g_given (x_NS_result_L11 g_given n) st68 l0 l1 l2 l3 x64 x11
      else
      if x14 = 8 then
        (some (l4 + (-1))).bind fun x69 =>
        (hAl st l3 (x69 - 1)).bind fun x70 =>
        (hAl st l3 x69).bind fun x71 =>
        (x_NS_both st ad12 x70 x71).bind fun x72 =>
        (hWl st l3 (x69 - 1) x72).bind fun st73 =>
        x_NS_result_J263 g_given (x_NS_result_L11 g_given n) st73 l0 l1 l2 l3 x69 x11
      else
      if x14 = 9 then
        (some (l4 + (-1))).bind fun x74 =>
        (hAl st l3 x74).bind fun x75 =>
        if (lg_cmp x75 (0 : Int64)) = 0 then
          x_NS_result_J227 g_given (x_NS_result_L11 g_given n) st l0 l1 l2 l3 x74 x7
        else
          x_NS_result_J227 g_given (x_NS_result_L11 g_given n) st l0 l1 l2 l3 x74 x11
      else
      if x14 = 10 then
        x_NS_result_J263 g_given (x_NS_result_L11 g_given n) st l0 l1 l2 l3 l4 x7
      else
        (some (l4 + (-1))).bind fun x76 =>
        (hAl st l3 (x76 - 1)).bind fun x77 =>
        (hAl st l3 x76).bind fun x78 =>
        (x_NS_both st ad12 x77 x78).bind fun x79 =>
        (hWl st l3 (x76 - 1) x79).bind fun st80 =>
        x_NS_result_J263 g_given (x_NS_result_L11 g_given n) st80 l0 l1 l2 l3 x76 x11
def x_NS_result_J4 (g_given : HS → Nat → Nat → Nat → Option (Int64 × HS)) (st : HS) (l0 : Nat) (l1 : Nat) (l2 : Nat) (w0 : Nat) : Option (Int64 × HS) :=
  x_NS_result_L11 g_given 1000 st l0 l1 l2 w0 0 0
def x_NS_result (g_given : HS → Nat → Nat → Nat → Option (Int64 × HS)) (st : HS) (this : Nat) (a1 : Nat) (a2 : Nat) : Option (Int64 × HS) :=
  (some (hNx st)).bind fun ad1 =>
  (hNewA st 3 16).bind fun st2 =>
  x_NS_result_J4 g_given st2 this a1 a2 ad1
/-- NoteSheet.held()I -/
def x_NS_held_J43 (k_4 : HS → Nat → Int32 → Int32 → Option Int32) (st : HS) (l0 : Nat) (l2 : Int32) (w0 : Int32) (w1 : Int32) : Option Int32 :=
  (some ((w1 + w0))).bind fun x1 =>
  (some (l2 + 1)).bind fun x2 =>
  k_4 st l0 x1 x2
def x_NS_held_J42 (k_4 : HS → Nat → Int32 → Int32 → Option Int32) (st : HS) (l0 : Nat) (l2 : Int32) (w0 : Int32) : Option Int32 :=
  x_NS_held_J43 k_4 st l0 l2 0 w0
def x_NS_held_L4 : Nat → HS → Nat → Int32 → Int32 → Option Int32
  | 0, _, _, _, _ => none
  | n + 1, st, l0, l1, l2 =>
    if 12 ≤ l2 then
      some l1
    else
      (hR st l0 0 1).bind fun x1 =>
      x1.bind fun ad2 =>
      (hAr st ad2 4 l2).bind fun x3 =>
      x3.bind fun ad4 =>
      (hR st ad4 1 8).bind fun x5 =>
      if x5 = none then
        x_NS_held_J42 (x_NS_held_L4 n) st l0 l2 l1
      else
        (hR st l0 0 1).bind fun x6 =>
        x6.bind fun ad7 =>
        (hAr st ad7 4 l2).bind fun x8 =>
        x8.bind fun ad9 =>
        (hR st ad9 1 8).bind fun x10 =>
        x10.bind fun ad11 =>
        (hI st ad11 3 0).bind fun x12 =>
        if x12 = 0 then
          x_NS_held_J42 (x_NS_held_L4 n) st l0 l2 l1
        else
          x_NS_held_J43 (x_NS_held_L4 n) st l0 l2 1 l1
def x_NS_held (st : HS) (this : Nat) : Option Int32 :=
  x_NS_held_L4 1000 st this 0 0
/-- NoteSheet.dropOne()V -/
def x_NS_dropOne_J48 (k_4 : HS → Nat → Option Nat → Int32 → Option HS) (st : HS) (l0 : Nat) (l1 : Option Nat) (l2 : Int32) : Option HS :=
  (some (l2 + 1)).bind fun x1 =>
  k_4 st l0 l1 x1
def x_NS_dropOne_J46 (k_4 : HS → Nat → Option Nat → Int32 → Option HS) (st : HS) (l0 : Nat) (l2 : Int32) (l3 : Nat) : Option HS :=
  x_NS_dropOne_J48 k_4 st l0 (some l3) l2
def x_NS_dropOne_L4 : Nat → HS → Nat → Option Nat → Int32 → Option HS
  | 0, _, _, _, _ => none
  | n + 1, st, l0, l1, l2 =>
    if 12 ≤ l2 then
      if l1 = none then
        some st
      else
        l1.bind fun ad1 =>
        (hP st ad1 3 0 (.int 0)).bind fun st2 =>
        some st2
    else
      (hR st l0 0 1).bind fun x3 =>
      x3.bind fun ad4 =>
      (hAr st ad4 4 l2).bind fun x5 =>
      x5.bind fun ad6 =>
      (hR st ad6 1 8).bind fun x7 =>
      if x7 = none then
        x_NS_dropOne_J48 (x_NS_dropOne_L4 n) st l0 l1 l2
      else
        x7.bind fun ad8 =>
        (hI st ad8 3 0).bind fun x9 =>
        if x9 = 0 then
          x_NS_dropOne_J48 (x_NS_dropOne_L4 n) st l0 l1 l2
        else
          if l1 = none then
            x_NS_dropOne_J46 (x_NS_dropOne_L4 n) st l0 l2 ad8
          else
            (hI st ad8 3 5).bind fun x10 =>
            l1.bind fun ad11 =>
            (hI st ad11 3 5).bind fun x12 =>
            if x12 ≤ x10 then
              x_NS_dropOne_J48 (x_NS_dropOne_L4 n) st l0 (some ad11) l2
            else
              x_NS_dropOne_J46 (x_NS_dropOne_L4 n) st l0 l2 ad8
def x_NS_dropOne (st : HS) (this : Nat) : Option HS :=
  x_NS_dropOne_L4 1000 st this none 0
/-- NoteSheet.revision()I -/
def x_NS_revision (st : HS) (this : Nat) : Option Int32 :=
  (hI st this 0 4).bind fun x1 =>
  some x1
/-- NoteSheet.changed(I)I -/
def x_NS_changed_J9 (st : HS) : Option Int32 :=
  some (-1)
def x_NS_changed (st : HS) (this : Nat) (a1 : Int32) : Option Int32 :=
  if a1 < 0 then
    x_NS_changed_J9 st
  else
    if a1 ≤ 2 then
      (hR st this 0 9).bind fun x1 =>
      x1.bind fun ad2 =>
      (hAi st ad2 0 a1).bind fun x3 =>
      some x3
    else
      x_NS_changed_J9 st
/-- NoteSheet.note(II)I -/
def x_NS_note_J139 (st : HS) : Option Int32 :=
  some 1
def x_NS_note (st : HS) (this : Nat) (a1 : Int32) (a2 : Int32) : Option Int32 :=
  (hIs st this 0).bind fun u1 =>
  (x_NS_cell st this a1).bind fun x2 =>
  if x2 = none then
    some (-1)
  else
    x2.bind fun ad3 =>
    (hR st ad3 1 8).bind fun x4 =>
    if a2 = 0 then
      (hI st ad3 1 9).bind fun x5 =>
      some x5
    else
    if a2 = 1 then
      (hI st ad3 1 10).bind fun x6 =>
      some x6
    else
    if a2 = 2 then
      (hI st ad3 1 11).bind fun x7 =>
      some x7
    else
    if a2 = 3 then
      (hIs st ad3 1).bind fun u8 =>
      (x_Cell_sinceWhen st ad3).bind fun x9 =>
      some x9
    else
    if a2 = 4 then
      if x4 = none then
        some 0
      else
        x4.bind fun ad10 =>
        (hI st ad10 3 2).bind fun x11 =>
        some x11
    else
    if a2 = 5 then
      (hIs st ad3 1).bind fun u12 =>
      (x_Cell_steady st ad3).bind fun x13 =>
      some x13
    else
    if a2 = 6 then
      if x4 = none then
        some 0
      else
        x4.bind fun ad14 =>
        (hI st ad14 3 7).bind fun x15 =>
        some x15
    else
    if a2 = 7 then
      (hI st ad3 1 1).bind fun x16 =>
      if x16 = 0 then
        if x4 = none then
          some 0
        else
          x4.bind fun ad17 =>
          (hI st ad17 3 0).bind fun x18 =>
          if x18 = 0 then
            some 0
          else
            x_NS_note_J139 st
      else
        x_NS_note_J139 st
    else
      some (-1)
/-- NoteSheet.read(II)I -/
def x_NS_read_J32 (st : HS) : Option Int32 :=
  some (-1)
def x_NS_read (st : HS) (this : Nat) (a1 : Int32) (a2 : Int32) : Option Int32 :=
  (hIs st this 0).bind fun u1 =>
  (x_NS_cell st this a1).bind fun x2 =>
  if x2 = none then
    x_NS_read_J32 st
  else
    x2.bind fun ad3 =>
    (hR st ad3 1 8).bind fun x4 =>
    if x4 = none then
      x_NS_read_J32 st
    else
      if a2 < 0 then
        x_NS_read_J32 st
      else
        (hR st ad3 1 8).bind fun x5 =>
        x5.bind fun ad6 =>
        (hI st ad6 3 7).bind fun x7 =>
        if a2 < x7 then
          (hR st ad3 1 8).bind fun x8 =>
          x8.bind fun ad9 =>
          (hR st ad9 3 6).bind fun x10 =>
          x10.bind fun ad11 =>
          (hAr st ad11 4 a2).bind fun x12 =>
          x12.bind fun ad13 =>
          (hI st ad13 1 0).bind fun x14 =>
          some x14
        else
          x_NS_read_J32 st
/-- NoteSheet.count(I)I -/
def x_NS_count (st : HS) (this : Nat) (a1 : Int32) : Option Int32 :=
  if a1 = 0 then
    (hI st this 0 6).bind fun x1 =>
    some x1
  else
  if a1 = 1 then
    (hI st this 0 7).bind fun x2 =>
    some x2
  else
  if a1 = 2 then
    (hI st this 0 8).bind fun x3 =>
    some x3
  else
  if a1 = 3 then
    (hIs st this 0).bind fun u4 =>
    (x_NS_held st this).bind fun x5 =>
    some x5
  else
    some (-1)
/-- NoteSheet$Reader.one(I)V -/
def x_Rdr_one (g_formula : HS → Nat → Int32 → Option HS) (st : HS) (this : Nat) (a1 : Int32) : Option HS :=
  (hI st this 4 3).bind fun x1 =>
  if x1 = 0 then
    (hIs st this 4).bind fun u2 =>
    (g_formula st this a1).bind fun st3 =>
    some st3
  else
    some st
/-- NoteSheet$Reader.comparison(I)V -/
def x_Rdr_comparison_J42 (g_sum : HS → Nat → Int32 → Option HS) (st : HS) (l0 : Nat) (l1 : Int32) (l2 : Nat) : Option HS :=
  (hIs st l0 4).bind fun u1 =>
  (g_sum st l0 l1).bind fun st2 =>
  (hIs st2 l0 4).bind fun u3 =>
  (x_Rdr_put st2 l0 l2 0).bind fun q4 =>
  some q4.2
def x_Rdr_comparison_J23 (g_sum : HS → Nat → Int32 → Option HS) (st : HS) (l0 : Nat) (l1 : Int32) (w0 : Nat) : Option HS :=
  (hIs st l0 4).bind fun u1 =>
  (x_Rdr_takes st l0 60).bind fun q2 =>
  if q2.1 = 0 then
    (hIs q2.2 l0 4).bind fun u3 =>
    (x_Rdr_takes q2.2 l0 61).bind fun q4 =>
    if q4.1 = 0 then
      some q4.2
    else
      x_Rdr_comparison_J42 g_sum q4.2 l0 l1 w0
  else
    x_Rdr_comparison_J42 g_sum q2.2 l0 l1 w0
def x_Rdr_comparison (g_sum : HS → Nat → Int32 → Option HS) (st : HS) (this : Nat) (a1 : Int32) : Option HS :=
  (hIs st this 4).bind fun u1 =>
  (g_sum st this a1).bind fun st2 =>
  (hIs st2 this 4).bind fun u3 =>
  (x_Rdr_peek st2 this).bind fun x4 =>
  if x4 = 60 then
    x_Rdr_comparison_J23 g_sum st2 this a1 (hKc st2 7)
  else
    x_Rdr_comparison_J23 g_sum st2 this a1 (hKc st2 8)
/-- NoteSheet$Reader.sum(I)V -/
def x_Rdr_sum_J59 (g_product : HS → Nat → Int32 → Option HS) (k_5 : HS → Nat → Int32 → Option HS) (st : HS) (l0 : Nat) (l1 : Int32) (l2 : Nat) : Option HS :=
  (hIs st l0 4).bind fun u1 =>
  (g_product st l0 l1).bind fun st2 =>
  (hIs st2 l0 4).bind fun u3 =>
  (x_Rdr_put st2 l0 l2 0).bind fun q4 =>
  k_5 q4.2 l0 l1
def x_Rdr_sum_J41 (g_product : HS → Nat → Int32 → Option HS) (k_5 : HS → Nat → Int32 → Option HS) (st : HS) (l0 : Nat) (l1 : Int32) (w0 : Nat) : Option HS :=
  if (some w0) = (some (hKc st 4)) then
    (hI st l0 4 1).bind fun x1 =>
    (hP st l0 4 1 (.int (x1 + 1))).bind fun st2 =>
    x_Rdr_sum_J59 g_product k_5 st2 l0 l1 w0
  else
    x_Rdr_sum_J59 g_product k_5 st l0 l1 w0
def x_Rdr_sum_J23 (g_product : HS → Nat → Int32 → Option HS) (k_5 : HS → Nat → Int32 → Option HS) (st : HS) (l0 : Nat) (l1 : Int32) : Option HS :=
  (hIs st l0 4).bind fun u1 =>
  (x_Rdr_takes st l0 43).bind fun q2 =>
  if q2.1 = 0 then
    x_Rdr_sum_J41 g_product k_5 q2.2 l0 l1 (hKc q2.2 4)
  else
    x_Rdr_sum_J41 g_product k_5 q2.2 l0 l1 (hKc q2.2 3)
def x_Rdr_sum_L5 (g_product : HS → Nat → Int32 → Option HS) : Nat → HS → Nat → Int32 → Option HS
  | 0, _, _, _ => none
  | n + 1, st, l0, l1 =>
    (hIs st l0 4).bind fun u1 =>
    (x_Rdr_peek st l0).bind fun x2 =>
    if x2 = 43 then
      x_Rdr_sum_J23 g_product (x_Rdr_sum_L5 g_product n) st l0 l1
    else
      (hIs st l0 4).bind fun u3 =>
      (x_Rdr_peek st l0).bind fun x4 =>
      if x4 = 45 then
        x_Rdr_sum_J23 g_product (x_Rdr_sum_L5 g_product n) st l0 l1
      else
        some st
def x_Rdr_sum (g_product : HS → Nat → Int32 → Option HS) (st : HS) (this : Nat) (a1 : Int32) : Option HS :=
  (hIs st this 4).bind fun u1 =>
  (g_product st this a1).bind fun st2 =>
  x_Rdr_sum_L5 g_product 1000 st2 this a1
/-- NoteSheet$Reader.product(I)V -/
def x_Rdr_product_L5 (g_unitIn : HS → Nat → Int32 → Option HS) : Nat → HS → Nat → Int32 → Option HS
  | 0, _, _, _ => none
  | n + 1, st, l0, l1 =>
    (hIs st l0 4).bind fun u1 =>
    (x_Rdr_takes st l0 42).bind fun q2 =>
    if q2.1 = 0 then
      some q2.2
    else
      (hIs q2.2 l0 4).bind fun u3 =>
      (g_unitIn q2.2 l0 l1).bind fun st4 =>
      (hIs st4 l0 4).bind fun u5 =>
      (x_Rdr_put st4 l0 (hKc st4 5) 0).bind fun q6 =>
      x_Rdr_product_L5 g_unitIn n q6.2 l0 l1
def x_Rdr_product (g_unitIn : HS → Nat → Int32 → Option HS) (st : HS) (this : Nat) (a1 : Int32) : Option HS :=
  (hIs st this 4).bind fun u1 =>
  (g_unitIn st this a1).bind fun st2 =>
  x_Rdr_product_L5 g_unitIn 1000 st2 this a1
/-- NoteSheet$Reader.unitIn(I)V -/
def x_Rdr_unitIn (g_unit : HS → Nat → Int32 → Option HS) (st : HS) (this : Nat) (a1 : Int32) : Option HS :=
  (hI st this 4 3).bind fun x1 =>
  if x1 = 0 then
    (hIs st this 4).bind fun u2 =>
    (g_unit st this a1).bind fun st3 =>
    some st3
  else
    some st
/-- NoteSheet$Reader.unit(I)V -/
def x_Rdr_unit_J208 (g_one : HS → Nat → Int32 → Option HS) (g_unitIn : HS → Nat → Int32 → Option HS) (st : HS) (l0 : Nat) : Option HS :=
  (hP st l0 4 3 (.int 1)).bind fun st1 =>
  some st1
def x_Rdr_unit_J200 (g_one : HS → Nat → Int32 → Option HS) (g_unitIn : HS → Nat → Int32 → Option HS) (st : HS) (w0 : Nat) (w1 : Nat) : Option HS :=
  (hIs st w1 4).bind fun u1 =>
  (x_Rdr_put st w1 w0 0).bind fun q2 =>
  some q2.2
def x_Rdr_unit_J177 (g_one : HS → Nat → Int32 → Option HS) (g_unitIn : HS → Nat → Int32 → Option HS) (st : HS) (l0 : Nat) (l1 : Int32) (l2 : Int32) : Option HS :=
  (hIs st l0 4).bind fun u1 =>
  (g_unitIn st l0 (l1 + 1)).bind fun st2 =>
  if l2 = 45 then
    x_Rdr_unit_J200 g_one g_unitIn st2 (hKc st2 6) l0
  else
    x_Rdr_unit_J200 g_one g_unitIn st2 (hKc st2 2) l0
def x_Rdr_unit_J154 (g_one : HS → Nat → Int32 → Option HS) (g_unitIn : HS → Nat → Int32 → Option HS) (st : HS) (l0 : Nat) (l1 : Int32) (l2 : Int32) : Option HS :=
  if 5 ≤ l1 then
    x_Rdr_unit_J208 g_one g_unitIn st l0
  else
    (hIs st l0 4).bind fun u1 =>
    (x_Rdr_takes st l0 45).bind fun q2 =>
    if q2.1 = 0 then
      (hIs q2.2 l0 4).bind fun u3 =>
      (x_Rdr_takes q2.2 l0 64).bind fun q4 =>
      if q4.1 = 0 then
        x_Rdr_unit_J208 g_one g_unitIn q4.2 l0
      else
        x_Rdr_unit_J177 g_one g_unitIn q4.2 l0 l1 l2
    else
      x_Rdr_unit_J177 g_one g_unitIn q2.2 l0 l1 l2
def x_Rdr_unit_J124 (g_one : HS → Nat → Int32 → Option HS) (g_unitIn : HS → Nat → Int32 → Option HS) (st : HS) (l0 : Nat) (l1 : Int32) (l2 : Int32) : Option HS :=
  if 5 ≤ l1 then
    x_Rdr_unit_J154 g_one g_unitIn st l0 l1 l2
  else
    (hIs st l0 4).bind fun u1 =>
    (x_Rdr_takes st l0 40).bind fun q2 =>
    if q2.1 = 0 then
      x_Rdr_unit_J154 g_one g_unitIn q2.2 l0 l1 l2
    else
      (hIs q2.2 l0 4).bind fun u3 =>
      (g_one q2.2 l0 (l1 + 1)).bind fun st4 =>
      (hIs st4 l0 4).bind fun u5 =>
      (x_Rdr_need st4 l0 41).bind fun st6 =>
      some st6
def x_Rdr_unit_J112 (g_one : HS → Nat → Int32 → Option HS) (g_unitIn : HS → Nat → Int32 → Option HS) (st : HS) (l0 : Nat) (l3 : Int32) : Option HS :=
  (hIs st l0 4).bind fun u1 =>
  (x_Rdr_put st l0 (hKc st 0) l3).bind fun q2 =>
  some q2.2
def x_Rdr_unit_L59 (g_one : HS → Nat → Int32 → Option HS) (g_unitIn : HS → Nat → Int32 → Option HS) : Nat → HS → Nat → Int32 → Int32 → Option HS
  | 0, _, _, _, _ => none
  | n + 1, st, l0, l3, l4 =>
    if 4 ≤ l4 then
      x_Rdr_unit_J112 g_one g_unitIn st l0 l3
    else
      (hIs st l0 4).bind fun u1 =>
      (x_Rdr_peek st l0).bind fun x2 =>
      if x2 < 48 then
        x_Rdr_unit_J112 g_one g_unitIn st l0 l3
      else
        (hIs st l0 4).bind fun u3 =>
        (x_Rdr_peek st l0).bind fun x4 =>
        if 57 < x4 then
          x_Rdr_unit_J112 g_one g_unitIn st l0 l3
        else
          (hIs st l0 4).bind fun u5 =>
          (x_Rdr_peek st l0).bind fun x6 =>
          (some ((((10 * l3) + x6) - 48))).bind fun x7 =>
          (hI st l0 4 1).bind fun x8 =>
          (hP st l0 4 1 (.int (x8 + 1))).bind fun st9 =>
          (some (l4 + 1)).bind fun x10 =>
          x_Rdr_unit_L59 g_one g_unitIn n st9 l0 x7 x10
def x_Rdr_unit_J42 (g_one : HS → Nat → Int32 → Option HS) (g_unitIn : HS → Nat → Int32 → Option HS) (st : HS) (l0 : Nat) (l1 : Int32) (l2 : Int32) : Option HS :=
  if l2 < 48 then
    x_Rdr_unit_J124 g_one g_unitIn st l0 l1 l2
  else
    if 57 < l2 then
      x_Rdr_unit_J124 g_one g_unitIn st l0 l1 l2
    else
      x_Rdr_unit_L59 g_one g_unitIn 1000 st l0 0 0
def x_Rdr_unit (g_one : HS → Nat → Int32 → Option HS) (g_unitIn : HS → Nat → Int32 → Option HS) (st : HS) (this : Nat) (a1 : Int32) : Option HS :=
  (hIs st this 4).bind fun u1 =>
  (x_Rdr_peek st this).bind fun x2 =>
  if x2 < 65 then
    x_Rdr_unit_J42 g_one g_unitIn st this a1 x2
  else
    if 76 < x2 then
      x_Rdr_unit_J42 g_one g_unitIn st this a1 x2
    else
      (hI st this 4 1).bind fun x3 =>
      (hP st this 4 1 (.int (x3 + 1))).bind fun st4 =>
      (hIs st4 this 4).bind fun u5 =>
      (x_Rdr_put st4 this (hKc st4 1) (x2 - 65)).bind fun q6 =>
      some q6.2
/-- NoteSheetModel.<init>(I)V -/
def x_Mod_init_J323 (st : HS) (w0 : Int32) (w1 : Nat) : Option HS :=
  (hP st w1 7 0 (.int w0)).bind fun st1 =>
  some st1
def x_Mod_init_J298 (st : HS) (l0 : Nat) (l1 : Int32) (w0 : Nat) (w1 : Nat) : Option HS :=
  (hP st w1 7 42 (.ref w0)).bind fun st1 =>
  if 1 ≤ l1 then
    if l1 ≤ 12 then
      x_Mod_init_J323 st1 l1 l0
    else
      x_Mod_init_J323 st1 12 l0
  else
    x_Mod_init_J323 st1 1 l0
def x_Mod_init_J290 (st : HS) (l0 : Nat) (l1 : Int32) (w0 : Nat) (w1 : Nat) : Option HS :=
  (hP st w1 7 41 (.ref w0)).bind fun st1 =>
  (some (hNx st1)).bind fun ad2 =>
  (hNewA st1 0 40).bind fun st3 =>
  x_Mod_init_J298 st3 l0 l1 ad2 l0
def x_Mod_init_J282 (st : HS) (l0 : Nat) (l1 : Int32) (w0 : Nat) (w1 : Nat) : Option HS :=
  (hP st w1 7 39 (.ref w0)).bind fun st1 =>
  (some (hNx st1)).bind fun ad2 =>
  (hNewA st1 0 40).bind fun st3 =>
  x_Mod_init_J290 st3 l0 l1 ad2 l0
def x_Mod_init_J274 (st : HS) (l0 : Nat) (l1 : Int32) (w0 : Nat) (w1 : Nat) : Option HS :=
  (hP st w1 7 38 (.ref w0)).bind fun st1 =>
  (some (hNx st1)).bind fun ad2 =>
  (hNewA st1 0 64).bind fun st3 =>
  x_Mod_init_J282 st3 l0 l1 ad2 l0
def x_Mod_init_J266 (st : HS) (l0 : Nat) (l1 : Int32) (w0 : Nat) (w1 : Nat) : Option HS :=
  (hP st w1 7 36 (.ref w0)).bind fun st1 =>
  (some (hNx st1)).bind fun ad2 =>
  (hNewA st1 0 64).bind fun st3 =>
  x_Mod_init_J274 st3 l0 l1 ad2 l0
def x_Mod_init_J258 (st : HS) (l0 : Nat) (l1 : Int32) (w0 : Nat) (w1 : Nat) : Option HS :=
  (hP st w1 7 35 (.ref w0)).bind fun st1 =>
  (some (hNx st1)).bind fun ad2 =>
  (hNewA st1 2 12).bind fun st3 =>
  x_Mod_init_J266 st3 l0 l1 ad2 l0
def x_Mod_init_J250 (st : HS) (l0 : Nat) (l1 : Int32) (w0 : Nat) (w1 : Nat) : Option HS :=
  (hP st w1 7 34 (.ref w0)).bind fun st1 =>
  (some (hNx st1)).bind fun ad2 =>
  (hNewA st1 2 12).bind fun st3 =>
  x_Mod_init_J258 st3 l0 l1 ad2 l0
def x_Mod_init_J241 (st : HS) (l0 : Nat) (l1 : Int32) (w0 : Nat) (w1 : Nat) : Option HS :=
  (hP st w1 7 33 (.ref w0)).bind fun st1 =>
  (some (hNx st1)).bind fun ad2 =>
  (hNewA st1 0 144).bind fun st3 =>
  x_Mod_init_J250 st3 l0 l1 ad2 l0
def x_Mod_init_J233 (st : HS) (l0 : Nat) (l1 : Int32) (w0 : Nat) (w1 : Nat) : Option HS :=
  (hP st w1 7 32 (.ref w0)).bind fun st1 =>
  (some (hNx st1)).bind fun ad2 =>
  (hNewA st1 0 12).bind fun st3 =>
  x_Mod_init_J241 st3 l0 l1 ad2 l0
def x_Mod_init_J224 (st : HS) (l0 : Nat) (l1 : Int32) (w0 : Nat) (w1 : Nat) : Option HS :=
  (hP st w1 7 31 (.ref w0)).bind fun st1 =>
  (some (hNx st1)).bind fun ad2 =>
  (hNewA st1 3 192).bind fun st3 =>
  x_Mod_init_J233 st3 l0 l1 ad2 l0
def x_Mod_init_J216 (st : HS) (l0 : Nat) (l1 : Int32) (w0 : Nat) (w1 : Nat) : Option HS :=
  (hP st w1 7 30 (.ref w0)).bind fun st1 =>
  (some (hNx st1)).bind fun ad2 =>
  (hNewA st1 0 12).bind fun st3 =>
  x_Mod_init_J224 st3 l0 l1 ad2 l0
def x_Mod_init_J208 (st : HS) (l0 : Nat) (l1 : Int32) (w0 : Nat) (w1 : Nat) : Option HS :=
  (hP st w1 7 29 (.ref w0)).bind fun st1 =>
  (some (hNx st1)).bind fun ad2 =>
  (hNewA st1 0 12).bind fun st3 =>
  x_Mod_init_J216 st3 l0 l1 ad2 l0
def x_Mod_init_J200 (st : HS) (l0 : Nat) (l1 : Int32) (w0 : Nat) (w1 : Nat) : Option HS :=
  (hP st w1 7 28 (.ref w0)).bind fun st1 =>
  (some (hNx st1)).bind fun ad2 =>
  (hNewA st1 0 12).bind fun st3 =>
  x_Mod_init_J208 st3 l0 l1 ad2 l0
def x_Mod_init_J192 (st : HS) (l0 : Nat) (l1 : Int32) (w0 : Nat) (w1 : Nat) : Option HS :=
  (hP st w1 7 26 (.ref w0)).bind fun st1 =>
  (some (hNx st1)).bind fun ad2 =>
  (hNewA st1 0 12).bind fun st3 =>
  x_Mod_init_J200 st3 l0 l1 ad2 l0
def x_Mod_init_J185 (st : HS) (l0 : Nat) (l1 : Int32) (w0 : Nat) (w1 : Nat) : Option HS :=
  (hP st w1 7 25 (.ref w0)).bind fun st1 =>
  (some (hNx st1)).bind fun ad2 =>
  (hNewA st1 0 3).bind fun st3 =>
  x_Mod_init_J192 st3 l0 l1 ad2 l0
def x_Mod_init_J177 (st : HS) (l0 : Nat) (l1 : Int32) (w0 : Nat) (w1 : Nat) : Option HS :=
  (hP st w1 7 23 (.ref w0)).bind fun st1 =>
  (some (hNx st1)).bind fun ad2 =>
  (hNewA st1 0 36).bind fun st3 =>
  x_Mod_init_J185 st3 l0 l1 ad2 l0
def x_Mod_init_J169 (st : HS) (l0 : Nat) (l1 : Int32) (w0 : Nat) (w1 : Nat) : Option HS :=
  (hP st w1 7 22 (.ref w0)).bind fun st1 =>
  (some (hNx st1)).bind fun ad2 =>
  (hNewA st1 0 12).bind fun st3 =>
  x_Mod_init_J177 st3 l0 l1 ad2 l0
def x_Mod_init_J160 (st : HS) (l0 : Nat) (l1 : Int32) (w0 : Nat) (w1 : Nat) : Option HS :=
  (hP st w1 7 21 (.ref w0)).bind fun st1 =>
  (some (hNx st1)).bind fun ad2 =>
  (hNewA st1 0 144).bind fun st3 =>
  x_Mod_init_J169 st3 l0 l1 ad2 l0
def x_Mod_init_J152 (st : HS) (l0 : Nat) (l1 : Int32) (w0 : Nat) (w1 : Nat) : Option HS :=
  (hP st w1 7 20 (.ref w0)).bind fun st1 =>
  (some (hNx st1)).bind fun ad2 =>
  (hNewA st1 0 12).bind fun st3 =>
  x_Mod_init_J160 st3 l0 l1 ad2 l0
def x_Mod_init_J144 (st : HS) (l0 : Nat) (l1 : Int32) (w0 : Nat) (w1 : Nat) : Option HS :=
  (hP st w1 7 19 (.ref w0)).bind fun st1 =>
  (some (hNx st1)).bind fun ad2 =>
  (hNewA st1 0 12).bind fun st3 =>
  x_Mod_init_J152 st3 l0 l1 ad2 l0
def x_Mod_init_J136 (st : HS) (l0 : Nat) (l1 : Int32) (w0 : Nat) (w1 : Nat) : Option HS :=
  (hP st w1 7 18 (.ref w0)).bind fun st1 =>
  (some (hNx st1)).bind fun ad2 =>
  (hNewA st1 0 12).bind fun st3 =>
  x_Mod_init_J144 st3 l0 l1 ad2 l0
def x_Mod_init_J128 (st : HS) (l0 : Nat) (l1 : Int32) (w0 : Nat) (w1 : Nat) : Option HS :=
  (hP st w1 7 17 (.ref w0)).bind fun st1 =>
  (some (hNx st1)).bind fun ad2 =>
  (hNewA st1 0 12).bind fun st3 =>
  x_Mod_init_J136 st3 l0 l1 ad2 l0
def x_Mod_init_J120 (st : HS) (l0 : Nat) (l1 : Int32) (w0 : Nat) (w1 : Nat) : Option HS :=
  (hP st w1 7 16 (.ref w0)).bind fun st1 =>
  (some (hNx st1)).bind fun ad2 =>
  (hNewA st1 3 12).bind fun st3 =>
  x_Mod_init_J128 st3 l0 l1 ad2 l0
def x_Mod_init_J112 (st : HS) (l0 : Nat) (l1 : Int32) (w0 : Nat) (w1 : Nat) : Option HS :=
  (hP st w1 7 15 (.ref w0)).bind fun st1 =>
  (some (hNx st1)).bind fun ad2 =>
  (hNewA st1 2 12).bind fun st3 =>
  x_Mod_init_J120 st3 l0 l1 ad2 l0
def x_Mod_init_J104 (st : HS) (l0 : Nat) (l1 : Int32) (w0 : Nat) (w1 : Nat) : Option HS :=
  (hP st w1 7 14 (.ref w0)).bind fun st1 =>
  (some (hNx st1)).bind fun ad2 =>
  (hNewA st1 2 12).bind fun st3 =>
  x_Mod_init_J112 st3 l0 l1 ad2 l0
def x_Mod_init_J96 (st : HS) (l0 : Nat) (l1 : Int32) (w0 : Nat) (w1 : Nat) : Option HS :=
  (hP st w1 7 13 (.ref w0)).bind fun st1 =>
  (some (hNx st1)).bind fun ad2 =>
  (hNewA st1 0 12).bind fun st3 =>
  x_Mod_init_J104 st3 l0 l1 ad2 l0
def x_Mod_init_J88 (st : HS) (l0 : Nat) (l1 : Int32) (w0 : Nat) (w1 : Nat) : Option HS :=
  (hP st w1 7 12 (.ref w0)).bind fun st1 =>
  (some (hNx st1)).bind fun ad2 =>
  (hNewA st1 0 12).bind fun st3 =>
  x_Mod_init_J96 st3 l0 l1 ad2 l0
def x_Mod_init_J80 (st : HS) (l0 : Nat) (l1 : Int32) (w0 : Nat) (w1 : Nat) : Option HS :=
  (hP st w1 7 11 (.ref w0)).bind fun st1 =>
  (some (hNx st1)).bind fun ad2 =>
  (hNewA st1 0 12).bind fun st3 =>
  x_Mod_init_J88 st3 l0 l1 ad2 l0
def x_Mod_init_J72 (st : HS) (l0 : Nat) (l1 : Int32) (w0 : Nat) (w1 : Nat) : Option HS :=
  (hP st w1 7 10 (.ref w0)).bind fun st1 =>
  (some (hNx st1)).bind fun ad2 =>
  (hNewA st1 0 12).bind fun st3 =>
  x_Mod_init_J80 st3 l0 l1 ad2 l0
def x_Mod_init_J63 (st : HS) (l0 : Nat) (l1 : Int32) (w0 : Nat) (w1 : Nat) : Option HS :=
  (hP st w1 7 9 (.ref w0)).bind fun st1 =>
  (some (hNx st1)).bind fun ad2 =>
  (hNewA st1 0 480).bind fun st3 =>
  x_Mod_init_J72 st3 l0 l1 ad2 l0
def x_Mod_init_J54 (st : HS) (l0 : Nat) (l1 : Int32) (w0 : Nat) (w1 : Nat) : Option HS :=
  (hP st w1 7 8 (.ref w0)).bind fun st1 =>
  (some (hNx st1)).bind fun ad2 =>
  (hNewA st1 0 480).bind fun st3 =>
  x_Mod_init_J63 st3 l0 l1 ad2 l0
def x_Mod_init_J46 (st : HS) (l0 : Nat) (l1 : Int32) (w0 : Nat) (w1 : Nat) : Option HS :=
  (hP st w1 7 7 (.ref w0)).bind fun st1 =>
  (some (hNx st1)).bind fun ad2 =>
  (hNewA st1 0 12).bind fun st3 =>
  x_Mod_init_J54 st3 l0 l1 ad2 l0
def x_Mod_init_J38 (st : HS) (l0 : Nat) (l1 : Int32) (w0 : Nat) (w1 : Nat) : Option HS :=
  (hP st w1 7 6 (.ref w0)).bind fun st1 =>
  (some (hNx st1)).bind fun ad2 =>
  (hNewA st1 0 12).bind fun st3 =>
  x_Mod_init_J46 st3 l0 l1 ad2 l0
def x_Mod_init_J29 (st : HS) (l0 : Nat) (l1 : Int32) (w0 : Nat) (w1 : Nat) : Option HS :=
  (hP st w1 7 5 (.ref w0)).bind fun st1 =>
  (some (hNx st1)).bind fun ad2 =>
  (hNewA st1 0 360).bind fun st3 =>
  x_Mod_init_J38 st3 l0 l1 ad2 l0
def x_Mod_init_J21 (st : HS) (l0 : Nat) (l1 : Int32) (w0 : Nat) (w1 : Nat) : Option HS :=
  (hP st w1 7 4 (.ref w0)).bind fun st1 =>
  (some (hNx st1)).bind fun ad2 =>
  (hNewA st1 2 12).bind fun st3 =>
  x_Mod_init_J29 st3 l0 l1 ad2 l0
def x_Mod_init_J9 (st : HS) (l0 : Nat) (l1 : Int32) (w0 : Nat) (w1 : Nat) : Option HS :=
  (hP st w1 7 1 (.ref w0)).bind fun st1 =>
  (hP st1 l0 7 3 (.int 1)).bind fun st2 =>
  (some (hNx st2)).bind fun ad3 =>
  (hNewA st2 0 3).bind fun st4 =>
  x_Mod_init_J21 st4 l0 l1 ad3 l0
def x_Mod_init (st : HS) (this : Nat) (a1 : Int32) : Option HS :=
  (some (hNx st)).bind fun ad1 =>
  (hNewA st 0 30).bind fun st2 =>
  x_Mod_init_J9 st2 this a1 ad1 this
/-- NoteSheetLaw.cell([II)I -/
def x_Law_cell (st : HS) (a0 : Nat) (a1 : Int32) : Option Int32 :=
  (hLen st a0).bind fun x1 =>
  if x1 ≤ a1 then
    some 0
  else
    (hAi st a0 0 a1).bind fun x2 =>
    some x2
/-- the reader's two knots: a formula, a unit; the number is how deep it may go -/
def pg : Nat → (HS → Nat → Int32 → Option HS) × (HS → Nat → Int32 → Option HS)
  | 0 => (fun _ _ _ => none, fun _ _ _ => none)
  | n + 1 => (x_Rdr_formula (x_Rdr_comparison (x_Rdr_sum (x_Rdr_product (x_Rdr_unitIn (pg n).2)))) (x_Rdr_one (pg n).1), x_Rdr_unit (x_Rdr_one (pg n).1) (x_Rdr_unitIn (pg n).2))
def x_Rdr_formulaK (st : HS) (this : Nat) (a1 : Int32) : Option HS := (pg 100).1 st this a1
/-- the sheet's two knots: bring, workOut -/
def eg : Nat → (HS → Nat → Nat → Option HS) × (HS → Nat → Nat → Option HS)
  | 0 => (fun _ _ _ => none, fun _ _ _ => none)
  | n + 1 => (x_NS_bring (x_NS_unchanged (eg n).1) (eg n).2, x_NS_workOut (x_NS_result (x_NS_given (x_NS_value (eg n).1 (eg n).2))))
def x_NS_valueK (st : HS) (this a1 : Nat) : Option (Int64 × HS) := x_NS_value (eg 60).1 (eg 60).2 st this a1
/-- NoteSheet$Reader.read(Ljava/lang/String;)LNoteSheet$Formula; -/
def x_Rdr_read_J73 (st : HS) (w0 : Option Nat) : Option (Option Nat × HS) :=
  some (w0, st)
def x_Rdr_read_J53 (st : HS) (l0 : Nat) (w0 : Nat) : Option (Option Nat × HS) :=
  (hR st l0 4 0).bind fun x1 =>
  (hR st l0 4 4).bind fun x2 =>
  (hR st l0 4 5).bind fun x3 =>
  (hI st l0 4 2).bind fun x4 =>
  x3.bind fun ad5 =>
  x2.bind fun ad6 =>
  x1.bind fun ad7 =>
  (x_Form_init st w0 ad7 ad6 ad5 x4).bind fun st8 =>
  x_Rdr_read_J73 st8 (some w0)
def x_Rdr_read_J46 (st : HS) : Option (Option Nat × HS) :=
  x_Rdr_read_J73 st none
def x_Rdr_read (st : HS) (this : Nat) (a1 : Nat) : Option (Option Nat × HS) :=
  (hP st this 4 0 (.ref a1)).bind fun st1 =>
  (hP st1 this 4 1 (.int 0)).bind fun st2 =>
  (hP st2 this 4 2 (.int 0)).bind fun st3 =>
  (hP st3 this 4 3 (.int 0)).bind fun st4 =>
  (hIs st4 this 4).bind fun u5 =>
  (x_Rdr_formulaK st4 this 0).bind fun st6 =>
  (hI st6 this 4 3).bind fun x7 =>
  if x7 = 0 then
    (hI st6 this 4 1).bind fun x8 =>
    (hR st6 this 4 0).bind fun x9 =>
    x9.bind fun ad10 =>
    (hIs st6 ad10 6).bind fun u11 =>
    (x_Str_length st6 ad10).bind fun x12 =>
    if x12 ≤ x8 then
      (some (hNx st6)).bind fun ad13 =>
      (some (hNew st6 2)).bind fun st14 =>
      x_Rdr_read_J53 st14 this ad13
    else
      x_Rdr_read_J46 st6
  else
    x_Rdr_read_J46 st6
/-- NoteSheet.define(I)I -/
def x_NS_define_J107 (st : HS) (l0 : Nat) (l2 : Nat) (l4 : Option Nat) : Option (Int32 × HS) :=
  (hP st l2 1 1 (.int 0)).bind fun st1 =>
  (hP st1 l2 1 7 (va_rf l4)).bind fun st2 =>
  (hI st2 l0 0 4).bind fun x3 =>
  (hP st2 l2 1 6 (.int x3)).bind fun st4 =>
  some (0, st4)
def x_NS_define_J92 (st : HS) (l0 : Nat) (l2 : Nat) (l4 : Option Nat) (w0 : Int32) (w1 : Nat) : Option (Int32 × HS) :=
  (hIs st w1 0).bind fun u1 =>
  (x_NS_change st w1 w0).bind fun st2 =>
  (hI st2 l2 1 1).bind fun x3 =>
  if x3 = 0 then
    x_NS_define_J107 st2 l0 l2 l4
  else
    (hP st2 l2 1 8 (.null)).bind fun st4 =>
    x_NS_define_J107 st4 l0 l2 l4
def x_NS_define_J76 (st : HS) (l0 : Nat) (l2 : Nat) (l4 : Option Nat) : Option (Int32 × HS) :=
  (hI st l2 1 1).bind fun x1 =>
  if x1 = 0 then
    x_NS_define_J92 st l0 l2 l4 2 l0
  else
    (hI st l2 1 4).bind fun x2 =>
    x_NS_define_J92 st l0 l2 l4 x2 l0
def x_NS_define_J36 (st : HS) (l0 : Nat) (l2 : Option Nat) (l3 : Nat) (w0 : Option Nat) : Option (Int32 × HS) :=
  if w0 = none then
    (hR st l0 0 3).bind fun x9 =>
    x9.bind fun ad10 =>
    (hI st ad10 4 1).bind fun x11 =>
    some ((1 + x11), st)
  else
    l2.bind fun ad1 =>
    (hI st ad1 1 1).bind fun x2 =>
    if x2 = 0 then
      (hR st ad1 1 7).bind fun x3 =>
      x3.bind fun ad4 =>
      (hR st ad4 2 0).bind fun x5 =>
      x5.bind fun ad6 =>
      (hIs st ad6 6).bind fun u7 =>
      (x_Str_equals st ad6 l3).bind fun x8 =>
      if x8 = 0 then
        x_NS_define_J76 st l0 ad1 w0
      else
        some (0, st)
    else
      x_NS_define_J76 st l0 ad1 w0
def x_NS_define_J22 (st : HS) (l0 : Nat) (l2 : Option Nat) (l3 : Option Nat) : Option (Int32 × HS) :=
  if l2 = none then
    some ((-1), st)
  else
    (hR st l0 0 3).bind fun x1 =>
    l3.bind fun ad2 =>
    x1.bind fun ad3 =>
    (hIs st ad3 4).bind fun u4 =>
    (x_Rdr_read st ad3 ad2).bind fun q5 =>
    x_NS_define_J36 q5.2 l0 l2 ad2 q5.1
def x_NS_define_J13 (st : HS) (l0 : Nat) (l2 : Option Nat) (w0 : Option Nat) : Option (Int32 × HS) :=
  (hR st l0 0 2).bind fun x1 =>
  x1.bind fun ad2 =>
  (hIs st ad2 5).bind fun u3 =>
  (x_SB_setLength st ad2 0).bind fun st4 =>
  x_NS_define_J22 st4 l0 l2 w0
def x_NS_define (st : HS) (this : Nat) (a1 : Int32) : Option (Int32 × HS) :=
  (hIs st this 0).bind fun u1 =>
  (x_NS_cell st this a1).bind fun x2 =>
  (hR st this 0 2).bind fun x3 =>
  x3.bind fun ad4 =>
  (hIs st ad4 5).bind fun u5 =>
  (x_SB_toString st ad4).bind fun q6 =>
  x_NS_define_J13 q6.2 this x2 q6.1
/-- NoteSheet.ask(I)J -/
def x_NS_ask_L41 : Nat → HS → Nat → Int64 → Int32 → Option (Int64 × HS)
  | 0, _, _, _, _ => none
  | n + 1, st, l0, l3, l5 =>
    (hI st l0 0 0).bind fun x1 =>
    if l5 ≤ x1 then
      some (l3, st)
    else
      (hIs st l0 0).bind fun u2 =>
      (x_NS_dropOne st l0).bind fun st3 =>
      (some (l5 + (-1))).bind fun x4 =>
      x_NS_ask_L41 n st3 l0 l3 x4
def x_NS_ask_J34 (st : HS) (l0 : Nat) (w0 : Int64) : Option (Int64 × HS) :=
  (hIs st l0 0).bind fun u1 =>
  (x_NS_held st l0).bind fun x2 =>
  x_NS_ask_L41 1000 st l0 w0 x2
def x_NS_ask (st : HS) (this : Nat) (a1 : Int32) : Option (Int64 × HS) :=
  (hIs st this 0).bind fun u1 =>
  (x_NS_cell st this a1).bind fun x2 =>
  if x2 = none then
    some ((-1 : Int64), st)
  else
    (hP st this 0 6 (.int 0)).bind fun st3 =>
    (hP st3 this 0 7 (.int 0)).bind fun st4 =>
    (hP st4 this 0 8 (.int 0)).bind fun st5 =>
    x2.bind fun ad6 =>
    (hIs st5 this 0).bind fun u7 =>
    (x_NS_valueK st5 this ad6).bind fun q8 =>
    x_NS_ask_J34 q8.2 this q8.1
