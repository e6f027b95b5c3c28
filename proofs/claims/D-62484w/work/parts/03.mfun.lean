/-- isCell(I)Z -/
def m_isCell (a0 : Int32) : Int32 :=
  if a0 < 0 then
    0
  else
    if 12 ≤ a0 then
      0
    else
      1
/-- isLetter(I)Z -/
def m_isLetter (a0 : Int32) : Int32 :=
  if a0 < 65 then
    0
  else
    if 76 < a0 then
      0
    else
      1
/-- isDigit(I)Z -/
def m_isDigit (a0 : Int32) : Int32 :=
  if a0 < 48 then
    0
  else
    if 57 < a0 then
      0
    else
      1
/-- type(C)Z -/
def m_type_J84 (st : MS) (l1 : Int32) : Option (Int32 × MS) :=
  if (mI st 2) = 30 then
    some (0, st)
  else
    (mwr st 1 ((mI st 2)) l1).bind fun st1 =>
    (some (mIs st1 2 (((mI st1 2) + 1)))).bind fun st2 =>
    some (1, st2)
def m_type_J65 (st : MS) (l1 : Int32) (s0 : Int32) : Option (Int32 × MS) :=
  if s0 = 0 then
    if (m_isLetter l1) = 0 then
      if (m_isDigit l1) = 0 then
        some (0, st)
      else
        m_type_J84 st l1
    else
      m_type_J84 st l1
  else
    m_type_J84 st l1
def m_type_J60 (st : MS) (l1 : Int32) : Option (Int32 × MS) :=
  m_type_J65 st l1 1
def m_type (st : MS) (a1 : Int32) : Option (Int32 × MS) :=
  if a1 = 40 then
    m_type_J60 st a1
  else
    if a1 = 41 then
      m_type_J60 st a1
    else
      if a1 = 42 then
        m_type_J60 st a1
      else
        if a1 = 43 then
          m_type_J60 st a1
        else
          if a1 = 45 then
            m_type_J60 st a1
          else
            if a1 = 58 then
              m_type_J60 st a1
            else
              if a1 = 60 then
                m_type_J60 st a1
              else
                if a1 = 61 then
                  m_type_J60 st a1
                else
                  if a1 = 63 then
                    m_type_J60 st a1
                  else
                    if a1 = 64 then
                      m_type_J60 st a1
                    else
                      m_type_J65 st a1 0
/-- make(II)V -/
def m_make (st : MS) (a1 : Int32) (a2 : Int32) : Option MS :=
  (mwr st 41 ((mI st 40)) a1).bind fun st1 =>
  (mwr st1 42 ((mI st1 40)) a2).bind fun st2 =>
  (some (mIs st2 40 (((mI st2 40) + 1)))).bind fun st3 =>
  some st3
/-- put(II)V -/
def m_put (st : MS) (a1 : Int32) (a2 : Int32) : Option MS :=
  (mwr st 38 ((mI st 37)) a1).bind fun st1 =>
  (mwr st1 39 ((mI st1 37)) a2).bind fun st2 =>
  (some (mIs st2 37 (((mI st2 37) + 1)))).bind fun st3 =>
  some st3
/-- rank(I)I -/
def m_rank_J55 : Int32 :=
  0
def m_rank_J39 : Int32 :=
  1
def m_rank_J13 : Int32 :=
  3
def m_rank (a0 : Int32) : Int32 :=
  if a0 = 200 then
    m_rank_J13
  else
    if a0 = 64 then
      m_rank_J13
    else
      if a0 = 42 then
        2
      else
        if a0 = 43 then
          m_rank_J39
        else
          if a0 = 45 then
            m_rank_J39
          else
            if a0 = 60 then
              m_rank_J55
            else
              if a0 = 61 then
                m_rank_J55
              else
                (-1)
/-- settle(I)V -/
def m_settle_J111 (k_0 : MS → Int32 → Option MS) (st : MS) (l1 : Int32) (s0 : Int32) : Option MS :=
  (m_make st s0 0).bind fun st1 =>
  k_0 st1 l1
def m_settle_L0 : Nat → MS → Int32 → Option MS
  | 0, _, _ => none
  | n + 1, st, l1 =>
    if (mI st 37) ≤ 0 then
      some st
    else
      (mrd st 38 (((mI st 37) - 1))).bind fun x1 =>
      if (m_rank x1) < l1 then
        some st
      else
        (some (mIs st 37 (((mI st 37) - 1)))).bind fun st2 =>
        (mrd st2 38 ((mI st2 37))).bind fun x3 =>
        if x3 = 200 then
          m_settle_J111 (m_settle_L0 n) st2 l1 3
        else
          if x3 = 64 then
            m_settle_J111 (m_settle_L0 n) st2 l1 2
          else
            if x3 = 42 then
              m_settle_J111 (m_settle_L0 n) st2 l1 4
            else
              if x3 = 43 then
                m_settle_J111 (m_settle_L0 n) st2 l1 5
              else
                if x3 = 45 then
                  m_settle_J111 (m_settle_L0 n) st2 l1 6
                else
                  if x3 = 60 then
                    m_settle_J111 (m_settle_L0 n) st2 l1 7
                  else
                    m_settle_J111 (m_settle_L0 n) st2 l1 8
def m_settle (st : MS) (a1 : Int32) : Option MS :=
  m_settle_L0 1000 st a1
/-- deepness()I -/
def m_deepness_J43 (k_4 : MS → Int32 → Int32 → Option Int32) (st : MS) (l2 : Int32) (s0 : Int32) : Option Int32 :=
  (some (l2 + 1)).bind fun x1 =>
  k_4 st s0 x1
def m_deepness_J36 (k_4 : MS → Int32 → Int32 → Option Int32) (st : MS) (l1 : Int32) (l2 : Int32) : Option Int32 :=
  m_deepness_J43 k_4 st l2 ((l1 + 1))
def m_deepness_L4 : Nat → MS → Int32 → Int32 → Option Int32
  | 0, _, _, _ => none
  | n + 1, st, l1, l2 =>
    if (mI st 37) ≤ l2 then
      some l1
    else
      (mrd st 38 l2).bind fun x1 =>
      if x1 = 40 then
        m_deepness_J36 (m_deepness_L4 n) st l1 l2
      else
        (mrd st 38 l2).bind fun x2 =>
        if (m_rank x2) = 3 then
          m_deepness_J36 (m_deepness_L4 n) st l1 l2
        else
          m_deepness_J43 (m_deepness_L4 n) st l2 l1
def m_deepness (st : MS) : Option Int32 :=
  m_deepness_L4 1000 st 0 0
/-- begin(II)Z -/
def m_begin_J142 (st : MS) (s0 : Int32) : Option (Int32 × MS) :=
  (m_put st s0 0).bind fun st1 =>
  some (1, st1)
def m_begin_J118 (st : MS) (l1 : Int32) : Option (Int32 × MS) :=
  (m_deepness st).bind fun x1 =>
  if x1 = 5 then
    some (0, st)
  else
    if l1 = 45 then
      m_begin_J142 st 200
    else
      m_begin_J142 st l1
def m_begin_J87 (st : MS) (l3 : Int32) : Option (Int32 × MS) :=
  (m_make st 0 l3).bind fun st1 =>
  (m_settle st1 3).bind fun st2 =>
  some (1, st2)
def m_begin_L35 : Nat → MS → Int32 → Int32 → Int32 → Option (Int32 × MS)
  | 0, _, _, _, _ => none
  | n + 1, st, l2, l3, l4 =>
    if (mI st 2) ≤ l4 then
      m_begin_J87 st l3
    else
      if (l2 + 4) ≤ l4 then
        m_begin_J87 st l3
      else
        (mrd st 1 l4).bind fun x1 =>
        if (m_isDigit x1) = 0 then
          m_begin_J87 st l3
        else
          (mrd st 1 l4).bind fun x2 =>
          (some ((((10 * l3) + x2) - 48))).bind fun x3 =>
          (some (l4 + 1)).bind fun x4 =>
          m_begin_L35 n st l2 x3 x4
def m_begin (st : MS) (a1 : Int32) (a2 : Int32) : Option (Int32 × MS) :=
  if (m_isLetter a1) = 0 then
    if (m_isDigit a1) = 0 then
      if a1 = 40 then
        m_begin_J118 st a1
      else
        if a1 = 45 then
          m_begin_J118 st a1
        else
          if a1 = 64 then
            m_begin_J118 st a1
          else
            some (0, st)
    else
      m_begin_L35 1000 st a2 0 a2
  else
    (m_make st 1 ((a1 - 65))).bind fun st1 =>
    (m_settle st1 3).bind fun st2 =>
    some (1, st2)
/-- compared()Z -/
def m_compared_J46 (k_9 : MS → Int32 → Int32 → Option Int32) (st : MS) (l2 : Int32) (s0 : Int32) : Option Int32 :=
  (some (l2 + (-1))).bind fun x1 =>
  k_9 st s0 x1
def m_compared_J41 (k_9 : MS → Int32 → Int32 → Option Int32) (st : MS) (l2 : Int32) : Option Int32 :=
  m_compared_J46 k_9 st l2 1
def m_compared_L9 : Nat → MS → Int32 → Int32 → Option Int32
  | 0, _, _, _ => none
  | n + 1, st, l1, l2 =>
    if l2 < 0 then
      (nchk .boolean l1).bind fun x1 =>
      some x1
    else
      (mrd st 38 l2).bind fun x2 =>
      if (m_rank x2) < 0 then
        (nchk .boolean l1).bind fun x3 =>
        some x3
      else
        if l1 = 0 then
          (mrd st 38 l2).bind fun x4 =>
          if (m_rank x4) = 0 then
            m_compared_J41 (m_compared_L9 n) st l2
          else
            m_compared_J46 (m_compared_L9 n) st l2 0
        else
          m_compared_J41 (m_compared_L9 n) st l2
def m_compared (st : MS) : Option Int32 :=
  (some (((mI st 37) - 1))).bind fun x1 =>
  m_compared_L9 1000 st 0 x1
/-- inner()I -/
def m_inner_L7 : Nat → MS → Int32 → Option Int32
  | 0, _, _ => none
  | n + 1, st, l1 =>
    if l1 < 0 then
      some l1
    else
      (mrd st 38 l1).bind fun x1 =>
      if (m_rank x1) < 0 then
        some l1
      else
        (some (l1 + (-1))).bind fun x2 =>
        m_inner_L7 n st x2
def m_inner (st : MS) : Option Int32 :=
  (some (((mI st 37) - 1))).bind fun x1 =>
  m_inner_L7 1000 st x1
/-- close()V -/
def m_close_L5 : Nat → MS → Option MS
  | 0, _ => none
  | n + 1, st =>
    if (mI st 37) ≤ 0 then
      some st
    else
      (mrd st 38 (((mI st 37) - 1))).bind fun x1 =>
      if x1 = 58 then
        (some (mIs st 37 (((mI st 37) - 1)))).bind fun st2 =>
        (mrd st2 39 ((mI st2 37))).bind fun x3 =>
        (mwr st2 42 x3 ((mI st2 40))).bind fun st4 =>
        (m_settle st4 0).bind fun st5 =>
        m_close_L5 n st5
      else
        some st
def m_close (st : MS) : Option MS :=
  (m_settle st 0).bind fun st1 =>
  m_close_L5 1000 st1
/-- awaits()I -/
def m_awaits_J38 (st : MS) (l1 : Int32) : Option Int32 :=
  if 0 ≤ l1 then
    (mrd st 38 l1).bind fun x1 =>
    some x1
  else
    some 0
def m_awaits_J32 (k_5 : MS → Int32 → Option Int32) (st : MS) (l1 : Int32) : Option Int32 :=
  (some (l1 + (-1))).bind fun x1 =>
  k_5 st x1
def m_awaits_L5 : Nat → MS → Int32 → Option Int32
  | 0, _, _ => none
  | n + 1, st, l1 =>
    if l1 < 0 then
      m_awaits_J38 st l1
    else
      (mrd st 38 l1).bind fun x1 =>
      if x1 = 58 then
        m_awaits_J32 (m_awaits_L5 n) st l1
      else
        (mrd st 38 l1).bind fun x2 =>
        if (m_rank x2) < 0 then
          m_awaits_J38 st l1
        else
          m_awaits_J32 (m_awaits_L5 n) st l1
def m_awaits (st : MS) : Option Int32 :=
  (m_inner st).bind fun x1 =>
  m_awaits_L5 1000 st x1
/-- goesOn(I)Z -/
def m_goesOn_J127 (st : MS) (l1 : Int32) (s0 : Int32) (s1 : Int32) : Option (Int32 × MS) :=
  if s1 = s0 then
    (m_close st).bind fun st1 =>
    (some (mIs st1 37 (((mI st1 37) - 1)))).bind fun st2 =>
    if l1 = 58 then
      (m_make st2 9 0).bind fun st4 =>
      (mrd st4 39 ((mI st4 37))).bind fun x5 =>
      (mwr st4 42 x5 ((mI st4 40))).bind fun st6 =>
      (m_put st6 58 (((mI st6 40) - 1))).bind fun st7 =>
      some (1, st7)
    else
      (m_settle st2 3).bind fun st3 =>
      some (1, st3)
  else
    some (0, st)
def m_goesOn_J67 (st : MS) (l1 : Int32) (s0 : Int32) : Option (Int32 × MS) :=
  (m_settle st s0).bind fun st1 =>
  (m_put st1 l1 0).bind fun st2 =>
  some (1, st2)
def m_goesOn_J14 (st : MS) (l1 : Int32) : Option (Int32 × MS) :=
  if (m_rank l1) = 3 then
    some (0, st)
  else
    if l1 = 40 then
      some (0, st)
    else
      if (m_isLetter l1) = 0 then
        if (m_isDigit l1) = 0 then
          if (m_rank l1) < 0 then
            if l1 = 63 then
              (m_settle st 0).bind fun st2 =>
              (m_make st2 10 0).bind fun st3 =>
              (m_put st3 63 (((mI st3 40) - 1))).bind fun st4 =>
              some (1, st4)
            else
              (m_awaits st).bind fun x1 =>
              if l1 = 58 then
                m_goesOn_J127 st l1 63 x1
              else
                m_goesOn_J127 st l1 40 x1
          else
            if (m_rank l1) = 0 then
              m_goesOn_J67 st l1 1
            else
              m_goesOn_J67 st l1 ((m_rank l1))
        else
          some (0, st)
      else
        some (0, st)
def m_goesOn (st : MS) (a1 : Int32) : Option (Int32 × MS) :=
  if (m_rank a1) = 0 then
    (m_compared st).bind fun x1 =>
    if x1 = 0 then
      m_goesOn_J14 st a1
    else
      some (0, st)
  else
    m_goesOn_J14 st a1
/-- fault()I -/
def m_fault_J171 (st : MS) : Option (Int32 × MS) :=
  some ((mI st 2), st)
def m_fault_J156 (k_14 : MS → Int32 → Int32 → Option (Int32 × MS)) (st : MS) (l2 : Int32) (s0 : Int32) : Option (Int32 × MS) :=
  k_14 st s0 l2
def m_fault_J136 (k_14 : MS → Int32 → Int32 → Option (Int32 × MS)) (st : MS) (l1 : Int32) (l2 : Int32) (l3 : Int32) (l4 : Int32) : Option (Int32 × MS) :=
  if l1 = 0 then
    if l3 = 41 then
      m_fault_J156 k_14 st l2 0
    else
      m_fault_J156 k_14 st l2 1
  else
    m_fault_J156 k_14 st l2 l4
def m_fault_L90 (k_14 : MS → Int32 → Int32 → Option (Int32 × MS)) : Nat → MS → Int32 → Int32 → Int32 → Int32 → Int32 → Option (Int32 × MS)
  | 0, _, _, _, _, _, _ => none
  | n + 1, st, l1, l2, l3, l4, l5 =>
    if l1 = 0 then
      m_fault_J136 k_14 st l1 l2 l3 l4
    else
      if (m_isDigit l3) = 0 then
        m_fault_J136 k_14 st l1 l2 l3 l4
      else
        if (mI st 2) ≤ l2 then
          m_fault_J136 k_14 st l1 l2 l3 l4
        else
          (mrd st 1 l2).bind fun x1 =>
          if (m_isDigit x1) = 0 then
            m_fault_J136 k_14 st l1 l2 l3 l4
          else
            if 4 ≤ l5 then
              m_fault_J136 k_14 st l1 l2 l3 l4
            else
              (some (l2 + 1)).bind fun x2 =>
              (some (l5 + 1)).bind fun x3 =>
              m_fault_L90 k_14 n st l1 x2 l3 l4 x3
def m_fault_J84 (k_14 : MS → Int32 → Int32 → Option (Int32 × MS)) (st : MS) (l1 : Int32) (l2 : Int32) (l3 : Int32) (l4 : Int32) : Option (Int32 × MS) :=
  (some (l2 + 1)).bind fun x1 =>
  m_fault_L90 k_14 1000 st l1 x1 l3 l4 1
def m_fault_J56 (k_14 : MS → Int32 → Int32 → Option (Int32 × MS)) (st : MS) (l1 : Int32) (l2 : Int32) (l3 : Int32) (s0 : Int32) : Option (Int32 × MS) :=
  if l1 = 0 then
    (m_goesOn st l3).bind fun q1 =>
    if q1.1 = 0 then
      some (l2, q1.2)
    else
      m_fault_J84 k_14 q1.2 l1 l2 l3 s0
  else
    (m_begin st l3 l2).bind fun q2 =>
    if q2.1 = 0 then
      some (l2, q2.2)
    else
      m_fault_J84 k_14 q2.2 l1 l2 l3 s0
def m_fault_J55 (k_14 : MS → Int32 → Int32 → Option (Int32 × MS)) (st : MS) (l1 : Int32) (l2 : Int32) (l3 : Int32) : Option (Int32 × MS) :=
  m_fault_J56 k_14 st l1 l2 l3 0
def m_fault_J51 (k_14 : MS → Int32 → Int32 → Option (Int32 × MS)) (st : MS) (l1 : Int32) (l2 : Int32) (l3 : Int32) : Option (Int32 × MS) :=
  m_fault_J56 k_14 st l1 l2 l3 1
def m_fault_L14 : Nat → MS → Int32 → Int32 → Option (Int32 × MS)
  | 0, _, _, _ => none
  | n + 1, st, l1, l2 =>
    if (mI st 2) ≤ l2 then
      if l1 = 0 then
        (m_awaits st).bind fun x1 =>
        if x1 = 0 then
          (m_close st).bind fun st2 =>
          some ((-1), st2)
        else
          m_fault_J171 st
      else
        m_fault_J171 st
    else
      (mrd st 1 l2).bind fun x3 =>
      if l1 = 0 then
        m_fault_J55 (m_fault_L14 n) st l1 l2 x3
      else
        if x3 = 40 then
          m_fault_J51 (m_fault_L14 n) st l1 l2 x3
        else
          if x3 = 45 then
            m_fault_J51 (m_fault_L14 n) st l1 l2 x3
          else
            if x3 = 64 then
              m_fault_J51 (m_fault_L14 n) st l1 l2 x3
            else
              m_fault_J55 (m_fault_L14 n) st l1 l2 x3
def m_fault (st : MS) : Option (Int32 × MS) :=
  (some (mIs st 37 0)).bind fun st1 =>
  (some (mIs st1 40 0)).bind fun st2 =>
  m_fault_L14 1000 st2 1 0
/-- change(I)V -/
def m_change_L12 : Nat → MS → Int32 → Int32 → Option MS
  | 0, _, _, _ => none
  | n + 1, st, l1, l2 =>
    if l1 < l2 then
      some st
    else
      (mwr st 4 l2 ((mI st 3))).bind fun st1 =>
      (some (l2 + 1)).bind fun x2 =>
      m_change_L12 n st1 l1 x2
def m_change (st : MS) (a1 : Int32) : Option MS :=
  (some (mIs st 3 (((mI st 3) + 1)))).bind fun st1 =>
  m_change_L12 1000 st1 a1 0
/-- define(I)I -/
def m_define_L266 : Nat → MS → Int32 → Int32 → Option (Int32 × MS)
  | 0, _, _, _ => none
  | n + 1, st, l1, l5 =>
    if (mI st 40) ≤ l5 then
      some (0, st)
    else
      (mrd st 41 l5).bind fun x1 =>
      (mwr st 9 (((40 * l1) + l5)) x1).bind fun st2 =>
      (mrd st2 42 l5).bind fun x3 =>
      (mwr st2 10 (((40 * l1) + l5)) x3).bind fun st4 =>
      (some (l5 + 1)).bind fun x5 =>
      m_define_L266 n st4 l1 x5
def m_define_L232 : Nat → MS → Int32 → Int32 → Int32 → Option (Int32 × MS)
  | 0, _, _, _, _ => none
  | n + 1, st, l1, l3, l5 =>
    if l3 ≤ l5 then
      m_define_L266 1000 st l1 0
    else
      (mrd st 1 l5).bind fun x1 =>
      (mwr st 6 (((30 * l1) + l5)) x1).bind fun st2 =>
      (some (l5 + 1)).bind fun x3 =>
      m_define_L232 n st2 l1 l3 x3
def m_define_J194 (st : MS) (l1 : Int32) (l3 : Int32) (s0 : Int32) (s1 : Int32) : Option (Int32 × MS) :=
  (mwr st 16 s1 (vp_nar .boolean s0)).bind fun st1 =>
  (mwr st1 5 l1 (vp_nar .boolean 1)).bind fun st2 =>
  (mwr st2 7 l1 l3).bind fun st3 =>
  (mwr st3 8 l1 ((mI st3 40))).bind fun st4 =>
  (mwr st4 11 l1 ((mI st4 3))).bind fun st5 =>
  m_define_L232 1000 st5 l1 l3 0
def m_define_J193 (st : MS) (l1 : Int32) (l3 : Int32) (s0 : Int32) : Option (Int32 × MS) :=
  m_define_J194 st l1 l3 0 s0
def m_define_J165 (st : MS) (l1 : Int32) (l3 : Int32) (s0 : Int32) (s1 : Int32) : Option (Int32 × MS) :=
  (mwr st 15 s1 (vp_nar .boolean s0)).bind fun st1 =>
  (mrd st1 16 l1).bind fun x2 =>
  if x2 = 0 then
    m_define_J193 st1 l1 l3 l1
  else
    (mrd st1 5 l1).bind fun x3 =>
    if x3 = 0 then
      m_define_J193 st1 l1 l3 l1
    else
      m_define_J194 st1 l1 l3 1 l1
def m_define_J164 (st : MS) (l1 : Int32) (l3 : Int32) (s0 : Int32) : Option (Int32 × MS) :=
  m_define_J165 st l1 l3 0 s0
def m_define_J134 (st : MS) (l1 : Int32) (l3 : Int32) (s0 : Int32) : Option (Int32 × MS) :=
  (m_change st s0).bind fun st1 =>
  (mrd st1 15 l1).bind fun x2 =>
  if x2 = 0 then
    m_define_J164 st1 l1 l3 l1
  else
    (mrd st1 5 l1).bind fun x3 =>
    if x3 = 0 then
      m_define_J164 st1 l1 l3 l1
    else
      m_define_J165 st1 l1 l3 1 l1
def m_define_J99 (k_61 : MS → Int32 → Int32 → Int32 → Int32 → Option (Int32 × MS)) (st : MS) (l1 : Int32) (l3 : Int32) (l5 : Int32) (s0 : Int32) : Option (Int32 × MS) :=
  (some (l5 + 1)).bind fun x1 =>
  k_61 st l1 l3 s0 x1
def m_define_J98 (k_61 : MS → Int32 → Int32 → Int32 → Int32 → Option (Int32 × MS)) (st : MS) (l1 : Int32) (l3 : Int32) (l5 : Int32) : Option (Int32 × MS) :=
  m_define_J99 k_61 st l1 l3 l5 0
def m_define_L61 : Nat → MS → Int32 → Int32 → Int32 → Int32 → Option (Int32 × MS)
  | 0, _, _, _, _, _ => none
  | n + 1, st, l1, l3, l4, l5 =>
    if l3 ≤ l5 then
      if l4 = 0 then
        (mrd st 5 l1).bind fun x1 =>
        if x1 = 0 then
          (mrd st 13 l1).bind fun x2 =>
          m_define_J134 st l1 l3 x2
        else
          m_define_J134 st l1 l3 2
      else
        some (0, st)
    else
      if l4 = 0 then
        m_define_J98 (m_define_L61 n) st l1 l3 l5
      else
        (mrd st 6 (((30 * l1) + l5))).bind fun x3 =>
        (mrd st 1 l5).bind fun x4 =>
        if x3 = x4 then
          m_define_J99 (m_define_L61 n) st l1 l3 l5 1
        else
          m_define_J98 (m_define_L61 n) st l1 l3 l5
def m_define_J56 (st : MS) (l1 : Int32) (l3 : Int32) (s0 : Int32) : Option (Int32 × MS) :=
  m_define_L61 1000 st l1 l3 s0 0
def m_define_J55 (st : MS) (l1 : Int32) (l3 : Int32) : Option (Int32 × MS) :=
  m_define_J56 st l1 l3 0
def m_define (st : MS) (a1 : Int32) : Option (Int32 × MS) :=
  (m_fault st).bind fun q1 =>
  (some ((mI q1.2 2))).bind fun x2 =>
  (some (mIs q1.2 2 0)).bind fun st3 =>
  if (m_isCell a1) = 0 then
    some ((-1), st3)
  else
    if q1.1 < 0 then
      (mrd st3 5 a1).bind fun x4 =>
      if x4 = 0 then
        m_define_J55 st3 a1 x2
      else
        (mrd st3 7 a1).bind fun x5 =>
        if x5 = x2 then
          m_define_J56 st3 a1 x2 1
        else
          m_define_J55 st3 a1 x2
    else
      some ((1 + q1.1), st3)
/-- set(III)Z -/
def m_set_J105 (st : MS) (l1 : Int32) (l2 : Int32) (l3 : Int32) (s0 : Int32) (s1 : Int32) : Option (Int32 × MS) :=
  (mwr st 14 s1 s0).bind fun st1 =>
  (mwr st1 5 l1 (vp_nar .boolean 0)).bind fun st2 =>
  (mwr st2 15 l1 (vp_nar .boolean 0)).bind fun st3 =>
  (mwr st3 16 l1 (vp_nar .boolean 0)).bind fun st4 =>
  (mwr st4 12 l1 l2).bind fun st5 =>
  (mwr st5 13 l1 l3).bind fun st6 =>
  some (1, st6)
def m_set_J92 (st : MS) (l1 : Int32) (l2 : Int32) (l3 : Int32) (s0 : Int32) : Option (Int32 × MS) :=
  m_set_J105 st l1 l2 l3 ((mI st 3)) s0
def m_set_J69 (st : MS) (l1 : Int32) (l2 : Int32) (l3 : Int32) (l4 : Int32) (s0 : Int32) : Option (Int32 × MS) :=
  (m_change st s0).bind fun st1 =>
  if l4 = 0 then
    (mrd st1 12 l1).bind fun x2 =>
    if x2 = l2 then
      (mrd st1 14 l1).bind fun x3 =>
      m_set_J105 st1 l1 l2 l3 x3 l1
    else
      m_set_J92 st1 l1 l2 l3 l1
  else
    m_set_J92 st1 l1 l2 l3 l1
def m_set_J53 (st : MS) (l1 : Int32) (l2 : Int32) (l3 : Int32) (l4 : Int32) : Option (Int32 × MS) :=
  if l4 = 0 then
    (mrd st 13 l1).bind fun x1 =>
    m_set_J69 st l1 l2 l3 l4 x1
  else
    m_set_J69 st l1 l2 l3 l4 2
def m_set (st : MS) (a1 : Int32) (a2 : Int32) (a3 : Int32) : Option (Int32 × MS) :=
  if (m_isCell a1) = 0 then
    some (0, st)
  else
    if a3 < 0 then
      some (0, st)
    else
      if a3 ≤ 2 then
        (mrd st 5 a1).bind fun x1 =>
        if x1 = 0 then
          (mrd st 12 a1).bind fun x2 =>
          if x2 = a2 then
            (mrd st 13 a1).bind fun x3 =>
            if x3 = a3 then
              some (1, st)
            else
              m_set_J53 st a1 a2 a3 x1
          else
            m_set_J53 st a1 a2 a3 x1
        else
          m_set_J53 st a1 a2 a3 x1
      else
        some (0, st)
/-- settled(I)Z -/
def m_settled_J31 (st : MS) : Option Int32 :=
  some 1
def m_settled (st : MS) (a1 : Int32) : Option Int32 :=
  (mrd st 5 a1).bind fun x1 =>
  if x1 = 0 then
    m_settled_J31 st
  else
    (mrd st 15 a1).bind fun x2 =>
    if x2 = 0 then
      some 0
    else
      (mrd st 18 a1).bind fun x3 =>
      if x3 = (mI st 3) then
        m_settled_J31 st
      else
        some 0
/-- durabilityOf(I)I -/
def m_durabilityOf (st : MS) (a1 : Int32) : Option Int32 :=
  (mrd st 5 a1).bind fun x1 =>
  if x1 = 0 then
    (mrd st 13 a1).bind fun x2 =>
    some x2
  else
    (mrd st 20 a1).bind fun x3 =>
    some x3
/-- sinceOf(I)I -/
def m_sinceOf (st : MS) (a1 : Int32) : Option Int32 :=
  (mrd st 5 a1).bind fun x1 =>
  if x1 = 0 then
    (mrd st 14 a1).bind fun x2 =>
    some x2
  else
    (mrd st 19 a1).bind fun x3 =>
    some x3
/-- start(II)V -/
def m_start (st : MS) (a1 : Int32) (a2 : Int32) : Option MS :=
  (mwr st 28 ((mI st 27)) a1).bind fun st1 =>
  (mwr st1 29 ((mI st1 27)) a2).bind fun st2 =>
  (mwr st2 35 a1 (vp_nar .boolean 1)).bind fun st3 =>
  (some (mIs st3 27 (((mI st3 27) + 1)))).bind fun st4 =>
  some st4
/-- counts(II)V -/
def m_counts (st : MS) (a1 : Int32) (a2 : Int32) : Option MS :=
  (mrd st 25 (((3 * a1) + a2))).bind fun x1 =>
  (mwr st 25 (((3 * a1) + a2)) ((x1 + 1))).bind fun st2 =>
  (mrd st2 26 a2).bind fun x3 =>
  (mwr st2 26 a2 ((x3 + 1))).bind fun st4 =>
  some st4
/-- finish()V -/
def m_finish (st : MS) : Option MS :=
  (some (mIs st 27 (((mI st 27) - 1)))).bind fun st1 =>
  (mrd st1 28 ((mI st1 27))).bind fun x2 =>
  (mwr st1 35 x2 (vp_nar .boolean 0)).bind fun st3 =>
  some st3
/-- use(I)V -/
def m_use (st : MS) (a1 : Int32) : Option MS :=
  (some (mIs st 24 (((mI st 24) + 1)))).bind fun st1 =>
  (mwr st1 23 a1 ((mI st1 24))).bind fun st2 =>
  some st2
/-- enter(II)V -/
def m_enter_J91 (st : MS) (s0 : Int32) (s1 : Int32) : Option MS :=
  (mwr st 29 s1 s0).bind fun st1 =>
  some st1
def m_enter_J90 (st : MS) (s0 : Int32) : Option MS :=
  m_enter_J91 st 2 s0
def m_enter_J50 (st : MS) (l1 : Int32) (l2 : Int32) : Option MS :=
  (mwr st 30 l1 0).bind fun st1 =>
  (mrd st1 15 l2).bind fun x2 =>
  if x2 = 0 then
    m_enter_J90 st1 l1
  else
    (mrd st1 11 l2).bind fun x3 =>
    (mrd st1 18 l2).bind fun x4 =>
    if x4 < x3 then
      m_enter_J90 st1 l1
    else
      m_enter_J91 st1 1 l1
def m_enter (st : MS) (a1 : Int32) (a2 : Int32) : Option MS :=
  (mrd st 15 a2).bind fun x1 =>
  if x1 = 0 then
    m_enter_J50 st a1 a2
  else
    (mrd st 20 a2).bind fun x2 =>
    (mrd st 4 x2).bind fun x3 =>
    (mrd st 18 a2).bind fun x4 =>
    if x4 < x3 then
      m_enter_J50 st a1 a2
    else
      (m_counts st a2 2).bind fun st5 =>
      (mwr st5 18 a2 ((mI st5 3))).bind fun st6 =>
      (m_finish st6).bind fun st7 =>
      some st7
/-- lookThrough(II)V -/
def m_lookThrough_J87 (k_36 : MS → Int32 → Int32 → Int32 → Option MS) (st : MS) (l2 : Int32) (l4 : Int32) (s0 : Int32) : Option MS :=
  (some (l4 + 1)).bind fun x1 =>
  k_36 st l2 s0 x1
def m_lookThrough_L36 : Nat → MS → Int32 → Int32 → Int32 → Option MS
  | 0, _, _, _, _ => none
  | n + 1, st, l2, l3, l4 =>
    (mrd st 21 l2).bind fun x1 =>
    if x1 ≤ l4 then
      (mwr st 20 l2 l3).bind fun st2 =>
      (m_finish st2).bind fun st3 =>
      some st3
    else
      (mrd st 22 (((12 * l2) + l4))).bind fun x4 =>
      (m_durabilityOf st x4).bind fun x5 =>
      if l3 ≤ x5 then
        m_lookThrough_J87 (m_lookThrough_L36 n) st l2 l4 l3
      else
        (mrd st 22 (((12 * l2) + l4))).bind fun x6 =>
        (m_durabilityOf st x6).bind fun x7 =>
        m_lookThrough_J87 (m_lookThrough_L36 n) st l2 l4 x7
def m_lookThrough (st : MS) (a1 : Int32) (a2 : Int32) : Option MS :=
  (mrd st 30 a1).bind fun x1 =>
  (mrd st 21 a2).bind fun x2 =>
  if x1 = x2 then
    (m_counts st a2 1).bind fun st14 =>
    (mwr st14 18 a2 ((mI st14 3))).bind fun st15 =>
    m_lookThrough_L36 1000 st15 a2 2 0
  else
    (mrd st 30 a1).bind fun x3 =>
    (mrd st 22 (((12 * a2) + x3))).bind fun x4 =>
    (mrd st 35 x4).bind fun x5 =>
    if x5 = 0 then
      (m_settled st x4).bind fun x6 =>
      if x6 = 0 then
        (m_start st x4 0).bind fun st12 =>
        some st12
      else
        (m_sinceOf st x4).bind fun x7 =>
        (mrd st 18 a2).bind fun x8 =>
        if x7 ≤ x8 then
          (mrd st 30 a1).bind fun x9 =>
          (mwr st 30 a1 ((x9 + 1))).bind fun st10 =>
          some st10
        else
          (mwr st 29 a1 2).bind fun st11 =>
          some st11
    else
      (mwr st 29 a1 2).bind fun st13 =>
      some st13
/-- worked(IIJ)V -/
def m_worked_J175 (st : MS) (l1 : Int32) (l2 : Int32) (l3 : Int64) (l5 : Int32) (s0 : Int32) (s1 : Int32) : Option MS :=
  (mwr st 19 s1 s0).bind fun st1 =>
  (mwr st1 15 l2 (vp_nar .boolean 1)).bind fun st2 =>
  (mwr st2 16 l2 (vp_nar .boolean 1)).bind fun st3 =>
  (mwL st3 17 l2 l3).bind fun st4 =>
  (mwr st4 18 l2 ((mI st4 3))).bind fun st5 =>
  (mwr st5 20 l2 l5).bind fun st6 =>
  (mrd st6 33 l1).bind fun x7 =>
  (mwr st6 21 l2 x7).bind fun st8 =>
  (m_use st8 l2).bind fun st9 =>
  (m_finish st9).bind fun st10 =>
  some st10
def m_worked_J150 (st : MS) (l1 : Int32) (l2 : Int32) (l3 : Int64) (l5 : Int32) (s0 : Int32) : Option MS :=
  if s0 = 0 then
    m_worked_J175 st l1 l2 l3 l5 ((mI st 3)) l2
  else
    (mrd st 19 l2).bind fun x1 =>
    m_worked_J175 st l1 l2 l3 l5 x1 l2
def m_worked_J149 (st : MS) (l1 : Int32) (l2 : Int32) (l3 : Int64) (l5 : Int32) : Option MS :=
  m_worked_J150 st l1 l2 l3 l5 0
def m_worked_J145 (st : MS) (l1 : Int32) (l2 : Int32) (l3 : Int64) (l5 : Int32) : Option MS :=
  m_worked_J150 st l1 l2 l3 l5 1
def m_worked_J132 (st : MS) (l1 : Int32) (l2 : Int32) (l3 : Int64) (l5 : Int32) : Option MS :=
  (mrd st 18 l2).bind fun x1 =>
  if x1 = (mI st 3) then
    m_worked_J145 st l1 l2 l3 l5
  else
    m_worked_J149 st l1 l2 l3 l5
def m_worked_J95 (k_25 : MS → Int32 → Int32 → Int64 → Int32 → Int32 → Option MS) (st : MS) (l1 : Int32) (l2 : Int32) (l3 : Int64) (l6 : Int32) (s0 : Int32) : Option MS :=
  (some (l6 + 1)).bind fun x1 =>
  k_25 st l1 l2 l3 s0 x1
def m_worked_J93 (k_25 : MS → Int32 → Int32 → Int64 → Int32 → Int32 → Option MS) (st : MS) (l1 : Int32) (l2 : Int32) (l3 : Int64) (l5 : Int32) (l6 : Int32) : Option MS :=
  m_worked_J95 k_25 st l1 l2 l3 l6 l5
def m_worked_L25 : Nat → MS → Int32 → Int32 → Int64 → Int32 → Int32 → Option MS
  | 0, _, _, _, _, _, _ => none
  | n + 1, st, l1, l2, l3, l5, l6 =>
    (mrd st 33 l1).bind fun x1 =>
    if x1 ≤ l6 then
      (mrd st 15 l2).bind fun x2 =>
      if x2 = 0 then
        m_worked_J149 st l1 l2 l3 l5
      else
        (mrd st 16 l2).bind fun x3 =>
        if x3 = 0 then
          m_worked_J132 st l1 l2 l3 l5
        else
          (mrL st 17 l2).bind fun x4 =>
          if (lg_cmp x4 l3) = 0 then
            m_worked_J145 st l1 l2 l3 l5
          else
            m_worked_J132 st l1 l2 l3 l5
    else
      (mrd st 34 (((12 * l1) + l6))).bind fun x5 =>
      (mwr st 22 (((12 * l2) + l6)) x5).bind fun st6 =>
      (mrd st6 36 l1).bind fun x7 =>
      if x7 = 0 then
        (m_durabilityOf st6 x5).bind fun x8 =>
        if l5 ≤ x8 then
          m_worked_J93 (m_worked_L25 n) st6 l1 l2 l3 l5 l6
        else
          (m_durabilityOf st6 x5).bind fun x9 =>
          m_worked_J95 (m_worked_L25 n) st6 l1 l2 l3 l6 x9
      else
        m_worked_J93 (m_worked_L25 n) st6 l1 l2 l3 l5 l6
def m_worked_J20 (st : MS) (l1 : Int32) (l2 : Int32) (l3 : Int64) (s0 : Int32) : Option MS :=
  m_worked_L25 1000 st l1 l2 l3 s0 0
def m_worked (st : MS) (a1 : Int32) (a2 : Int32) (a3 : Int64) : Option MS :=
  (m_counts st a2 0).bind fun st1 =>
  (mrd st1 36 a1).bind fun x2 =>
  if x2 = 0 then
    m_worked_J20 st1 a1 a2 a3 2
  else
    m_worked_J20 st1 a1 a2 a3 0
/-- push(IJ)V -/
def m_push (st : MS) (a1 : Int32) (a2 : Int64) : Option MS :=
  (mrd st 31 a1).bind fun x1 =>
  (mwL st 32 (((16 * a1) + x1)) a2).bind fun st2 =>
  (mrd st2 31 a1).bind fun x3 =>
  (mwr st2 31 a1 ((x3 + 1))).bind fun st4 =>
  some st4
/-- look(III)V -/
def m_look_J247 (st : MS) (l1 : Int32) (l5 : Int64) : Option MS :=
  (m_push st l1 l5).bind fun st1 =>
  (mrd st1 30 l1).bind fun x2 =>
  (mwr st1 30 l1 ((x2 + 1))).bind fun st3 =>
  some st3
def m_look_J194 (st : MS) (l1 : Int32) (l2 : Int32) (s0 : Int64) : Option MS :=
  if (lg_cmp s0 (1099511627776 : Int64)) = 0 then
    (m_worked st l1 l2 ((1099511627776 : Int64))).bind fun st5 =>
    some st5
  else
    (mrd st 30 l1).bind fun x1 =>
    (mrd st 9 (((40 * l2) + x1))).bind fun x2 =>
    if x2 = 2 then
      (mrd st 31 l1).bind fun x3 =>
      (mwr st 31 l1 ((x3 - 1))).bind fun st4 =>
      m_look_J247 st4 l1 s0
    else
      m_look_J247 st l1 s0
def m_look_J169 (st : MS) (l1 : Int32) (l2 : Int32) (l3 : Int32) : Option MS :=
  (mrd st 5 l3).bind fun x1 =>
  if x1 = 0 then
    (mrd st 12 l3).bind fun x2 =>
    m_look_J194 st l1 l2 ((x2 : Int32).toInt64)
  else
    (mrL st 17 l3).bind fun x3 =>
    m_look_J194 st l1 l2 x3
def m_look_J155 (st : MS) (l1 : Int32) (l2 : Int32) (l3 : Int32) : Option MS :=
  (mrd st 5 l3).bind fun x1 =>
  if x1 = 0 then
    m_look_J169 st l1 l2 l3
  else
    (m_use st l3).bind fun st2 =>
    m_look_J169 st2 l1 l2 l3
def m_look_J83 (st : MS) (l1 : Int32) (l2 : Int32) (l3 : Int32) : Option MS :=
  (mrd st 35 l3).bind fun x1 =>
  if x1 = 0 then
    (m_settled st l3).bind fun x2 =>
    if x2 = 0 then
      (m_start st l3 0).bind fun st6 =>
      some st6
    else
      (mrd st 5 l3).bind fun x3 =>
      if x3 = 0 then
        m_look_J155 st l1 l2 l3
      else
        (mrd st 16 l3).bind fun x4 =>
        if x4 = 0 then
          (m_start st l3 2).bind fun st5 =>
          some st5
        else
          m_look_J155 st l1 l2 l3
  else
    (mwr st 36 l1 (vp_nar .boolean 1)).bind fun st7 =>
    (m_worked st7 l1 l2 ((1099511627776 : Int64))).bind fun st8 =>
    some st8
def m_look_J43 (k_6 : MS → Int32 → Int32 → Int32 → Int32 → Int32 → Option MS) (st : MS) (l1 : Int32) (l2 : Int32) (l3 : Int32) (l5 : Int32) (s0 : Int32) : Option MS :=
  (some (l5 + 1)).bind fun x1 =>
  k_6 st l1 l2 l3 s0 x1
def m_look_J38 (k_6 : MS → Int32 → Int32 → Int32 → Int32 → Int32 → Option MS) (st : MS) (l1 : Int32) (l2 : Int32) (l3 : Int32) (l5 : Int32) : Option MS :=
  m_look_J43 k_6 st l1 l2 l3 l5 1
def m_look_L6 : Nat → MS → Int32 → Int32 → Int32 → Int32 → Int32 → Option MS
  | 0, _, _, _, _, _, _ => none
  | n + 1, st, l1, l2, l3, l4, l5 =>
    (mrd st 33 l1).bind fun x1 =>
    if x1 ≤ l5 then
      if l4 = 0 then
        (mrd st 33 l1).bind fun x2 =>
        (mwr st 34 (((12 * l1) + x2)) l3).bind fun st3 =>
        (mrd st3 33 l1).bind fun x4 =>
        (mwr st3 33 l1 ((x4 + 1))).bind fun st5 =>
        m_look_J83 st5 l1 l2 l3
      else
        m_look_J83 st l1 l2 l3
    else
      if l4 = 0 then
        (mrd st 34 (((12 * l1) + l5))).bind fun x6 =>
        if x6 = l3 then
          m_look_J38 (m_look_L6 n) st l1 l2 l3 l5
        else
          m_look_J43 (m_look_L6 n) st l1 l2 l3 l5 0
      else
        m_look_J38 (m_look_L6 n) st l1 l2 l3 l5
def m_look (st : MS) (a1 : Int32) (a2 : Int32) (a3 : Int32) : Option MS :=
  m_look_L6 1000 st a1 a2 a3 0 0
/-- pop(I)J -/
def m_pop (st : MS) (a1 : Int32) : Option (Int64 × MS) :=
  (mrd st 31 a1).bind fun x1 =>
  (mwr st 31 a1 ((x1 - 1))).bind fun st2 =>
  (mrd st2 31 a1).bind fun x3 =>
  (mrL st2 32 (((16 * a1) + x3))).bind fun x4 =>
  some (x4, st2)
/-- combine(II)V -/
def m_combine_J89 (st : MS) (s0 : Int64) (s1 : Int32) : Option MS :=
  (m_push st s1 s0).bind fun st1 =>
  some st1
def m_combine_J74 (st : MS) (s0 : Int32) (s1 : Int32) : Option MS :=
  m_combine_J89 st ((s0 : Int32).toInt64) s1
def m_combine (st : MS) (a1 : Int32) (a2 : Int32) : Option MS :=
  (m_pop st a1).bind fun q1 =>
  (some ((q1.1).toInt32)).bind fun x2 =>
  (m_pop q1.2 a1).bind fun q3 =>
  (some ((q3.1).toInt32)).bind fun x4 =>
  if a2 = 4 then
    m_combine_J89 q3.2 (((x4 * x2) : Int32).toInt64) a1
  else
    if a2 = 5 then
      m_combine_J89 q3.2 (((x4 + x2) : Int32).toInt64) a1
    else
      if a2 = 6 then
        m_combine_J89 q3.2 (((x4 - x2) : Int32).toInt64) a1
      else
        if a2 = 7 then
          if x2 ≤ x4 then
            m_combine_J74 q3.2 0 a1
          else
            m_combine_J74 q3.2 1 a1
        else
          if x4 = x2 then
            m_combine_J89 q3.2 ((1 : Int64)) a1
          else
            m_combine_J89 q3.2 ((0 : Int64)) a1
/-- advance(II)V -/
def m_advance_J199 (st : MS) (s0 : Int32) (s1 : Int32) : Option MS :=
  (mwr st 30 s1 s0).bind fun st1 =>
  some st1
def m_advance_J98 (st : MS) (s0 : Int32) (s1 : Int32) (s2 : Int32) : Option MS :=
  (m_look st s2 s1 s0).bind fun st1 =>
  some st1
def m_advance (st : MS) (a1 : Int32) (a2 : Int32) : Option MS :=
  (mrd st 30 a1).bind fun x1 =>
  (mrd st 9 (((40 * a2) + x1))).bind fun x2 =>
  (mrd st 30 a1).bind fun x3 =>
  (mrd st 10 (((40 * a2) + x3))).bind fun x4 =>
  if x2 = 1 then
    (m_look st a1 a2 x4).bind fun st17 =>
    some st17
  else
    if x2 = 2 then
      (mrd st 31 a1).bind fun x14 =>
      (mrL st 32 ((((16 * a1) + x14) - 1))).bind fun x15 =>
      (some (((x15).toInt32 - (x15).toInt32 / 12 * 12))).bind fun x16 =>
      if 0 ≤ x16 then
        m_advance_J98 st x16 a2 a1
      else
        m_advance_J98 st ((x16 + 12)) a2 a1
    else
      (mrd st 30 a1).bind fun x5 =>
      (mwr st 30 a1 ((x5 + 1))).bind fun st6 =>
      if x2 = 0 then
        (m_push st6 a1 ((x4 : Int32).toInt64)).bind fun st13 =>
        some st13
      else
        if x2 = 3 then
          (m_pop st6 a1).bind fun q11 =>
          (m_push q11.2 a1 (((-(q11.1).toInt32) : Int32).toInt64)).bind fun st12 =>
          some st12
        else
          if x2 = 9 then
            (mwr st6 30 a1 x4).bind fun st10 =>
            some st10
          else
            if x2 = 10 then
              (m_pop st6 a1).bind fun q8 =>
              if (lg_cmp (q8.1) (0 : Int64)) = 0 then
                m_advance_J199 q8.2 x4 a1
              else
                (mrd q8.2 30 a1).bind fun x9 =>
                m_advance_J199 q8.2 x9 a1
            else
              (m_combine st6 a1 x2).bind fun st7 =>
              some st7
/-- runAll()V -/
def m_runAll_J163 (k_0 : MS → Option MS) (st : MS) : Option MS :=
  k_0 st
def m_runAll_L0 : Nat → MS → Option MS
  | 0, _ => none
  | n + 1, st =>
    if (mI st 27) ≤ 0 then
      some st
    else
      (some (((mI st 27) - 1))).bind fun x1 =>
      (mrd st 29 x1).bind fun x2 =>
      if x2 = 0 then
        (mrd st 28 x1).bind fun x20 =>
        (m_enter st x1 x20).bind fun st21 =>
        m_runAll_J163 (m_runAll_L0 n) st21
      else
        (mrd st 29 x1).bind fun x3 =>
        if x3 = 1 then
          (mrd st 28 x1).bind fun x18 =>
          (m_lookThrough st x1 x18).bind fun st19 =>
          m_runAll_J163 (m_runAll_L0 n) st19
        else
          (mrd st 29 x1).bind fun x4 =>
          if x4 = 2 then
            (mwr st 30 x1 0).bind fun st13 =>
            (mwr st13 31 x1 0).bind fun st14 =>
            (mwr st14 33 x1 0).bind fun st15 =>
            (mwr st15 36 x1 (vp_nar .boolean 0)).bind fun st16 =>
            (mwr st16 29 x1 3).bind fun st17 =>
            m_runAll_J163 (m_runAll_L0 n) st17
          else
            (mrd st 30 x1).bind fun x5 =>
            (mrd st 28 x1).bind fun x6 =>
            (mrd st 8 x6).bind fun x7 =>
            if x5 = x7 then
              (mrd st 28 x1).bind fun x10 =>
              (mrL st 32 ((16 * x1))).bind fun x11 =>
              (m_worked st x1 x10 x11).bind fun st12 =>
              m_runAll_J163 (m_runAll_L0 n) st12
            else
              (mrd st 28 x1).bind fun x8 =>
              (m_advance st x1 x8).bind fun st9 =>
              m_runAll_J163 (m_runAll_L0 n) st9
def m_runAll (st : MS) : Option MS :=
  m_runAll_L0 100000 st
/-- values()I -/
def m_values_J26 (k_4 : MS → Int32 → Int32 → Option Int32) (st : MS) (l2 : Int32) (s0 : Int32) : Option Int32 :=
  (some (l2 + 1)).bind fun x1 =>
  k_4 st s0 x1
def m_values_L4 : Nat → MS → Int32 → Int32 → Option Int32
  | 0, _, _, _ => none
  | n + 1, st, l1, l2 =>
    if 12 ≤ l2 then
      some l1
    else
      (mrd st 16 l2).bind fun x1 =>
      if x1 = 0 then
        m_values_J26 (m_values_L4 n) st l2 l1
      else
        m_values_J26 (m_values_L4 n) st l2 ((l1 + 1))
def m_values (st : MS) : Option Int32 :=
  m_values_L4 1000 st 0 0
/-- ask(I)J -/
def m_ask_J165 (k_119 : MS → Int64 → Int32 → Int32 → Option (Int64 × MS)) (st : MS) (l2 : Int64) (l5 : Int32) (s0 : Int32) : Option (Int64 × MS) :=
  (some (l5 + 1)).bind fun x1 =>
  k_119 st l2 s0 x1
def m_ask_J163 (k_119 : MS → Int64 → Int32 → Int32 → Option (Int64 × MS)) (st : MS) (l2 : Int64) (l4 : Int32) (l5 : Int32) : Option (Int64 × MS) :=
  m_ask_J165 k_119 st l2 l5 l4
def m_ask_J158 (k_119 : MS → Int64 → Int32 → Int32 → Option (Int64 × MS)) (st : MS) (l2 : Int64) (l5 : Int32) : Option (Int64 × MS) :=
  m_ask_J165 k_119 st l2 l5 l5
def m_ask_L119 (k_102 : MS → Int64 → Option (Int64 × MS)) : Nat → MS → Int64 → Int32 → Int32 → Option (Int64 × MS)
  | 0, _, _, _, _ => none
  | n + 1, st, l2, l4, l5 =>
    if 12 ≤ l5 then
      (mwr st 16 l4 (vp_nar .boolean 0)).bind fun st1 =>
      k_102 st1 l2
    else
      (mrd st 16 l5).bind fun x2 =>
      if x2 = 0 then
        m_ask_J163 (m_ask_L119 k_102 n) st l2 l4 l5
      else
        if l4 < 0 then
          m_ask_J158 (m_ask_L119 k_102 n) st l2 l5
        else
          (mrd st 23 l5).bind fun x3 =>
          (mrd st 23 l4).bind fun x4 =>
          if x4 ≤ x3 then
            m_ask_J163 (m_ask_L119 k_102 n) st l2 l4 l5
          else
            m_ask_J158 (m_ask_L119 k_102 n) st l2 l5
def m_ask_L102 : Nat → MS → Int64 → Option (Int64 × MS)
  | 0, _, _ => none
  | n + 1, st, l2 =>
    (m_values st).bind fun x1 =>
    if x1 ≤ (mI st 0) then
      some (l2, st)
    else
      m_ask_L119 (m_ask_L102 n) 1000 st l2 ((-1)) 0
def m_ask_J86 (st : MS) (l1 : Int32) : Option (Int64 × MS) :=
  (m_runAll st).bind fun st1 =>
  (m_use st1 l1).bind fun st2 =>
  (mrL st2 17 l1).bind fun x3 =>
  m_ask_L102 1000 st2 x3
def m_ask_J67 (st : MS) (l1 : Int32) : Option (Int64 × MS) :=
  (m_runAll st).bind fun st1 =>
  (mrd st1 16 l1).bind fun x2 =>
  if x2 = 0 then
    (m_start st1 l1 2).bind fun st3 =>
    m_ask_J86 st3 l1
  else
    m_ask_J86 st1 l1
def m_ask_L13 : Nat → MS → Int32 → Int32 → Option (Int64 × MS)
  | 0, _, _, _ => none
  | n + 1, st, l1, l2 =>
    if 3 ≤ l2 then
      (mrd st 5 l1).bind fun x1 =>
      if x1 = 0 then
        (mrd st 12 l1).bind fun x5 =>
        some ((x5 : Int32).toInt64, st)
      else
        (some (mIs st 27 0)).bind fun st2 =>
        (m_settled st2 l1).bind fun x3 =>
        if x3 = 0 then
          (m_start st2 l1 0).bind fun st4 =>
          m_ask_J67 st4 l1
        else
          m_ask_J67 st2 l1
    else
      (mwr st 26 l2 0).bind fun st6 =>
      (some (l2 + 1)).bind fun x7 =>
      m_ask_L13 n st6 l1 x7
def m_ask (st : MS) (a1 : Int32) : Option (Int64 × MS) :=
  if (m_isCell a1) = 0 then
    some ((-1 : Int64), st)
  else
    m_ask_L13 1000 st a1 0
/-- revision()I -/
def m_revision (st : MS) : Option Int32 :=
  some ((mI st 3))
/-- changed(I)I -/
def m_changed_J9 (st : MS) : Option Int32 :=
  some ((-1))
def m_changed (st : MS) (a1 : Int32) : Option Int32 :=
  if a1 < 0 then
    m_changed_J9 st
  else
    if a1 ≤ 2 then
      (mrd st 4 a1).bind fun x1 =>
      some x1
    else
      m_changed_J9 st
/-- note(II)I -/
def m_note_J143 (st : MS) : Option Int32 :=
  some 1
def m_note_J57 (st : MS) (l1 : Int32) (l2 : Int32) (l3 : Int32) : Option Int32 :=
  if l2 = 3 then
    (m_sinceOf st l1).bind fun x1 =>
    some x1
  else
  if l2 = 4 then
    if l3 = 0 then
      some 0
    else
      (mrd st 18 l1).bind fun x2 =>
      some x2
  else
  if l2 = 5 then
    (m_durabilityOf st l1).bind fun x3 =>
    some x3
  else
  if l2 = 6 then
    if l3 = 0 then
      some 0
    else
      (mrd st 21 l1).bind fun x4 =>
      some x4
  else
    if l3 = 0 then
      m_note_J143 st
    else
      (mrd st 16 l1).bind fun x5 =>
      if x5 = 0 then
        some 0
      else
        m_note_J143 st
def m_note (st : MS) (a1 : Int32) (a2 : Int32) : Option Int32 :=
  if (m_isCell a1) = 0 then
    some ((-1))
  else
    if a2 < 0 then
      some ((-1))
    else
      if a2 ≤ 7 then
        if 3 ≤ a2 then
          (mrd st 5 a1).bind fun x1 =>
          if x1 = 0 then
            m_note_J57 st a1 a2 x1
          else
            (mrd st 15 a1).bind fun x2 =>
            if x2 = 0 then
              some 0
            else
              m_note_J57 st a1 a2 x1
        else
          (mrd st 25 (((3 * a1) + a2))).bind fun x3 =>
          some x3
      else
        some ((-1))
/-- read(II)I -/
def m_read_J68 (st : MS) (l1 : Int32) (l2 : Int32) (s0 : Int32) (s2 : Int32) : Option Int32 :=
  (mrd st 21 s0).bind fun x1 =>
  if x1 ≤ s2 then
    some ((-1))
  else
    (mrd st 22 (((12 * l1) + l2))).bind fun x2 =>
    some x2
def m_read_J43 (st : MS) (l1 : Int32) (l2 : Int32) (s0 : Int32) : Option Int32 :=
  (mrd st 15 s0).bind fun x1 =>
  if x1 = 0 then
    some ((-1))
  else
    if l2 < 0 then
      some ((-1))
    else
      if (m_isCell l1) = 0 then
        m_read_J68 st l1 l2 0 l2
      else
        m_read_J68 st l1 l2 l1 l2
def m_read_J23 (st : MS) (l1 : Int32) (l2 : Int32) (s0 : Int32) : Option Int32 :=
  (mrd st 5 s0).bind fun x1 =>
  if x1 = 0 then
    some ((-1))
  else
    if (m_isCell l1) = 0 then
      m_read_J43 st l1 l2 0
    else
      m_read_J43 st l1 l2 l1
def m_read (st : MS) (a1 : Int32) (a2 : Int32) : Option Int32 :=
  if (m_isCell a1) = 0 then
    some ((-1))
  else
    if (m_isCell a1) = 0 then
      m_read_J23 st a1 a2 0
    else
      m_read_J23 st a1 a2 a1
/-- count(I)I -/
def m_count_J18 (st : MS) (l1 : Int32) : Option Int32 :=
  if l1 = 3 then
    (m_values st).bind fun x1 =>
    some x1
  else
    some ((-1))
def m_count (st : MS) (a1 : Int32) : Option Int32 :=
  if a1 < 0 then
    m_count_J18 st a1
  else
    if 3 ≤ a1 then
      m_count_J18 st a1
    else
      (mrd st 26 a1).bind fun x1 =>
      some x1
