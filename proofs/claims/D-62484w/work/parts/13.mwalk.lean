section
variable {p : Program} {l : Launch} {e : Env} {s : State} {m : MethodId} {args : Array Value} {below : List Frame} {meth : Method} {c : Code} {G : MG} {this : Nat}
theorem c_m_isCell (l : Launch) (a0 : Int32) : Met l y_m_isCell (Cond.code y_m_isCell b_m_isCell 1 (some .boolean) :: lw_g) (rmL 0 0 0) (sPc [.int a0]) (sQc (some (.int (m_isCell a0)))) 0 0 (fun _ => False) := by
  generalize h : m_isCell a0 = r
  refine Met.ofS (by decide +kernel) (Nat.le_of_ble_eq_true rfl) ?_
  intro p e s m below meth c ls X hl
  have hl : lv_has ls 1 [(0, .int a0)] := hl
  generalize ([.int a0] : List Value).toArray = args at X ⊢
  obtain ⟨hx, hb, hr, hml, hown, hts, hlocks⟩ := id X
  unfold m_isCell at h
  refine lv_iload_n hx hb d_m_isCell_0 rfl (lv_at hl 0 rfl) ?_
  refine lv_if_lt (tgt := 14) hx hb d_m_isCell_1 (by decide) (fun c1 => ?_) (fun c1 => ?_)
  · replace h := ifp c1 h
    refine lv_iconst (v := 0) hx hb d_m_isCell_14 (by decide) ?_
    subst h
    exact sret_z nz_0 X d_m_isCell_15
  · replace h := ifn c1 h
    refine lv_iload_n hx hb d_m_isCell_4 rfl (lv_at hl 0 rfl) ?_
    refine lv_bipush (v := 12) hx hb d_m_isCell_5 (by decide) ?_
    refine lv_icmp_ge (tgt := 14) hx hb d_m_isCell_7 (by decide) (fun c7 => ?_) (fun c7 => ?_)
    · replace h := ifp c7 h
      refine lv_iconst (v := 0) hx hb d_m_isCell_14 (by decide) ?_
      subst h
      exact sret_z nz_0 X d_m_isCell_15
    · replace h := ifn c7 h
      refine lv_iconst (v := 1) hx hb d_m_isCell_10 (by decide) ?_
      refine lv_goto (tgt := 15) hx hb d_m_isCell_11 (by decide) ?_
      subst h
      exact sret_z nz_1 X d_m_isCell_15
theorem c_m_isLetter (l : Launch) (a0 : Int32) : Met l y_m_isLetter (Cond.code y_m_isLetter b_m_isLetter 1 (some .boolean) :: lw_g) (rmL 0 0 0) (sPc [.int a0]) (sQc (some (.int (m_isLetter a0)))) 0 0 (fun _ => False) := by
  generalize h : m_isLetter a0 = r
  refine Met.ofS (by decide +kernel) (Nat.le_of_ble_eq_true rfl) ?_
  intro p e s m below meth c ls X hl
  have hl : lv_has ls 1 [(0, .int a0)] := hl
  generalize ([.int a0] : List Value).toArray = args at X ⊢
  obtain ⟨hx, hb, hr, hml, hown, hts, hlocks⟩ := id X
  unfold m_isLetter at h
  refine lv_iload_n hx hb d_m_isLetter_0 rfl (lv_at hl 0 rfl) ?_
  refine lv_bipush (v := 65) hx hb d_m_isLetter_1 (by decide) ?_
  refine lv_icmp_lt (tgt := 16) hx hb d_m_isLetter_3 (by decide) (fun c3 => ?_) (fun c3 => ?_)
  · replace h := ifp c3 h
    refine lv_iconst (v := 0) hx hb d_m_isLetter_16 (by decide) ?_
    subst h
    exact sret_z nz_0 X d_m_isLetter_17
  · replace h := ifn c3 h
    refine lv_iload_n hx hb d_m_isLetter_6 rfl (lv_at hl 0 rfl) ?_
    refine lv_bipush (v := 76) hx hb d_m_isLetter_7 (by decide) ?_
    refine lv_icmp_gt (tgt := 16) hx hb d_m_isLetter_9 (by decide) (fun c9 => ?_) (fun c9 => ?_)
    · replace h := ifp c9 h
      refine lv_iconst (v := 0) hx hb d_m_isLetter_16 (by decide) ?_
      subst h
      exact sret_z nz_0 X d_m_isLetter_17
    · replace h := ifn c9 h
      refine lv_iconst (v := 1) hx hb d_m_isLetter_12 (by decide) ?_
      refine lv_goto (tgt := 17) hx hb d_m_isLetter_13 (by decide) ?_
      subst h
      exact sret_z nz_1 X d_m_isLetter_17
theorem c_m_isDigit (l : Launch) (a0 : Int32) : Met l y_m_isDigit (Cond.code y_m_isDigit b_m_isDigit 1 (some .boolean) :: lw_g) (rmL 0 0 0) (sPc [.int a0]) (sQc (some (.int (m_isDigit a0)))) 0 0 (fun _ => False) := by
  generalize h : m_isDigit a0 = r
  refine Met.ofS (by decide +kernel) (Nat.le_of_ble_eq_true rfl) ?_
  intro p e s m below meth c ls X hl
  have hl : lv_has ls 1 [(0, .int a0)] := hl
  generalize ([.int a0] : List Value).toArray = args at X ⊢
  obtain ⟨hx, hb, hr, hml, hown, hts, hlocks⟩ := id X
  unfold m_isDigit at h
  refine lv_iload_n hx hb d_m_isDigit_0 rfl (lv_at hl 0 rfl) ?_
  refine lv_bipush (v := 48) hx hb d_m_isDigit_1 (by decide) ?_
  refine lv_icmp_lt (tgt := 16) hx hb d_m_isDigit_3 (by decide) (fun c3 => ?_) (fun c3 => ?_)
  · replace h := ifp c3 h
    refine lv_iconst (v := 0) hx hb d_m_isDigit_16 (by decide) ?_
    subst h
    exact sret_z nz_0 X d_m_isDigit_17
  · replace h := ifn c3 h
    refine lv_iload_n hx hb d_m_isDigit_6 rfl (lv_at hl 0 rfl) ?_
    refine lv_bipush (v := 57) hx hb d_m_isDigit_7 (by decide) ?_
    refine lv_icmp_gt (tgt := 16) hx hb d_m_isDigit_9 (by decide) (fun c9 => ?_) (fun c9 => ?_)
    · replace h := ifp c9 h
      refine lv_iconst (v := 0) hx hb d_m_isDigit_16 (by decide) ?_
      subst h
      exact sret_z nz_0 X d_m_isDigit_17
    · replace h := ifn c9 h
      refine lv_iconst (v := 1) hx hb d_m_isDigit_12 (by decide) ?_
      refine lv_goto (tgt := 17) hx hb d_m_isDigit_13 (by decide) ?_
      subst h
      exact sret_z nz_1 X d_m_isDigit_17
theorem w_m_type_J84 {r : Int32 × MS} {st : MS} {l1 : Int32} {H : Heap} {locs : List Loc} {ls : Array Slot} (X : jx p s m args meth c b_m_type 3 (some .boolean) R_M) (hC : mC G this s st H locs) (hl : lv_has ls 3 [(0, .ref this), (1, .int l1)]) (h : m_type_J84 st l1 = some r) : W p l e (rmL 1 0 0) s m args below meth c H locs 0 0 (MQ below (mQc G this (some (.int r.1)) r.2) args s 0 0 (mFr this)) (F0 m 84 ls []) := by
  obtain ⟨hx, hb, hr, hml, hown, hts, hlocks⟩ := id X
  unfold m_type_J84 at h
  refine lv_aload_n hx hb d_m_type_84 rfl (lv_at hl 0 rfl) ?_
  refine mg_int X hC 2 (by decide) rfl q_675 d_m_type_85 ?_
  refine lv_bipush (v := 30) hx hb d_m_type_88 (by decide) ?_
  refine lv_icmp_ne (tgt := 95) hx hb d_m_type_90 (by decide) (fun c90 => ?_) (fun c90 => ?_)
  · replace h := ifn c90 h
    refine lv_aload_n hx hb d_m_type_95 rfl (lv_at hl 0 rfl) ?_
    refine mg_arr X hC 1 (by decide) (by decide) q_674 d_m_type_96 ?_
    refine lv_aload_n hx hb d_m_type_99 rfl (lv_at hl 0 rfl) ?_
    refine mg_int X hC 2 (by decide) rfl q_675 d_m_type_100 ?_
    refine lv_iload_n hx hb d_m_type_103 rfl (lv_at hl 1 rfl) ?_
    obtain ⟨st1, est1, h⟩ := obi h
    refine ma_ist X hC 1 (by decide) rfl est1 d_m_type_104 (fun H locs hC => ?_)
    refine lv_aload_n hx hb d_m_type_105 rfl (lv_at hl 0 rfl) ?_
    refine lv_dup hx hb d_m_type_106 rfl ?_
    refine mg_int X hC 2 (by decide) rfl q_675 d_m_type_107 ?_
    refine lv_iconst (v := 1) hx hb d_m_type_110 (by decide) ?_
    refine lv_iadd hx hb d_m_type_111 ?_
    obtain ⟨st2, est2, h⟩ := obi h
    refine mp_int X hC 2 (by decide) rfl rfl (by decide +kernel) q_675 est2 d_m_type_112 (fun H locs hC => ?_)
    refine lv_iconst (v := 1) hx hb d_m_type_115 (by decide) ?_
    cases h
    exact mret_z nz_1 X hC d_m_type_116
  · replace h := ifp c90 h
    refine lv_iconst (v := 0) hx hb d_m_type_93 (by decide) ?_
    cases h
    exact mret_z nz_0 X hC d_m_type_94
theorem w_m_type_J65 {r : Int32 × MS} {st : MS} {l1 : Int32} {s0 : Int32} {H : Heap} {locs : List Loc} {ls : Array Slot} (X : jx p s m args meth c b_m_type 3 (some .boolean) R_M) (hC : mC G this s st H locs) (hl : lv_has ls 3 [(0, .ref this), (1, .int l1)]) (h : m_type_J65 st l1 s0 = some r) : W p l e (rmL 1 0 0) s m args below meth c H locs 0 0 (MQ below (mQc G this (some (.int r.1)) r.2) args s 0 0 (mFr this)) (F0 m 65 ls [.int s0]) := by
  obtain ⟨hx, hb, hr, hml, hown, hts, hlocks⟩ := id X
  unfold m_type_J65 at h
  refine lv_istore_n (lv' := [(2, .int s0), (0, .ref this), (1, .int l1)]) hx hb d_m_type_65 rfl hl (by decide) rfl (fun ls hl => ?_)
  refine lv_iload_n hx hb d_m_type_66 rfl (lv_at hl 0 rfl) ?_
  refine lv_if_ne (tgt := 84) hx hb d_m_type_67 (by decide) (fun c67 => ?_) (fun c67 => ?_)
  · replace h := ifn c67 h
    exact w_m_type_J84 X hC (lv_sub hl [1, 2] rfl) h
  · replace h := ifp c67 h
    refine lv_iload_n hx hb d_m_type_70 rfl (lv_at hl 2 rfl) ?_
    refine mcallS_i X (c_m_isLetter l l1) q_808 q_809 q_8 q_810 ok_m_isLetter rfl ⟨by decide, by decide⟩ hl.1 rfl (Nat.le_of_ble_eq_true rfl) d_m_type_71 ⟨Nat.zero_le _, Nat.zero_le _⟩ ?_
    refine lv_if_ne (tgt := 84) hx hb d_m_type_74 (by decide) (fun c74 => ?_) (fun c74 => ?_)
    · replace h := ifn c74 h
      exact w_m_type_J84 X hC (lv_sub hl [1, 2] rfl) h
    · replace h := ifp c74 h
      refine lv_iload_n hx hb d_m_type_77 rfl (lv_at hl 2 rfl) ?_
      refine mcallS_i X (c_m_isDigit l l1) q_811 q_812 q_8 q_813 ok_m_isDigit rfl ⟨by decide, by decide⟩ hl.1 rfl (Nat.le_of_ble_eq_true rfl) d_m_type_78 ⟨Nat.zero_le _, Nat.zero_le _⟩ ?_
      refine lv_if_eq (tgt := 93) hx hb d_m_type_81 (by decide) (fun c81 => ?_) (fun c81 => ?_)
      · replace h := ifp c81 h
        refine lv_iconst (v := 0) hx hb d_m_type_93 (by decide) ?_
        cases h
        exact mret_z nz_0 X hC d_m_type_94
      · replace h := ifn c81 h
        exact w_m_type_J84 X hC (lv_sub hl [1, 2] rfl) h
theorem w_m_type_J60 {r : Int32 × MS} {st : MS} {l1 : Int32} {H : Heap} {locs : List Loc} {ls : Array Slot} (X : jx p s m args meth c b_m_type 3 (some .boolean) R_M) (hC : mC G this s st H locs) (hl : lv_has ls 3 [(0, .ref this), (1, .int l1)]) (h : m_type_J60 st l1 = some r) : W p l e (rmL 1 0 0) s m args below meth c H locs 0 0 (MQ below (mQc G this (some (.int r.1)) r.2) args s 0 0 (mFr this)) (F0 m 60 ls []) := by
  obtain ⟨hx, hb, hr, hml, hown, hts, hlocks⟩ := id X
  unfold m_type_J60 at h
  refine lv_iconst (v := 1) hx hb d_m_type_60 (by decide) ?_
  refine lv_goto (tgt := 65) hx hb d_m_type_61 (by decide) ?_
  exact w_m_type_J65 X hC (lv_sub hl [0, 1] rfl) h
theorem c_m_type (l : Launch) (G : MG) (this : Nat) {st : MS} {a1 : Int32} {r : Int32 × MS} (h : m_type st a1 = some r) : Met l y_m_type (Cond.code y_m_type b_m_type 3 (some .boolean) :: lw_g) (rmL 1 0 0) (mPc G this [.int a1] st) (mQc G this (some (.int r.1)) r.2) 0 0 (mFr this) := by
  refine Met.ofM (by decide +kernel) (Nat.le_of_ble_eq_true rfl) ?_
  intro p e s m below meth c ls X hC hl
  have hl : lv_has ls 3 [(0, .ref this), (1, .int a1)] := hl
  generalize (Value.ref this :: [.int a1]).toArray = args at X ⊢
  obtain ⟨hx, hb, hr, hml, hown, hts, hlocks⟩ := id X
  generalize hHH : s.heap = H at hC ⊢
  generalize ([] : List Loc) = locs at hC ⊢
  clear hHH
  unfold m_type at h
  refine lv_iload_n hx hb d_m_type_0 rfl (lv_at hl 1 rfl) ?_
  refine lv_bipush (v := 40) hx hb d_m_type_1 (by decide) ?_
  refine lv_icmp_eq (tgt := 60) hx hb d_m_type_3 (by decide) (fun c3 => ?_) (fun c3 => ?_)
  · replace h := ifp c3 h
    exact w_m_type_J60 X hC (lv_sub hl [0, 1] rfl) h
  · replace h := ifn c3 h
    refine lv_iload_n hx hb d_m_type_6 rfl (lv_at hl 1 rfl) ?_
    refine lv_bipush (v := 41) hx hb d_m_type_7 (by decide) ?_
    refine lv_icmp_eq (tgt := 60) hx hb d_m_type_9 (by decide) (fun c9 => ?_) (fun c9 => ?_)
    · replace h := ifp c9 h
      exact w_m_type_J60 X hC (lv_sub hl [0, 1] rfl) h
    · replace h := ifn c9 h
      refine lv_iload_n hx hb d_m_type_12 rfl (lv_at hl 1 rfl) ?_
      refine lv_bipush (v := 42) hx hb d_m_type_13 (by decide) ?_
      refine lv_icmp_eq (tgt := 60) hx hb d_m_type_15 (by decide) (fun c15 => ?_) (fun c15 => ?_)
      · replace h := ifp c15 h
        exact w_m_type_J60 X hC (lv_sub hl [0, 1] rfl) h
      · replace h := ifn c15 h
        refine lv_iload_n hx hb d_m_type_18 rfl (lv_at hl 1 rfl) ?_
        refine lv_bipush (v := 43) hx hb d_m_type_19 (by decide) ?_
        refine lv_icmp_eq (tgt := 60) hx hb d_m_type_21 (by decide) (fun c21 => ?_) (fun c21 => ?_)
        · replace h := ifp c21 h
          exact w_m_type_J60 X hC (lv_sub hl [0, 1] rfl) h
        · replace h := ifn c21 h
          refine lv_iload_n hx hb d_m_type_24 rfl (lv_at hl 1 rfl) ?_
          refine lv_bipush (v := 45) hx hb d_m_type_25 (by decide) ?_
          refine lv_icmp_eq (tgt := 60) hx hb d_m_type_27 (by decide) (fun c27 => ?_) (fun c27 => ?_)
          · replace h := ifp c27 h
            exact w_m_type_J60 X hC (lv_sub hl [0, 1] rfl) h
          · replace h := ifn c27 h
            refine lv_iload_n hx hb d_m_type_30 rfl (lv_at hl 1 rfl) ?_
            refine lv_bipush (v := 58) hx hb d_m_type_31 (by decide) ?_
            refine lv_icmp_eq (tgt := 60) hx hb d_m_type_33 (by decide) (fun c33 => ?_) (fun c33 => ?_)
            · replace h := ifp c33 h
              exact w_m_type_J60 X hC (lv_sub hl [0, 1] rfl) h
            · replace h := ifn c33 h
              refine lv_iload_n hx hb d_m_type_36 rfl (lv_at hl 1 rfl) ?_
              refine lv_bipush (v := 60) hx hb d_m_type_37 (by decide) ?_
              refine lv_icmp_eq (tgt := 60) hx hb d_m_type_39 (by decide) (fun c39 => ?_) (fun c39 => ?_)
              · replace h := ifp c39 h
                exact w_m_type_J60 X hC (lv_sub hl [0, 1] rfl) h
              · replace h := ifn c39 h
                refine lv_iload_n hx hb d_m_type_42 rfl (lv_at hl 1 rfl) ?_
                refine lv_bipush (v := 61) hx hb d_m_type_43 (by decide) ?_
                refine lv_icmp_eq (tgt := 60) hx hb d_m_type_45 (by decide) (fun c45 => ?_) (fun c45 => ?_)
                · replace h := ifp c45 h
                  exact w_m_type_J60 X hC (lv_sub hl [0, 1] rfl) h
                · replace h := ifn c45 h
                  refine lv_iload_n hx hb d_m_type_48 rfl (lv_at hl 1 rfl) ?_
                  refine lv_bipush (v := 63) hx hb d_m_type_49 (by decide) ?_
                  refine lv_icmp_eq (tgt := 60) hx hb d_m_type_51 (by decide) (fun c51 => ?_) (fun c51 => ?_)
                  · replace h := ifp c51 h
                    exact w_m_type_J60 X hC (lv_sub hl [0, 1] rfl) h
                  · replace h := ifn c51 h
                    refine lv_iload_n hx hb d_m_type_54 rfl (lv_at hl 1 rfl) ?_
                    refine lv_bipush (v := 64) hx hb d_m_type_55 (by decide) ?_
                    refine lv_icmp_ne (tgt := 64) hx hb d_m_type_57 (by decide) (fun c57 => ?_) (fun c57 => ?_)
                    · replace h := ifn c57 h
                      refine lv_iconst (v := 0) hx hb d_m_type_64 (by decide) ?_
                      exact w_m_type_J65 X hC (lv_sub hl [0, 1] rfl) h
                    · replace h := ifp c57 h
                      exact w_m_type_J60 X hC (lv_sub hl [0, 1] rfl) h
theorem c_m_make (l : Launch) (G : MG) (this : Nat) {st : MS} {a1 : Int32} {a2 : Int32} {r : MS} (h : m_make st a1 a2 = some r) : Met l y_m_make (Cond.code y_m_make b_m_make 3 none :: lw_g) (rmL 0 0 0) (mPc G this [.int a1, .int a2] st) (mQc G this none r) 0 0 (mFr this) := by
  refine Met.ofM (by decide +kernel) (Nat.le_of_ble_eq_true rfl) ?_
  intro p e s m below meth c ls X hC hl
  have hl : lv_has ls 3 [(0, .ref this), (1, .int a1), (2, .int a2)] := hl
  generalize (Value.ref this :: [.int a1, .int a2]).toArray = args at X ⊢
  obtain ⟨hx, hb, hr, hml, hown, hts, hlocks⟩ := id X
  generalize hHH : s.heap = H at hC ⊢
  generalize ([] : List Loc) = locs at hC ⊢
  clear hHH
  unfold m_make at h
  refine lv_aload_n hx hb d_m_make_0 rfl (lv_at hl 0 rfl) ?_
  refine mg_arr X hC 41 (by decide) (by decide) q_714 d_m_make_1 ?_
  refine lv_aload_n hx hb d_m_make_4 rfl (lv_at hl 0 rfl) ?_
  refine mg_int X hC 40 (by decide) rfl q_713 d_m_make_5 ?_
  refine lv_iload_n hx hb d_m_make_8 rfl (lv_at hl 1 rfl) ?_
  obtain ⟨st1, est1, h⟩ := obi h
  refine ma_ist X hC 41 (by decide) rfl est1 d_m_make_9 (fun H locs hC => ?_)
  refine lv_aload_n hx hb d_m_make_10 rfl (lv_at hl 0 rfl) ?_
  refine mg_arr X hC 42 (by decide) (by decide) q_715 d_m_make_11 ?_
  refine lv_aload_n hx hb d_m_make_14 rfl (lv_at hl 0 rfl) ?_
  refine mg_int X hC 40 (by decide) rfl q_713 d_m_make_15 ?_
  refine lv_iload_n hx hb d_m_make_18 rfl (lv_at hl 2 rfl) ?_
  obtain ⟨st2, est2, h⟩ := obi h
  refine ma_ist X hC 42 (by decide) rfl est2 d_m_make_19 (fun H locs hC => ?_)
  refine lv_aload_n hx hb d_m_make_20 rfl (lv_at hl 0 rfl) ?_
  refine lv_dup hx hb d_m_make_21 rfl ?_
  refine mg_int X hC 40 (by decide) rfl q_713 d_m_make_22 ?_
  refine lv_iconst (v := 1) hx hb d_m_make_25 (by decide) ?_
  refine lv_iadd hx hb d_m_make_26 ?_
  obtain ⟨st3, est3, h⟩ := obi h
  refine mp_int X hC 40 (by decide) rfl rfl (by decide +kernel) q_713 est3 d_m_make_27 (fun H locs hC => ?_)
  cases h
  exact mret_v X hC d_m_make_30
theorem c_m_put (l : Launch) (G : MG) (this : Nat) {st : MS} {a1 : Int32} {a2 : Int32} {r : MS} (h : m_put st a1 a2 = some r) : Met l y_m_put (Cond.code y_m_put b_m_put 3 none :: lw_g) (rmL 0 0 0) (mPc G this [.int a1, .int a2] st) (mQc G this none r) 0 0 (mFr this) := by
  refine Met.ofM (by decide +kernel) (Nat.le_of_ble_eq_true rfl) ?_
  intro p e s m below meth c ls X hC hl
  have hl : lv_has ls 3 [(0, .ref this), (1, .int a1), (2, .int a2)] := hl
  generalize (Value.ref this :: [.int a1, .int a2]).toArray = args at X ⊢
  obtain ⟨hx, hb, hr, hml, hown, hts, hlocks⟩ := id X
  generalize hHH : s.heap = H at hC ⊢
  generalize ([] : List Loc) = locs at hC ⊢
  clear hHH
  unfold m_put at h
  refine lv_aload_n hx hb d_m_put_0 rfl (lv_at hl 0 rfl) ?_
  refine mg_arr X hC 38 (by decide) (by decide) q_711 d_m_put_1 ?_
  refine lv_aload_n hx hb d_m_put_4 rfl (lv_at hl 0 rfl) ?_
  refine mg_int X hC 37 (by decide) rfl q_710 d_m_put_5 ?_
  refine lv_iload_n hx hb d_m_put_8 rfl (lv_at hl 1 rfl) ?_
  obtain ⟨st1, est1, h⟩ := obi h
  refine ma_ist X hC 38 (by decide) rfl est1 d_m_put_9 (fun H locs hC => ?_)
  refine lv_aload_n hx hb d_m_put_10 rfl (lv_at hl 0 rfl) ?_
  refine mg_arr X hC 39 (by decide) (by decide) q_712 d_m_put_11 ?_
  refine lv_aload_n hx hb d_m_put_14 rfl (lv_at hl 0 rfl) ?_
  refine mg_int X hC 37 (by decide) rfl q_710 d_m_put_15 ?_
  refine lv_iload_n hx hb d_m_put_18 rfl (lv_at hl 2 rfl) ?_
  obtain ⟨st2, est2, h⟩ := obi h
  refine ma_ist X hC 39 (by decide) rfl est2 d_m_put_19 (fun H locs hC => ?_)
  refine lv_aload_n hx hb d_m_put_20 rfl (lv_at hl 0 rfl) ?_
  refine lv_dup hx hb d_m_put_21 rfl ?_
  refine mg_int X hC 37 (by decide) rfl q_710 d_m_put_22 ?_
  refine lv_iconst (v := 1) hx hb d_m_put_25 (by decide) ?_
  refine lv_iadd hx hb d_m_put_26 ?_
  obtain ⟨st3, est3, h⟩ := obi h
  refine mp_int X hC 37 (by decide) rfl rfl (by decide +kernel) q_710 est3 d_m_put_27 (fun H locs hC => ?_)
  cases h
  exact mret_v X hC d_m_put_30
theorem w_m_rank_J55 {r : Int32} {ls : Array Slot} (X : jx p s m args meth c b_m_rank 1 (some .int) R_M) (hl : lv_has ls 1 []) (h : m_rank_J55 = r) : W p l e (rmL 0 0 0) s m args below meth c s.heap [] 0 0 (MQ below (sQc (some (.int r))) args s 0 0 (fun _ => False)) (F0 m 55 ls []) := by
  obtain ⟨hx, hb, hr, hml, hown, hts, hlocks⟩ := id X
  unfold m_rank_J55 at h
  refine lv_iconst (v := 0) hx hb d_m_rank_55 (by decide) ?_
  refine lv_goto (tgt := 60) hx hb d_m_rank_56 (by decide) ?_
  subst h
  exact sret_i X d_m_rank_60
theorem w_m_rank_J39 {r : Int32} {ls : Array Slot} (X : jx p s m args meth c b_m_rank 1 (some .int) R_M) (hl : lv_has ls 1 []) (h : m_rank_J39 = r) : W p l e (rmL 0 0 0) s m args below meth c s.heap [] 0 0 (MQ below (sQc (some (.int r))) args s 0 0 (fun _ => False)) (F0 m 39 ls []) := by
  obtain ⟨hx, hb, hr, hml, hown, hts, hlocks⟩ := id X
  unfold m_rank_J39 at h
  refine lv_iconst (v := 1) hx hb d_m_rank_39 (by decide) ?_
  refine lv_goto (tgt := 60) hx hb d_m_rank_40 (by decide) ?_
  subst h
  exact sret_i X d_m_rank_60
theorem w_m_rank_J13 {r : Int32} {ls : Array Slot} (X : jx p s m args meth c b_m_rank 1 (some .int) R_M) (hl : lv_has ls 1 []) (h : m_rank_J13 = r) : W p l e (rmL 0 0 0) s m args below meth c s.heap [] 0 0 (MQ below (sQc (some (.int r))) args s 0 0 (fun _ => False)) (F0 m 13 ls []) := by
  obtain ⟨hx, hb, hr, hml, hown, hts, hlocks⟩ := id X
  unfold m_rank_J13 at h
  refine lv_iconst (v := 3) hx hb d_m_rank_13 (by decide) ?_
  refine lv_goto (tgt := 60) hx hb d_m_rank_14 (by decide) ?_
  subst h
  exact sret_i X d_m_rank_60
theorem c_m_rank (l : Launch) (a0 : Int32) : Met l y_m_rank (Cond.code y_m_rank b_m_rank 1 (some .int) :: lw_g) (rmL 0 0 0) (sPc [.int a0]) (sQc (some (.int (m_rank a0)))) 0 0 (fun _ => False) := by
  generalize h : m_rank a0 = r
  refine Met.ofS (by decide +kernel) (Nat.le_of_ble_eq_true rfl) ?_
  intro p e s m below meth c ls X hl
  have hl : lv_has ls 1 [(0, .int a0)] := hl
  generalize ([.int a0] : List Value).toArray = args at X ⊢
  obtain ⟨hx, hb, hr, hml, hown, hts, hlocks⟩ := id X
  unfold m_rank at h
  refine lv_iload_n hx hb d_m_rank_0 rfl (lv_at hl 0 rfl) ?_
  refine lv_sipush (v := 200) hx hb d_m_rank_1 (by decide) ?_
  refine lv_icmp_eq (tgt := 13) hx hb d_m_rank_4 (by decide) (fun c4 => ?_) (fun c4 => ?_)
  · replace h := ifp c4 h
    exact w_m_rank_J13 X (lv_sub hl [] rfl) h
  · replace h := ifn c4 h
    refine lv_iload_n hx hb d_m_rank_7 rfl (lv_at hl 0 rfl) ?_
    refine lv_bipush (v := 64) hx hb d_m_rank_8 (by decide) ?_
    refine lv_icmp_ne (tgt := 17) hx hb d_m_rank_10 (by decide) (fun c10 => ?_) (fun c10 => ?_)
    · replace h := ifn c10 h
      refine lv_iload_n hx hb d_m_rank_17 rfl (lv_at hl 0 rfl) ?_
      refine lv_bipush (v := 42) hx hb d_m_rank_18 (by decide) ?_
      refine lv_icmp_ne (tgt := 27) hx hb d_m_rank_20 (by decide) (fun c20 => ?_) (fun c20 => ?_)
      · replace h := ifn c20 h
        refine lv_iload_n hx hb d_m_rank_27 rfl (lv_at hl 0 rfl) ?_
        refine lv_bipush (v := 43) hx hb d_m_rank_28 (by decide) ?_
        refine lv_icmp_eq (tgt := 39) hx hb d_m_rank_30 (by decide) (fun c30 => ?_) (fun c30 => ?_)
        · replace h := ifp c30 h
          exact w_m_rank_J39 X (lv_sub hl [] rfl) h
        · replace h := ifn c30 h
          refine lv_iload_n hx hb d_m_rank_33 rfl (lv_at hl 0 rfl) ?_
          refine lv_bipush (v := 45) hx hb d_m_rank_34 (by decide) ?_
          refine lv_icmp_ne (tgt := 43) hx hb d_m_rank_36 (by decide) (fun c36 => ?_) (fun c36 => ?_)
          · replace h := ifn c36 h
            refine lv_iload_n hx hb d_m_rank_43 rfl (lv_at hl 0 rfl) ?_
            refine lv_bipush (v := 60) hx hb d_m_rank_44 (by decide) ?_
            refine lv_icmp_eq (tgt := 55) hx hb d_m_rank_46 (by decide) (fun c46 => ?_) (fun c46 => ?_)
            · replace h := ifp c46 h
              exact w_m_rank_J55 X (lv_sub hl [] rfl) h
            · replace h := ifn c46 h
              refine lv_iload_n hx hb d_m_rank_49 rfl (lv_at hl 0 rfl) ?_
              refine lv_bipush (v := 61) hx hb d_m_rank_50 (by decide) ?_
              refine lv_icmp_ne (tgt := 59) hx hb d_m_rank_52 (by decide) (fun c52 => ?_) (fun c52 => ?_)
              · replace h := ifn c52 h
                refine lv_iconst (v := -1) hx hb d_m_rank_59 (by decide) ?_
                subst h
                exact sret_i X d_m_rank_60
              · replace h := ifp c52 h
                exact w_m_rank_J55 X (lv_sub hl [] rfl) h
          · replace h := ifp c36 h
            exact w_m_rank_J39 X (lv_sub hl [] rfl) h
      · replace h := ifp c20 h
        refine lv_iconst (v := 2) hx hb d_m_rank_23 (by decide) ?_
        refine lv_goto (tgt := 60) hx hb d_m_rank_24 (by decide) ?_
        subst h
        exact sret_i X d_m_rank_60
    · replace h := ifp c10 h
      exact w_m_rank_J13 X (lv_sub hl [] rfl) h
theorem w_m_settle_J111 {r : MS} {st : MS} {l1 : Int32} {s0 : Int32} {k_0 : MS → Int32 → Option MS} {H : Heap} {locs : List Loc} {ls : Array Slot} (X : jx p s m args meth c b_m_settle 3 none R_M) (hC : mC G this s st H locs) (hl : lv_has ls 3 [(0, .ref this), (1, .int l1)]) (hk_0 : ∀ (st : MS) (l1 : Int32) (H : Heap) (locs : List Loc) (ls : Array Slot), k_0 st l1 = some r → mC G this s st H locs → lv_has ls 3 [(0, .ref this), (1, .int l1)] → W p l e (rmL 1 0 0) s m args below meth c H locs 0 0 (MQ below (mQc G this none r) args s 0 0 (mFr this)) (F0 m 0 ls [])) (h : m_settle_J111 k_0 st l1 s0 = some r) : W p l e (rmL 1 0 0) s m args below meth c H locs 0 0 (MQ below (mQc G this none r) args s 0 0 (mFr this)) (F0 m 111 ls [.int s0, .ref this]) := by
  obtain ⟨hx, hb, hr, hml, hown, hts, hlocks⟩ := id X
  unfold m_settle_J111 at h
  refine lv_iconst (v := 0) hx hb d_m_settle_111 (by decide) ?_
  obtain ⟨st1, est1, h⟩ := obi h
  refine mcallV_v X hC (c_m_make l G this est1) q_826 q_828 q_p23 q_8 q_829 ok_m_make rfl ⟨by decide, by decide⟩ hl.1 rfl (Nat.le_of_ble_eq_true rfl) d_m_settle_112 ⟨Nat.zero_le _, Nat.zero_le _⟩ (fun H locs hC => ?_)
  refine lv_goto (tgt := 0) hx hb d_m_settle_115 (by decide) ?_
  exact hk_0 _ _ _ _ _ h hC (lv_sub hl [0, 1] rfl)
theorem w_m_settle_L0 {r : MS} (X : jx p s m args meth c b_m_settle 3 none R_M) : ∀ (n : Nat), ∀ (st : MS) (l1 : Int32) (H : Heap) (locs : List Loc) (ls : Array Slot), m_settle_L0 n st l1 = some r → mC G this s st H locs → lv_has ls 3 [(0, .ref this), (1, .int l1)] → W p l e (rmL 1 0 0) s m args below meth c H locs 0 0 (MQ below (mQc G this none r) args s 0 0 (mFr this)) (F0 m 0 ls []) := by
  obtain ⟨hx, hb, hr, hml, hown, hts, hlocks⟩ := id X
  intro n
  induction n with
  | zero => intro st l1 H locs ls h hC hl; exact absurd h (by simp [m_settle_L0])
  | succ n ih =>
    intro st l1 H locs ls h hC hl
    rw [m_settle_L0] at h
    refine lv_aload_n hx hb d_m_settle_0 rfl (lv_at hl 0 rfl) ?_
    refine mg_int X hC 37 (by decide) rfl q_710 d_m_settle_1 ?_
    refine lv_if_le (tgt := 118) hx hb d_m_settle_4 (by decide) (fun c4 => ?_) (fun c4 => ?_)
    · replace h := ifp c4 h
      cases h
      exact mret_v X hC d_m_settle_118
    · replace h := ifn c4 h
      refine lv_aload_n hx hb d_m_settle_7 rfl (lv_at hl 0 rfl) ?_
      refine mg_arr X hC 38 (by decide) (by decide) q_711 d_m_settle_8 ?_
      refine lv_aload_n hx hb d_m_settle_11 rfl (lv_at hl 0 rfl) ?_
      refine mg_int X hC 37 (by decide) rfl q_710 d_m_settle_12 ?_
      refine lv_iconst (v := 1) hx hb d_m_settle_15 (by decide) ?_
      refine lv_isub hx hb d_m_settle_16 ?_
      obtain ⟨x1, ex1, h⟩ := obi h
      refine ma_ild X hC 38 (by decide) rfl ex1 d_m_settle_17 ?_
      refine mcallS_i X (c_m_rank l x1) q_834 q_835 q_8 q_836 ok_m_rank rfl ⟨by decide, by decide⟩ hl.1 rfl (Nat.le_of_ble_eq_true rfl) d_m_settle_18 ⟨Nat.zero_le _, Nat.zero_le _⟩ ?_
      refine lv_iload_n hx hb d_m_settle_21 rfl (lv_at hl 1 rfl) ?_
      refine lv_icmp_lt (tgt := 118) hx hb d_m_settle_22 (by decide) (fun c22 => ?_) (fun c22 => ?_)
      · replace h := ifp c22 h
        cases h
        exact mret_v X hC d_m_settle_118
      · replace h := ifn c22 h
        refine lv_aload_n hx hb d_m_settle_25 rfl (lv_at hl 0 rfl) ?_
        refine lv_dup hx hb d_m_settle_26 rfl ?_
        refine mg_int X hC 37 (by decide) rfl q_710 d_m_settle_27 ?_
        refine lv_iconst (v := 1) hx hb d_m_settle_30 (by decide) ?_
        refine lv_isub hx hb d_m_settle_31 ?_
        obtain ⟨st2, est2, h⟩ := obi h
        refine mp_int X hC 37 (by decide) rfl rfl (by decide +kernel) q_710 est2 d_m_settle_32 (fun H locs hC => ?_)
        refine lv_aload_n hx hb d_m_settle_35 rfl (lv_at hl 0 rfl) ?_
        refine mg_arr X hC 38 (by decide) (by decide) q_711 d_m_settle_36 ?_
        refine lv_aload_n hx hb d_m_settle_39 rfl (lv_at hl 0 rfl) ?_
        refine mg_int X hC 37 (by decide) rfl q_710 d_m_settle_40 ?_
        obtain ⟨x3, ex3, h⟩ := obi h
        refine ma_ild X hC 38 (by decide) rfl ex3 d_m_settle_43 ?_
        refine lv_istore_n (lv' := [(2, .int x3), (0, .ref this), (1, .int l1)]) hx hb d_m_settle_44 rfl hl (by decide) rfl (fun ls hl => ?_)
        refine lv_aload_n hx hb d_m_settle_45 rfl (lv_at hl 1 rfl) ?_
        refine lv_iload_n hx hb d_m_settle_46 rfl (lv_at hl 0 rfl) ?_
        refine lv_sipush (v := 200) hx hb d_m_settle_47 (by decide) ?_
        refine lv_icmp_ne (tgt := 57) hx hb d_m_settle_50 (by decide) (fun c50 => ?_) (fun c50 => ?_)
        · replace h := ifn c50 h
          refine lv_iload_n hx hb d_m_settle_57 rfl (lv_at hl 0 rfl) ?_
          refine lv_bipush (v := 64) hx hb d_m_settle_58 (by decide) ?_
          refine lv_icmp_ne (tgt := 67) hx hb d_m_settle_60 (by decide) (fun c60 => ?_) (fun c60 => ?_)
          · replace h := ifn c60 h
            refine lv_iload_n hx hb d_m_settle_67 rfl (lv_at hl 0 rfl) ?_
            refine lv_bipush (v := 42) hx hb d_m_settle_68 (by decide) ?_
            refine lv_icmp_ne (tgt := 77) hx hb d_m_settle_70 (by decide) (fun c70 => ?_) (fun c70 => ?_)
            · replace h := ifn c70 h
              refine lv_iload_n hx hb d_m_settle_77 rfl (lv_at hl 0 rfl) ?_
              refine lv_bipush (v := 43) hx hb d_m_settle_78 (by decide) ?_
              refine lv_icmp_ne (tgt := 87) hx hb d_m_settle_80 (by decide) (fun c80 => ?_) (fun c80 => ?_)
              · replace h := ifn c80 h
                refine lv_iload_n hx hb d_m_settle_87 rfl (lv_at hl 0 rfl) ?_
                refine lv_bipush (v := 45) hx hb d_m_settle_88 (by decide) ?_
                refine lv_icmp_ne (tgt := 98) hx hb d_m_settle_90 (by decide) (fun c90 => ?_) (fun c90 => ?_)
                · replace h := ifn c90 h
                  refine lv_iload_n hx hb d_m_settle_98 rfl (lv_at hl 0 rfl) ?_
                  refine lv_bipush (v := 60) hx hb d_m_settle_99 (by decide) ?_
                  refine lv_icmp_ne (tgt := 109) hx hb d_m_settle_101 (by decide) (fun c101 => ?_) (fun c101 => ?_)
                  · replace h := ifn c101 h
                    refine lv_bipush (v := 8) hx hb d_m_settle_109 (by decide) ?_
                    exact w_m_settle_J111 X hC (lv_sub hl [1, 2] rfl) ih h
                  · replace h := ifp c101 h
                    refine lv_bipush (v := 7) hx hb d_m_settle_104 (by decide) ?_
                    refine lv_goto (tgt := 111) hx hb d_m_settle_106 (by decide) ?_
                    exact w_m_settle_J111 X hC (lv_sub hl [1, 2] rfl) ih h
                · replace h := ifp c90 h
                  refine lv_bipush (v := 6) hx hb d_m_settle_93 (by decide) ?_
                  refine lv_goto (tgt := 111) hx hb d_m_settle_95 (by decide) ?_
                  exact w_m_settle_J111 X hC (lv_sub hl [1, 2] rfl) ih h
              · replace h := ifp c80 h
                refine lv_iconst (v := 5) hx hb d_m_settle_83 (by decide) ?_
                refine lv_goto (tgt := 111) hx hb d_m_settle_84 (by decide) ?_
                exact w_m_settle_J111 X hC (lv_sub hl [1, 2] rfl) ih h
            · replace h := ifp c70 h
              refine lv_iconst (v := 4) hx hb d_m_settle_73 (by decide) ?_
              refine lv_goto (tgt := 111) hx hb d_m_settle_74 (by decide) ?_
              exact w_m_settle_J111 X hC (lv_sub hl [1, 2] rfl) ih h
          · replace h := ifp c60 h
            refine lv_iconst (v := 2) hx hb d_m_settle_63 (by decide) ?_
            refine lv_goto (tgt := 111) hx hb d_m_settle_64 (by decide) ?_
            exact w_m_settle_J111 X hC (lv_sub hl [1, 2] rfl) ih h
        · replace h := ifp c50 h
          refine lv_iconst (v := 3) hx hb d_m_settle_53 (by decide) ?_
          refine lv_goto (tgt := 111) hx hb d_m_settle_54 (by decide) ?_
          exact w_m_settle_J111 X hC (lv_sub hl [1, 2] rfl) ih h
theorem c_m_settle (l : Launch) (G : MG) (this : Nat) {st : MS} {a1 : Int32} {r : MS} (h : m_settle st a1 = some r) : Met l y_m_settle (Cond.code y_m_settle b_m_settle 3 none :: lw_g) (rmL 1 0 0) (mPc G this [.int a1] st) (mQc G this none r) 0 0 (mFr this) := by
  refine Met.ofM (by decide +kernel) (Nat.le_of_ble_eq_true rfl) ?_
  intro p e s m below meth c ls X hC hl
  have hl : lv_has ls 3 [(0, .ref this), (1, .int a1)] := hl
  generalize (Value.ref this :: [.int a1]).toArray = args at X ⊢
  obtain ⟨hx, hb, hr, hml, hown, hts, hlocks⟩ := id X
  generalize hHH : s.heap = H at hC ⊢
  generalize ([] : List Loc) = locs at hC ⊢
  clear hHH
  unfold m_settle at h
  exact w_m_settle_L0 X 1000 _ _ _ _ _ h hC (lv_sub hl [0, 1] rfl)
theorem w_m_deepness_J43 {r : Int32} {st : MS} {l2 : Int32} {s0 : Int32} {k_4 : MS → Int32 → Int32 → Option Int32} {H : Heap} {locs : List Loc} {ls : Array Slot} (X : jx p s m args meth c b_m_deepness 3 (some .int) R_M) (hC : mC G this s st H locs) (hl : lv_has ls 3 [(0, .ref this), (2, .int l2)]) (hk_4 : ∀ (st : MS) (l1 : Int32) (l2 : Int32) (H : Heap) (locs : List Loc) (ls : Array Slot), k_4 st l1 l2 = some r → mC G this s st H locs → lv_has ls 3 [(0, .ref this), (1, .int l1), (2, .int l2)] → W p l e (rmL 1 0 0) s m args below meth c H locs 0 0 (MQ below (mQc G this (some (.int r)) st) args s 0 0 (mFr this)) (F0 m 4 ls [])) (h : m_deepness_J43 k_4 st l2 s0 = some r) : W p l e (rmL 1 0 0) s m args below meth c H locs 0 0 (MQ below (mQc G this (some (.int r)) st) args s 0 0 (mFr this)) (F0 m 43 ls [.int s0]) := by
  obtain ⟨hx, hb, hr, hml, hown, hts, hlocks⟩ := id X
  unfold m_deepness_J43 at h
  refine lv_istore_n (lv' := [(1, .int s0), (0, .ref this), (2, .int l2)]) hx hb d_m_deepness_43 rfl hl (by decide) rfl (fun ls hl => ?_)
  obtain ⟨x1, ex1, h⟩ := obi h
  refine lv_iinc (v := x1) (lv' := [(2, .int x1), (1, .int s0), (0, .ref this)]) hx hb d_m_deepness_44 hl (k := 2) rfl (Option.some.inj ex1) (by decide) rfl (fun ls hl => ?_)
  refine lv_goto (tgt := 4) hx hb d_m_deepness_47 (by decide) ?_
  exact hk_4 _ _ _ _ _ _ h hC (lv_sub hl [2, 1, 0] rfl)
theorem w_m_deepness_J36 {r : Int32} {st : MS} {l1 : Int32} {l2 : Int32} {k_4 : MS → Int32 → Int32 → Option Int32} {H : Heap} {locs : List Loc} {ls : Array Slot} (X : jx p s m args meth c b_m_deepness 3 (some .int) R_M) (hC : mC G this s st H locs) (hl : lv_has ls 3 [(0, .ref this), (1, .int l1), (2, .int l2)]) (hk_4 : ∀ (st : MS) (l1 : Int32) (l2 : Int32) (H : Heap) (locs : List Loc) (ls : Array Slot), k_4 st l1 l2 = some r → mC G this s st H locs → lv_has ls 3 [(0, .ref this), (1, .int l1), (2, .int l2)] → W p l e (rmL 1 0 0) s m args below meth c H locs 0 0 (MQ below (mQc G this (some (.int r)) st) args s 0 0 (mFr this)) (F0 m 4 ls [])) (h : m_deepness_J36 k_4 st l1 l2 = some r) : W p l e (rmL 1 0 0) s m args below meth c H locs 0 0 (MQ below (mQc G this (some (.int r)) st) args s 0 0 (mFr this)) (F0 m 36 ls []) := by
  obtain ⟨hx, hb, hr, hml, hown, hts, hlocks⟩ := id X
  unfold m_deepness_J36 at h
  refine lv_iload_n hx hb d_m_deepness_36 rfl (lv_at hl 1 rfl) ?_
  refine lv_iconst (v := 1) hx hb d_m_deepness_37 (by decide) ?_
  refine lv_iadd hx hb d_m_deepness_38 ?_
  refine lv_goto (tgt := 43) hx hb d_m_deepness_39 (by decide) ?_
  exact w_m_deepness_J43 X hC (lv_sub hl [0, 2] rfl) hk_4 h
theorem w_m_deepness_L4 {r : Int32} (X : jx p s m args meth c b_m_deepness 3 (some .int) R_M) : ∀ (n : Nat), ∀ (st : MS) (l1 : Int32) (l2 : Int32) (H : Heap) (locs : List Loc) (ls : Array Slot), m_deepness_L4 n st l1 l2 = some r → mC G this s st H locs → lv_has ls 3 [(0, .ref this), (1, .int l1), (2, .int l2)] → W p l e (rmL 1 0 0) s m args below meth c H locs 0 0 (MQ below (mQc G this (some (.int r)) st) args s 0 0 (mFr this)) (F0 m 4 ls []) := by
  obtain ⟨hx, hb, hr, hml, hown, hts, hlocks⟩ := id X
  intro n
  induction n with
  | zero => intro st l1 l2 H locs ls h hC hl; exact absurd h (by simp [m_deepness_L4])
  | succ n ih =>
    intro st l1 l2 H locs ls h hC hl
    rw [m_deepness_L4] at h
    refine lv_iload_n hx hb d_m_deepness_4 rfl (lv_at hl 2 rfl) ?_
    refine lv_aload_n hx hb d_m_deepness_5 rfl (lv_at hl 0 rfl) ?_
    refine mg_int X hC 37 (by decide) rfl q_710 d_m_deepness_6 ?_
    refine lv_icmp_ge (tgt := 50) hx hb d_m_deepness_9 (by decide) (fun c9 => ?_) (fun c9 => ?_)
    · replace h := ifp c9 h
      refine lv_iload_n hx hb d_m_deepness_50 rfl (lv_at hl 1 rfl) ?_
      cases h
      exact mret_i X hC d_m_deepness_51
    · replace h := ifn c9 h
      refine lv_aload_n hx hb d_m_deepness_12 rfl (lv_at hl 0 rfl) ?_
      refine mg_arr X hC 38 (by decide) (by decide) q_711 d_m_deepness_13 ?_
      refine lv_iload_n hx hb d_m_deepness_16 rfl (lv_at hl 2 rfl) ?_
      obtain ⟨x1, ex1, h⟩ := obi h
      refine ma_ild X hC 38 (by decide) rfl ex1 d_m_deepness_17 ?_
      refine lv_bipush (v := 40) hx hb d_m_deepness_18 (by decide) ?_
      refine lv_icmp_eq (tgt := 36) hx hb d_m_deepness_20 (by decide) (fun c20 => ?_) (fun c20 => ?_)
      · replace h := ifp c20 h
        exact w_m_deepness_J36 X hC (lv_sub hl [0, 1, 2] rfl) ih h
      · replace h := ifn c20 h
        refine lv_aload_n hx hb d_m_deepness_23 rfl (lv_at hl 0 rfl) ?_
        refine mg_arr X hC 38 (by decide) (by decide) q_711 d_m_deepness_24 ?_
        refine lv_iload_n hx hb d_m_deepness_27 rfl (lv_at hl 2 rfl) ?_
        obtain ⟨x2, ex2, h⟩ := obi h
        refine ma_ild X hC 38 (by decide) rfl ex2 d_m_deepness_28 ?_
        refine mcallS_i X (c_m_rank l x2) q_834 q_835 q_8 q_836 ok_m_rank rfl ⟨by decide, by decide⟩ hl.1 rfl (Nat.le_of_ble_eq_true rfl) d_m_deepness_29 ⟨Nat.zero_le _, Nat.zero_le _⟩ ?_
        refine lv_iconst (v := 3) hx hb d_m_deepness_32 (by decide) ?_
        refine lv_icmp_ne (tgt := 42) hx hb d_m_deepness_33 (by decide) (fun c33 => ?_) (fun c33 => ?_)
        · replace h := ifn c33 h
          refine lv_iload_n hx hb d_m_deepness_42 rfl (lv_at hl 1 rfl) ?_
          exact w_m_deepness_J43 X hC (lv_sub hl [0, 2] rfl) ih h
        · replace h := ifp c33 h
          exact w_m_deepness_J36 X hC (lv_sub hl [0, 1, 2] rfl) ih h
theorem c_m_deepness (l : Launch) (G : MG) (this : Nat) {st : MS} {r : Int32} (h : m_deepness st = some r) : Met l y_m_deepness (Cond.code y_m_deepness b_m_deepness 3 (some .int) :: lw_g) (rmL 1 0 0) (mPc G this [] st) (mQc G this (some (.int r)) st) 0 0 (mFr this) := by
  refine Met.ofM (by decide +kernel) (Nat.le_of_ble_eq_true rfl) ?_
  intro p e s m below meth c ls X hC hl
  have hl : lv_has ls 3 [(0, .ref this)] := hl
  generalize (Value.ref this :: []).toArray = args at X ⊢
  obtain ⟨hx, hb, hr, hml, hown, hts, hlocks⟩ := id X
  generalize hHH : s.heap = H at hC ⊢
  generalize ([] : List Loc) = locs at hC ⊢
  clear hHH
  unfold m_deepness at h
  refine lv_iconst (v := 0) hx hb d_m_deepness_0 (by decide) ?_
  refine lv_istore_n (lv' := [(1, .int 0), (0, .ref this)]) hx hb d_m_deepness_1 rfl hl (by decide) rfl (fun ls hl => ?_)
  refine lv_iconst (v := 0) hx hb d_m_deepness_2 (by decide) ?_
  refine lv_istore_n (lv' := [(2, .int 0), (1, .int 0), (0, .ref this)]) hx hb d_m_deepness_3 rfl hl (by decide) rfl (fun ls hl => ?_)
  exact w_m_deepness_L4 X 1000 _ _ _ _ _ _ h hC (lv_sub hl [2, 1, 0] rfl)
theorem w_m_begin_J142 {r : Int32 × MS} {st : MS} {s0 : Int32} {H : Heap} {locs : List Loc} {ls : Array Slot} (X : jx p s m args meth c b_m_begin 5 (some .boolean) R_M) (hC : mC G this s st H locs) (hl : lv_has ls 5 []) (h : m_begin_J142 st s0 = some r) : W p l e (rmL 2 0 0) s m args below meth c H locs 0 0 (MQ below (mQc G this (some (.int r.1)) r.2) args s 0 0 (mFr this)) (F0 m 142 ls [.int s0, .ref this]) := by
  obtain ⟨hx, hb, hr, hml, hown, hts, hlocks⟩ := id X
  unfold m_begin_J142 at h
  refine lv_iconst (v := 0) hx hb d_m_begin_142 (by decide) ?_
  obtain ⟨st1, est1, h⟩ := obi h
  refine mcallV_v X hC (c_m_put l G this est1) q_841 q_843 q_p26 q_8 q_844 ok_m_put rfl ⟨by decide, by decide⟩ hl.1 rfl (Nat.le_of_ble_eq_true rfl) d_m_begin_143 ⟨Nat.zero_le _, Nat.zero_le _⟩ (fun H locs hC => ?_)
  refine lv_iconst (v := 1) hx hb d_m_begin_146 (by decide) ?_
  cases h
  exact mret_z nz_1 X hC d_m_begin_147
theorem w_m_begin_J118 {r : Int32 × MS} {st : MS} {l1 : Int32} {H : Heap} {locs : List Loc} {ls : Array Slot} (X : jx p s m args meth c b_m_begin 5 (some .boolean) R_M) (hC : mC G this s st H locs) (hl : lv_has ls 5 [(0, .ref this), (1, .int l1)]) (h : m_begin_J118 st l1 = some r) : W p l e (rmL 2 0 0) s m args below meth c H locs 0 0 (MQ below (mQc G this (some (.int r.1)) r.2) args s 0 0 (mFr this)) (F0 m 118 ls []) := by
  obtain ⟨hx, hb, hr, hml, hown, hts, hlocks⟩ := id X
  unfold m_begin_J118 at h
  refine lv_aload_n hx hb d_m_begin_118 rfl (lv_at hl 0 rfl) ?_
  obtain ⟨x1, ex1, h⟩ := obi h
  refine mcallV_i X hC (c_m_deepness l G this ex1) q_837 q_839 q_p25 q_8 q_840 ok_m_deepness rfl ⟨by decide, by decide⟩ hl.1 rfl (Nat.le_of_ble_eq_true rfl) d_m_begin_119 ⟨Nat.zero_le _, Nat.zero_le _⟩ (fun H locs hC => ?_)
  refine lv_iconst (v := 5) hx hb d_m_begin_122 (by decide) ?_
  refine lv_icmp_ne (tgt := 128) hx hb d_m_begin_123 (by decide) (fun c123 => ?_) (fun c123 => ?_)
  · replace h := ifn c123 h
    refine lv_aload_n hx hb d_m_begin_128 rfl (lv_at hl 0 rfl) ?_
    refine lv_iload_n hx hb d_m_begin_129 rfl (lv_at hl 1 rfl) ?_
    refine lv_bipush (v := 45) hx hb d_m_begin_130 (by decide) ?_
    refine lv_icmp_ne (tgt := 141) hx hb d_m_begin_132 (by decide) (fun c132 => ?_) (fun c132 => ?_)
    · replace h := ifn c132 h
      refine lv_iload_n hx hb d_m_begin_141 rfl (lv_at hl 1 rfl) ?_
      exact w_m_begin_J142 X hC (lv_sub hl [] rfl) h
    · replace h := ifp c132 h
      refine lv_sipush (v := 200) hx hb d_m_begin_135 (by decide) ?_
      refine lv_goto (tgt := 142) hx hb d_m_begin_138 (by decide) ?_
      exact w_m_begin_J142 X hC (lv_sub hl [] rfl) h
  · replace h := ifp c123 h
    refine lv_iconst (v := 0) hx hb d_m_begin_126 (by decide) ?_
    cases h
    exact mret_z nz_0 X hC d_m_begin_127
theorem w_m_begin_J87 {r : Int32 × MS} {st : MS} {l3 : Int32} {H : Heap} {locs : List Loc} {ls : Array Slot} (X : jx p s m args meth c b_m_begin 5 (some .boolean) R_M) (hC : mC G this s st H locs) (hl : lv_has ls 5 [(0, .ref this), (3, .int l3)]) (h : m_begin_J87 st l3 = some r) : W p l e (rmL 2 0 0) s m args below meth c H locs 0 0 (MQ below (mQc G this (some (.int r.1)) r.2) args s 0 0 (mFr this)) (F0 m 87 ls []) := by
  obtain ⟨hx, hb, hr, hml, hown, hts, hlocks⟩ := id X
  unfold m_begin_J87 at h
  refine lv_aload_n hx hb d_m_begin_87 rfl (lv_at hl 0 rfl) ?_
  refine lv_iconst (v := 0) hx hb d_m_begin_88 (by decide) ?_
  refine lv_iload_n hx hb d_m_begin_89 rfl (lv_at hl 1 rfl) ?_
  obtain ⟨st1, est1, h⟩ := obi h
  refine mcallV_v X hC (c_m_make l G this est1) q_826 q_828 q_p23 q_8 q_829 ok_m_make rfl ⟨by decide, by decide⟩ hl.1 rfl (Nat.le_of_ble_eq_true rfl) d_m_begin_90 ⟨Nat.zero_le _, Nat.zero_le _⟩ (fun H locs hC => ?_)
  refine lv_aload_n hx hb d_m_begin_93 rfl (lv_at hl 0 rfl) ?_
  refine lv_iconst (v := 3) hx hb d_m_begin_94 (by decide) ?_
  obtain ⟨st2, est2, h⟩ := obi h
  refine mcallV_v X hC (c_m_settle l G this est2) q_830 q_832 q_p24 q_8 q_833 ok_m_settle rfl ⟨by decide, by decide⟩ hl.1 rfl (Nat.le_of_ble_eq_true rfl) d_m_begin_95 ⟨Nat.zero_le _, Nat.zero_le _⟩ (fun H locs hC => ?_)
  refine lv_iconst (v := 1) hx hb d_m_begin_98 (by decide) ?_
  cases h
  exact mret_z nz_1 X hC d_m_begin_99
theorem w_m_begin_L35 {r : Int32 × MS} (X : jx p s m args meth c b_m_begin 5 (some .boolean) R_M) : ∀ (n : Nat), ∀ (st : MS) (l2 : Int32) (l3 : Int32) (l4 : Int32) (H : Heap) (locs : List Loc) (ls : Array Slot), m_begin_L35 n st l2 l3 l4 = some r → mC G this s st H locs → lv_has ls 5 [(0, .ref this), (2, .int l2), (3, .int l3), (4, .int l4)] → W p l e (rmL 2 0 0) s m args below meth c H locs 0 0 (MQ below (mQc G this (some (.int r.1)) r.2) args s 0 0 (mFr this)) (F0 m 35 ls []) := by
  obtain ⟨hx, hb, hr, hml, hown, hts, hlocks⟩ := id X
  intro n
  induction n with
  | zero => intro st l2 l3 l4 H locs ls h hC hl; exact absurd h (by simp [m_begin_L35])
  | succ n ih =>
    intro st l2 l3 l4 H locs ls h hC hl
    rw [m_begin_L35] at h
    refine lv_iload hx hb d_m_begin_35 (lv_at hl 3 rfl) ?_
    refine lv_aload_n hx hb d_m_begin_37 rfl (lv_at hl 0 rfl) ?_
    refine mg_int X hC 2 (by decide) rfl q_675 d_m_begin_38 ?_
    refine lv_icmp_ge (tgt := 87) hx hb d_m_begin_41 (by decide) (fun c41 => ?_) (fun c41 => ?_)
    · replace h := ifp c41 h
      exact w_m_begin_J87 X hC (lv_sub hl [0, 2] rfl) h
    · replace h := ifn c41 h
      refine lv_iload hx hb d_m_begin_44 (lv_at hl 3 rfl) ?_
      refine lv_iload_n hx hb d_m_begin_46 rfl (lv_at hl 1 rfl) ?_
      refine lv_iconst (v := 4) hx hb d_m_begin_47 (by decide) ?_
      refine lv_iadd hx hb d_m_begin_48 ?_
      refine lv_icmp_ge (tgt := 87) hx hb d_m_begin_49 (by decide) (fun c49 => ?_) (fun c49 => ?_)
      · replace h := ifp c49 h
        exact w_m_begin_J87 X hC (lv_sub hl [0, 2] rfl) h
      · replace h := ifn c49 h
        refine lv_aload_n hx hb d_m_begin_52 rfl (lv_at hl 0 rfl) ?_
        refine mg_arr X hC 1 (by decide) (by decide) q_674 d_m_begin_53 ?_
        refine lv_iload hx hb d_m_begin_56 (lv_at hl 3 rfl) ?_
        obtain ⟨x1, ex1, h⟩ := obi h
        refine ma_ild X hC 1 (by decide) rfl ex1 d_m_begin_58 ?_
        refine mcallS_i X (c_m_isDigit l x1) q_811 q_812 q_8 q_813 ok_m_isDigit rfl ⟨by decide, by decide⟩ hl.1 rfl (Nat.le_of_ble_eq_true rfl) d_m_begin_59 ⟨Nat.zero_le _, Nat.zero_le _⟩ ?_
        refine lv_if_eq (tgt := 87) hx hb d_m_begin_62 (by decide) (fun c62 => ?_) (fun c62 => ?_)
        · replace h := ifp c62 h
          exact w_m_begin_J87 X hC (lv_sub hl [0, 2] rfl) h
        · replace h := ifn c62 h
          refine lv_bipush (v := 10) hx hb d_m_begin_65 (by decide) ?_
          refine lv_iload_n hx hb d_m_begin_67 rfl (lv_at hl 2 rfl) ?_
          refine lv_imul hx hb d_m_begin_68 ?_
          refine lv_aload_n hx hb d_m_begin_69 rfl (lv_at hl 0 rfl) ?_
          refine mg_arr X hC 1 (by decide) (by decide) q_674 d_m_begin_70 ?_
          refine lv_iload hx hb d_m_begin_73 (lv_at hl 3 rfl) ?_
          obtain ⟨x2, ex2, h⟩ := obi h
          refine ma_ild X hC 1 (by decide) rfl ex2 d_m_begin_75 ?_
          refine lv_iadd hx hb d_m_begin_76 ?_
          refine lv_bipush (v := 48) hx hb d_m_begin_77 (by decide) ?_
          refine lv_isub hx hb d_m_begin_79 ?_
          obtain ⟨x3, ex3, h⟩ := obi h
          refine lv_nm (Option.some.inj ex3) ?_
          refine lv_istore_n (lv' := [(3, .int x3), (0, .ref this), (2, .int l2), (4, .int l4)]) hx hb d_m_begin_80 rfl hl (by decide) rfl (fun ls hl => ?_)
          obtain ⟨x4, ex4, h⟩ := obi h
          refine lv_iinc (v := x4) (lv' := [(4, .int x4), (3, .int x3), (0, .ref this), (2, .int l2)]) hx hb d_m_begin_81 hl (k := 3) rfl (Option.some.inj ex4) (by decide) rfl (fun ls hl => ?_)
          refine lv_goto (tgt := 35) hx hb d_m_begin_84 (by decide) ?_
          exact ih _ _ _ _ _ _ _ h hC (lv_sub hl [2, 3, 1, 0] rfl)
theorem c_m_begin (l : Launch) (G : MG) (this : Nat) {st : MS} {a1 : Int32} {a2 : Int32} {r : Int32 × MS} (h : m_begin st a1 a2 = some r) : Met l y_m_begin (Cond.code y_m_begin b_m_begin 5 (some .boolean) :: lw_g) (rmL 2 0 0) (mPc G this [.int a1, .int a2] st) (mQc G this (some (.int r.1)) r.2) 0 0 (mFr this) := by
  refine Met.ofM (by decide +kernel) (Nat.le_of_ble_eq_true rfl) ?_
  intro p e s m below meth c ls X hC hl
  have hl : lv_has ls 5 [(0, .ref this), (1, .int a1), (2, .int a2)] := hl
  generalize (Value.ref this :: [.int a1, .int a2]).toArray = args at X ⊢
  obtain ⟨hx, hb, hr, hml, hown, hts, hlocks⟩ := id X
  generalize hHH : s.heap = H at hC ⊢
  generalize ([] : List Loc) = locs at hC ⊢
  clear hHH
  unfold m_begin at h
  refine lv_iload_n hx hb d_m_begin_0 rfl (lv_at hl 1 rfl) ?_
  refine mcallS_i X (c_m_isLetter l a1) q_808 q_809 q_8 q_810 ok_m_isLetter rfl ⟨by decide, by decide⟩ hl.1 rfl (Nat.le_of_ble_eq_true rfl) d_m_begin_1 ⟨Nat.zero_le _, Nat.zero_le _⟩ ?_
  refine lv_if_eq (tgt := 23) hx hb d_m_begin_4 (by decide) (fun c4 => ?_) (fun c4 => ?_)
  · replace h := ifp c4 h
    refine lv_iload_n hx hb d_m_begin_23 rfl (lv_at hl 1 rfl) ?_
    refine mcallS_i X (c_m_isDigit l a1) q_811 q_812 q_8 q_813 ok_m_isDigit rfl ⟨by decide, by decide⟩ hl.1 rfl (Nat.le_of_ble_eq_true rfl) d_m_begin_24 ⟨Nat.zero_le _, Nat.zero_le _⟩ ?_
    refine lv_if_eq (tgt := 100) hx hb d_m_begin_27 (by decide) (fun c27 => ?_) (fun c27 => ?_)
    · replace h := ifp c27 h
      refine lv_iload_n hx hb d_m_begin_100 rfl (lv_at hl 1 rfl) ?_
      refine lv_bipush (v := 40) hx hb d_m_begin_101 (by decide) ?_
      refine lv_icmp_eq (tgt := 118) hx hb d_m_begin_103 (by decide) (fun c103 => ?_) (fun c103 => ?_)
      · replace h := ifp c103 h
        exact w_m_begin_J118 X hC (lv_sub hl [0, 1] rfl) h
      · replace h := ifn c103 h
        refine lv_iload_n hx hb d_m_begin_106 rfl (lv_at hl 1 rfl) ?_
        refine lv_bipush (v := 45) hx hb d_m_begin_107 (by decide) ?_
        refine lv_icmp_eq (tgt := 118) hx hb d_m_begin_109 (by decide) (fun c109 => ?_) (fun c109 => ?_)
        · replace h := ifp c109 h
          exact w_m_begin_J118 X hC (lv_sub hl [0, 1] rfl) h
        · replace h := ifn c109 h
          refine lv_iload_n hx hb d_m_begin_112 rfl (lv_at hl 1 rfl) ?_
          refine lv_bipush (v := 64) hx hb d_m_begin_113 (by decide) ?_
          refine lv_icmp_ne (tgt := 126) hx hb d_m_begin_115 (by decide) (fun c115 => ?_) (fun c115 => ?_)
          · replace h := ifn c115 h
            refine lv_iconst (v := 0) hx hb d_m_begin_126 (by decide) ?_
            cases h
            exact mret_z nz_0 X hC d_m_begin_127
          · replace h := ifp c115 h
            exact w_m_begin_J118 X hC (lv_sub hl [0, 1] rfl) h
    · replace h := ifn c27 h
      refine lv_iconst (v := 0) hx hb d_m_begin_30 (by decide) ?_
      refine lv_istore_n (lv' := [(3, .int 0), (0, .ref this), (1, .int a1), (2, .int a2)]) hx hb d_m_begin_31 rfl hl (by decide) rfl (fun ls hl => ?_)
      refine lv_iload_n hx hb d_m_begin_32 rfl (lv_at hl 3 rfl) ?_
      refine lv_istore (lv' := [(4, .int a2), (3, .int 0), (0, .ref this), (1, .int a1), (2, .int a2)]) hx hb d_m_begin_33 hl (by decide) rfl (fun ls hl => ?_)
      exact w_m_begin_L35 X 1000 _ _ _ _ _ _ _ h hC (lv_sub hl [2, 4, 1, 0] rfl)
  · replace h := ifn c4 h
    refine lv_aload_n hx hb d_m_begin_7 rfl (lv_at hl 0 rfl) ?_
    refine lv_iconst (v := 1) hx hb d_m_begin_8 (by decide) ?_
    refine lv_iload_n hx hb d_m_begin_9 rfl (lv_at hl 1 rfl) ?_
    refine lv_bipush (v := 65) hx hb d_m_begin_10 (by decide) ?_
    refine lv_isub hx hb d_m_begin_12 ?_
    obtain ⟨st1, est1, h⟩ := obi h
    refine mcallV_v X hC (c_m_make l G this est1) q_826 q_828 q_p23 q_8 q_829 ok_m_make rfl ⟨by decide, by decide⟩ hl.1 rfl (Nat.le_of_ble_eq_true rfl) d_m_begin_13 ⟨Nat.zero_le _, Nat.zero_le _⟩ (fun H locs hC => ?_)
    refine lv_aload_n hx hb d_m_begin_16 rfl (lv_at hl 0 rfl) ?_
    refine lv_iconst (v := 3) hx hb d_m_begin_17 (by decide) ?_
    obtain ⟨st2, est2, h⟩ := obi h
    refine mcallV_v X hC (c_m_settle l G this est2) q_830 q_832 q_p24 q_8 q_833 ok_m_settle rfl ⟨by decide, by decide⟩ hl.1 rfl (Nat.le_of_ble_eq_true rfl) d_m_begin_18 ⟨Nat.zero_le _, Nat.zero_le _⟩ (fun H locs hC => ?_)
    refine lv_iconst (v := 1) hx hb d_m_begin_21 (by decide) ?_
    cases h
    exact mret_z nz_1 X hC d_m_begin_22
theorem w_m_compared_J46 {r : Int32} {st : MS} {l2 : Int32} {s0 : Int32} {k_9 : MS → Int32 → Int32 → Option Int32} {H : Heap} {locs : List Loc} {ls : Array Slot} (X : jx p s m args meth c b_m_compared 3 (some .boolean) R_M) (hC : mC G this s st H locs) (hl : lv_has ls 3 [(0, .ref this), (2, .int l2)]) (hk_9 : ∀ (st : MS) (l1 : Int32) (l2 : Int32) (H : Heap) (locs : List Loc) (ls : Array Slot), k_9 st l1 l2 = some r → mC G this s st H locs → lv_has ls 3 [(0, .ref this), (1, .int l1), (2, .int l2)] → W p l e (rmL 1 0 0) s m args below meth c H locs 0 0 (MQ below (mQc G this (some (.int r)) st) args s 0 0 (mFr this)) (F0 m 9 ls [])) (h : m_compared_J46 k_9 st l2 s0 = some r) : W p l e (rmL 1 0 0) s m args below meth c H locs 0 0 (MQ below (mQc G this (some (.int r)) st) args s 0 0 (mFr this)) (F0 m 46 ls [.int s0]) := by
  obtain ⟨hx, hb, hr, hml, hown, hts, hlocks⟩ := id X
  unfold m_compared_J46 at h
  refine lv_istore_n (lv' := [(1, .int s0), (0, .ref this), (2, .int l2)]) hx hb d_m_compared_46 rfl hl (by decide) rfl (fun ls hl => ?_)
  obtain ⟨x1, ex1, h⟩ := obi h
  refine lv_iinc (v := x1) (lv' := [(2, .int x1), (1, .int s0), (0, .ref this)]) hx hb d_m_compared_47 hl (k := 2) rfl (Option.some.inj ex1) (by decide) rfl (fun ls hl => ?_)
  refine lv_goto (tgt := 9) hx hb d_m_compared_50 (by decide) ?_
  exact hk_9 _ _ _ _ _ _ h hC (lv_sub hl [2, 1, 0] rfl)
theorem w_m_compared_J41 {r : Int32} {st : MS} {l2 : Int32} {k_9 : MS → Int32 → Int32 → Option Int32} {H : Heap} {locs : List Loc} {ls : Array Slot} (X : jx p s m args meth c b_m_compared 3 (some .boolean) R_M) (hC : mC G this s st H locs) (hl : lv_has ls 3 [(0, .ref this), (2, .int l2)]) (hk_9 : ∀ (st : MS) (l1 : Int32) (l2 : Int32) (H : Heap) (locs : List Loc) (ls : Array Slot), k_9 st l1 l2 = some r → mC G this s st H locs → lv_has ls 3 [(0, .ref this), (1, .int l1), (2, .int l2)] → W p l e (rmL 1 0 0) s m args below meth c H locs 0 0 (MQ below (mQc G this (some (.int r)) st) args s 0 0 (mFr this)) (F0 m 9 ls [])) (h : m_compared_J41 k_9 st l2 = some r) : W p l e (rmL 1 0 0) s m args below meth c H locs 0 0 (MQ below (mQc G this (some (.int r)) st) args s 0 0 (mFr this)) (F0 m 41 ls []) := by
  obtain ⟨hx, hb, hr, hml, hown, hts, hlocks⟩ := id X
  unfold m_compared_J41 at h
  refine lv_iconst (v := 1) hx hb d_m_compared_41 (by decide) ?_
  refine lv_goto (tgt := 46) hx hb d_m_compared_42 (by decide) ?_
  exact w_m_compared_J46 X hC (lv_sub hl [0, 1] rfl) hk_9 h
theorem w_m_compared_L9 {r : Int32} (X : jx p s m args meth c b_m_compared 3 (some .boolean) R_M) : ∀ (n : Nat), ∀ (st : MS) (l1 : Int32) (l2 : Int32) (H : Heap) (locs : List Loc) (ls : Array Slot), m_compared_L9 n st l1 l2 = some r → mC G this s st H locs → lv_has ls 3 [(0, .ref this), (1, .int l1), (2, .int l2)] → W p l e (rmL 1 0 0) s m args below meth c H locs 0 0 (MQ below (mQc G this (some (.int r)) st) args s 0 0 (mFr this)) (F0 m 9 ls []) := by
  obtain ⟨hx, hb, hr, hml, hown, hts, hlocks⟩ := id X
  intro n
  induction n with
  | zero => intro st l1 l2 H locs ls h hC hl; exact absurd h (by simp [m_compared_L9])
  | succ n ih =>
    intro st l1 l2 H locs ls h hC hl
    rw [m_compared_L9] at h
    refine lv_iload_n hx hb d_m_compared_9 rfl (lv_at hl 2 rfl) ?_
    refine lv_if_lt (tgt := 53) hx hb d_m_compared_10 (by decide) (fun c10 => ?_) (fun c10 => ?_)
    · replace h := ifp c10 h
      refine lv_iload_n hx hb d_m_compared_53 rfl (lv_at hl 1 rfl) ?_
      obtain ⟨x1, ex1, h⟩ := obi h
      obtain ⟨ez, hz⟩ := nchk_spec ex1
      cases h
      subst ez
      exact mret_z hz X hC d_m_compared_54
    · replace h := ifn c10 h
      refine lv_aload_n hx hb d_m_compared_13 rfl (lv_at hl 0 rfl) ?_
      refine mg_arr X hC 38 (by decide) (by decide) q_711 d_m_compared_14 ?_
      refine lv_iload_n hx hb d_m_compared_17 rfl (lv_at hl 2 rfl) ?_
      obtain ⟨x2, ex2, h⟩ := obi h
      refine ma_ild X hC 38 (by decide) rfl ex2 d_m_compared_18 ?_
      refine mcallS_i X (c_m_rank l x2) q_834 q_835 q_8 q_836 ok_m_rank rfl ⟨by decide, by decide⟩ hl.1 rfl (Nat.le_of_ble_eq_true rfl) d_m_compared_19 ⟨Nat.zero_le _, Nat.zero_le _⟩ ?_
      refine lv_if_lt (tgt := 53) hx hb d_m_compared_22 (by decide) (fun c22 => ?_) (fun c22 => ?_)
      · replace h := ifp c22 h
        refine lv_iload_n hx hb d_m_compared_53 rfl (lv_at hl 1 rfl) ?_
        obtain ⟨x3, ex3, h⟩ := obi h
        obtain ⟨ez, hz⟩ := nchk_spec ex3
        cases h
        subst ez
        exact mret_z hz X hC d_m_compared_54
      · replace h := ifn c22 h
        refine lv_iload_n hx hb d_m_compared_25 rfl (lv_at hl 1 rfl) ?_
        refine lv_if_ne (tgt := 41) hx hb d_m_compared_26 (by decide) (fun c26 => ?_) (fun c26 => ?_)
        · replace h := ifn c26 h
          exact w_m_compared_J41 X hC (lv_sub hl [0, 2] rfl) ih h
        · replace h := ifp c26 h
          refine lv_aload_n hx hb d_m_compared_29 rfl (lv_at hl 0 rfl) ?_
          refine mg_arr X hC 38 (by decide) (by decide) q_711 d_m_compared_30 ?_
          refine lv_iload_n hx hb d_m_compared_33 rfl (lv_at hl 2 rfl) ?_
          obtain ⟨x4, ex4, h⟩ := obi h
          refine ma_ild X hC 38 (by decide) rfl ex4 d_m_compared_34 ?_
          refine mcallS_i X (c_m_rank l x4) q_834 q_835 q_8 q_836 ok_m_rank rfl ⟨by decide, by decide⟩ hl.1 rfl (Nat.le_of_ble_eq_true rfl) d_m_compared_35 ⟨Nat.zero_le _, Nat.zero_le _⟩ ?_
          refine lv_if_ne (tgt := 45) hx hb d_m_compared_38 (by decide) (fun c38 => ?_) (fun c38 => ?_)
          · replace h := ifn c38 h
            refine lv_iconst (v := 0) hx hb d_m_compared_45 (by decide) ?_
            exact w_m_compared_J46 X hC (lv_sub hl [0, 2] rfl) ih h
          · replace h := ifp c38 h
            exact w_m_compared_J41 X hC (lv_sub hl [0, 2] rfl) ih h
theorem c_m_compared (l : Launch) (G : MG) (this : Nat) {st : MS} {r : Int32} (h : m_compared st = some r) : Met l y_m_compared (Cond.code y_m_compared b_m_compared 3 (some .boolean) :: lw_g) (rmL 1 0 0) (mPc G this [] st) (mQc G this (some (.int r)) st) 0 0 (mFr this) := by
  refine Met.ofM (by decide +kernel) (Nat.le_of_ble_eq_true rfl) ?_
  intro p e s m below meth c ls X hC hl
  have hl : lv_has ls 3 [(0, .ref this)] := hl
  generalize (Value.ref this :: []).toArray = args at X ⊢
  obtain ⟨hx, hb, hr, hml, hown, hts, hlocks⟩ := id X
  generalize hHH : s.heap = H at hC ⊢
  generalize ([] : List Loc) = locs at hC ⊢
  clear hHH
  unfold m_compared at h
  refine lv_iconst (v := 0) hx hb d_m_compared_0 (by decide) ?_
  refine lv_istore_n (lv' := [(1, .int 0), (0, .ref this)]) hx hb d_m_compared_1 rfl hl (by decide) rfl (fun ls hl => ?_)
  refine lv_aload_n hx hb d_m_compared_2 rfl (lv_at hl 1 rfl) ?_
  refine mg_int X hC 37 (by decide) rfl q_710 d_m_compared_3 ?_
  refine lv_iconst (v := 1) hx hb d_m_compared_6 (by decide) ?_
  refine lv_isub hx hb d_m_compared_7 ?_
  obtain ⟨x1, ex1, h⟩ := obi h
  refine lv_nm (Option.some.inj ex1) ?_
  refine lv_istore_n (lv' := [(2, .int x1), (1, .int 0), (0, .ref this)]) hx hb d_m_compared_8 rfl hl (by decide) rfl (fun ls hl => ?_)
  exact w_m_compared_L9 X 1000 _ _ _ _ _ _ h hC (lv_sub hl [2, 1, 0] rfl)
theorem w_m_inner_L7 {r : Int32} (X : jx p s m args meth c b_m_inner 2 (some .int) R_M) : ∀ (n : Nat), ∀ (st : MS) (l1 : Int32) (H : Heap) (locs : List Loc) (ls : Array Slot), m_inner_L7 n st l1 = some r → mC G this s st H locs → lv_has ls 2 [(0, .ref this), (1, .int l1)] → W p l e (rmL 1 0 0) s m args below meth c H locs 0 0 (MQ below (mQc G this (some (.int r)) st) args s 0 0 (mFr this)) (F0 m 7 ls []) := by
  obtain ⟨hx, hb, hr, hml, hown, hts, hlocks⟩ := id X
  intro n
  induction n with
  | zero => intro st l1 H locs ls h hC hl; exact absurd h (by simp [m_inner_L7])
  | succ n ih =>
    intro st l1 H locs ls h hC hl
    rw [m_inner_L7] at h
    refine lv_iload_n hx hb d_m_inner_7 rfl (lv_at hl 1 rfl) ?_
    refine lv_if_lt (tgt := 29) hx hb d_m_inner_8 (by decide) (fun c8 => ?_) (fun c8 => ?_)
    · replace h := ifp c8 h
      refine lv_iload_n hx hb d_m_inner_29 rfl (lv_at hl 1 rfl) ?_
      cases h
      exact mret_i X hC d_m_inner_30
    · replace h := ifn c8 h
      refine lv_aload_n hx hb d_m_inner_11 rfl (lv_at hl 0 rfl) ?_
      refine mg_arr X hC 38 (by decide) (by decide) q_711 d_m_inner_12 ?_
      refine lv_iload_n hx hb d_m_inner_15 rfl (lv_at hl 1 rfl) ?_
      obtain ⟨x1, ex1, h⟩ := obi h
      refine ma_ild X hC 38 (by decide) rfl ex1 d_m_inner_16 ?_
      refine mcallS_i X (c_m_rank l x1) q_834 q_835 q_8 q_836 ok_m_rank rfl ⟨by decide, by decide⟩ hl.1 rfl (Nat.le_of_ble_eq_true rfl) d_m_inner_17 ⟨Nat.zero_le _, Nat.zero_le _⟩ ?_
      refine lv_if_lt (tgt := 29) hx hb d_m_inner_20 (by decide) (fun c20 => ?_) (fun c20 => ?_)
      · replace h := ifp c20 h
        refine lv_iload_n hx hb d_m_inner_29 rfl (lv_at hl 1 rfl) ?_
        cases h
        exact mret_i X hC d_m_inner_30
      · replace h := ifn c20 h
        obtain ⟨x2, ex2, h⟩ := obi h
        refine lv_iinc (v := x2) (lv' := [(1, .int x2), (0, .ref this)]) hx hb d_m_inner_23 hl (k := 1) rfl (Option.some.inj ex2) (by decide) rfl (fun ls hl => ?_)
        refine lv_goto (tgt := 7) hx hb d_m_inner_26 (by decide) ?_
        exact ih _ _ _ _ _ h hC (lv_sub hl [1, 0] rfl)
theorem c_m_inner (l : Launch) (G : MG) (this : Nat) {st : MS} {r : Int32} (h : m_inner st = some r) : Met l y_m_inner (Cond.code y_m_inner b_m_inner 2 (some .int) :: lw_g) (rmL 1 0 0) (mPc G this [] st) (mQc G this (some (.int r)) st) 0 0 (mFr this) := by
  refine Met.ofM (by decide +kernel) (Nat.le_of_ble_eq_true rfl) ?_
  intro p e s m below meth c ls X hC hl
  have hl : lv_has ls 2 [(0, .ref this)] := hl
  generalize (Value.ref this :: []).toArray = args at X ⊢
  obtain ⟨hx, hb, hr, hml, hown, hts, hlocks⟩ := id X
  generalize hHH : s.heap = H at hC ⊢
  generalize ([] : List Loc) = locs at hC ⊢
  clear hHH
  unfold m_inner at h
  refine lv_aload_n hx hb d_m_inner_0 rfl (lv_at hl 0 rfl) ?_
  refine mg_int X hC 37 (by decide) rfl q_710 d_m_inner_1 ?_
  refine lv_iconst (v := 1) hx hb d_m_inner_4 (by decide) ?_
  refine lv_isub hx hb d_m_inner_5 ?_
  obtain ⟨x1, ex1, h⟩ := obi h
  refine lv_nm (Option.some.inj ex1) ?_
  refine lv_istore_n (lv' := [(1, .int x1), (0, .ref this)]) hx hb d_m_inner_6 rfl hl (by decide) rfl (fun ls hl => ?_)
  exact w_m_inner_L7 X 1000 _ _ _ _ _ h hC (lv_sub hl [1, 0] rfl)
theorem w_m_close_L5 {r : MS} (X : jx p s m args meth c b_m_close 1 none R_M) : ∀ (n : Nat), ∀ (st : MS) (H : Heap) (locs : List Loc) (ls : Array Slot), m_close_L5 n st = some r → mC G this s st H locs → lv_has ls 1 [(0, .ref this)] → W p l e (rmL 2 0 0) s m args below meth c H locs 0 0 (MQ below (mQc G this none r) args s 0 0 (mFr this)) (F0 m 5 ls []) := by
  obtain ⟨hx, hb, hr, hml, hown, hts, hlocks⟩ := id X
  intro n
  induction n with
  | zero => intro st H locs ls h hC hl; exact absurd h (by simp [m_close_L5])
  | succ n ih =>
    intro st H locs ls h hC hl
    rw [m_close_L5] at h
    refine lv_aload_n hx hb d_m_close_5 rfl (lv_at hl 0 rfl) ?_
    refine mg_int X hC 37 (by decide) rfl q_710 d_m_close_6 ?_
    refine lv_if_le (tgt := 64) hx hb d_m_close_9 (by decide) (fun c9 => ?_) (fun c9 => ?_)
    · replace h := ifp c9 h
      cases h
      exact mret_v X hC d_m_close_64
    · replace h := ifn c9 h
      refine lv_aload_n hx hb d_m_close_12 rfl (lv_at hl 0 rfl) ?_
      refine mg_arr X hC 38 (by decide) (by decide) q_711 d_m_close_13 ?_
      refine lv_aload_n hx hb d_m_close_16 rfl (lv_at hl 0 rfl) ?_
      refine mg_int X hC 37 (by decide) rfl q_710 d_m_close_17 ?_
      refine lv_iconst (v := 1) hx hb d_m_close_20 (by decide) ?_
      refine lv_isub hx hb d_m_close_21 ?_
      obtain ⟨x1, ex1, h⟩ := obi h
      refine ma_ild X hC 38 (by decide) rfl ex1 d_m_close_22 ?_
      refine lv_bipush (v := 58) hx hb d_m_close_23 (by decide) ?_
      refine lv_icmp_ne (tgt := 64) hx hb d_m_close_25 (by decide) (fun c25 => ?_) (fun c25 => ?_)
      · replace h := ifn c25 h
        cases h
        exact mret_v X hC d_m_close_64
      · replace h := ifp c25 h
        refine lv_aload_n hx hb d_m_close_28 rfl (lv_at hl 0 rfl) ?_
        refine lv_dup hx hb d_m_close_29 rfl ?_
        refine mg_int X hC 37 (by decide) rfl q_710 d_m_close_30 ?_
        refine lv_iconst (v := 1) hx hb d_m_close_33 (by decide) ?_
        refine lv_isub hx hb d_m_close_34 ?_
        obtain ⟨st2, est2, h⟩ := obi h
        refine mp_int X hC 37 (by decide) rfl rfl (by decide +kernel) q_710 est2 d_m_close_35 (fun H locs hC => ?_)
        refine lv_aload_n hx hb d_m_close_38 rfl (lv_at hl 0 rfl) ?_
        refine mg_arr X hC 42 (by decide) (by decide) q_715 d_m_close_39 ?_
        refine lv_aload_n hx hb d_m_close_42 rfl (lv_at hl 0 rfl) ?_
        refine mg_arr X hC 39 (by decide) (by decide) q_712 d_m_close_43 ?_
        refine lv_aload_n hx hb d_m_close_46 rfl (lv_at hl 0 rfl) ?_
        refine mg_int X hC 37 (by decide) rfl q_710 d_m_close_47 ?_
        obtain ⟨x3, ex3, h⟩ := obi h
        refine ma_ild X hC 39 (by decide) rfl ex3 d_m_close_50 ?_
        refine lv_aload_n hx hb d_m_close_51 rfl (lv_at hl 0 rfl) ?_
        refine mg_int X hC 40 (by decide) rfl q_713 d_m_close_52 ?_
        obtain ⟨st4, est4, h⟩ := obi h
        refine ma_ist X hC 42 (by decide) rfl est4 d_m_close_55 (fun H locs hC => ?_)
        refine lv_aload_n hx hb d_m_close_56 rfl (lv_at hl 0 rfl) ?_
        refine lv_iconst (v := 0) hx hb d_m_close_57 (by decide) ?_
        obtain ⟨st5, est5, h⟩ := obi h
        refine mcallV_v X hC (c_m_settle l G this est5) q_830 q_832 q_p24 q_8 q_833 ok_m_settle rfl ⟨by decide, by decide⟩ hl.1 rfl (Nat.le_of_ble_eq_true rfl) d_m_close_58 ⟨Nat.zero_le _, Nat.zero_le _⟩ (fun H locs hC => ?_)
        refine lv_goto (tgt := 5) hx hb d_m_close_61 (by decide) ?_
        exact ih _ _ _ _ h hC (lv_sub hl [0] rfl)
theorem c_m_close (l : Launch) (G : MG) (this : Nat) {st : MS} {r : MS} (h : m_close st = some r) : Met l y_m_close (Cond.code y_m_close b_m_close 1 none :: lw_g) (rmL 2 0 0) (mPc G this [] st) (mQc G this none r) 0 0 (mFr this) := by
  refine Met.ofM (by decide +kernel) (Nat.le_of_ble_eq_true rfl) ?_
  intro p e s m below meth c ls X hC hl
  have hl : lv_has ls 1 [(0, .ref this)] := hl
  generalize (Value.ref this :: []).toArray = args at X ⊢
  obtain ⟨hx, hb, hr, hml, hown, hts, hlocks⟩ := id X
  generalize hHH : s.heap = H at hC ⊢
  generalize ([] : List Loc) = locs at hC ⊢
  clear hHH
  unfold m_close at h
  refine lv_aload_n hx hb d_m_close_0 rfl (lv_at hl 0 rfl) ?_
  refine lv_iconst (v := 0) hx hb d_m_close_1 (by decide) ?_
  obtain ⟨st1, est1, h⟩ := obi h
  refine mcallV_v X hC (c_m_settle l G this est1) q_830 q_832 q_p24 q_8 q_833 ok_m_settle rfl ⟨by decide, by decide⟩ hl.1 rfl (Nat.le_of_ble_eq_true rfl) d_m_close_2 ⟨Nat.zero_le _, Nat.zero_le _⟩ (fun H locs hC => ?_)
  exact w_m_close_L5 X 1000 _ _ _ _ h hC (lv_sub hl [0] rfl)
theorem w_m_awaits_J38 {r : Int32} {st : MS} {l1 : Int32} {H : Heap} {locs : List Loc} {ls : Array Slot} (X : jx p s m args meth c b_m_awaits 2 (some .int) R_M) (hC : mC G this s st H locs) (hl : lv_has ls 2 [(0, .ref this), (1, .int l1)]) (h : m_awaits_J38 st l1 = some r) : W p l e (rmL 2 0 0) s m args below meth c H locs 0 0 (MQ below (mQc G this (some (.int r)) st) args s 0 0 (mFr this)) (F0 m 38 ls []) := by
  obtain ⟨hx, hb, hr, hml, hown, hts, hlocks⟩ := id X
  unfold m_awaits_J38 at h
  refine lv_iload_n hx hb d_m_awaits_38 rfl (lv_at hl 1 rfl) ?_
  refine lv_if_ge (tgt := 46) hx hb d_m_awaits_39 (by decide) (fun c39 => ?_) (fun c39 => ?_)
  · replace h := ifp c39 h
    refine lv_aload_n hx hb d_m_awaits_46 rfl (lv_at hl 0 rfl) ?_
    refine mg_arr X hC 38 (by decide) (by decide) q_711 d_m_awaits_47 ?_
    refine lv_iload_n hx hb d_m_awaits_50 rfl (lv_at hl 1 rfl) ?_
    obtain ⟨x1, ex1, h⟩ := obi h
    refine ma_ild X hC 38 (by decide) rfl ex1 d_m_awaits_51 ?_
    cases h
    exact mret_i X hC d_m_awaits_52
  · replace h := ifn c39 h
    refine lv_iconst (v := 0) hx hb d_m_awaits_42 (by decide) ?_
    refine lv_goto (tgt := 52) hx hb d_m_awaits_43 (by decide) ?_
    cases h
    exact mret_i X hC d_m_awaits_52
theorem w_m_awaits_J32 {r : Int32} {st : MS} {l1 : Int32} {k_5 : MS → Int32 → Option Int32} {H : Heap} {locs : List Loc} {ls : Array Slot} (X : jx p s m args meth c b_m_awaits 2 (some .int) R_M) (hC : mC G this s st H locs) (hl : lv_has ls 2 [(0, .ref this), (1, .int l1)]) (hk_5 : ∀ (st : MS) (l1 : Int32) (H : Heap) (locs : List Loc) (ls : Array Slot), k_5 st l1 = some r → mC G this s st H locs → lv_has ls 2 [(0, .ref this), (1, .int l1)] → W p l e (rmL 2 0 0) s m args below meth c H locs 0 0 (MQ below (mQc G this (some (.int r)) st) args s 0 0 (mFr this)) (F0 m 5 ls [])) (h : m_awaits_J32 k_5 st l1 = some r) : W p l e (rmL 2 0 0) s m args below meth c H locs 0 0 (MQ below (mQc G this (some (.int r)) st) args s 0 0 (mFr this)) (F0 m 32 ls []) := by
  obtain ⟨hx, hb, hr, hml, hown, hts, hlocks⟩ := id X
  unfold m_awaits_J32 at h
  obtain ⟨x1, ex1, h⟩ := obi h
  refine lv_iinc (v := x1) (lv' := [(1, .int x1), (0, .ref this)]) hx hb d_m_awaits_32 hl (k := 1) rfl (Option.some.inj ex1) (by decide) rfl (fun ls hl => ?_)
  refine lv_goto (tgt := 5) hx hb d_m_awaits_35 (by decide) ?_
  exact hk_5 _ _ _ _ _ h hC (lv_sub hl [1, 0] rfl)
theorem w_m_awaits_L5 {r : Int32} (X : jx p s m args meth c b_m_awaits 2 (some .int) R_M) : ∀ (n : Nat), ∀ (st : MS) (l1 : Int32) (H : Heap) (locs : List Loc) (ls : Array Slot), m_awaits_L5 n st l1 = some r → mC G this s st H locs → lv_has ls 2 [(0, .ref this), (1, .int l1)] → W p l e (rmL 2 0 0) s m args below meth c H locs 0 0 (MQ below (mQc G this (some (.int r)) st) args s 0 0 (mFr this)) (F0 m 5 ls []) := by
  obtain ⟨hx, hb, hr, hml, hown, hts, hlocks⟩ := id X
  intro n
  induction n with
  | zero => intro st l1 H locs ls h hC hl; exact absurd h (by simp [m_awaits_L5])
  | succ n ih =>
    intro st l1 H locs ls h hC hl
    rw [m_awaits_L5] at h
    refine lv_iload_n hx hb d_m_awaits_5 rfl (lv_at hl 1 rfl) ?_
    refine lv_if_lt (tgt := 38) hx hb d_m_awaits_6 (by decide) (fun c6 => ?_) (fun c6 => ?_)
    · replace h := ifp c6 h
      exact w_m_awaits_J38 X hC (lv_sub hl [0, 1] rfl) h
    · replace h := ifn c6 h
      refine lv_aload_n hx hb d_m_awaits_9 rfl (lv_at hl 0 rfl) ?_
      refine mg_arr X hC 38 (by decide) (by decide) q_711 d_m_awaits_10 ?_
      refine lv_iload_n hx hb d_m_awaits_13 rfl (lv_at hl 1 rfl) ?_
      obtain ⟨x1, ex1, h⟩ := obi h
      refine ma_ild X hC 38 (by decide) rfl ex1 d_m_awaits_14 ?_
      refine lv_bipush (v := 58) hx hb d_m_awaits_15 (by decide) ?_
      refine lv_icmp_eq (tgt := 32) hx hb d_m_awaits_17 (by decide) (fun c17 => ?_) (fun c17 => ?_)
      · replace h := ifp c17 h
        exact w_m_awaits_J32 X hC (lv_sub hl [0, 1] rfl) ih h
      · replace h := ifn c17 h
        refine lv_aload_n hx hb d_m_awaits_20 rfl (lv_at hl 0 rfl) ?_
        refine mg_arr X hC 38 (by decide) (by decide) q_711 d_m_awaits_21 ?_
        refine lv_iload_n hx hb d_m_awaits_24 rfl (lv_at hl 1 rfl) ?_
        obtain ⟨x2, ex2, h⟩ := obi h
        refine ma_ild X hC 38 (by decide) rfl ex2 d_m_awaits_25 ?_
        refine mcallS_i X (c_m_rank l x2) q_834 q_835 q_8 q_836 ok_m_rank rfl ⟨by decide, by decide⟩ hl.1 rfl (Nat.le_of_ble_eq_true rfl) d_m_awaits_26 ⟨Nat.zero_le _, Nat.zero_le _⟩ ?_
        refine lv_if_lt (tgt := 38) hx hb d_m_awaits_29 (by decide) (fun c29 => ?_) (fun c29 => ?_)
        · replace h := ifp c29 h
          exact w_m_awaits_J38 X hC (lv_sub hl [0, 1] rfl) h
        · replace h := ifn c29 h
          exact w_m_awaits_J32 X hC (lv_sub hl [0, 1] rfl) ih h
theorem c_m_awaits (l : Launch) (G : MG) (this : Nat) {st : MS} {r : Int32} (h : m_awaits st = some r) : Met l y_m_awaits (Cond.code y_m_awaits b_m_awaits 2 (some .int) :: lw_g) (rmL 2 0 0) (mPc G this [] st) (mQc G this (some (.int r)) st) 0 0 (mFr this) := by
  refine Met.ofM (by decide +kernel) (Nat.le_of_ble_eq_true rfl) ?_
  intro p e s m below meth c ls X hC hl
  have hl : lv_has ls 2 [(0, .ref this)] := hl
  generalize (Value.ref this :: []).toArray = args at X ⊢
  obtain ⟨hx, hb, hr, hml, hown, hts, hlocks⟩ := id X
  generalize hHH : s.heap = H at hC ⊢
  generalize ([] : List Loc) = locs at hC ⊢
  clear hHH
  unfold m_awaits at h
  refine lv_aload_n hx hb d_m_awaits_0 rfl (lv_at hl 0 rfl) ?_
  obtain ⟨x1, ex1, h⟩ := obi h
  refine mcallV_i X hC (c_m_inner l G this ex1) q_857 q_859 q_p30 q_8 q_860 ok_m_inner rfl ⟨by decide, by decide⟩ hl.1 rfl (Nat.le_of_ble_eq_true rfl) d_m_awaits_1 ⟨Nat.zero_le _, Nat.zero_le _⟩ (fun H locs hC => ?_)
  refine lv_istore_n (lv' := [(1, .int x1), (0, .ref this)]) hx hb d_m_awaits_4 rfl hl (by decide) rfl (fun ls hl => ?_)
  exact w_m_awaits_L5 X 1000 _ _ _ _ _ h hC (lv_sub hl [1, 0] rfl)
end
