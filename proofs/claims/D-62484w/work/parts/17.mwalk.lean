section
variable {p : Program} {l : Launch} {e : Env} {s : State} {m : MethodId} {args : Array Value} {below : List Frame} {meth : Method} {c : Code} {G : MG} {this : Nat}
theorem w_m_read_J68 {r : Int32} {st : MS} {l1 : Int32} {l2 : Int32} {s0 : Int32} {s2 : Int32} {H : Heap} {locs : List Loc} {ls : Array Slot} (X : jx p s m args meth c b_m_read 3 (some .int) R_M) (hC : mC G this s st H locs) (hl : lv_has ls 3 [(0, .ref this), (1, .int l1), (2, .int l2)]) (h : m_read_J68 st l1 l2 s0 s2 = some r) : W p l e (rmL 1 0 0) s m args below meth c H locs 0 0 (MQ below (mQc G this (some (.int r)) st) args s 0 0 (mFr this)) (F0 m 68 ls [.int s0, .ref (this + mo 21), .int s2]) := by
  obtain ⟨hx, hb, hr, hml, hown, hts, hlocks⟩ := id X
  unfold m_read_J68 at h
  obtain ⟨x1, ex1, h⟩ := obi h
  refine ma_ild X hC 21 (by decide) rfl ex1 d_m_read_68 ?_
  refine lv_icmp_ge (tgt := 86) hx hb d_m_read_69 (by decide) (fun c69 => ?_) (fun c69 => ?_)
  · replace h := ifp c69 h
    refine lv_iconst (v := -1) hx hb d_m_read_86 (by decide) ?_
    cases h
    exact mret_i X hC d_m_read_87
  · replace h := ifn c69 h
    refine lv_aload_n hx hb d_m_read_72 rfl (lv_at hl 0 rfl) ?_
    refine mg_arr X hC 22 (by decide) (by decide) q_695 d_m_read_73 ?_
    refine lv_bipush (v := 12) hx hb d_m_read_76 (by decide) ?_
    refine lv_iload_n hx hb d_m_read_78 rfl (lv_at hl 1 rfl) ?_
    refine lv_imul hx hb d_m_read_79 ?_
    refine lv_iload_n hx hb d_m_read_80 rfl (lv_at hl 2 rfl) ?_
    refine lv_iadd hx hb d_m_read_81 ?_
    obtain ⟨x2, ex2, h⟩ := obi h
    refine ma_ild X hC 22 (by decide) rfl ex2 d_m_read_82 ?_
    refine lv_goto (tgt := 87) hx hb d_m_read_83 (by decide) ?_
    cases h
    exact mret_i X hC d_m_read_87
theorem w_m_read_J43 {r : Int32} {st : MS} {l1 : Int32} {l2 : Int32} {s0 : Int32} {H : Heap} {locs : List Loc} {ls : Array Slot} (X : jx p s m args meth c b_m_read 3 (some .int) R_M) (hC : mC G this s st H locs) (hl : lv_has ls 3 [(0, .ref this), (1, .int l1), (2, .int l2)]) (h : m_read_J43 st l1 l2 s0 = some r) : W p l e (rmL 1 0 0) s m args below meth c H locs 0 0 (MQ below (mQc G this (some (.int r)) st) args s 0 0 (mFr this)) (F0 m 43 ls [.int s0, .ref (this + mo 15)]) := by
  obtain ⟨hx, hb, hr, hml, hown, hts, hlocks⟩ := id X
  unfold m_read_J43 at h
  obtain ⟨x1, ex1, h⟩ := obi h
  refine ma_zld X hC 15 (by decide) rfl ex1 d_m_read_43 ?_
  refine lv_if_eq (tgt := 86) hx hb d_m_read_44 (by decide) (fun c44 => ?_) (fun c44 => ?_)
  · replace h := ifp c44 h
    refine lv_iconst (v := -1) hx hb d_m_read_86 (by decide) ?_
    cases h
    exact mret_i X hC d_m_read_87
  · replace h := ifn c44 h
    refine lv_iload_n hx hb d_m_read_47 rfl (lv_at hl 2 rfl) ?_
    refine lv_if_lt (tgt := 86) hx hb d_m_read_48 (by decide) (fun c48 => ?_) (fun c48 => ?_)
    · replace h := ifp c48 h
      refine lv_iconst (v := -1) hx hb d_m_read_86 (by decide) ?_
      cases h
      exact mret_i X hC d_m_read_87
    · replace h := ifn c48 h
      refine lv_iload_n hx hb d_m_read_51 rfl (lv_at hl 2 rfl) ?_
      refine lv_aload_n hx hb d_m_read_52 rfl (lv_at hl 0 rfl) ?_
      refine mg_arr X hC 21 (by decide) (by decide) q_694 d_m_read_53 ?_
      refine lv_iload_n hx hb d_m_read_56 rfl (lv_at hl 1 rfl) ?_
      refine mcallS_i X (c_m_isCell l l1) q_865 q_866 q_8 q_867 ok_m_isCell rfl ⟨by decide, by decide⟩ hl.1 rfl (Nat.le_of_ble_eq_true rfl) d_m_read_57 ⟨Nat.zero_le _, Nat.zero_le _⟩ ?_
      refine lv_if_eq (tgt := 67) hx hb d_m_read_60 (by decide) (fun c60 => ?_) (fun c60 => ?_)
      · replace h := ifp c60 h
        refine lv_iconst (v := 0) hx hb d_m_read_67 (by decide) ?_
        exact w_m_read_J68 X hC (lv_sub hl [0, 1, 2] rfl) h
      · replace h := ifn c60 h
        refine lv_iload_n hx hb d_m_read_63 rfl (lv_at hl 1 rfl) ?_
        refine lv_goto (tgt := 68) hx hb d_m_read_64 (by decide) ?_
        exact w_m_read_J68 X hC (lv_sub hl [0, 1, 2] rfl) h
theorem w_m_read_J23 {r : Int32} {st : MS} {l1 : Int32} {l2 : Int32} {s0 : Int32} {H : Heap} {locs : List Loc} {ls : Array Slot} (X : jx p s m args meth c b_m_read 3 (some .int) R_M) (hC : mC G this s st H locs) (hl : lv_has ls 3 [(0, .ref this), (1, .int l1), (2, .int l2)]) (h : m_read_J23 st l1 l2 s0 = some r) : W p l e (rmL 1 0 0) s m args below meth c H locs 0 0 (MQ below (mQc G this (some (.int r)) st) args s 0 0 (mFr this)) (F0 m 23 ls [.int s0, .ref (this + mo 5)]) := by
  obtain ⟨hx, hb, hr, hml, hown, hts, hlocks⟩ := id X
  unfold m_read_J23 at h
  obtain ⟨x1, ex1, h⟩ := obi h
  refine ma_zld X hC 5 (by decide) rfl ex1 d_m_read_23 ?_
  refine lv_if_eq (tgt := 86) hx hb d_m_read_24 (by decide) (fun c24 => ?_) (fun c24 => ?_)
  · replace h := ifp c24 h
    refine lv_iconst (v := -1) hx hb d_m_read_86 (by decide) ?_
    cases h
    exact mret_i X hC d_m_read_87
  · replace h := ifn c24 h
    refine lv_aload_n hx hb d_m_read_27 rfl (lv_at hl 0 rfl) ?_
    refine mg_arr X hC 15 (by decide) (by decide) q_688 d_m_read_28 ?_
    refine lv_iload_n hx hb d_m_read_31 rfl (lv_at hl 1 rfl) ?_
    refine mcallS_i X (c_m_isCell l l1) q_865 q_866 q_8 q_867 ok_m_isCell rfl ⟨by decide, by decide⟩ hl.1 rfl (Nat.le_of_ble_eq_true rfl) d_m_read_32 ⟨Nat.zero_le _, Nat.zero_le _⟩ ?_
    refine lv_if_eq (tgt := 42) hx hb d_m_read_35 (by decide) (fun c35 => ?_) (fun c35 => ?_)
    · replace h := ifp c35 h
      refine lv_iconst (v := 0) hx hb d_m_read_42 (by decide) ?_
      exact w_m_read_J43 X hC (lv_sub hl [0, 1, 2] rfl) h
    · replace h := ifn c35 h
      refine lv_iload_n hx hb d_m_read_38 rfl (lv_at hl 1 rfl) ?_
      refine lv_goto (tgt := 43) hx hb d_m_read_39 (by decide) ?_
      exact w_m_read_J43 X hC (lv_sub hl [0, 1, 2] rfl) h
theorem c_m_read (l : Launch) (G : MG) (this : Nat) {st : MS} {a1 : Int32} {a2 : Int32} {r : Int32} (h : m_read st a1 a2 = some r) : Met l y_m_read (Cond.code y_m_read b_m_read 3 (some .int) :: lw_g) (rmL 1 0 0) (mPc G this [.int a1, .int a2] st) (mQc G this (some (.int r)) st) 0 0 (mFr this) := by
  refine Met.ofM (by decide +kernel) (Nat.le_of_ble_eq_true rfl) ?_
  intro p e s m below meth c ls X hC hl
  have hl : lv_has ls 3 [(0, .ref this), (1, .int a1), (2, .int a2)] := hl
  generalize (Value.ref this :: [.int a1, .int a2]).toArray = args at X ⊢
  obtain ⟨hx, hb, hr, hml, hown, hts, hlocks⟩ := id X
  generalize hHH : s.heap = H at hC ⊢
  generalize ([] : List Loc) = locs at hC ⊢
  clear hHH
  unfold m_read at h
  refine lv_iload_n hx hb d_m_read_0 rfl (lv_at hl 1 rfl) ?_
  refine mcallS_i X (c_m_isCell l a1) q_865 q_866 q_8 q_867 ok_m_isCell rfl ⟨by decide, by decide⟩ hl.1 rfl (Nat.le_of_ble_eq_true rfl) d_m_read_1 ⟨Nat.zero_le _, Nat.zero_le _⟩ ?_
  refine lv_if_eq (tgt := 86) hx hb d_m_read_4 (by decide) (fun c4 => ?_) (fun c4 => ?_)
  · replace h := ifp c4 h
    refine lv_iconst (v := -1) hx hb d_m_read_86 (by decide) ?_
    cases h
    exact mret_i X hC d_m_read_87
  · replace h := ifn c4 h
    refine lv_aload_n hx hb d_m_read_7 rfl (lv_at hl 0 rfl) ?_
    refine mg_arr X hC 5 (by decide) (by decide) q_678 d_m_read_8 ?_
    refine lv_iload_n hx hb d_m_read_11 rfl (lv_at hl 1 rfl) ?_
    refine mcallS_i X (c_m_isCell l a1) q_865 q_866 q_8 q_867 ok_m_isCell rfl ⟨by decide, by decide⟩ hl.1 rfl (Nat.le_of_ble_eq_true rfl) d_m_read_12 ⟨Nat.zero_le _, Nat.zero_le _⟩ ?_
    refine lv_if_eq (tgt := 22) hx hb d_m_read_15 (by decide) (fun c15 => ?_) (fun c15 => ?_)
    · replace h := ifp c15 h
      refine lv_iconst (v := 0) hx hb d_m_read_22 (by decide) ?_
      exact w_m_read_J23 X hC (lv_sub hl [0, 1, 2] rfl) h
    · replace h := ifn c15 h
      refine lv_iload_n hx hb d_m_read_18 rfl (lv_at hl 1 rfl) ?_
      refine lv_goto (tgt := 23) hx hb d_m_read_19 (by decide) ?_
      exact w_m_read_J23 X hC (lv_sub hl [0, 1, 2] rfl) h
theorem w_m_count_J18 {r : Int32} {st : MS} {l1 : Int32} {H : Heap} {locs : List Loc} {ls : Array Slot} (X : jx p s m args meth c b_m_count 2 (some .int) R_M) (hC : mC G this s st H locs) (hl : lv_has ls 2 [(0, .ref this), (1, .int l1)]) (h : m_count_J18 st l1 = some r) : W p l e (rmL 1 0 0) s m args below meth c H locs 0 0 (MQ below (mQc G this (some (.int r)) st) args s 0 0 (mFr this)) (F0 m 18 ls []) := by
  obtain ⟨hx, hb, hr, hml, hown, hts, hlocks⟩ := id X
  unfold m_count_J18 at h
  refine lv_iload_n hx hb d_m_count_18 rfl (lv_at hl 1 rfl) ?_
  refine lv_iconst (v := 3) hx hb d_m_count_19 (by decide) ?_
  refine lv_icmp_ne (tgt := 30) hx hb d_m_count_20 (by decide) (fun c20 => ?_) (fun c20 => ?_)
  · replace h := ifn c20 h
    refine lv_iconst (v := -1) hx hb d_m_count_30 (by decide) ?_
    cases h
    exact mret_i X hC d_m_count_31
  · replace h := ifp c20 h
    refine lv_aload_n hx hb d_m_count_23 rfl (lv_at hl 0 rfl) ?_
    obtain ⟨x1, ex1, h⟩ := obi h
    refine mcallV_i X hC (c_m_values l G this ex1) q_946 q_948 q_p49 q_8 q_949 ok_m_values rfl ⟨by decide, by decide⟩ hl.1 rfl (Nat.le_of_ble_eq_true rfl) d_m_count_24 ⟨Nat.zero_le _, Nat.zero_le _⟩ (fun H locs hC => ?_)
    refine lv_goto (tgt := 31) hx hb d_m_count_27 (by decide) ?_
    cases h
    exact mret_i X hC d_m_count_31
theorem c_m_count (l : Launch) (G : MG) (this : Nat) {st : MS} {a1 : Int32} {r : Int32} (h : m_count st a1 = some r) : Met l y_m_count (Cond.code y_m_count b_m_count 2 (some .int) :: lw_g) (rmL 1 0 0) (mPc G this [.int a1] st) (mQc G this (some (.int r)) st) 0 0 (mFr this) := by
  refine Met.ofM (by decide +kernel) (Nat.le_of_ble_eq_true rfl) ?_
  intro p e s m below meth c ls X hC hl
  have hl : lv_has ls 2 [(0, .ref this), (1, .int a1)] := hl
  generalize (Value.ref this :: [.int a1]).toArray = args at X ⊢
  obtain ⟨hx, hb, hr, hml, hown, hts, hlocks⟩ := id X
  generalize hHH : s.heap = H at hC ⊢
  generalize ([] : List Loc) = locs at hC ⊢
  clear hHH
  unfold m_count at h
  refine lv_iload_n hx hb d_m_count_0 rfl (lv_at hl 1 rfl) ?_
  refine lv_if_lt (tgt := 18) hx hb d_m_count_1 (by decide) (fun c1 => ?_) (fun c1 => ?_)
  · replace h := ifp c1 h
    exact w_m_count_J18 X hC (lv_sub hl [0, 1] rfl) h
  · replace h := ifn c1 h
    refine lv_iload_n hx hb d_m_count_4 rfl (lv_at hl 1 rfl) ?_
    refine lv_iconst (v := 3) hx hb d_m_count_5 (by decide) ?_
    refine lv_icmp_ge (tgt := 18) hx hb d_m_count_6 (by decide) (fun c6 => ?_) (fun c6 => ?_)
    · replace h := ifp c6 h
      exact w_m_count_J18 X hC (lv_sub hl [0, 1] rfl) h
    · replace h := ifn c6 h
      refine lv_aload_n hx hb d_m_count_9 rfl (lv_at hl 0 rfl) ?_
      refine mg_arr X hC 26 (by decide) (by decide) q_699 d_m_count_10 ?_
      refine lv_iload_n hx hb d_m_count_13 rfl (lv_at hl 1 rfl) ?_
      obtain ⟨x1, ex1, h⟩ := obi h
      refine ma_ild X hC 26 (by decide) rfl ex1 d_m_count_14 ?_
      refine lv_goto (tgt := 31) hx hb d_m_count_15 (by decide) ?_
      cases h
      exact mret_i X hC d_m_count_31
end
