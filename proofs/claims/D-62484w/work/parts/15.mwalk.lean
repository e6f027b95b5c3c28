section
variable {p : Program} {l : Launch} {e : Env} {s : State} {m : MethodId} {args : Array Value} {below : List Frame} {meth : Method} {c : Code} {G : MG} {this : Nat}
theorem w_m_settled_J31 {r : Int32} {st : MS} {H : Heap} {locs : List Loc} {ls : Array Slot} (X : jx p s m args meth c b_m_settled 2 (some .boolean) R_M) (hC : mC G this s st H locs) (hl : lv_has ls 2 []) (h : m_settled_J31 st = some r) : W p l e (rmL 0 0 0) s m args below meth c H locs 0 0 (MQ below (mQc G this (some (.int r)) st) args s 0 0 (mFr this)) (F0 m 31 ls []) := by
  obtain ⟨hx, hb, hr, hml, hown, hts, hlocks⟩ := id X
  unfold m_settled_J31 at h
  refine lv_iconst (v := 1) hx hb d_m_settled_31 (by decide) ?_
  refine lv_goto (tgt := 36) hx hb d_m_settled_32 (by decide) ?_
  cases h
  exact mret_z nz_1 X hC d_m_settled_36
theorem c_m_settled (l : Launch) (G : MG) (this : Nat) {st : MS} {a1 : Int32} {r : Int32} (h : m_settled st a1 = some r) : Met l y_m_settled (Cond.code y_m_settled b_m_settled 2 (some .boolean) :: lw_g) (rmL 0 0 0) (mPc G this [.int a1] st) (mQc G this (some (.int r)) st) 0 0 (mFr this) := by
  refine Met.ofM (by decide +kernel) (Nat.le_of_ble_eq_true rfl) ?_
  intro p e s m below meth c ls X hC hl
  have hl : lv_has ls 2 [(0, .ref this), (1, .int a1)] := hl
  generalize (Value.ref this :: [.int a1]).toArray = args at X ⊢
  obtain ⟨hx, hb, hr, hml, hown, hts, hlocks⟩ := id X
  generalize hHH : s.heap = H at hC ⊢
  generalize ([] : List Loc) = locs at hC ⊢
  clear hHH
  unfold m_settled at h
  refine lv_aload_n hx hb d_m_settled_0 rfl (lv_at hl 0 rfl) ?_
  refine mg_arr X hC 5 (by decide) (by decide) q_678 d_m_settled_1 ?_
  refine lv_iload_n hx hb d_m_settled_4 rfl (lv_at hl 1 rfl) ?_
  obtain ⟨x1, ex1, h⟩ := obi h
  refine ma_zld X hC 5 (by decide) rfl ex1 d_m_settled_5 ?_
  refine lv_if_eq (tgt := 31) hx hb d_m_settled_6 (by decide) (fun c6 => ?_) (fun c6 => ?_)
  · replace h := ifp c6 h
    exact w_m_settled_J31 X hC (lv_sub hl [] rfl) h
  · replace h := ifn c6 h
    refine lv_aload_n hx hb d_m_settled_9 rfl (lv_at hl 0 rfl) ?_
    refine mg_arr X hC 15 (by decide) (by decide) q_688 d_m_settled_10 ?_
    refine lv_iload_n hx hb d_m_settled_13 rfl (lv_at hl 1 rfl) ?_
    obtain ⟨x2, ex2, h⟩ := obi h
    refine ma_zld X hC 15 (by decide) rfl ex2 d_m_settled_14 ?_
    refine lv_if_eq (tgt := 35) hx hb d_m_settled_15 (by decide) (fun c15 => ?_) (fun c15 => ?_)
    · replace h := ifp c15 h
      refine lv_iconst (v := 0) hx hb d_m_settled_35 (by decide) ?_
      cases h
      exact mret_z nz_0 X hC d_m_settled_36
    · replace h := ifn c15 h
      refine lv_aload_n hx hb d_m_settled_18 rfl (lv_at hl 0 rfl) ?_
      refine mg_arr X hC 18 (by decide) (by decide) q_691 d_m_settled_19 ?_
      refine lv_iload_n hx hb d_m_settled_22 rfl (lv_at hl 1 rfl) ?_
      obtain ⟨x3, ex3, h⟩ := obi h
      refine ma_ild X hC 18 (by decide) rfl ex3 d_m_settled_23 ?_
      refine lv_aload_n hx hb d_m_settled_24 rfl (lv_at hl 0 rfl) ?_
      refine mg_int X hC 3 (by decide) rfl q_676 d_m_settled_25 ?_
      refine lv_icmp_ne (tgt := 35) hx hb d_m_settled_28 (by decide) (fun c28 => ?_) (fun c28 => ?_)
      · replace h := ifn c28 h
        refine lv_iconst (v := 0) hx hb d_m_settled_35 (by decide) ?_
        cases h
        exact mret_z nz_0 X hC d_m_settled_36
      · replace h := ifp c28 h
        exact w_m_settled_J31 X hC (lv_sub hl [] rfl) h
theorem c_m_durabilityOf (l : Launch) (G : MG) (this : Nat) {st : MS} {a1 : Int32} {r : Int32} (h : m_durabilityOf st a1 = some r) : Met l y_m_durabilityOf (Cond.code y_m_durabilityOf b_m_durabilityOf 2 (some .int) :: lw_g) (rmL 0 0 0) (mPc G this [.int a1] st) (mQc G this (some (.int r)) st) 0 0 (mFr this) := by
  refine Met.ofM (by decide +kernel) (Nat.le_of_ble_eq_true rfl) ?_
  intro p e s m below meth c ls X hC hl
  have hl : lv_has ls 2 [(0, .ref this), (1, .int a1)] := hl
  generalize (Value.ref this :: [.int a1]).toArray = args at X ⊢
  obtain ⟨hx, hb, hr, hml, hown, hts, hlocks⟩ := id X
  generalize hHH : s.heap = H at hC ⊢
  generalize ([] : List Loc) = locs at hC ⊢
  clear hHH
  unfold m_durabilityOf at h
  refine lv_aload_n hx hb d_m_durabilityOf_0 rfl (lv_at hl 0 rfl) ?_
  refine mg_arr X hC 5 (by decide) (by decide) q_678 d_m_durabilityOf_1 ?_
  refine lv_iload_n hx hb d_m_durabilityOf_4 rfl (lv_at hl 1 rfl) ?_
  obtain ⟨x1, ex1, h⟩ := obi h
  refine ma_zld X hC 5 (by decide) rfl ex1 d_m_durabilityOf_5 ?_
  refine lv_if_eq (tgt := 18) hx hb d_m_durabilityOf_6 (by decide) (fun c6 => ?_) (fun c6 => ?_)
  · replace h := ifp c6 h
    refine lv_aload_n hx hb d_m_durabilityOf_18 rfl (lv_at hl 0 rfl) ?_
    refine mg_arr X hC 13 (by decide) (by decide) q_686 d_m_durabilityOf_19 ?_
    refine lv_iload_n hx hb d_m_durabilityOf_22 rfl (lv_at hl 1 rfl) ?_
    obtain ⟨x2, ex2, h⟩ := obi h
    refine ma_ild X hC 13 (by decide) rfl ex2 d_m_durabilityOf_23 ?_
    cases h
    exact mret_i X hC d_m_durabilityOf_24
  · replace h := ifn c6 h
    refine lv_aload_n hx hb d_m_durabilityOf_9 rfl (lv_at hl 0 rfl) ?_
    refine mg_arr X hC 20 (by decide) (by decide) q_693 d_m_durabilityOf_10 ?_
    refine lv_iload_n hx hb d_m_durabilityOf_13 rfl (lv_at hl 1 rfl) ?_
    obtain ⟨x3, ex3, h⟩ := obi h
    refine ma_ild X hC 20 (by decide) rfl ex3 d_m_durabilityOf_14 ?_
    refine lv_goto (tgt := 24) hx hb d_m_durabilityOf_15 (by decide) ?_
    cases h
    exact mret_i X hC d_m_durabilityOf_24
theorem c_m_sinceOf (l : Launch) (G : MG) (this : Nat) {st : MS} {a1 : Int32} {r : Int32} (h : m_sinceOf st a1 = some r) : Met l y_m_sinceOf (Cond.code y_m_sinceOf b_m_sinceOf 2 (some .int) :: lw_g) (rmL 0 0 0) (mPc G this [.int a1] st) (mQc G this (some (.int r)) st) 0 0 (mFr this) := by
  refine Met.ofM (by decide +kernel) (Nat.le_of_ble_eq_true rfl) ?_
  intro p e s m below meth c ls X hC hl
  have hl : lv_has ls 2 [(0, .ref this), (1, .int a1)] := hl
  generalize (Value.ref this :: [.int a1]).toArray = args at X ⊢
  obtain ⟨hx, hb, hr, hml, hown, hts, hlocks⟩ := id X
  generalize hHH : s.heap = H at hC ⊢
  generalize ([] : List Loc) = locs at hC ⊢
  clear hHH
  unfold m_sinceOf at h
  refine lv_aload_n hx hb d_m_sinceOf_0 rfl (lv_at hl 0 rfl) ?_
  refine mg_arr X hC 5 (by decide) (by decide) q_678 d_m_sinceOf_1 ?_
  refine lv_iload_n hx hb d_m_sinceOf_4 rfl (lv_at hl 1 rfl) ?_
  obtain ⟨x1, ex1, h⟩ := obi h
  refine ma_zld X hC 5 (by decide) rfl ex1 d_m_sinceOf_5 ?_
  refine lv_if_eq (tgt := 18) hx hb d_m_sinceOf_6 (by decide) (fun c6 => ?_) (fun c6 => ?_)
  · replace h := ifp c6 h
    refine lv_aload_n hx hb d_m_sinceOf_18 rfl (lv_at hl 0 rfl) ?_
    refine mg_arr X hC 14 (by decide) (by decide) q_687 d_m_sinceOf_19 ?_
    refine lv_iload_n hx hb d_m_sinceOf_22 rfl (lv_at hl 1 rfl) ?_
    obtain ⟨x2, ex2, h⟩ := obi h
    refine ma_ild X hC 14 (by decide) rfl ex2 d_m_sinceOf_23 ?_
    cases h
    exact mret_i X hC d_m_sinceOf_24
  · replace h := ifn c6 h
    refine lv_aload_n hx hb d_m_sinceOf_9 rfl (lv_at hl 0 rfl) ?_
    refine mg_arr X hC 19 (by decide) (by decide) q_692 d_m_sinceOf_10 ?_
    refine lv_iload_n hx hb d_m_sinceOf_13 rfl (lv_at hl 1 rfl) ?_
    obtain ⟨x3, ex3, h⟩ := obi h
    refine ma_ild X hC 19 (by decide) rfl ex3 d_m_sinceOf_14 ?_
    refine lv_goto (tgt := 24) hx hb d_m_sinceOf_15 (by decide) ?_
    cases h
    exact mret_i X hC d_m_sinceOf_24
theorem c_m_start (l : Launch) (G : MG) (this : Nat) {st : MS} {a1 : Int32} {a2 : Int32} {r : MS} (h : m_start st a1 a2 = some r) : Met l y_m_start (Cond.code y_m_start b_m_start 3 none :: lw_g) (rmL 0 0 0) (mPc G this [.int a1, .int a2] st) (mQc G this none r) 0 0 (mFr this) := by
  refine Met.ofM (by decide +kernel) (Nat.le_of_ble_eq_true rfl) ?_
  intro p e s m below meth c ls X hC hl
  have hl : lv_has ls 3 [(0, .ref this), (1, .int a1), (2, .int a2)] := hl
  generalize (Value.ref this :: [.int a1, .int a2]).toArray = args at X ⊢
  obtain ⟨hx, hb, hr, hml, hown, hts, hlocks⟩ := id X
  generalize hHH : s.heap = H at hC ⊢
  generalize ([] : List Loc) = locs at hC ⊢
  clear hHH
  unfold m_start at h
  refine lv_aload_n hx hb d_m_start_0 rfl (lv_at hl 0 rfl) ?_
  refine mg_arr X hC 28 (by decide) (by decide) q_701 d_m_start_1 ?_
  refine lv_aload_n hx hb d_m_start_4 rfl (lv_at hl 0 rfl) ?_
  refine mg_int X hC 27 (by decide) rfl q_700 d_m_start_5 ?_
  refine lv_iload_n hx hb d_m_start_8 rfl (lv_at hl 1 rfl) ?_
  obtain ⟨st1, est1, h⟩ := obi h
  refine ma_ist X hC 28 (by decide) rfl est1 d_m_start_9 (fun H locs hC => ?_)
  refine lv_aload_n hx hb d_m_start_10 rfl (lv_at hl 0 rfl) ?_
  refine mg_arr X hC 29 (by decide) (by decide) q_702 d_m_start_11 ?_
  refine lv_aload_n hx hb d_m_start_14 rfl (lv_at hl 0 rfl) ?_
  refine mg_int X hC 27 (by decide) rfl q_700 d_m_start_15 ?_
  refine lv_iload_n hx hb d_m_start_18 rfl (lv_at hl 2 rfl) ?_
  obtain ⟨st2, est2, h⟩ := obi h
  refine ma_ist X hC 29 (by decide) rfl est2 d_m_start_19 (fun H locs hC => ?_)
  refine lv_aload_n hx hb d_m_start_20 rfl (lv_at hl 0 rfl) ?_
  refine mg_arr X hC 35 (by decide) (by decide) q_708 d_m_start_21 ?_
  refine lv_iload_n hx hb d_m_start_24 rfl (lv_at hl 1 rfl) ?_
  refine lv_iconst (v := 1) hx hb d_m_start_25 (by decide) ?_
  obtain ⟨st3, est3, h⟩ := obi h
  refine ma_zst X hC 35 (by decide) rfl est3 d_m_start_26 (fun H locs hC => ?_)
  refine lv_aload_n hx hb d_m_start_27 rfl (lv_at hl 0 rfl) ?_
  refine lv_dup hx hb d_m_start_28 rfl ?_
  refine mg_int X hC 27 (by decide) rfl q_700 d_m_start_29 ?_
  refine lv_iconst (v := 1) hx hb d_m_start_32 (by decide) ?_
  refine lv_iadd hx hb d_m_start_33 ?_
  obtain ⟨st4, est4, h⟩ := obi h
  refine mp_int X hC 27 (by decide) rfl rfl (by decide +kernel) q_700 est4 d_m_start_34 (fun H locs hC => ?_)
  cases h
  exact mret_v X hC d_m_start_37
theorem c_m_counts (l : Launch) (G : MG) (this : Nat) {st : MS} {a1 : Int32} {a2 : Int32} {r : MS} (h : m_counts st a1 a2 = some r) : Met l y_m_counts (Cond.code y_m_counts b_m_counts 3 none :: lw_g) (rmL 0 0 0) (mPc G this [.int a1, .int a2] st) (mQc G this none r) 0 0 (mFr this) := by
  refine Met.ofM (by decide +kernel) (Nat.le_of_ble_eq_true rfl) ?_
  intro p e s m below meth c ls X hC hl
  have hl : lv_has ls 3 [(0, .ref this), (1, .int a1), (2, .int a2)] := hl
  generalize (Value.ref this :: [.int a1, .int a2]).toArray = args at X ⊢
  obtain ⟨hx, hb, hr, hml, hown, hts, hlocks⟩ := id X
  generalize hHH : s.heap = H at hC ⊢
  generalize ([] : List Loc) = locs at hC ⊢
  clear hHH
  unfold m_counts at h
  refine lv_aload_n hx hb d_m_counts_0 rfl (lv_at hl 0 rfl) ?_
  refine mg_arr X hC 25 (by decide) (by decide) q_698 d_m_counts_1 ?_
  refine lv_iconst (v := 3) hx hb d_m_counts_4 (by decide) ?_
  refine lv_iload_n hx hb d_m_counts_5 rfl (lv_at hl 1 rfl) ?_
  refine lv_imul hx hb d_m_counts_6 ?_
  refine lv_iload_n hx hb d_m_counts_7 rfl (lv_at hl 2 rfl) ?_
  refine lv_iadd hx hb d_m_counts_8 ?_
  refine lv_dup2_11 hx hb d_m_counts_9 rfl rfl ?_
  obtain ⟨x1, ex1, h⟩ := obi h
  refine ma_ild X hC 25 (by decide) rfl ex1 d_m_counts_10 ?_
  refine lv_iconst (v := 1) hx hb d_m_counts_11 (by decide) ?_
  refine lv_iadd hx hb d_m_counts_12 ?_
  obtain ⟨st2, est2, h⟩ := obi h
  refine ma_ist X hC 25 (by decide) rfl est2 d_m_counts_13 (fun H locs hC => ?_)
  refine lv_aload_n hx hb d_m_counts_14 rfl (lv_at hl 0 rfl) ?_
  refine mg_arr X hC 26 (by decide) (by decide) q_699 d_m_counts_15 ?_
  refine lv_iload_n hx hb d_m_counts_18 rfl (lv_at hl 2 rfl) ?_
  refine lv_dup2_11 hx hb d_m_counts_19 rfl rfl ?_
  obtain ⟨x3, ex3, h⟩ := obi h
  refine ma_ild X hC 26 (by decide) rfl ex3 d_m_counts_20 ?_
  refine lv_iconst (v := 1) hx hb d_m_counts_21 (by decide) ?_
  refine lv_iadd hx hb d_m_counts_22 ?_
  obtain ⟨st4, est4, h⟩ := obi h
  refine ma_ist X hC 26 (by decide) rfl est4 d_m_counts_23 (fun H locs hC => ?_)
  cases h
  exact mret_v X hC d_m_counts_24
theorem c_m_finish (l : Launch) (G : MG) (this : Nat) {st : MS} {r : MS} (h : m_finish st = some r) : Met l y_m_finish (Cond.code y_m_finish b_m_finish 1 none :: lw_g) (rmL 0 0 0) (mPc G this [] st) (mQc G this none r) 0 0 (mFr this) := by
  refine Met.ofM (by decide +kernel) (Nat.le_of_ble_eq_true rfl) ?_
  intro p e s m below meth c ls X hC hl
  have hl : lv_has ls 1 [(0, .ref this)] := hl
  generalize (Value.ref this :: []).toArray = args at X ⊢
  obtain ⟨hx, hb, hr, hml, hown, hts, hlocks⟩ := id X
  generalize hHH : s.heap = H at hC ⊢
  generalize ([] : List Loc) = locs at hC ⊢
  clear hHH
  unfold m_finish at h
  refine lv_aload_n hx hb d_m_finish_0 rfl (lv_at hl 0 rfl) ?_
  refine lv_dup hx hb d_m_finish_1 rfl ?_
  refine mg_int X hC 27 (by decide) rfl q_700 d_m_finish_2 ?_
  refine lv_iconst (v := 1) hx hb d_m_finish_5 (by decide) ?_
  refine lv_isub hx hb d_m_finish_6 ?_
  obtain ⟨st1, est1, h⟩ := obi h
  refine mp_int X hC 27 (by decide) rfl rfl (by decide +kernel) q_700 est1 d_m_finish_7 (fun H locs hC => ?_)
  refine lv_aload_n hx hb d_m_finish_10 rfl (lv_at hl 0 rfl) ?_
  refine mg_arr X hC 35 (by decide) (by decide) q_708 d_m_finish_11 ?_
  refine lv_aload_n hx hb d_m_finish_14 rfl (lv_at hl 0 rfl) ?_
  refine mg_arr X hC 28 (by decide) (by decide) q_701 d_m_finish_15 ?_
  refine lv_aload_n hx hb d_m_finish_18 rfl (lv_at hl 0 rfl) ?_
  refine mg_int X hC 27 (by decide) rfl q_700 d_m_finish_19 ?_
  obtain ⟨x2, ex2, h⟩ := obi h
  refine ma_ild X hC 28 (by decide) rfl ex2 d_m_finish_22 ?_
  refine lv_iconst (v := 0) hx hb d_m_finish_23 (by decide) ?_
  obtain ⟨st3, est3, h⟩ := obi h
  refine ma_zst X hC 35 (by decide) rfl est3 d_m_finish_24 (fun H locs hC => ?_)
  cases h
  exact mret_v X hC d_m_finish_25
theorem c_m_use (l : Launch) (G : MG) (this : Nat) {st : MS} {a1 : Int32} {r : MS} (h : m_use st a1 = some r) : Met l y_m_use (Cond.code y_m_use b_m_use 2 none :: lw_g) (rmL 0 0 0) (mPc G this [.int a1] st) (mQc G this none r) 0 0 (mFr this) := by
  refine Met.ofM (by decide +kernel) (Nat.le_of_ble_eq_true rfl) ?_
  intro p e s m below meth c ls X hC hl
  have hl : lv_has ls 2 [(0, .ref this), (1, .int a1)] := hl
  generalize (Value.ref this :: [.int a1]).toArray = args at X ⊢
  obtain ⟨hx, hb, hr, hml, hown, hts, hlocks⟩ := id X
  generalize hHH : s.heap = H at hC ⊢
  generalize ([] : List Loc) = locs at hC ⊢
  clear hHH
  unfold m_use at h
  refine lv_aload_n hx hb d_m_use_0 rfl (lv_at hl 0 rfl) ?_
  refine lv_dup hx hb d_m_use_1 rfl ?_
  refine mg_int X hC 24 (by decide) rfl q_697 d_m_use_2 ?_
  refine lv_iconst (v := 1) hx hb d_m_use_5 (by decide) ?_
  refine lv_iadd hx hb d_m_use_6 ?_
  obtain ⟨st1, est1, h⟩ := obi h
  refine mp_int X hC 24 (by decide) rfl rfl (by decide +kernel) q_697 est1 d_m_use_7 (fun H locs hC => ?_)
  refine lv_aload_n hx hb d_m_use_10 rfl (lv_at hl 0 rfl) ?_
  refine mg_arr X hC 23 (by decide) (by decide) q_696 d_m_use_11 ?_
  refine lv_iload_n hx hb d_m_use_14 rfl (lv_at hl 1 rfl) ?_
  refine lv_aload_n hx hb d_m_use_15 rfl (lv_at hl 0 rfl) ?_
  refine mg_int X hC 24 (by decide) rfl q_697 d_m_use_16 ?_
  obtain ⟨st2, est2, h⟩ := obi h
  refine ma_ist X hC 23 (by decide) rfl est2 d_m_use_19 (fun H locs hC => ?_)
  cases h
  exact mret_v X hC d_m_use_20
theorem w_m_enter_J91 {r : MS} {st : MS} {s0 : Int32} {s1 : Int32} {H : Heap} {locs : List Loc} {ls : Array Slot} (X : jx p s m args meth c b_m_enter 3 none R_M) (hC : mC G this s st H locs) (hl : lv_has ls 3 []) (h : m_enter_J91 st s0 s1 = some r) : W p l e (rmL 1 0 0) s m args below meth c H locs 0 0 (MQ below (mQc G this none r) args s 0 0 (mFr this)) (F0 m 91 ls [.int s0, .int s1, .ref (this + mo 29)]) := by
  obtain ⟨hx, hb, hr, hml, hown, hts, hlocks⟩ := id X
  unfold m_enter_J91 at h
  obtain ⟨st1, est1, h⟩ := obi h
  refine ma_ist X hC 29 (by decide) rfl est1 d_m_enter_91 (fun H locs hC => ?_)
  cases h
  exact mret_v X hC d_m_enter_92
theorem w_m_enter_J90 {r : MS} {st : MS} {s0 : Int32} {H : Heap} {locs : List Loc} {ls : Array Slot} (X : jx p s m args meth c b_m_enter 3 none R_M) (hC : mC G this s st H locs) (hl : lv_has ls 3 []) (h : m_enter_J90 st s0 = some r) : W p l e (rmL 1 0 0) s m args below meth c H locs 0 0 (MQ below (mQc G this none r) args s 0 0 (mFr this)) (F0 m 90 ls [.int s0, .ref (this + mo 29)]) := by
  obtain ⟨hx, hb, hr, hml, hown, hts, hlocks⟩ := id X
  unfold m_enter_J90 at h
  refine lv_iconst (v := 2) hx hb d_m_enter_90 (by decide) ?_
  exact w_m_enter_J91 X hC (lv_sub hl [] rfl) h
theorem w_m_enter_J50 {r : MS} {st : MS} {l1 : Int32} {l2 : Int32} {H : Heap} {locs : List Loc} {ls : Array Slot} (X : jx p s m args meth c b_m_enter 3 none R_M) (hC : mC G this s st H locs) (hl : lv_has ls 3 [(0, .ref this), (1, .int l1), (2, .int l2)]) (h : m_enter_J50 st l1 l2 = some r) : W p l e (rmL 1 0 0) s m args below meth c H locs 0 0 (MQ below (mQc G this none r) args s 0 0 (mFr this)) (F0 m 50 ls []) := by
  obtain ⟨hx, hb, hr, hml, hown, hts, hlocks⟩ := id X
  unfold m_enter_J50 at h
  refine lv_aload_n hx hb d_m_enter_50 rfl (lv_at hl 0 rfl) ?_
  refine mg_arr X hC 30 (by decide) (by decide) q_703 d_m_enter_51 ?_
  refine lv_iload_n hx hb d_m_enter_54 rfl (lv_at hl 1 rfl) ?_
  refine lv_iconst (v := 0) hx hb d_m_enter_55 (by decide) ?_
  obtain ⟨st1, est1, h⟩ := obi h
  refine ma_ist X hC 30 (by decide) rfl est1 d_m_enter_56 (fun H locs hC => ?_)
  refine lv_aload_n hx hb d_m_enter_57 rfl (lv_at hl 0 rfl) ?_
  refine mg_arr X hC 29 (by decide) (by decide) q_702 d_m_enter_58 ?_
  refine lv_iload_n hx hb d_m_enter_61 rfl (lv_at hl 1 rfl) ?_
  refine lv_aload_n hx hb d_m_enter_62 rfl (lv_at hl 0 rfl) ?_
  refine mg_arr X hC 15 (by decide) (by decide) q_688 d_m_enter_63 ?_
  refine lv_iload_n hx hb d_m_enter_66 rfl (lv_at hl 2 rfl) ?_
  obtain ⟨x2, ex2, h⟩ := obi h
  refine ma_zld X hC 15 (by decide) rfl ex2 d_m_enter_67 ?_
  refine lv_if_eq (tgt := 90) hx hb d_m_enter_68 (by decide) (fun c68 => ?_) (fun c68 => ?_)
  · replace h := ifp c68 h
    exact w_m_enter_J90 X hC (lv_sub hl [] rfl) h
  · replace h := ifn c68 h
    refine lv_aload_n hx hb d_m_enter_71 rfl (lv_at hl 0 rfl) ?_
    refine mg_arr X hC 11 (by decide) (by decide) q_684 d_m_enter_72 ?_
    refine lv_iload_n hx hb d_m_enter_75 rfl (lv_at hl 2 rfl) ?_
    obtain ⟨x3, ex3, h⟩ := obi h
    refine ma_ild X hC 11 (by decide) rfl ex3 d_m_enter_76 ?_
    refine lv_aload_n hx hb d_m_enter_77 rfl (lv_at hl 0 rfl) ?_
    refine mg_arr X hC 18 (by decide) (by decide) q_691 d_m_enter_78 ?_
    refine lv_iload_n hx hb d_m_enter_81 rfl (lv_at hl 2 rfl) ?_
    obtain ⟨x4, ex4, h⟩ := obi h
    refine ma_ild X hC 18 (by decide) rfl ex4 d_m_enter_82 ?_
    refine lv_icmp_gt (tgt := 90) hx hb d_m_enter_83 (by decide) (fun c83 => ?_) (fun c83 => ?_)
    · replace h := ifp c83 h
      exact w_m_enter_J90 X hC (lv_sub hl [] rfl) h
    · replace h := ifn c83 h
      refine lv_iconst (v := 1) hx hb d_m_enter_86 (by decide) ?_
      refine lv_goto (tgt := 91) hx hb d_m_enter_87 (by decide) ?_
      exact w_m_enter_J91 X hC (lv_sub hl [] rfl) h
theorem c_m_enter (l : Launch) (G : MG) (this : Nat) {st : MS} {a1 : Int32} {a2 : Int32} {r : MS} (h : m_enter st a1 a2 = some r) : Met l y_m_enter (Cond.code y_m_enter b_m_enter 3 none :: lw_g) (rmL 1 0 0) (mPc G this [.int a1, .int a2] st) (mQc G this none r) 0 0 (mFr this) := by
  refine Met.ofM (by decide +kernel) (Nat.le_of_ble_eq_true rfl) ?_
  intro p e s m below meth c ls X hC hl
  have hl : lv_has ls 3 [(0, .ref this), (1, .int a1), (2, .int a2)] := hl
  generalize (Value.ref this :: [.int a1, .int a2]).toArray = args at X ⊢
  obtain ⟨hx, hb, hr, hml, hown, hts, hlocks⟩ := id X
  generalize hHH : s.heap = H at hC ⊢
  generalize ([] : List Loc) = locs at hC ⊢
  clear hHH
  unfold m_enter at h
  refine lv_aload_n hx hb d_m_enter_0 rfl (lv_at hl 0 rfl) ?_
  refine mg_arr X hC 15 (by decide) (by decide) q_688 d_m_enter_1 ?_
  refine lv_iload_n hx hb d_m_enter_4 rfl (lv_at hl 2 rfl) ?_
  obtain ⟨x1, ex1, h⟩ := obi h
  refine ma_zld X hC 15 (by decide) rfl ex1 d_m_enter_5 ?_
  refine lv_if_eq (tgt := 50) hx hb d_m_enter_6 (by decide) (fun c6 => ?_) (fun c6 => ?_)
  · replace h := ifp c6 h
    exact w_m_enter_J50 X hC (lv_sub hl [0, 1, 2] rfl) h
  · replace h := ifn c6 h
    refine lv_aload_n hx hb d_m_enter_9 rfl (lv_at hl 0 rfl) ?_
    refine mg_arr X hC 4 (by decide) (by decide) q_677 d_m_enter_10 ?_
    refine lv_aload_n hx hb d_m_enter_13 rfl (lv_at hl 0 rfl) ?_
    refine mg_arr X hC 20 (by decide) (by decide) q_693 d_m_enter_14 ?_
    refine lv_iload_n hx hb d_m_enter_17 rfl (lv_at hl 2 rfl) ?_
    obtain ⟨x2, ex2, h⟩ := obi h
    refine ma_ild X hC 20 (by decide) rfl ex2 d_m_enter_18 ?_
    obtain ⟨x3, ex3, h⟩ := obi h
    refine ma_ild X hC 4 (by decide) rfl ex3 d_m_enter_19 ?_
    refine lv_aload_n hx hb d_m_enter_20 rfl (lv_at hl 0 rfl) ?_
    refine mg_arr X hC 18 (by decide) (by decide) q_691 d_m_enter_21 ?_
    refine lv_iload_n hx hb d_m_enter_24 rfl (lv_at hl 2 rfl) ?_
    obtain ⟨x4, ex4, h⟩ := obi h
    refine ma_ild X hC 18 (by decide) rfl ex4 d_m_enter_25 ?_
    refine lv_icmp_gt (tgt := 50) hx hb d_m_enter_26 (by decide) (fun c26 => ?_) (fun c26 => ?_)
    · replace h := ifp c26 h
      exact w_m_enter_J50 X hC (lv_sub hl [0, 1, 2] rfl) h
    · replace h := ifn c26 h
      refine lv_aload_n hx hb d_m_enter_29 rfl (lv_at hl 0 rfl) ?_
      refine lv_iload_n hx hb d_m_enter_30 rfl (lv_at hl 2 rfl) ?_
      refine lv_iconst (v := 2) hx hb d_m_enter_31 (by decide) ?_
      obtain ⟨st5, est5, h⟩ := obi h
      refine mcallV_v X hC (c_m_counts l G this est5) q_897 q_899 q_p37 q_8 q_900 ok_m_counts rfl ⟨by decide, by decide⟩ hl.1 rfl (Nat.le_of_ble_eq_true rfl) d_m_enter_32 ⟨Nat.zero_le _, Nat.zero_le _⟩ (fun H locs hC => ?_)
      refine lv_aload_n hx hb d_m_enter_35 rfl (lv_at hl 0 rfl) ?_
      refine mg_arr X hC 18 (by decide) (by decide) q_691 d_m_enter_36 ?_
      refine lv_iload_n hx hb d_m_enter_39 rfl (lv_at hl 2 rfl) ?_
      refine lv_aload_n hx hb d_m_enter_40 rfl (lv_at hl 0 rfl) ?_
      refine mg_int X hC 3 (by decide) rfl q_676 d_m_enter_41 ?_
      obtain ⟨st6, est6, h⟩ := obi h
      refine ma_ist X hC 18 (by decide) rfl est6 d_m_enter_44 (fun H locs hC => ?_)
      refine lv_aload_n hx hb d_m_enter_45 rfl (lv_at hl 0 rfl) ?_
      obtain ⟨st7, est7, h⟩ := obi h
      refine mcallV_v X hC (c_m_finish l G this est7) q_901 q_903 q_p38 q_8 q_904 ok_m_finish rfl ⟨by decide, by decide⟩ hl.1 rfl (Nat.le_of_ble_eq_true rfl) d_m_enter_46 ⟨Nat.zero_le _, Nat.zero_le _⟩ (fun H locs hC => ?_)
      cases h
      exact mret_v X hC d_m_enter_49
theorem w_m_lookThrough_J87 {r : MS} {st : MS} {l2 : Int32} {l4 : Int32} {s0 : Int32} {k_36 : MS → Int32 → Int32 → Int32 → Option MS} {H : Heap} {locs : List Loc} {ls : Array Slot} (X : jx p s m args meth c b_m_lookThrough 5 none R_M) (hC : mC G this s st H locs) (hl : lv_has ls 5 [(0, .ref this), (2, .int l2), (4, .int l4)]) (hk_36 : ∀ (st : MS) (l2 : Int32) (l3 : Int32) (l4 : Int32) (H : Heap) (locs : List Loc) (ls : Array Slot), k_36 st l2 l3 l4 = some r → mC G this s st H locs → lv_has ls 5 [(0, .ref this), (2, .int l2), (3, .int l3), (4, .int l4)] → W p l e (rmL 1 0 0) s m args below meth c H locs 0 0 (MQ below (mQc G this none r) args s 0 0 (mFr this)) (F0 m 36 ls [])) (h : m_lookThrough_J87 k_36 st l2 l4 s0 = some r) : W p l e (rmL 1 0 0) s m args below meth c H locs 0 0 (MQ below (mQc G this none r) args s 0 0 (mFr this)) (F0 m 87 ls [.int s0]) := by
  obtain ⟨hx, hb, hr, hml, hown, hts, hlocks⟩ := id X
  unfold m_lookThrough_J87 at h
  refine lv_istore_n (lv' := [(3, .int s0), (0, .ref this), (2, .int l2), (4, .int l4)]) hx hb d_m_lookThrough_87 rfl hl (by decide) rfl (fun ls hl => ?_)
  obtain ⟨x1, ex1, h⟩ := obi h
  refine lv_iinc (v := x1) (lv' := [(4, .int x1), (3, .int s0), (0, .ref this), (2, .int l2)]) hx hb d_m_lookThrough_88 hl (k := 3) rfl (Option.some.inj ex1) (by decide) rfl (fun ls hl => ?_)
  refine lv_goto (tgt := 36) hx hb d_m_lookThrough_91 (by decide) ?_
  exact hk_36 _ _ _ _ _ _ _ h hC (lv_sub hl [2, 3, 1, 0] rfl)
theorem w_m_lookThrough_L36 {r : MS} (X : jx p s m args meth c b_m_lookThrough 5 none R_M) : ∀ (n : Nat), ∀ (st : MS) (l2 : Int32) (l3 : Int32) (l4 : Int32) (H : Heap) (locs : List Loc) (ls : Array Slot), m_lookThrough_L36 n st l2 l3 l4 = some r → mC G this s st H locs → lv_has ls 5 [(0, .ref this), (2, .int l2), (3, .int l3), (4, .int l4)] → W p l e (rmL 1 0 0) s m args below meth c H locs 0 0 (MQ below (mQc G this none r) args s 0 0 (mFr this)) (F0 m 36 ls []) := by
  obtain ⟨hx, hb, hr, hml, hown, hts, hlocks⟩ := id X
  intro n
  induction n with
  | zero => intro st l2 l3 l4 H locs ls h hC hl; exact absurd h (by simp [m_lookThrough_L36])
  | succ n ih =>
    intro st l2 l3 l4 H locs ls h hC hl
    rw [m_lookThrough_L36] at h
    refine lv_iload hx hb d_m_lookThrough_36 (lv_at hl 3 rfl) ?_
    refine lv_aload_n hx hb d_m_lookThrough_38 rfl (lv_at hl 0 rfl) ?_
    refine mg_arr X hC 21 (by decide) (by decide) q_694 d_m_lookThrough_39 ?_
    refine lv_iload_n hx hb d_m_lookThrough_42 rfl (lv_at hl 1 rfl) ?_
    obtain ⟨x1, ex1, h⟩ := obi h
    refine ma_ild X hC 21 (by decide) rfl ex1 d_m_lookThrough_43 ?_
    refine lv_icmp_ge (tgt := 94) hx hb d_m_lookThrough_44 (by decide) (fun c44 => ?_) (fun c44 => ?_)
    · replace h := ifp c44 h
      refine lv_aload_n hx hb d_m_lookThrough_94 rfl (lv_at hl 0 rfl) ?_
      refine mg_arr X hC 20 (by decide) (by decide) q_693 d_m_lookThrough_95 ?_
      refine lv_iload_n hx hb d_m_lookThrough_98 rfl (lv_at hl 1 rfl) ?_
      refine lv_iload_n hx hb d_m_lookThrough_99 rfl (lv_at hl 2 rfl) ?_
      obtain ⟨st2, est2, h⟩ := obi h
      refine ma_ist X hC 20 (by decide) rfl est2 d_m_lookThrough_100 (fun H locs hC => ?_)
      refine lv_aload_n hx hb d_m_lookThrough_101 rfl (lv_at hl 0 rfl) ?_
      obtain ⟨st3, est3, h⟩ := obi h
      refine mcallV_v X hC (c_m_finish l G this est3) q_901 q_903 q_p38 q_8 q_904 ok_m_finish rfl ⟨by decide, by decide⟩ hl.1 rfl (Nat.le_of_ble_eq_true rfl) d_m_lookThrough_102 ⟨Nat.zero_le _, Nat.zero_le _⟩ (fun H locs hC => ?_)
      cases h
      exact mret_v X hC d_m_lookThrough_105
    · replace h := ifn c44 h
      refine lv_aload_n hx hb d_m_lookThrough_47 rfl (lv_at hl 0 rfl) ?_
      refine lv_aload_n hx hb d_m_lookThrough_48 rfl (lv_at hl 0 rfl) ?_
      refine mg_arr X hC 22 (by decide) (by decide) q_695 d_m_lookThrough_49 ?_
      refine lv_bipush (v := 12) hx hb d_m_lookThrough_52 (by decide) ?_
      refine lv_iload_n hx hb d_m_lookThrough_54 rfl (lv_at hl 1 rfl) ?_
      refine lv_imul hx hb d_m_lookThrough_55 ?_
      refine lv_iload hx hb d_m_lookThrough_56 (lv_at hl 3 rfl) ?_
      refine lv_iadd hx hb d_m_lookThrough_58 ?_
      obtain ⟨x4, ex4, h⟩ := obi h
      refine ma_ild X hC 22 (by decide) rfl ex4 d_m_lookThrough_59 ?_
      obtain ⟨x5, ex5, h⟩ := obi h
      refine mcallV_i X hC (c_m_durabilityOf l G this ex5) q_909 q_911 q_p40 q_8 q_912 ok_m_durabilityOf rfl ⟨by decide, by decide⟩ hl.1 rfl (Nat.le_of_ble_eq_true rfl) d_m_lookThrough_60 ⟨Nat.zero_le _, Nat.zero_le _⟩ (fun H locs hC => ?_)
      refine lv_iload_n hx hb d_m_lookThrough_63 rfl (lv_at hl 2 rfl) ?_
      refine lv_icmp_ge (tgt := 86) hx hb d_m_lookThrough_64 (by decide) (fun c64 => ?_) (fun c64 => ?_)
      · replace h := ifp c64 h
        refine lv_iload_n hx hb d_m_lookThrough_86 rfl (lv_at hl 2 rfl) ?_
        exact w_m_lookThrough_J87 X hC (lv_sub hl [0, 1, 3] rfl) ih h
      · replace h := ifn c64 h
        refine lv_aload_n hx hb d_m_lookThrough_67 rfl (lv_at hl 0 rfl) ?_
        refine lv_aload_n hx hb d_m_lookThrough_68 rfl (lv_at hl 0 rfl) ?_
        refine mg_arr X hC 22 (by decide) (by decide) q_695 d_m_lookThrough_69 ?_
        refine lv_bipush (v := 12) hx hb d_m_lookThrough_72 (by decide) ?_
        refine lv_iload_n hx hb d_m_lookThrough_74 rfl (lv_at hl 1 rfl) ?_
        refine lv_imul hx hb d_m_lookThrough_75 ?_
        refine lv_iload hx hb d_m_lookThrough_76 (lv_at hl 3 rfl) ?_
        refine lv_iadd hx hb d_m_lookThrough_78 ?_
        obtain ⟨x6, ex6, h⟩ := obi h
        refine ma_ild X hC 22 (by decide) rfl ex6 d_m_lookThrough_79 ?_
        obtain ⟨x7, ex7, h⟩ := obi h
        refine mcallV_i X hC (c_m_durabilityOf l G this ex7) q_909 q_911 q_p40 q_8 q_912 ok_m_durabilityOf rfl ⟨by decide, by decide⟩ hl.1 rfl (Nat.le_of_ble_eq_true rfl) d_m_lookThrough_80 ⟨Nat.zero_le _, Nat.zero_le _⟩ (fun H locs hC => ?_)
        refine lv_goto (tgt := 87) hx hb d_m_lookThrough_83 (by decide) ?_
        exact w_m_lookThrough_J87 X hC (lv_sub hl [0, 1, 3] rfl) ih h
theorem c_m_lookThrough (l : Launch) (G : MG) (this : Nat) {st : MS} {a1 : Int32} {a2 : Int32} {r : MS} (h : m_lookThrough st a1 a2 = some r) : Met l y_m_lookThrough (Cond.code y_m_lookThrough b_m_lookThrough 5 none :: lw_g) (rmL 1 0 0) (mPc G this [.int a1, .int a2] st) (mQc G this none r) 0 0 (mFr this) := by
  refine Met.ofM (by decide +kernel) (Nat.le_of_ble_eq_true rfl) ?_
  intro p e s m below meth c ls X hC hl
  have hl : lv_has ls 5 [(0, .ref this), (1, .int a1), (2, .int a2)] := hl
  generalize (Value.ref this :: [.int a1, .int a2]).toArray = args at X ⊢
  obtain ⟨hx, hb, hr, hml, hown, hts, hlocks⟩ := id X
  generalize hHH : s.heap = H at hC ⊢
  generalize ([] : List Loc) = locs at hC ⊢
  clear hHH
  unfold m_lookThrough at h
  refine lv_aload_n hx hb d_m_lookThrough_0 rfl (lv_at hl 0 rfl) ?_
  refine mg_arr X hC 30 (by decide) (by decide) q_703 d_m_lookThrough_1 ?_
  refine lv_iload_n hx hb d_m_lookThrough_4 rfl (lv_at hl 1 rfl) ?_
  obtain ⟨x1, ex1, h⟩ := obi h
  refine ma_ild X hC 30 (by decide) rfl ex1 d_m_lookThrough_5 ?_
  refine lv_aload_n hx hb d_m_lookThrough_6 rfl (lv_at hl 0 rfl) ?_
  refine mg_arr X hC 21 (by decide) (by decide) q_694 d_m_lookThrough_7 ?_
  refine lv_iload_n hx hb d_m_lookThrough_10 rfl (lv_at hl 2 rfl) ?_
  obtain ⟨x2, ex2, h⟩ := obi h
  refine ma_ild X hC 21 (by decide) rfl ex2 d_m_lookThrough_11 ?_
  refine lv_icmp_ne (tgt := 106) hx hb d_m_lookThrough_12 (by decide) (fun c12 => ?_) (fun c12 => ?_)
  · replace h := ifn c12 h
    refine lv_aload_n hx hb d_m_lookThrough_106 rfl (lv_at hl 0 rfl) ?_
    refine mg_arr X hC 22 (by decide) (by decide) q_695 d_m_lookThrough_107 ?_
    refine lv_bipush (v := 12) hx hb d_m_lookThrough_110 (by decide) ?_
    refine lv_iload_n hx hb d_m_lookThrough_112 rfl (lv_at hl 2 rfl) ?_
    refine lv_imul hx hb d_m_lookThrough_113 ?_
    refine lv_aload_n hx hb d_m_lookThrough_114 rfl (lv_at hl 0 rfl) ?_
    refine mg_arr X hC 30 (by decide) (by decide) q_703 d_m_lookThrough_115 ?_
    refine lv_iload_n hx hb d_m_lookThrough_118 rfl (lv_at hl 1 rfl) ?_
    obtain ⟨x3, ex3, h⟩ := obi h
    refine ma_ild X hC 30 (by decide) rfl ex3 d_m_lookThrough_119 ?_
    refine lv_iadd hx hb d_m_lookThrough_120 ?_
    obtain ⟨x4, ex4, h⟩ := obi h
    refine ma_ild X hC 22 (by decide) rfl ex4 d_m_lookThrough_121 ?_
    refine lv_istore_n (lv' := [(3, .int x4), (0, .ref this), (1, .int a1), (2, .int a2)]) hx hb d_m_lookThrough_122 rfl hl (by decide) rfl (fun ls hl => ?_)
    refine lv_aload_n hx hb d_m_lookThrough_123 rfl (lv_at hl 1 rfl) ?_
    refine mg_arr X hC 35 (by decide) (by decide) q_708 d_m_lookThrough_124 ?_
    refine lv_iload_n hx hb d_m_lookThrough_127 rfl (lv_at hl 0 rfl) ?_
    obtain ⟨x5, ex5, h⟩ := obi h
    refine ma_zld X hC 35 (by decide) rfl ex5 d_m_lookThrough_128 ?_
    refine lv_if_eq (tgt := 142) hx hb d_m_lookThrough_129 (by decide) (fun c129 => ?_) (fun c129 => ?_)
    · replace h := ifp c129 h
      refine lv_aload_n hx hb d_m_lookThrough_142 rfl (lv_at hl 1 rfl) ?_
      refine lv_iload_n hx hb d_m_lookThrough_143 rfl (lv_at hl 0 rfl) ?_
      obtain ⟨x6, ex6, h⟩ := obi h
      refine mcallV_i X hC (c_m_settled l G this ex6) q_881 q_883 q_p33 q_8 q_884 ok_m_settled rfl ⟨by decide, by decide⟩ hl.1 rfl (Nat.le_of_ble_eq_true rfl) d_m_lookThrough_144 ⟨Nat.zero_le _, Nat.zero_le _⟩ (fun H locs hC => ?_)
      refine lv_if_ne (tgt := 159) hx hb d_m_lookThrough_147 (by decide) (fun c147 => ?_) (fun c147 => ?_)
      · replace h := ifn c147 h
        refine lv_aload_n hx hb d_m_lookThrough_159 rfl (lv_at hl 1 rfl) ?_
        refine lv_iload_n hx hb d_m_lookThrough_160 rfl (lv_at hl 0 rfl) ?_
        obtain ⟨x7, ex7, h⟩ := obi h
        refine mcallV_i X hC (c_m_sinceOf l G this ex7) q_913 q_915 q_p41 q_8 q_916 ok_m_sinceOf rfl ⟨by decide, by decide⟩ hl.1 rfl (Nat.le_of_ble_eq_true rfl) d_m_lookThrough_161 ⟨Nat.zero_le _, Nat.zero_le _⟩ (fun H locs hC => ?_)
        refine lv_aload_n hx hb d_m_lookThrough_164 rfl (lv_at hl 1 rfl) ?_
        refine mg_arr X hC 18 (by decide) (by decide) q_691 d_m_lookThrough_165 ?_
        refine lv_iload_n hx hb d_m_lookThrough_168 rfl (lv_at hl 3 rfl) ?_
        obtain ⟨x8, ex8, h⟩ := obi h
        refine ma_ild X hC 18 (by decide) rfl ex8 d_m_lookThrough_169 ?_
        refine lv_icmp_le (tgt := 183) hx hb d_m_lookThrough_170 (by decide) (fun c170 => ?_) (fun c170 => ?_)
        · replace h := ifp c170 h
          refine lv_aload_n hx hb d_m_lookThrough_183 rfl (lv_at hl 1 rfl) ?_
          refine mg_arr X hC 30 (by decide) (by decide) q_703 d_m_lookThrough_184 ?_
          refine lv_iload_n hx hb d_m_lookThrough_187 rfl (lv_at hl 2 rfl) ?_
          refine lv_dup2_11 hx hb d_m_lookThrough_188 rfl rfl ?_
          obtain ⟨x9, ex9, h⟩ := obi h
          refine ma_ild X hC 30 (by decide) rfl ex9 d_m_lookThrough_189 ?_
          refine lv_iconst (v := 1) hx hb d_m_lookThrough_190 (by decide) ?_
          refine lv_iadd hx hb d_m_lookThrough_191 ?_
          obtain ⟨st10, est10, h⟩ := obi h
          refine ma_ist X hC 30 (by decide) rfl est10 d_m_lookThrough_192 (fun H locs hC => ?_)
          cases h
          exact mret_v X hC d_m_lookThrough_193
        · replace h := ifn c170 h
          refine lv_aload_n hx hb d_m_lookThrough_173 rfl (lv_at hl 1 rfl) ?_
          refine mg_arr X hC 29 (by decide) (by decide) q_702 d_m_lookThrough_174 ?_
          refine lv_iload_n hx hb d_m_lookThrough_177 rfl (lv_at hl 2 rfl) ?_
          refine lv_iconst (v := 2) hx hb d_m_lookThrough_178 (by decide) ?_
          obtain ⟨st11, est11, h⟩ := obi h
          refine ma_ist X hC 29 (by decide) rfl est11 d_m_lookThrough_179 (fun H locs hC => ?_)
          refine lv_goto (tgt := 193) hx hb d_m_lookThrough_180 (by decide) ?_
          cases h
          exact mret_v X hC d_m_lookThrough_193
      · replace h := ifp c147 h
        refine lv_aload_n hx hb d_m_lookThrough_150 rfl (lv_at hl 1 rfl) ?_
        refine lv_iload_n hx hb d_m_lookThrough_151 rfl (lv_at hl 0 rfl) ?_
        refine lv_iconst (v := 0) hx hb d_m_lookThrough_152 (by decide) ?_
        obtain ⟨st12, est12, h⟩ := obi h
        refine mcallV_v X hC (c_m_start l G this est12) q_885 q_887 q_p34 q_8 q_888 ok_m_start rfl ⟨by decide, by decide⟩ hl.1 rfl (Nat.le_of_ble_eq_true rfl) d_m_lookThrough_153 ⟨Nat.zero_le _, Nat.zero_le _⟩ (fun H locs hC => ?_)
        refine lv_goto (tgt := 193) hx hb d_m_lookThrough_156 (by decide) ?_
        cases h
        exact mret_v X hC d_m_lookThrough_193
    · replace h := ifn c129 h
      refine lv_aload_n hx hb d_m_lookThrough_132 rfl (lv_at hl 1 rfl) ?_
      refine mg_arr X hC 29 (by decide) (by decide) q_702 d_m_lookThrough_133 ?_
      refine lv_iload_n hx hb d_m_lookThrough_136 rfl (lv_at hl 2 rfl) ?_
      refine lv_iconst (v := 2) hx hb d_m_lookThrough_137 (by decide) ?_
      obtain ⟨st13, est13, h⟩ := obi h
      refine ma_ist X hC 29 (by decide) rfl est13 d_m_lookThrough_138 (fun H locs hC => ?_)
      refine lv_goto (tgt := 193) hx hb d_m_lookThrough_139 (by decide) ?_
      cases h
      exact mret_v X hC d_m_lookThrough_193
  · replace h := ifp c12 h
    refine lv_aload_n hx hb d_m_lookThrough_15 rfl (lv_at hl 0 rfl) ?_
    refine lv_iload_n hx hb d_m_lookThrough_16 rfl (lv_at hl 2 rfl) ?_
    refine lv_iconst (v := 1) hx hb d_m_lookThrough_17 (by decide) ?_
    obtain ⟨st14, est14, h⟩ := obi h
    refine mcallV_v X hC (c_m_counts l G this est14) q_897 q_899 q_p37 q_8 q_900 ok_m_counts rfl ⟨by decide, by decide⟩ hl.1 rfl (Nat.le_of_ble_eq_true rfl) d_m_lookThrough_18 ⟨Nat.zero_le _, Nat.zero_le _⟩ (fun H locs hC => ?_)
    refine lv_aload_n hx hb d_m_lookThrough_21 rfl (lv_at hl 0 rfl) ?_
    refine mg_arr X hC 18 (by decide) (by decide) q_691 d_m_lookThrough_22 ?_
    refine lv_iload_n hx hb d_m_lookThrough_25 rfl (lv_at hl 2 rfl) ?_
    refine lv_aload_n hx hb d_m_lookThrough_26 rfl (lv_at hl 0 rfl) ?_
    refine mg_int X hC 3 (by decide) rfl q_676 d_m_lookThrough_27 ?_
    obtain ⟨st15, est15, h⟩ := obi h
    refine ma_ist X hC 18 (by decide) rfl est15 d_m_lookThrough_30 (fun H locs hC => ?_)
    refine lv_iconst (v := 2) hx hb d_m_lookThrough_31 (by decide) ?_
    refine lv_istore_n (lv' := [(3, .int 2), (0, .ref this), (1, .int a1), (2, .int a2)]) hx hb d_m_lookThrough_32 rfl hl (by decide) rfl (fun ls hl => ?_)
    refine lv_iconst (v := 0) hx hb d_m_lookThrough_33 (by decide) ?_
    refine lv_istore (lv' := [(4, .int 0), (3, .int 2), (0, .ref this), (1, .int a1), (2, .int a2)]) hx hb d_m_lookThrough_34 hl (by decide) rfl (fun ls hl => ?_)
    exact w_m_lookThrough_L36 X 1000 _ _ _ _ _ _ _ h hC (lv_sub hl [2, 4, 1, 0] rfl)
theorem w_m_worked_J175 {r : MS} {st : MS} {l1 : Int32} {l2 : Int32} {l3 : Int64} {l5 : Int32} {s0 : Int32} {s1 : Int32} {H : Heap} {locs : List Loc} {ls : Array Slot} (X : jx p s m args meth c b_m_worked 8 none R_M) (hC : mC G this s st H locs) (hl : lv_has ls 8 [(0, .ref this), (1, .int l1), (2, .int l2), (3, .long l3), (5, .int l5)]) (h : m_worked_J175 st l1 l2 l3 l5 s0 s1 = some r) : W p l e (rmL 1 0 0) s m args below meth c H locs 0 0 (MQ below (mQc G this none r) args s 0 0 (mFr this)) (F0 m 175 ls [.int s0, .int s1, .ref (this + mo 19)]) := by
  obtain ⟨hx, hb, hr, hml, hown, hts, hlocks⟩ := id X
  unfold m_worked_J175 at h
  obtain ⟨st1, est1, h⟩ := obi h
  refine ma_ist X hC 19 (by decide) rfl est1 d_m_worked_175 (fun H locs hC => ?_)
  refine lv_aload_n hx hb d_m_worked_176 rfl (lv_at hl 0 rfl) ?_
  refine mg_arr X hC 15 (by decide) (by decide) q_688 d_m_worked_177 ?_
  refine lv_iload_n hx hb d_m_worked_180 rfl (lv_at hl 2 rfl) ?_
  refine lv_iconst (v := 1) hx hb d_m_worked_181 (by decide) ?_
  obtain ⟨st2, est2, h⟩ := obi h
  refine ma_zst X hC 15 (by decide) rfl est2 d_m_worked_182 (fun H locs hC => ?_)
  refine lv_aload_n hx hb d_m_worked_183 rfl (lv_at hl 0 rfl) ?_
  refine mg_arr X hC 16 (by decide) (by decide) q_689 d_m_worked_184 ?_
  refine lv_iload_n hx hb d_m_worked_187 rfl (lv_at hl 2 rfl) ?_
  refine lv_iconst (v := 1) hx hb d_m_worked_188 (by decide) ?_
  obtain ⟨st3, est3, h⟩ := obi h
  refine ma_zst X hC 16 (by decide) rfl est3 d_m_worked_189 (fun H locs hC => ?_)
  refine lv_aload_n hx hb d_m_worked_190 rfl (lv_at hl 0 rfl) ?_
  refine mg_arr X hC 17 (by decide) (by decide) q_690 d_m_worked_191 ?_
  refine lv_iload_n hx hb d_m_worked_194 rfl (lv_at hl 2 rfl) ?_
  refine lv_lload_n hx hb d_m_worked_195 rfl (lv_at hl 3 rfl) ?_
  obtain ⟨st4, est4, h⟩ := obi h
  refine ma_lst X hC 17 (by decide) rfl est4 d_m_worked_196 (fun H locs hC => ?_)
  refine lv_aload_n hx hb d_m_worked_197 rfl (lv_at hl 0 rfl) ?_
  refine mg_arr X hC 18 (by decide) (by decide) q_691 d_m_worked_198 ?_
  refine lv_iload_n hx hb d_m_worked_201 rfl (lv_at hl 2 rfl) ?_
  refine lv_aload_n hx hb d_m_worked_202 rfl (lv_at hl 0 rfl) ?_
  refine mg_int X hC 3 (by decide) rfl q_676 d_m_worked_203 ?_
  obtain ⟨st5, est5, h⟩ := obi h
  refine ma_ist X hC 18 (by decide) rfl est5 d_m_worked_206 (fun H locs hC => ?_)
  refine lv_aload_n hx hb d_m_worked_207 rfl (lv_at hl 0 rfl) ?_
  refine mg_arr X hC 20 (by decide) (by decide) q_693 d_m_worked_208 ?_
  refine lv_iload_n hx hb d_m_worked_211 rfl (lv_at hl 2 rfl) ?_
  refine lv_iload hx hb d_m_worked_212 (lv_at hl 4 rfl) ?_
  obtain ⟨st6, est6, h⟩ := obi h
  refine ma_ist X hC 20 (by decide) rfl est6 d_m_worked_214 (fun H locs hC => ?_)
  refine lv_aload_n hx hb d_m_worked_215 rfl (lv_at hl 0 rfl) ?_
  refine mg_arr X hC 21 (by decide) (by decide) q_694 d_m_worked_216 ?_
  refine lv_iload_n hx hb d_m_worked_219 rfl (lv_at hl 2 rfl) ?_
  refine lv_aload_n hx hb d_m_worked_220 rfl (lv_at hl 0 rfl) ?_
  refine mg_arr X hC 33 (by decide) (by decide) q_706 d_m_worked_221 ?_
  refine lv_iload_n hx hb d_m_worked_224 rfl (lv_at hl 1 rfl) ?_
  obtain ⟨x7, ex7, h⟩ := obi h
  refine ma_ild X hC 33 (by decide) rfl ex7 d_m_worked_225 ?_
  obtain ⟨st8, est8, h⟩ := obi h
  refine ma_ist X hC 21 (by decide) rfl est8 d_m_worked_226 (fun H locs hC => ?_)
  refine lv_aload_n hx hb d_m_worked_227 rfl (lv_at hl 0 rfl) ?_
  refine lv_iload_n hx hb d_m_worked_228 rfl (lv_at hl 2 rfl) ?_
  obtain ⟨st9, est9, h⟩ := obi h
  refine mcallV_v X hC (c_m_use l G this est9) q_921 q_923 q_p43 q_8 q_924 ok_m_use rfl ⟨by decide, by decide⟩ hl.1 rfl (Nat.le_of_ble_eq_true rfl) d_m_worked_229 ⟨Nat.zero_le _, Nat.zero_le _⟩ (fun H locs hC => ?_)
  refine lv_aload_n hx hb d_m_worked_232 rfl (lv_at hl 0 rfl) ?_
  obtain ⟨st10, est10, h⟩ := obi h
  refine mcallV_v X hC (c_m_finish l G this est10) q_901 q_903 q_p38 q_8 q_904 ok_m_finish rfl ⟨by decide, by decide⟩ hl.1 rfl (Nat.le_of_ble_eq_true rfl) d_m_worked_233 ⟨Nat.zero_le _, Nat.zero_le _⟩ (fun H locs hC => ?_)
  cases h
  exact mret_v X hC d_m_worked_236
theorem w_m_worked_J150 {r : MS} {st : MS} {l1 : Int32} {l2 : Int32} {l3 : Int64} {l5 : Int32} {s0 : Int32} {H : Heap} {locs : List Loc} {ls : Array Slot} (X : jx p s m args meth c b_m_worked 8 none R_M) (hC : mC G this s st H locs) (hl : lv_has ls 8 [(0, .ref this), (1, .int l1), (2, .int l2), (3, .long l3), (5, .int l5)]) (h : m_worked_J150 st l1 l2 l3 l5 s0 = some r) : W p l e (rmL 1 0 0) s m args below meth c H locs 0 0 (MQ below (mQc G this none r) args s 0 0 (mFr this)) (F0 m 150 ls [.int s0]) := by
  obtain ⟨hx, hb, hr, hml, hown, hts, hlocks⟩ := id X
  unfold m_worked_J150 at h
  refine lv_istore (lv' := [(6, .int s0), (0, .ref this), (1, .int l1), (2, .int l2), (3, .long l3), (5, .int l5)]) hx hb d_m_worked_150 hl (by decide) rfl (fun ls hl => ?_)
  refine lv_aload_n hx hb d_m_worked_152 rfl (lv_at hl 1 rfl) ?_
  refine mg_arr X hC 19 (by decide) (by decide) q_692 d_m_worked_153 ?_
  refine lv_iload_n hx hb d_m_worked_156 rfl (lv_at hl 3 rfl) ?_
  refine lv_iload hx hb d_m_worked_157 (lv_at hl 0 rfl) ?_
  refine lv_if_eq (tgt := 171) hx hb d_m_worked_159 (by decide) (fun c159 => ?_) (fun c159 => ?_)
  · replace h := ifp c159 h
    refine lv_aload_n hx hb d_m_worked_171 rfl (lv_at hl 1 rfl) ?_
    refine mg_int X hC 3 (by decide) rfl q_676 d_m_worked_172 ?_
    exact w_m_worked_J175 X hC (lv_sub hl [1, 2, 3, 4, 5] rfl) h
  · replace h := ifn c159 h
    refine lv_aload_n hx hb d_m_worked_162 rfl (lv_at hl 1 rfl) ?_
    refine mg_arr X hC 19 (by decide) (by decide) q_692 d_m_worked_163 ?_
    refine lv_iload_n hx hb d_m_worked_166 rfl (lv_at hl 3 rfl) ?_
    obtain ⟨x1, ex1, h⟩ := obi h
    refine ma_ild X hC 19 (by decide) rfl ex1 d_m_worked_167 ?_
    refine lv_goto (tgt := 175) hx hb d_m_worked_168 (by decide) ?_
    exact w_m_worked_J175 X hC (lv_sub hl [1, 2, 3, 4, 5] rfl) h
theorem w_m_worked_J149 {r : MS} {st : MS} {l1 : Int32} {l2 : Int32} {l3 : Int64} {l5 : Int32} {H : Heap} {locs : List Loc} {ls : Array Slot} (X : jx p s m args meth c b_m_worked 8 none R_M) (hC : mC G this s st H locs) (hl : lv_has ls 8 [(0, .ref this), (1, .int l1), (2, .int l2), (3, .long l3), (5, .int l5)]) (h : m_worked_J149 st l1 l2 l3 l5 = some r) : W p l e (rmL 1 0 0) s m args below meth c H locs 0 0 (MQ below (mQc G this none r) args s 0 0 (mFr this)) (F0 m 149 ls []) := by
  obtain ⟨hx, hb, hr, hml, hown, hts, hlocks⟩ := id X
  unfold m_worked_J149 at h
  refine lv_iconst (v := 0) hx hb d_m_worked_149 (by decide) ?_
  exact w_m_worked_J150 X hC (lv_sub hl [0, 1, 2, 3, 4] rfl) h
theorem w_m_worked_J145 {r : MS} {st : MS} {l1 : Int32} {l2 : Int32} {l3 : Int64} {l5 : Int32} {H : Heap} {locs : List Loc} {ls : Array Slot} (X : jx p s m args meth c b_m_worked 8 none R_M) (hC : mC G this s st H locs) (hl : lv_has ls 8 [(0, .ref this), (1, .int l1), (2, .int l2), (3, .long l3), (5, .int l5)]) (h : m_worked_J145 st l1 l2 l3 l5 = some r) : W p l e (rmL 1 0 0) s m args below meth c H locs 0 0 (MQ below (mQc G this none r) args s 0 0 (mFr this)) (F0 m 145 ls []) := by
  obtain ⟨hx, hb, hr, hml, hown, hts, hlocks⟩ := id X
  unfold m_worked_J145 at h
  refine lv_iconst (v := 1) hx hb d_m_worked_145 (by decide) ?_
  refine lv_goto (tgt := 150) hx hb d_m_worked_146 (by decide) ?_
  exact w_m_worked_J150 X hC (lv_sub hl [0, 1, 2, 3, 4] rfl) h
theorem w_m_worked_J132 {r : MS} {st : MS} {l1 : Int32} {l2 : Int32} {l3 : Int64} {l5 : Int32} {H : Heap} {locs : List Loc} {ls : Array Slot} (X : jx p s m args meth c b_m_worked 8 none R_M) (hC : mC G this s st H locs) (hl : lv_has ls 8 [(0, .ref this), (1, .int l1), (2, .int l2), (3, .long l3), (5, .int l5)]) (h : m_worked_J132 st l1 l2 l3 l5 = some r) : W p l e (rmL 1 0 0) s m args below meth c H locs 0 0 (MQ below (mQc G this none r) args s 0 0 (mFr this)) (F0 m 132 ls []) := by
  obtain ⟨hx, hb, hr, hml, hown, hts, hlocks⟩ := id X
  unfold m_worked_J132 at h
  refine lv_aload_n hx hb d_m_worked_132 rfl (lv_at hl 0 rfl) ?_
  refine mg_arr X hC 18 (by decide) (by decide) q_691 d_m_worked_133 ?_
  refine lv_iload_n hx hb d_m_worked_136 rfl (lv_at hl 2 rfl) ?_
  obtain ⟨x1, ex1, h⟩ := obi h
  refine ma_ild X hC 18 (by decide) rfl ex1 d_m_worked_137 ?_
  refine lv_aload_n hx hb d_m_worked_138 rfl (lv_at hl 0 rfl) ?_
  refine mg_int X hC 3 (by decide) rfl q_676 d_m_worked_139 ?_
  refine lv_icmp_ne (tgt := 149) hx hb d_m_worked_142 (by decide) (fun c142 => ?_) (fun c142 => ?_)
  · replace h := ifn c142 h
    exact w_m_worked_J149 X hC (lv_sub hl [0, 1, 2, 3, 4] rfl) h
  · replace h := ifp c142 h
    exact w_m_worked_J145 X hC (lv_sub hl [0, 1, 2, 3, 4] rfl) h
theorem w_m_worked_J95 {r : MS} {st : MS} {l1 : Int32} {l2 : Int32} {l3 : Int64} {l6 : Int32} {s0 : Int32} {k_25 : MS → Int32 → Int32 → Int64 → Int32 → Int32 → Option MS} {H : Heap} {locs : List Loc} {ls : Array Slot} (X : jx p s m args meth c b_m_worked 8 none R_M) (hC : mC G this s st H locs) (hl : lv_has ls 8 [(0, .ref this), (1, .int l1), (2, .int l2), (3, .long l3), (6, .int l6)]) (hk_25 : ∀ (st : MS) (l1 : Int32) (l2 : Int32) (l3 : Int64) (l5 : Int32) (l6 : Int32) (H : Heap) (locs : List Loc) (ls : Array Slot), k_25 st l1 l2 l3 l5 l6 = some r → mC G this s st H locs → lv_has ls 8 [(0, .ref this), (1, .int l1), (2, .int l2), (3, .long l3), (5, .int l5), (6, .int l6)] → W p l e (rmL 1 0 0) s m args below meth c H locs 0 0 (MQ below (mQc G this none r) args s 0 0 (mFr this)) (F0 m 25 ls [])) (h : m_worked_J95 k_25 st l1 l2 l3 l6 s0 = some r) : W p l e (rmL 1 0 0) s m args below meth c H locs 0 0 (MQ below (mQc G this none r) args s 0 0 (mFr this)) (F0 m 95 ls [.int s0]) := by
  obtain ⟨hx, hb, hr, hml, hown, hts, hlocks⟩ := id X
  unfold m_worked_J95 at h
  refine lv_istore (lv' := [(5, .int s0), (0, .ref this), (1, .int l1), (2, .int l2), (3, .long l3), (6, .int l6)]) hx hb d_m_worked_95 hl (by decide) rfl (fun ls hl => ?_)
  obtain ⟨x1, ex1, h⟩ := obi h
  refine lv_iinc (v := x1) (lv' := [(6, .int x1), (5, .int s0), (0, .ref this), (1, .int l1), (2, .int l2), (3, .long l3)]) hx hb d_m_worked_97 hl (k := 5) rfl (Option.some.inj ex1) (by decide) rfl (fun ls hl => ?_)
  refine lv_goto (tgt := 25) hx hb d_m_worked_100 (by decide) ?_
  exact hk_25 _ _ _ _ _ _ _ _ _ h hC (lv_sub hl [2, 3, 4, 5, 1, 0] rfl)
theorem w_m_worked_J93 {r : MS} {st : MS} {l1 : Int32} {l2 : Int32} {l3 : Int64} {l5 : Int32} {l6 : Int32} {k_25 : MS → Int32 → Int32 → Int64 → Int32 → Int32 → Option MS} {H : Heap} {locs : List Loc} {ls : Array Slot} (X : jx p s m args meth c b_m_worked 8 none R_M) (hC : mC G this s st H locs) (hl : lv_has ls 8 [(0, .ref this), (1, .int l1), (2, .int l2), (3, .long l3), (5, .int l5), (6, .int l6)]) (hk_25 : ∀ (st : MS) (l1 : Int32) (l2 : Int32) (l3 : Int64) (l5 : Int32) (l6 : Int32) (H : Heap) (locs : List Loc) (ls : Array Slot), k_25 st l1 l2 l3 l5 l6 = some r → mC G this s st H locs → lv_has ls 8 [(0, .ref this), (1, .int l1), (2, .int l2), (3, .long l3), (5, .int l5), (6, .int l6)] → W p l e (rmL 1 0 0) s m args below meth c H locs 0 0 (MQ below (mQc G this none r) args s 0 0 (mFr this)) (F0 m 25 ls [])) (h : m_worked_J93 k_25 st l1 l2 l3 l5 l6 = some r) : W p l e (rmL 1 0 0) s m args below meth c H locs 0 0 (MQ below (mQc G this none r) args s 0 0 (mFr this)) (F0 m 93 ls []) := by
  obtain ⟨hx, hb, hr, hml, hown, hts, hlocks⟩ := id X
  unfold m_worked_J93 at h
  refine lv_iload hx hb d_m_worked_93 (lv_at hl 4 rfl) ?_
  exact w_m_worked_J95 X hC (lv_sub hl [0, 1, 2, 3, 5] rfl) hk_25 h
theorem w_m_worked_L25 {r : MS} (X : jx p s m args meth c b_m_worked 8 none R_M) : ∀ (n : Nat), ∀ (st : MS) (l1 : Int32) (l2 : Int32) (l3 : Int64) (l5 : Int32) (l6 : Int32) (H : Heap) (locs : List Loc) (ls : Array Slot), m_worked_L25 n st l1 l2 l3 l5 l6 = some r → mC G this s st H locs → lv_has ls 8 [(0, .ref this), (1, .int l1), (2, .int l2), (3, .long l3), (5, .int l5), (6, .int l6)] → W p l e (rmL 1 0 0) s m args below meth c H locs 0 0 (MQ below (mQc G this none r) args s 0 0 (mFr this)) (F0 m 25 ls []) := by
  obtain ⟨hx, hb, hr, hml, hown, hts, hlocks⟩ := id X
  intro n
  induction n with
  | zero => intro st l1 l2 l3 l5 l6 H locs ls h hC hl; exact absurd h (by simp [m_worked_L25])
  | succ n ih =>
    intro st l1 l2 l3 l5 l6 H locs ls h hC hl
    rw [m_worked_L25] at h
    refine lv_iload hx hb d_m_worked_25 (lv_at hl 5 rfl) ?_
    refine lv_aload_n hx hb d_m_worked_27 rfl (lv_at hl 0 rfl) ?_
    refine mg_arr X hC 33 (by decide) (by decide) q_706 d_m_worked_28 ?_
    refine lv_iload_n hx hb d_m_worked_31 rfl (lv_at hl 1 rfl) ?_
    obtain ⟨x1, ex1, h⟩ := obi h
    refine ma_ild X hC 33 (by decide) rfl ex1 d_m_worked_32 ?_
    refine lv_icmp_ge (tgt := 103) hx hb d_m_worked_33 (by decide) (fun c33 => ?_) (fun c33 => ?_)
    · replace h := ifp c33 h
      refine lv_aload_n hx hb d_m_worked_103 rfl (lv_at hl 0 rfl) ?_
      refine mg_arr X hC 15 (by decide) (by decide) q_688 d_m_worked_104 ?_
      refine lv_iload_n hx hb d_m_worked_107 rfl (lv_at hl 2 rfl) ?_
      obtain ⟨x2, ex2, h⟩ := obi h
      refine ma_zld X hC 15 (by decide) rfl ex2 d_m_worked_108 ?_
      refine lv_if_eq (tgt := 149) hx hb d_m_worked_109 (by decide) (fun c109 => ?_) (fun c109 => ?_)
      · replace h := ifp c109 h
        exact w_m_worked_J149 X hC (lv_sub hl [0, 1, 2, 3, 4] rfl) h
      · replace h := ifn c109 h
        refine lv_aload_n hx hb d_m_worked_112 rfl (lv_at hl 0 rfl) ?_
        refine mg_arr X hC 16 (by decide) (by decide) q_689 d_m_worked_113 ?_
        refine lv_iload_n hx hb d_m_worked_116 rfl (lv_at hl 2 rfl) ?_
        obtain ⟨x3, ex3, h⟩ := obi h
        refine ma_zld X hC 16 (by decide) rfl ex3 d_m_worked_117 ?_
        refine lv_if_eq (tgt := 132) hx hb d_m_worked_118 (by decide) (fun c118 => ?_) (fun c118 => ?_)
        · replace h := ifp c118 h
          exact w_m_worked_J132 X hC (lv_sub hl [0, 1, 2, 3, 4] rfl) h
        · replace h := ifn c118 h
          refine lv_aload_n hx hb d_m_worked_121 rfl (lv_at hl 0 rfl) ?_
          refine mg_arr X hC 17 (by decide) (by decide) q_690 d_m_worked_122 ?_
          refine lv_iload_n hx hb d_m_worked_125 rfl (lv_at hl 2 rfl) ?_
          obtain ⟨x4, ex4, h⟩ := obi h
          refine ma_lld X hC 17 (by decide) rfl ex4 d_m_worked_126 ?_
          refine lv_lload_n hx hb d_m_worked_127 rfl (lv_at hl 3 rfl) ?_
          refine W.lcmp hx hb d_m_worked_128 ?_
          refine lv_if_eq (tgt := 145) hx hb d_m_worked_129 (by decide) (fun c129 => ?_) (fun c129 => ?_)
          · replace h := ifp c129 h
            exact w_m_worked_J145 X hC (lv_sub hl [0, 1, 2, 3, 4] rfl) h
          · replace h := ifn c129 h
            exact w_m_worked_J132 X hC (lv_sub hl [0, 1, 2, 3, 4] rfl) h
    · replace h := ifn c33 h
      refine lv_aload_n hx hb d_m_worked_36 rfl (lv_at hl 0 rfl) ?_
      refine mg_arr X hC 34 (by decide) (by decide) q_707 d_m_worked_37 ?_
      refine lv_bipush (v := 12) hx hb d_m_worked_40 (by decide) ?_
      refine lv_iload_n hx hb d_m_worked_42 rfl (lv_at hl 1 rfl) ?_
      refine lv_imul hx hb d_m_worked_43 ?_
      refine lv_iload hx hb d_m_worked_44 (lv_at hl 5 rfl) ?_
      refine lv_iadd hx hb d_m_worked_46 ?_
      obtain ⟨x5, ex5, h⟩ := obi h
      refine ma_ild X hC 34 (by decide) rfl ex5 d_m_worked_47 ?_
      refine lv_istore (lv' := [(7, .int x5), (0, .ref this), (1, .int l1), (2, .int l2), (3, .long l3), (5, .int l5), (6, .int l6)]) hx hb d_m_worked_48 hl (by decide) rfl (fun ls hl => ?_)
      refine lv_aload_n hx hb d_m_worked_50 rfl (lv_at hl 1 rfl) ?_
      refine mg_arr X hC 22 (by decide) (by decide) q_695 d_m_worked_51 ?_
      refine lv_bipush (v := 12) hx hb d_m_worked_54 (by decide) ?_
      refine lv_iload_n hx hb d_m_worked_56 rfl (lv_at hl 3 rfl) ?_
      refine lv_imul hx hb d_m_worked_57 ?_
      refine lv_iload hx hb d_m_worked_58 (lv_at hl 6 rfl) ?_
      refine lv_iadd hx hb d_m_worked_60 ?_
      refine lv_iload hx hb d_m_worked_61 (lv_at hl 0 rfl) ?_
      obtain ⟨st6, est6, h⟩ := obi h
      refine ma_ist X hC 22 (by decide) rfl est6 d_m_worked_63 (fun H locs hC => ?_)
      refine lv_aload_n hx hb d_m_worked_64 rfl (lv_at hl 1 rfl) ?_
      refine mg_arr X hC 36 (by decide) (by decide) q_709 d_m_worked_65 ?_
      refine lv_iload_n hx hb d_m_worked_68 rfl (lv_at hl 2 rfl) ?_
      obtain ⟨x7, ex7, h⟩ := obi h
      refine ma_zld X hC 36 (by decide) rfl ex7 d_m_worked_69 ?_
      refine lv_if_ne (tgt := 93) hx hb d_m_worked_70 (by decide) (fun c70 => ?_) (fun c70 => ?_)
      · replace h := ifn c70 h
        exact w_m_worked_J93 X hC (lv_sub hl [1, 2, 3, 4, 5, 6] rfl) ih h
      · replace h := ifp c70 h
        refine lv_aload_n hx hb d_m_worked_73 rfl (lv_at hl 1 rfl) ?_
        refine lv_iload hx hb d_m_worked_74 (lv_at hl 0 rfl) ?_
        obtain ⟨x8, ex8, h⟩ := obi h
        refine mcallV_i X hC (c_m_durabilityOf l G this ex8) q_909 q_911 q_p40 q_8 q_912 ok_m_durabilityOf rfl ⟨by decide, by decide⟩ hl.1 rfl (Nat.le_of_ble_eq_true rfl) d_m_worked_76 ⟨Nat.zero_le _, Nat.zero_le _⟩ (fun H locs hC => ?_)
        refine lv_iload hx hb d_m_worked_79 (lv_at hl 5 rfl) ?_
        refine lv_icmp_ge (tgt := 93) hx hb d_m_worked_81 (by decide) (fun c81 => ?_) (fun c81 => ?_)
        · replace h := ifp c81 h
          exact w_m_worked_J93 X hC (lv_sub hl [1, 2, 3, 4, 5, 6] rfl) ih h
        · replace h := ifn c81 h
          refine lv_aload_n hx hb d_m_worked_84 rfl (lv_at hl 1 rfl) ?_
          refine lv_iload hx hb d_m_worked_85 (lv_at hl 0 rfl) ?_
          obtain ⟨x9, ex9, h⟩ := obi h
          refine mcallV_i X hC (c_m_durabilityOf l G this ex9) q_909 q_911 q_p40 q_8 q_912 ok_m_durabilityOf rfl ⟨by decide, by decide⟩ hl.1 rfl (Nat.le_of_ble_eq_true rfl) d_m_worked_87 ⟨Nat.zero_le _, Nat.zero_le _⟩ (fun H locs hC => ?_)
          refine lv_goto (tgt := 95) hx hb d_m_worked_90 (by decide) ?_
          exact w_m_worked_J95 X hC (lv_sub hl [1, 2, 3, 4, 6] rfl) ih h
theorem w_m_worked_J20 {r : MS} {st : MS} {l1 : Int32} {l2 : Int32} {l3 : Int64} {s0 : Int32} {H : Heap} {locs : List Loc} {ls : Array Slot} (X : jx p s m args meth c b_m_worked 8 none R_M) (hC : mC G this s st H locs) (hl : lv_has ls 8 [(0, .ref this), (1, .int l1), (2, .int l2), (3, .long l3)]) (h : m_worked_J20 st l1 l2 l3 s0 = some r) : W p l e (rmL 1 0 0) s m args below meth c H locs 0 0 (MQ below (mQc G this none r) args s 0 0 (mFr this)) (F0 m 20 ls [.int s0]) := by
  obtain ⟨hx, hb, hr, hml, hown, hts, hlocks⟩ := id X
  unfold m_worked_J20 at h
  refine lv_istore (lv' := [(5, .int s0), (0, .ref this), (1, .int l1), (2, .int l2), (3, .long l3)]) hx hb d_m_worked_20 hl (by decide) rfl (fun ls hl => ?_)
  refine lv_iconst (v := 0) hx hb d_m_worked_22 (by decide) ?_
  refine lv_istore (lv' := [(6, .int 0), (5, .int s0), (0, .ref this), (1, .int l1), (2, .int l2), (3, .long l3)]) hx hb d_m_worked_23 hl (by decide) rfl (fun ls hl => ?_)
  exact w_m_worked_L25 X 1000 _ _ _ _ _ _ _ _ _ h hC (lv_sub hl [2, 3, 4, 5, 1, 0] rfl)
theorem c_m_worked (l : Launch) (G : MG) (this : Nat) {st : MS} {a1 : Int32} {a2 : Int32} {a3 : Int64} {r : MS} (h : m_worked st a1 a2 a3 = some r) : Met l y_m_worked (Cond.code y_m_worked b_m_worked 8 none :: lw_g) (rmL 1 0 0) (mPc G this [.int a1, .int a2, .long a3] st) (mQc G this none r) 0 0 (mFr this) := by
  refine Met.ofM (by decide +kernel) (Nat.le_of_ble_eq_true rfl) ?_
  intro p e s m below meth c ls X hC hl
  have hl : lv_has ls 8 [(0, .ref this), (1, .int a1), (2, .int a2), (3, .long a3)] := hl
  generalize (Value.ref this :: [.int a1, .int a2, .long a3]).toArray = args at X ⊢
  obtain ⟨hx, hb, hr, hml, hown, hts, hlocks⟩ := id X
  generalize hHH : s.heap = H at hC ⊢
  generalize ([] : List Loc) = locs at hC ⊢
  clear hHH
  unfold m_worked at h
  refine lv_aload_n hx hb d_m_worked_0 rfl (lv_at hl 0 rfl) ?_
  refine lv_iload_n hx hb d_m_worked_1 rfl (lv_at hl 2 rfl) ?_
  refine lv_iconst (v := 0) hx hb d_m_worked_2 (by decide) ?_
  obtain ⟨st1, est1, h⟩ := obi h
  refine mcallV_v X hC (c_m_counts l G this est1) q_897 q_899 q_p37 q_8 q_900 ok_m_counts rfl ⟨by decide, by decide⟩ hl.1 rfl (Nat.le_of_ble_eq_true rfl) d_m_worked_3 ⟨Nat.zero_le _, Nat.zero_le _⟩ (fun H locs hC => ?_)
  refine lv_aload_n hx hb d_m_worked_6 rfl (lv_at hl 0 rfl) ?_
  refine mg_arr X hC 36 (by decide) (by decide) q_709 d_m_worked_7 ?_
  refine lv_iload_n hx hb d_m_worked_10 rfl (lv_at hl 1 rfl) ?_
  obtain ⟨x2, ex2, h⟩ := obi h
  refine ma_zld X hC 36 (by decide) rfl ex2 d_m_worked_11 ?_
  refine lv_if_eq (tgt := 19) hx hb d_m_worked_12 (by decide) (fun c12 => ?_) (fun c12 => ?_)
  · replace h := ifp c12 h
    refine lv_iconst (v := 2) hx hb d_m_worked_19 (by decide) ?_
    exact w_m_worked_J20 X hC (lv_sub hl [0, 1, 2, 3] rfl) h
  · replace h := ifn c12 h
    refine lv_iconst (v := 0) hx hb d_m_worked_15 (by decide) ?_
    refine lv_goto (tgt := 20) hx hb d_m_worked_16 (by decide) ?_
    exact w_m_worked_J20 X hC (lv_sub hl [0, 1, 2, 3] rfl) h
theorem c_m_push (l : Launch) (G : MG) (this : Nat) {st : MS} {a1 : Int32} {a2 : Int64} {r : MS} (h : m_push st a1 a2 = some r) : Met l y_m_push (Cond.code y_m_push b_m_push 4 none :: lw_g) (rmL 0 0 0) (mPc G this [.int a1, .long a2] st) (mQc G this none r) 0 0 (mFr this) := by
  refine Met.ofM (by decide +kernel) (Nat.le_of_ble_eq_true rfl) ?_
  intro p e s m below meth c ls X hC hl
  have hl : lv_has ls 4 [(0, .ref this), (1, .int a1), (2, .long a2)] := hl
  generalize (Value.ref this :: [.int a1, .long a2]).toArray = args at X ⊢
  obtain ⟨hx, hb, hr, hml, hown, hts, hlocks⟩ := id X
  generalize hHH : s.heap = H at hC ⊢
  generalize ([] : List Loc) = locs at hC ⊢
  clear hHH
  unfold m_push at h
  refine lv_aload_n hx hb d_m_push_0 rfl (lv_at hl 0 rfl) ?_
  refine mg_arr X hC 32 (by decide) (by decide) q_705 d_m_push_1 ?_
  refine lv_bipush (v := 16) hx hb d_m_push_4 (by decide) ?_
  refine lv_iload_n hx hb d_m_push_6 rfl (lv_at hl 1 rfl) ?_
  refine lv_imul hx hb d_m_push_7 ?_
  refine lv_aload_n hx hb d_m_push_8 rfl (lv_at hl 0 rfl) ?_
  refine mg_arr X hC 31 (by decide) (by decide) q_704 d_m_push_9 ?_
  refine lv_iload_n hx hb d_m_push_12 rfl (lv_at hl 1 rfl) ?_
  obtain ⟨x1, ex1, h⟩ := obi h
  refine ma_ild X hC 31 (by decide) rfl ex1 d_m_push_13 ?_
  refine lv_iadd hx hb d_m_push_14 ?_
  refine lv_lload_n hx hb d_m_push_15 rfl (lv_at hl 2 rfl) ?_
  obtain ⟨st2, est2, h⟩ := obi h
  refine ma_lst X hC 32 (by decide) rfl est2 d_m_push_16 (fun H locs hC => ?_)
  refine lv_aload_n hx hb d_m_push_17 rfl (lv_at hl 0 rfl) ?_
  refine mg_arr X hC 31 (by decide) (by decide) q_704 d_m_push_18 ?_
  refine lv_iload_n hx hb d_m_push_21 rfl (lv_at hl 1 rfl) ?_
  refine lv_dup2_11 hx hb d_m_push_22 rfl rfl ?_
  obtain ⟨x3, ex3, h⟩ := obi h
  refine ma_ild X hC 31 (by decide) rfl ex3 d_m_push_23 ?_
  refine lv_iconst (v := 1) hx hb d_m_push_24 (by decide) ?_
  refine lv_iadd hx hb d_m_push_25 ?_
  obtain ⟨st4, est4, h⟩ := obi h
  refine ma_ist X hC 31 (by decide) rfl est4 d_m_push_26 (fun H locs hC => ?_)
  cases h
  exact mret_v X hC d_m_push_27
theorem w_m_look_J247 {r : MS} {st : MS} {l1 : Int32} {l5 : Int64} {H : Heap} {locs : List Loc} {ls : Array Slot} (X : jx p s m args meth c b_m_look 7 none R_M) (hC : mC G this s st H locs) (hl : lv_has ls 7 [(0, .ref this), (1, .int l1), (5, .long l5)]) (h : m_look_J247 st l1 l5 = some r) : W p l e (rmL 2 0 0) s m args below meth c H locs 0 0 (MQ below (mQc G this none r) args s 0 0 (mFr this)) (F0 m 247 ls []) := by
  obtain ⟨hx, hb, hr, hml, hown, hts, hlocks⟩ := id X
  unfold m_look_J247 at h
  refine lv_aload_n hx hb d_m_look_247 rfl (lv_at hl 0 rfl) ?_
  refine lv_iload_n hx hb d_m_look_248 rfl (lv_at hl 1 rfl) ?_
  refine lv_lload hx hb d_m_look_249 (lv_at hl 2 rfl) ?_
  obtain ⟨st1, est1, h⟩ := obi h
  refine mcallV_v X hC (c_m_push l G this est1) q_934 q_936 q_p46 q_8 q_937 ok_m_push rfl ⟨by decide, by decide⟩ hl.1 rfl (Nat.le_of_ble_eq_true rfl) d_m_look_251 ⟨Nat.zero_le _, Nat.zero_le _⟩ (fun H locs hC => ?_)
  refine lv_aload_n hx hb d_m_look_254 rfl (lv_at hl 0 rfl) ?_
  refine mg_arr X hC 30 (by decide) (by decide) q_703 d_m_look_255 ?_
  refine lv_iload_n hx hb d_m_look_258 rfl (lv_at hl 1 rfl) ?_
  refine lv_dup2_11 hx hb d_m_look_259 rfl rfl ?_
  obtain ⟨x2, ex2, h⟩ := obi h
  refine ma_ild X hC 30 (by decide) rfl ex2 d_m_look_260 ?_
  refine lv_iconst (v := 1) hx hb d_m_look_261 (by decide) ?_
  refine lv_iadd hx hb d_m_look_262 ?_
  obtain ⟨st3, est3, h⟩ := obi h
  refine ma_ist X hC 30 (by decide) rfl est3 d_m_look_263 (fun H locs hC => ?_)
  cases h
  exact mret_v X hC d_m_look_264
theorem w_m_look_J194 {r : MS} {st : MS} {l1 : Int32} {l2 : Int32} {s0 : Int64} {H : Heap} {locs : List Loc} {ls : Array Slot} (X : jx p s m args meth c b_m_look 7 none R_M) (hC : mC G this s st H locs) (hl : lv_has ls 7 [(0, .ref this), (1, .int l1), (2, .int l2)]) (h : m_look_J194 st l1 l2 s0 = some r) : W p l e (rmL 2 0 0) s m args below meth c H locs 0 0 (MQ below (mQc G this none r) args s 0 0 (mFr this)) (F0 m 194 ls [.long s0]) := by
  obtain ⟨hx, hb, hr, hml, hown, hts, hlocks⟩ := id X
  unfold m_look_J194 at h
  refine lv_lstore (lv' := [(5, .long s0), (0, .ref this), (1, .int l1), (2, .int l2)]) hx hb d_m_look_194 hl (by decide) rfl (fun ls hl => ?_)
  refine lv_lload hx hb d_m_look_196 (lv_at hl 0 rfl) ?_
  refine lv_ldc2 (v := 1099511627776) hx hb hown (hts _ q_933) d_m_look_198 ?_
  refine W.lcmp hx hb d_m_look_201 ?_
  refine lv_if_ne (tgt := 217) hx hb d_m_look_202 (by decide) (fun c202 => ?_) (fun c202 => ?_)
  · replace h := ifn c202 h
    refine lv_aload_n hx hb d_m_look_217 rfl (lv_at hl 1 rfl) ?_
    refine mg_arr X hC 9 (by decide) (by decide) q_682 d_m_look_218 ?_
    refine lv_bipush (v := 40) hx hb d_m_look_221 (by decide) ?_
    refine lv_iload_n hx hb d_m_look_223 rfl (lv_at hl 3 rfl) ?_
    refine lv_imul hx hb d_m_look_224 ?_
    refine lv_aload_n hx hb d_m_look_225 rfl (lv_at hl 1 rfl) ?_
    refine mg_arr X hC 30 (by decide) (by decide) q_703 d_m_look_226 ?_
    refine lv_iload_n hx hb d_m_look_229 rfl (lv_at hl 2 rfl) ?_
    obtain ⟨x1, ex1, h⟩ := obi h
    refine ma_ild X hC 30 (by decide) rfl ex1 d_m_look_230 ?_
    refine lv_iadd hx hb d_m_look_231 ?_
    obtain ⟨x2, ex2, h⟩ := obi h
    refine ma_ild X hC 9 (by decide) rfl ex2 d_m_look_232 ?_
    refine lv_iconst (v := 2) hx hb d_m_look_233 (by decide) ?_
    refine lv_icmp_ne (tgt := 247) hx hb d_m_look_234 (by decide) (fun c234 => ?_) (fun c234 => ?_)
    · replace h := ifn c234 h
      exact w_m_look_J247 X hC (lv_sub hl [1, 2, 0] rfl) h
    · replace h := ifp c234 h
      refine lv_aload_n hx hb d_m_look_237 rfl (lv_at hl 1 rfl) ?_
      refine mg_arr X hC 31 (by decide) (by decide) q_704 d_m_look_238 ?_
      refine lv_iload_n hx hb d_m_look_241 rfl (lv_at hl 2 rfl) ?_
      refine lv_dup2_11 hx hb d_m_look_242 rfl rfl ?_
      obtain ⟨x3, ex3, h⟩ := obi h
      refine ma_ild X hC 31 (by decide) rfl ex3 d_m_look_243 ?_
      refine lv_iconst (v := 1) hx hb d_m_look_244 (by decide) ?_
      refine lv_isub hx hb d_m_look_245 ?_
      obtain ⟨st4, est4, h⟩ := obi h
      refine ma_ist X hC 31 (by decide) rfl est4 d_m_look_246 (fun H locs hC => ?_)
      exact w_m_look_J247 X hC (lv_sub hl [1, 2, 0] rfl) h
  · replace h := ifp c202 h
    refine lv_aload_n hx hb d_m_look_205 rfl (lv_at hl 1 rfl) ?_
    refine lv_iload_n hx hb d_m_look_206 rfl (lv_at hl 2 rfl) ?_
    refine lv_iload_n hx hb d_m_look_207 rfl (lv_at hl 3 rfl) ?_
    refine lv_ldc2 (v := 1099511627776) hx hb hown (hts _ q_933) d_m_look_208 ?_
    obtain ⟨st5, est5, h⟩ := obi h
    refine mcallV_v X hC (c_m_worked l G this est5) q_917 q_919 q_p42 q_8 q_920 ok_m_worked rfl ⟨by decide, by decide⟩ hl.1 rfl (Nat.le_of_ble_eq_true rfl) d_m_look_211 ⟨Nat.zero_le _, Nat.zero_le _⟩ (fun H locs hC => ?_)
    refine lv_goto (tgt := 264) hx hb d_m_look_214 (by decide) ?_
    cases h
    exact mret_v X hC d_m_look_264
theorem w_m_look_J169 {r : MS} {st : MS} {l1 : Int32} {l2 : Int32} {l3 : Int32} {H : Heap} {locs : List Loc} {ls : Array Slot} (X : jx p s m args meth c b_m_look 7 none R_M) (hC : mC G this s st H locs) (hl : lv_has ls 7 [(0, .ref this), (1, .int l1), (2, .int l2), (3, .int l3)]) (h : m_look_J169 st l1 l2 l3 = some r) : W p l e (rmL 2 0 0) s m args below meth c H locs 0 0 (MQ below (mQc G this none r) args s 0 0 (mFr this)) (F0 m 169 ls []) := by
  obtain ⟨hx, hb, hr, hml, hown, hts, hlocks⟩ := id X
  unfold m_look_J169 at h
  refine lv_aload_n hx hb d_m_look_169 rfl (lv_at hl 0 rfl) ?_
  refine mg_arr X hC 5 (by decide) (by decide) q_678 d_m_look_170 ?_
  refine lv_iload_n hx hb d_m_look_173 rfl (lv_at hl 3 rfl) ?_
  obtain ⟨x1, ex1, h⟩ := obi h
  refine ma_zld X hC 5 (by decide) rfl ex1 d_m_look_174 ?_
  refine lv_if_eq (tgt := 187) hx hb d_m_look_175 (by decide) (fun c175 => ?_) (fun c175 => ?_)
  · replace h := ifp c175 h
    refine lv_aload_n hx hb d_m_look_187 rfl (lv_at hl 0 rfl) ?_
    refine mg_arr X hC 12 (by decide) (by decide) q_685 d_m_look_188 ?_
    refine lv_iload_n hx hb d_m_look_191 rfl (lv_at hl 3 rfl) ?_
    obtain ⟨x2, ex2, h⟩ := obi h
    refine ma_ild X hC 12 (by decide) rfl ex2 d_m_look_192 ?_
    refine lv_i2l (v := _) hx hb d_m_look_193 rfl ?_
    exact w_m_look_J194 X hC (lv_sub hl [0, 1, 2] rfl) h
  · replace h := ifn c175 h
    refine lv_aload_n hx hb d_m_look_178 rfl (lv_at hl 0 rfl) ?_
    refine mg_arr X hC 17 (by decide) (by decide) q_690 d_m_look_179 ?_
    refine lv_iload_n hx hb d_m_look_182 rfl (lv_at hl 3 rfl) ?_
    obtain ⟨x3, ex3, h⟩ := obi h
    refine ma_lld X hC 17 (by decide) rfl ex3 d_m_look_183 ?_
    refine lv_goto (tgt := 194) hx hb d_m_look_184 (by decide) ?_
    exact w_m_look_J194 X hC (lv_sub hl [0, 1, 2] rfl) h
theorem w_m_look_J155 {r : MS} {st : MS} {l1 : Int32} {l2 : Int32} {l3 : Int32} {H : Heap} {locs : List Loc} {ls : Array Slot} (X : jx p s m args meth c b_m_look 7 none R_M) (hC : mC G this s st H locs) (hl : lv_has ls 7 [(0, .ref this), (1, .int l1), (2, .int l2), (3, .int l3)]) (h : m_look_J155 st l1 l2 l3 = some r) : W p l e (rmL 2 0 0) s m args below meth c H locs 0 0 (MQ below (mQc G this none r) args s 0 0 (mFr this)) (F0 m 155 ls []) := by
  obtain ⟨hx, hb, hr, hml, hown, hts, hlocks⟩ := id X
  unfold m_look_J155 at h
  refine lv_aload_n hx hb d_m_look_155 rfl (lv_at hl 0 rfl) ?_
  refine mg_arr X hC 5 (by decide) (by decide) q_678 d_m_look_156 ?_
  refine lv_iload_n hx hb d_m_look_159 rfl (lv_at hl 3 rfl) ?_
  obtain ⟨x1, ex1, h⟩ := obi h
  refine ma_zld X hC 5 (by decide) rfl ex1 d_m_look_160 ?_
  refine lv_if_eq (tgt := 169) hx hb d_m_look_161 (by decide) (fun c161 => ?_) (fun c161 => ?_)
  · replace h := ifp c161 h
    exact w_m_look_J169 X hC (lv_sub hl [0, 1, 2, 3] rfl) h
  · replace h := ifn c161 h
    refine lv_aload_n hx hb d_m_look_164 rfl (lv_at hl 0 rfl) ?_
    refine lv_iload_n hx hb d_m_look_165 rfl (lv_at hl 3 rfl) ?_
    obtain ⟨st2, est2, h⟩ := obi h
    refine mcallV_v X hC (c_m_use l G this est2) q_921 q_923 q_p43 q_8 q_924 ok_m_use rfl ⟨by decide, by decide⟩ hl.1 rfl (Nat.le_of_ble_eq_true rfl) d_m_look_166 ⟨Nat.zero_le _, Nat.zero_le _⟩ (fun H locs hC => ?_)
    exact w_m_look_J169 X hC (lv_sub hl [0, 1, 2, 3] rfl) h
theorem w_m_look_J83 {r : MS} {st : MS} {l1 : Int32} {l2 : Int32} {l3 : Int32} {H : Heap} {locs : List Loc} {ls : Array Slot} (X : jx p s m args meth c b_m_look 7 none R_M) (hC : mC G this s st H locs) (hl : lv_has ls 7 [(0, .ref this), (1, .int l1), (2, .int l2), (3, .int l3)]) (h : m_look_J83 st l1 l2 l3 = some r) : W p l e (rmL 2 0 0) s m args below meth c H locs 0 0 (MQ below (mQc G this none r) args s 0 0 (mFr this)) (F0 m 83 ls []) := by
  obtain ⟨hx, hb, hr, hml, hown, hts, hlocks⟩ := id X
  unfold m_look_J83 at h
  refine lv_aload_n hx hb d_m_look_83 rfl (lv_at hl 0 rfl) ?_
  refine mg_arr X hC 35 (by decide) (by decide) q_708 d_m_look_84 ?_
  refine lv_iload_n hx hb d_m_look_87 rfl (lv_at hl 3 rfl) ?_
  obtain ⟨x1, ex1, h⟩ := obi h
  refine ma_zld X hC 35 (by decide) rfl ex1 d_m_look_88 ?_
  refine lv_if_eq (tgt := 111) hx hb d_m_look_89 (by decide) (fun c89 => ?_) (fun c89 => ?_)
  · replace h := ifp c89 h
    refine lv_aload_n hx hb d_m_look_111 rfl (lv_at hl 0 rfl) ?_
    refine lv_iload_n hx hb d_m_look_112 rfl (lv_at hl 3 rfl) ?_
    obtain ⟨x2, ex2, h⟩ := obi h
    refine mcallV_i X hC (c_m_settled l G this ex2) q_881 q_883 q_p33 q_8 q_884 ok_m_settled rfl ⟨by decide, by decide⟩ hl.1 rfl (Nat.le_of_ble_eq_true rfl) d_m_look_113 ⟨Nat.zero_le _, Nat.zero_le _⟩ (fun H locs hC => ?_)
    refine lv_if_ne (tgt := 128) hx hb d_m_look_116 (by decide) (fun c116 => ?_) (fun c116 => ?_)
    · replace h := ifn c116 h
      refine lv_aload_n hx hb d_m_look_128 rfl (lv_at hl 0 rfl) ?_
      refine mg_arr X hC 5 (by decide) (by decide) q_678 d_m_look_129 ?_
      refine lv_iload_n hx hb d_m_look_132 rfl (lv_at hl 3 rfl) ?_
      obtain ⟨x3, ex3, h⟩ := obi h
      refine ma_zld X hC 5 (by decide) rfl ex3 d_m_look_133 ?_
      refine lv_if_eq (tgt := 155) hx hb d_m_look_134 (by decide) (fun c134 => ?_) (fun c134 => ?_)
      · replace h := ifp c134 h
        exact w_m_look_J155 X hC (lv_sub hl [0, 1, 2, 3] rfl) h
      · replace h := ifn c134 h
        refine lv_aload_n hx hb d_m_look_137 rfl (lv_at hl 0 rfl) ?_
        refine mg_arr X hC 16 (by decide) (by decide) q_689 d_m_look_138 ?_
        refine lv_iload_n hx hb d_m_look_141 rfl (lv_at hl 3 rfl) ?_
        obtain ⟨x4, ex4, h⟩ := obi h
        refine ma_zld X hC 16 (by decide) rfl ex4 d_m_look_142 ?_
        refine lv_if_ne (tgt := 155) hx hb d_m_look_143 (by decide) (fun c143 => ?_) (fun c143 => ?_)
        · replace h := ifn c143 h
          exact w_m_look_J155 X hC (lv_sub hl [0, 1, 2, 3] rfl) h
        · replace h := ifp c143 h
          refine lv_aload_n hx hb d_m_look_146 rfl (lv_at hl 0 rfl) ?_
          refine lv_iload_n hx hb d_m_look_147 rfl (lv_at hl 3 rfl) ?_
          refine lv_iconst (v := 2) hx hb d_m_look_148 (by decide) ?_
          obtain ⟨st5, est5, h⟩ := obi h
          refine mcallV_v X hC (c_m_start l G this est5) q_885 q_887 q_p34 q_8 q_888 ok_m_start rfl ⟨by decide, by decide⟩ hl.1 rfl (Nat.le_of_ble_eq_true rfl) d_m_look_149 ⟨Nat.zero_le _, Nat.zero_le _⟩ (fun H locs hC => ?_)
          refine lv_goto (tgt := 264) hx hb d_m_look_152 (by decide) ?_
          cases h
          exact mret_v X hC d_m_look_264
    · replace h := ifp c116 h
      refine lv_aload_n hx hb d_m_look_119 rfl (lv_at hl 0 rfl) ?_
      refine lv_iload_n hx hb d_m_look_120 rfl (lv_at hl 3 rfl) ?_
      refine lv_iconst (v := 0) hx hb d_m_look_121 (by decide) ?_
      obtain ⟨st6, est6, h⟩ := obi h
      refine mcallV_v X hC (c_m_start l G this est6) q_885 q_887 q_p34 q_8 q_888 ok_m_start rfl ⟨by decide, by decide⟩ hl.1 rfl (Nat.le_of_ble_eq_true rfl) d_m_look_122 ⟨Nat.zero_le _, Nat.zero_le _⟩ (fun H locs hC => ?_)
      refine lv_goto (tgt := 264) hx hb d_m_look_125 (by decide) ?_
      cases h
      exact mret_v X hC d_m_look_264
  · replace h := ifn c89 h
    refine lv_aload_n hx hb d_m_look_92 rfl (lv_at hl 0 rfl) ?_
    refine mg_arr X hC 36 (by decide) (by decide) q_709 d_m_look_93 ?_
    refine lv_iload_n hx hb d_m_look_96 rfl (lv_at hl 1 rfl) ?_
    refine lv_iconst (v := 1) hx hb d_m_look_97 (by decide) ?_
    obtain ⟨st7, est7, h⟩ := obi h
    refine ma_zst X hC 36 (by decide) rfl est7 d_m_look_98 (fun H locs hC => ?_)
    refine lv_aload_n hx hb d_m_look_99 rfl (lv_at hl 0 rfl) ?_
    refine lv_iload_n hx hb d_m_look_100 rfl (lv_at hl 1 rfl) ?_
    refine lv_iload_n hx hb d_m_look_101 rfl (lv_at hl 2 rfl) ?_
    refine lv_ldc2 (v := 1099511627776) hx hb hown (hts _ q_933) d_m_look_102 ?_
    obtain ⟨st8, est8, h⟩ := obi h
    refine mcallV_v X hC (c_m_worked l G this est8) q_917 q_919 q_p42 q_8 q_920 ok_m_worked rfl ⟨by decide, by decide⟩ hl.1 rfl (Nat.le_of_ble_eq_true rfl) d_m_look_105 ⟨Nat.zero_le _, Nat.zero_le _⟩ (fun H locs hC => ?_)
    refine lv_goto (tgt := 264) hx hb d_m_look_108 (by decide) ?_
    cases h
    exact mret_v X hC d_m_look_264
theorem w_m_look_J43 {r : MS} {st : MS} {l1 : Int32} {l2 : Int32} {l3 : Int32} {l5 : Int32} {s0 : Int32} {k_6 : MS → Int32 → Int32 → Int32 → Int32 → Int32 → Option MS} {H : Heap} {locs : List Loc} {ls : Array Slot} (X : jx p s m args meth c b_m_look 7 none R_M) (hC : mC G this s st H locs) (hl : lv_has ls 7 [(0, .ref this), (1, .int l1), (2, .int l2), (3, .int l3), (5, .int l5)]) (hk_6 : ∀ (st : MS) (l1 : Int32) (l2 : Int32) (l3 : Int32) (l4 : Int32) (l5 : Int32) (H : Heap) (locs : List Loc) (ls : Array Slot), k_6 st l1 l2 l3 l4 l5 = some r → mC G this s st H locs → lv_has ls 7 [(0, .ref this), (1, .int l1), (2, .int l2), (3, .int l3), (4, .int l4), (5, .int l5)] → W p l e (rmL 2 0 0) s m args below meth c H locs 0 0 (MQ below (mQc G this none r) args s 0 0 (mFr this)) (F0 m 6 ls [])) (h : m_look_J43 k_6 st l1 l2 l3 l5 s0 = some r) : W p l e (rmL 2 0 0) s m args below meth c H locs 0 0 (MQ below (mQc G this none r) args s 0 0 (mFr this)) (F0 m 43 ls [.int s0]) := by
  obtain ⟨hx, hb, hr, hml, hown, hts, hlocks⟩ := id X
  unfold m_look_J43 at h
  refine lv_istore (lv' := [(4, .int s0), (0, .ref this), (1, .int l1), (2, .int l2), (3, .int l3), (5, .int l5)]) hx hb d_m_look_43 hl (by decide) rfl (fun ls hl => ?_)
  obtain ⟨x1, ex1, h⟩ := obi h
  refine lv_iinc (v := x1) (lv' := [(5, .int x1), (4, .int s0), (0, .ref this), (1, .int l1), (2, .int l2), (3, .int l3)]) hx hb d_m_look_45 hl (k := 5) rfl (Option.some.inj ex1) (by decide) rfl (fun ls hl => ?_)
  refine lv_goto (tgt := 6) hx hb d_m_look_48 (by decide) ?_
  exact hk_6 _ _ _ _ _ _ _ _ _ h hC (lv_sub hl [2, 3, 4, 5, 1, 0] rfl)
theorem w_m_look_J38 {r : MS} {st : MS} {l1 : Int32} {l2 : Int32} {l3 : Int32} {l5 : Int32} {k_6 : MS → Int32 → Int32 → Int32 → Int32 → Int32 → Option MS} {H : Heap} {locs : List Loc} {ls : Array Slot} (X : jx p s m args meth c b_m_look 7 none R_M) (hC : mC G this s st H locs) (hl : lv_has ls 7 [(0, .ref this), (1, .int l1), (2, .int l2), (3, .int l3), (5, .int l5)]) (hk_6 : ∀ (st : MS) (l1 : Int32) (l2 : Int32) (l3 : Int32) (l4 : Int32) (l5 : Int32) (H : Heap) (locs : List Loc) (ls : Array Slot), k_6 st l1 l2 l3 l4 l5 = some r → mC G this s st H locs → lv_has ls 7 [(0, .ref this), (1, .int l1), (2, .int l2), (3, .int l3), (4, .int l4), (5, .int l5)] → W p l e (rmL 2 0 0) s m args below meth c H locs 0 0 (MQ below (mQc G this none r) args s 0 0 (mFr this)) (F0 m 6 ls [])) (h : m_look_J38 k_6 st l1 l2 l3 l5 = some r) : W p l e (rmL 2 0 0) s m args below meth c H locs 0 0 (MQ below (mQc G this none r) args s 0 0 (mFr this)) (F0 m 38 ls []) := by
  obtain ⟨hx, hb, hr, hml, hown, hts, hlocks⟩ := id X
  unfold m_look_J38 at h
  refine lv_iconst (v := 1) hx hb d_m_look_38 (by decide) ?_
  refine lv_goto (tgt := 43) hx hb d_m_look_39 (by decide) ?_
  exact w_m_look_J43 X hC (lv_sub hl [0, 1, 2, 3, 4] rfl) hk_6 h
theorem w_m_look_L6 {r : MS} (X : jx p s m args meth c b_m_look 7 none R_M) : ∀ (n : Nat), ∀ (st : MS) (l1 : Int32) (l2 : Int32) (l3 : Int32) (l4 : Int32) (l5 : Int32) (H : Heap) (locs : List Loc) (ls : Array Slot), m_look_L6 n st l1 l2 l3 l4 l5 = some r → mC G this s st H locs → lv_has ls 7 [(0, .ref this), (1, .int l1), (2, .int l2), (3, .int l3), (4, .int l4), (5, .int l5)] → W p l e (rmL 2 0 0) s m args below meth c H locs 0 0 (MQ below (mQc G this none r) args s 0 0 (mFr this)) (F0 m 6 ls []) := by
  obtain ⟨hx, hb, hr, hml, hown, hts, hlocks⟩ := id X
  intro n
  induction n with
  | zero => intro st l1 l2 l3 l4 l5 H locs ls h hC hl; exact absurd h (by simp [m_look_L6])
  | succ n ih =>
    intro st l1 l2 l3 l4 l5 H locs ls h hC hl
    rw [m_look_L6] at h
    refine lv_iload hx hb d_m_look_6 (lv_at hl 5 rfl) ?_
    refine lv_aload_n hx hb d_m_look_8 rfl (lv_at hl 0 rfl) ?_
    refine mg_arr X hC 33 (by decide) (by decide) q_706 d_m_look_9 ?_
    refine lv_iload_n hx hb d_m_look_12 rfl (lv_at hl 1 rfl) ?_
    obtain ⟨x1, ex1, h⟩ := obi h
    refine ma_ild X hC 33 (by decide) rfl ex1 d_m_look_13 ?_
    refine lv_icmp_ge (tgt := 51) hx hb d_m_look_14 (by decide) (fun c14 => ?_) (fun c14 => ?_)
    · replace h := ifp c14 h
      refine lv_iload hx hb d_m_look_51 (lv_at hl 4 rfl) ?_
      refine lv_if_ne (tgt := 83) hx hb d_m_look_53 (by decide) (fun c53 => ?_) (fun c53 => ?_)
      · replace h := ifn c53 h
        exact w_m_look_J83 X hC (lv_sub hl [0, 1, 2, 3] rfl) h
      · replace h := ifp c53 h
        refine lv_aload_n hx hb d_m_look_56 rfl (lv_at hl 0 rfl) ?_
        refine mg_arr X hC 34 (by decide) (by decide) q_707 d_m_look_57 ?_
        refine lv_bipush (v := 12) hx hb d_m_look_60 (by decide) ?_
        refine lv_iload_n hx hb d_m_look_62 rfl (lv_at hl 1 rfl) ?_
        refine lv_imul hx hb d_m_look_63 ?_
        refine lv_aload_n hx hb d_m_look_64 rfl (lv_at hl 0 rfl) ?_
        refine mg_arr X hC 33 (by decide) (by decide) q_706 d_m_look_65 ?_
        refine lv_iload_n hx hb d_m_look_68 rfl (lv_at hl 1 rfl) ?_
        obtain ⟨x2, ex2, h⟩ := obi h
        refine ma_ild X hC 33 (by decide) rfl ex2 d_m_look_69 ?_
        refine lv_iadd hx hb d_m_look_70 ?_
        refine lv_iload_n hx hb d_m_look_71 rfl (lv_at hl 3 rfl) ?_
        obtain ⟨st3, est3, h⟩ := obi h
        refine ma_ist X hC 34 (by decide) rfl est3 d_m_look_72 (fun H locs hC => ?_)
        refine lv_aload_n hx hb d_m_look_73 rfl (lv_at hl 0 rfl) ?_
        refine mg_arr X hC 33 (by decide) (by decide) q_706 d_m_look_74 ?_
        refine lv_iload_n hx hb d_m_look_77 rfl (lv_at hl 1 rfl) ?_
        refine lv_dup2_11 hx hb d_m_look_78 rfl rfl ?_
        obtain ⟨x4, ex4, h⟩ := obi h
        refine ma_ild X hC 33 (by decide) rfl ex4 d_m_look_79 ?_
        refine lv_iconst (v := 1) hx hb d_m_look_80 (by decide) ?_
        refine lv_iadd hx hb d_m_look_81 ?_
        obtain ⟨st5, est5, h⟩ := obi h
        refine ma_ist X hC 33 (by decide) rfl est5 d_m_look_82 (fun H locs hC => ?_)
        exact w_m_look_J83 X hC (lv_sub hl [0, 1, 2, 3] rfl) h
    · replace h := ifn c14 h
      refine lv_iload hx hb d_m_look_17 (lv_at hl 4 rfl) ?_
      refine lv_if_ne (tgt := 38) hx hb d_m_look_19 (by decide) (fun c19 => ?_) (fun c19 => ?_)
      · replace h := ifn c19 h
        exact w_m_look_J38 X hC (lv_sub hl [0, 1, 2, 3, 5] rfl) ih h
      · replace h := ifp c19 h
        refine lv_aload_n hx hb d_m_look_22 rfl (lv_at hl 0 rfl) ?_
        refine mg_arr X hC 34 (by decide) (by decide) q_707 d_m_look_23 ?_
        refine lv_bipush (v := 12) hx hb d_m_look_26 (by decide) ?_
        refine lv_iload_n hx hb d_m_look_28 rfl (lv_at hl 1 rfl) ?_
        refine lv_imul hx hb d_m_look_29 ?_
        refine lv_iload hx hb d_m_look_30 (lv_at hl 5 rfl) ?_
        refine lv_iadd hx hb d_m_look_32 ?_
        obtain ⟨x6, ex6, h⟩ := obi h
        refine ma_ild X hC 34 (by decide) rfl ex6 d_m_look_33 ?_
        refine lv_iload_n hx hb d_m_look_34 rfl (lv_at hl 3 rfl) ?_
        refine lv_icmp_ne (tgt := 42) hx hb d_m_look_35 (by decide) (fun c35 => ?_) (fun c35 => ?_)
        · replace h := ifn c35 h
          refine lv_iconst (v := 0) hx hb d_m_look_42 (by decide) ?_
          exact w_m_look_J43 X hC (lv_sub hl [0, 1, 2, 3, 5] rfl) ih h
        · replace h := ifp c35 h
          exact w_m_look_J38 X hC (lv_sub hl [0, 1, 2, 3, 5] rfl) ih h
theorem c_m_look (l : Launch) (G : MG) (this : Nat) {st : MS} {a1 : Int32} {a2 : Int32} {a3 : Int32} {r : MS} (h : m_look st a1 a2 a3 = some r) : Met l y_m_look (Cond.code y_m_look b_m_look 7 none :: lw_g) (rmL 2 0 0) (mPc G this [.int a1, .int a2, .int a3] st) (mQc G this none r) 0 0 (mFr this) := by
  refine Met.ofM (by decide +kernel) (Nat.le_of_ble_eq_true rfl) ?_
  intro p e s m below meth c ls X hC hl
  have hl : lv_has ls 7 [(0, .ref this), (1, .int a1), (2, .int a2), (3, .int a3)] := hl
  generalize (Value.ref this :: [.int a1, .int a2, .int a3]).toArray = args at X ⊢
  obtain ⟨hx, hb, hr, hml, hown, hts, hlocks⟩ := id X
  generalize hHH : s.heap = H at hC ⊢
  generalize ([] : List Loc) = locs at hC ⊢
  clear hHH
  unfold m_look at h
  refine lv_iconst (v := 0) hx hb d_m_look_0 (by decide) ?_
  refine lv_istore (lv' := [(4, .int 0), (0, .ref this), (1, .int a1), (2, .int a2), (3, .int a3)]) hx hb d_m_look_1 hl (by decide) rfl (fun ls hl => ?_)
  refine lv_iconst (v := 0) hx hb d_m_look_3 (by decide) ?_
  refine lv_istore (lv' := [(5, .int 0), (4, .int 0), (0, .ref this), (1, .int a1), (2, .int a2), (3, .int a3)]) hx hb d_m_look_4 hl (by decide) rfl (fun ls hl => ?_)
  exact w_m_look_L6 X 1000 _ _ _ _ _ _ _ _ _ h hC (lv_sub hl [2, 3, 4, 5, 1, 0] rfl)
end
