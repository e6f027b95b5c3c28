section
variable {p : Program} {l : Launch} {e : Env} {s : State} {m : MethodId} {args : Array Value} {below : List Frame} {meth : Method} {c : Code} {G : MG} {this : Nat}
theorem c_m_pop (l : Launch) (G : MG) (this : Nat) {st : MS} {a1 : Int32} {r : Int64 × MS} (h : m_pop st a1 = some r) : Met l y_m_pop (Cond.code y_m_pop b_m_pop 2 (some .long) :: lw_g) (rmL 0 0 0) (mPc G this [.int a1] st) (mQc G this (some (.long r.1)) r.2) 0 0 (mFr this) := by
  refine Met.ofM (by decide +kernel) (Nat.le_of_ble_eq_true rfl) ?_
  intro p e s m below meth c ls X hC hl
  have hl : lv_has ls 2 [(0, .ref this), (1, .int a1)] := hl
  generalize (Value.ref this :: [.int a1]).toArray = args at X ⊢
  obtain ⟨hx, hb, hr, hml, hown, hts, hlocks⟩ := id X
  generalize hHH : s.heap = H at hC ⊢
  generalize ([] : List Loc) = locs at hC ⊢
  clear hHH
  unfold m_pop at h
  refine lv_aload_n hx hb d_m_pop_0 rfl (lv_at hl 0 rfl) ?_
  refine mg_arr X hC 31 (by decide) (by decide) q_704 d_m_pop_1 ?_
  refine lv_iload_n hx hb d_m_pop_4 rfl (lv_at hl 1 rfl) ?_
  refine lv_dup2_11 hx hb d_m_pop_5 rfl rfl ?_
  obtain ⟨x1, ex1, h⟩ := obi h
  refine ma_ild X hC 31 (by decide) rfl ex1 d_m_pop_6 ?_
  refine lv_iconst (v := 1) hx hb d_m_pop_7 (by decide) ?_
  refine lv_isub hx hb d_m_pop_8 ?_
  obtain ⟨st2, est2, h⟩ := obi h
  refine ma_ist X hC 31 (by decide) rfl est2 d_m_pop_9 (fun H locs hC => ?_)
  refine lv_aload_n hx hb d_m_pop_10 rfl (lv_at hl 0 rfl) ?_
  refine mg_arr X hC 32 (by decide) (by decide) q_705 d_m_pop_11 ?_
  refine lv_bipush (v := 16) hx hb d_m_pop_14 (by decide) ?_
  refine lv_iload_n hx hb d_m_pop_16 rfl (lv_at hl 1 rfl) ?_
  refine lv_imul hx hb d_m_pop_17 ?_
  refine lv_aload_n hx hb d_m_pop_18 rfl (lv_at hl 0 rfl) ?_
  refine mg_arr X hC 31 (by decide) (by decide) q_704 d_m_pop_19 ?_
  refine lv_iload_n hx hb d_m_pop_22 rfl (lv_at hl 1 rfl) ?_
  obtain ⟨x3, ex3, h⟩ := obi h
  refine ma_ild X hC 31 (by decide) rfl ex3 d_m_pop_23 ?_
  refine lv_iadd hx hb d_m_pop_24 ?_
  obtain ⟨x4, ex4, h⟩ := obi h
  refine ma_lld X hC 32 (by decide) rfl ex4 d_m_pop_25 ?_
  cases h
  exact mret_l X hC d_m_pop_26
theorem w_m_combine_J89 {r : MS} {st : MS} {s0 : Int64} {s1 : Int32} {H : Heap} {locs : List Loc} {ls : Array Slot} (X : jx p s m args meth c b_m_combine 5 none R_M) (hC : mC G this s st H locs) (hl : lv_has ls 5 []) (h : m_combine_J89 st s0 s1 = some r) : W p l e (rmL 1 0 0) s m args below meth c H locs 0 0 (MQ below (mQc G this none r) args s 0 0 (mFr this)) (F0 m 89 ls [.long s0, .int s1, .ref this]) := by
  obtain ⟨hx, hb, hr, hml, hown, hts, hlocks⟩ := id X
  unfold m_combine_J89 at h
  obtain ⟨st1, est1, h⟩ := obi h
  refine mcallV_v X hC (c_m_push l G this est1) q_934 q_936 q_p46 q_8 q_937 ok_m_push rfl ⟨by decide, by decide⟩ hl.1 rfl (Nat.le_of_ble_eq_true rfl) d_m_combine_89 ⟨Nat.zero_le _, Nat.zero_le _⟩ (fun H locs hC => ?_)
  cases h
  exact mret_v X hC d_m_combine_92
theorem w_m_combine_J74 {r : MS} {st : MS} {s0 : Int32} {s1 : Int32} {H : Heap} {locs : List Loc} {ls : Array Slot} (X : jx p s m args meth c b_m_combine 5 none R_M) (hC : mC G this s st H locs) (hl : lv_has ls 5 []) (h : m_combine_J74 st s0 s1 = some r) : W p l e (rmL 1 0 0) s m args below meth c H locs 0 0 (MQ below (mQc G this none r) args s 0 0 (mFr this)) (F0 m 74 ls [.int s0, .int s1, .ref this]) := by
  obtain ⟨hx, hb, hr, hml, hown, hts, hlocks⟩ := id X
  unfold m_combine_J74 at h
  refine lv_i2l (v := _) hx hb d_m_combine_74 rfl ?_
  refine lv_goto (tgt := 89) hx hb d_m_combine_75 (by decide) ?_
  exact w_m_combine_J89 X hC (lv_sub hl [] rfl) h
theorem c_m_combine (l : Launch) (G : MG) (this : Nat) {st : MS} {a1 : Int32} {a2 : Int32} {r : MS} (h : m_combine st a1 a2 = some r) : Met l y_m_combine (Cond.code y_m_combine b_m_combine 5 none :: lw_g) (rmL 1 0 0) (mPc G this [.int a1, .int a2] st) (mQc G this none r) 0 0 (mFr this) := by
  refine Met.ofM (by decide +kernel) (Nat.le_of_ble_eq_true rfl) ?_
  intro p e s m below meth c ls X hC hl
  have hl : lv_has ls 5 [(0, .ref this), (1, .int a1), (2, .int a2)] := hl
  generalize (Value.ref this :: [.int a1, .int a2]).toArray = args at X ⊢
  obtain ⟨hx, hb, hr, hml, hown, hts, hlocks⟩ := id X
  generalize hHH : s.heap = H at hC ⊢
  generalize ([] : List Loc) = locs at hC ⊢
  clear hHH
  unfold m_combine at h
  refine lv_aload_n hx hb d_m_combine_0 rfl (lv_at hl 0 rfl) ?_
  refine lv_iload_n hx hb d_m_combine_1 rfl (lv_at hl 1 rfl) ?_
  obtain ⟨q1, eq1, h⟩ := obi h
  refine mcallV_l X hC (c_m_pop l G this eq1) q_938 q_940 q_p47 q_8 q_941 ok_m_pop rfl ⟨by decide, by decide⟩ hl.1 rfl (Nat.le_of_ble_eq_true rfl) d_m_combine_2 ⟨Nat.zero_le _, Nat.zero_le _⟩ (fun H locs hC => ?_)
  refine lv_l2i (v := _) hx hb d_m_combine_5 rfl ?_
  obtain ⟨x2, ex2, h⟩ := obi h
  refine lv_nm (Option.some.inj ex2) ?_
  refine lv_istore_n (lv' := [(3, .int x2), (0, .ref this), (1, .int a1), (2, .int a2)]) hx hb d_m_combine_6 rfl hl (by decide) rfl (fun ls hl => ?_)
  refine lv_aload_n hx hb d_m_combine_7 rfl (lv_at hl 1 rfl) ?_
  refine lv_iload_n hx hb d_m_combine_8 rfl (lv_at hl 2 rfl) ?_
  obtain ⟨q3, eq3, h⟩ := obi h
  refine mcallV_l X hC (c_m_pop l G this eq3) q_938 q_940 q_p47 q_8 q_941 ok_m_pop rfl ⟨by decide, by decide⟩ hl.1 rfl (Nat.le_of_ble_eq_true rfl) d_m_combine_9 ⟨Nat.zero_le _, Nat.zero_le _⟩ (fun H locs hC => ?_)
  refine lv_l2i (v := _) hx hb d_m_combine_12 rfl ?_
  obtain ⟨x4, ex4, h⟩ := obi h
  refine lv_nm (Option.some.inj ex4) ?_
  refine lv_istore (lv' := [(4, .int x4), (3, .int x2), (0, .ref this), (1, .int a1), (2, .int a2)]) hx hb d_m_combine_13 hl (by decide) rfl (fun ls hl => ?_)
  refine lv_aload_n hx hb d_m_combine_15 rfl (lv_at hl 2 rfl) ?_
  refine lv_iload_n hx hb d_m_combine_16 rfl (lv_at hl 3 rfl) ?_
  refine lv_iload_n hx hb d_m_combine_17 rfl (lv_at hl 4 rfl) ?_
  refine lv_iconst (v := 4) hx hb d_m_combine_18 (by decide) ?_
  refine lv_icmp_ne (tgt := 30) hx hb d_m_combine_19 (by decide) (fun c19 => ?_) (fun c19 => ?_)
  · replace h := ifn c19 h
    refine lv_iload_n hx hb d_m_combine_30 rfl (lv_at hl 4 rfl) ?_
    refine lv_iconst (v := 5) hx hb d_m_combine_31 (by decide) ?_
    refine lv_icmp_ne (tgt := 43) hx hb d_m_combine_32 (by decide) (fun c32 => ?_) (fun c32 => ?_)
    · replace h := ifn c32 h
      refine lv_iload_n hx hb d_m_combine_43 rfl (lv_at hl 4 rfl) ?_
      refine lv_bipush (v := 6) hx hb d_m_combine_44 (by decide) ?_
      refine lv_icmp_ne (tgt := 57) hx hb d_m_combine_46 (by decide) (fun c46 => ?_) (fun c46 => ?_)
      · replace h := ifn c46 h
        refine lv_iload_n hx hb d_m_combine_57 rfl (lv_at hl 4 rfl) ?_
        refine lv_bipush (v := 7) hx hb d_m_combine_58 (by decide) ?_
        refine lv_icmp_ne (tgt := 78) hx hb d_m_combine_60 (by decide) (fun c60 => ?_) (fun c60 => ?_)
        · replace h := ifn c60 h
          refine lv_iload hx hb d_m_combine_78 (lv_at hl 0 rfl) ?_
          refine lv_iload_n hx hb d_m_combine_80 rfl (lv_at hl 1 rfl) ?_
          refine lv_icmp_ne (tgt := 88) hx hb d_m_combine_81 (by decide) (fun c81 => ?_) (fun c81 => ?_)
          · replace h := ifn c81 h
            refine lv_lconst (v := 0) hx hb d_m_combine_88 (by decide) ?_
            exact w_m_combine_J89 X hC (lv_sub hl [] rfl) h
          · replace h := ifp c81 h
            refine lv_lconst (v := 1) hx hb d_m_combine_84 (by decide) ?_
            refine lv_goto (tgt := 89) hx hb d_m_combine_85 (by decide) ?_
            exact w_m_combine_J89 X hC (lv_sub hl [] rfl) h
        · replace h := ifp c60 h
          refine lv_iload hx hb d_m_combine_63 (lv_at hl 0 rfl) ?_
          refine lv_iload_n hx hb d_m_combine_65 rfl (lv_at hl 1 rfl) ?_
          refine lv_icmp_ge (tgt := 73) hx hb d_m_combine_66 (by decide) (fun c66 => ?_) (fun c66 => ?_)
          · replace h := ifp c66 h
            refine lv_iconst (v := 0) hx hb d_m_combine_73 (by decide) ?_
            exact w_m_combine_J74 X hC (lv_sub hl [] rfl) h
          · replace h := ifn c66 h
            refine lv_iconst (v := 1) hx hb d_m_combine_69 (by decide) ?_
            refine lv_goto (tgt := 74) hx hb d_m_combine_70 (by decide) ?_
            exact w_m_combine_J74 X hC (lv_sub hl [] rfl) h
      · replace h := ifp c46 h
        refine lv_iload hx hb d_m_combine_49 (lv_at hl 0 rfl) ?_
        refine lv_iload_n hx hb d_m_combine_51 rfl (lv_at hl 1 rfl) ?_
        refine lv_isub hx hb d_m_combine_52 ?_
        refine lv_i2l (v := _) hx hb d_m_combine_53 rfl ?_
        refine lv_goto (tgt := 89) hx hb d_m_combine_54 (by decide) ?_
        exact w_m_combine_J89 X hC (lv_sub hl [] rfl) h
    · replace h := ifp c32 h
      refine lv_iload hx hb d_m_combine_35 (lv_at hl 0 rfl) ?_
      refine lv_iload_n hx hb d_m_combine_37 rfl (lv_at hl 1 rfl) ?_
      refine lv_iadd hx hb d_m_combine_38 ?_
      refine lv_i2l (v := _) hx hb d_m_combine_39 rfl ?_
      refine lv_goto (tgt := 89) hx hb d_m_combine_40 (by decide) ?_
      exact w_m_combine_J89 X hC (lv_sub hl [] rfl) h
  · replace h := ifp c19 h
    refine lv_iload hx hb d_m_combine_22 (lv_at hl 0 rfl) ?_
    refine lv_iload_n hx hb d_m_combine_24 rfl (lv_at hl 1 rfl) ?_
    refine lv_imul hx hb d_m_combine_25 ?_
    refine lv_i2l (v := _) hx hb d_m_combine_26 rfl ?_
    refine lv_goto (tgt := 89) hx hb d_m_combine_27 (by decide) ?_
    exact w_m_combine_J89 X hC (lv_sub hl [] rfl) h
theorem w_m_advance_J199 {r : MS} {st : MS} {s0 : Int32} {s1 : Int32} {H : Heap} {locs : List Loc} {ls : Array Slot} (X : jx p s m args meth c b_m_advance 6 none R_M) (hC : mC G this s st H locs) (hl : lv_has ls 6 []) (h : m_advance_J199 st s0 s1 = some r) : W p l e (rmL 3 0 0) s m args below meth c H locs 0 0 (MQ below (mQc G this none r) args s 0 0 (mFr this)) (F0 m 199 ls [.int s0, .int s1, .ref (this + mo 30)]) := by
  obtain ⟨hx, hb, hr, hml, hown, hts, hlocks⟩ := id X
  unfold m_advance_J199 at h
  obtain ⟨st1, est1, h⟩ := obi h
  refine ma_ist X hC 30 (by decide) rfl est1 d_m_advance_199 (fun H locs hC => ?_)
  refine lv_goto (tgt := 209) hx hb d_m_advance_200 (by decide) ?_
  cases h
  exact mret_v X hC d_m_advance_209
theorem w_m_advance_J98 {r : MS} {st : MS} {s0 : Int32} {s1 : Int32} {s2 : Int32} {H : Heap} {locs : List Loc} {ls : Array Slot} (X : jx p s m args meth c b_m_advance 6 none R_M) (hC : mC G this s st H locs) (hl : lv_has ls 6 []) (h : m_advance_J98 st s0 s1 s2 = some r) : W p l e (rmL 3 0 0) s m args below meth c H locs 0 0 (MQ below (mQc G this none r) args s 0 0 (mFr this)) (F0 m 98 ls [.int s0, .int s1, .int s2, .ref this]) := by
  obtain ⟨hx, hb, hr, hml, hown, hts, hlocks⟩ := id X
  unfold m_advance_J98 at h
  obtain ⟨st1, est1, h⟩ := obi h
  refine mcallV_v X hC (c_m_look l G this est1) q_929 q_931 q_p45 q_8 q_932 ok_m_look rfl ⟨by decide, by decide⟩ hl.1 rfl (Nat.le_of_ble_eq_true rfl) d_m_advance_98 ⟨Nat.zero_le _, Nat.zero_le _⟩ (fun H locs hC => ?_)
  refine lv_goto (tgt := 209) hx hb d_m_advance_101 (by decide) ?_
  cases h
  exact mret_v X hC d_m_advance_209
theorem c_m_advance (l : Launch) (G : MG) (this : Nat) {st : MS} {a1 : Int32} {a2 : Int32} {r : MS} (h : m_advance st a1 a2 = some r) : Met l y_m_advance (Cond.code y_m_advance b_m_advance 6 none :: lw_g) (rmL 3 0 0) (mPc G this [.int a1, .int a2] st) (mQc G this none r) 0 0 (mFr this) := by
  refine Met.ofM (by decide +kernel) (Nat.le_of_ble_eq_true rfl) ?_
  intro p e s m below meth c ls X hC hl
  have hl : lv_has ls 6 [(0, .ref this), (1, .int a1), (2, .int a2)] := hl
  generalize (Value.ref this :: [.int a1, .int a2]).toArray = args at X ⊢
  obtain ⟨hx, hb, hr, hml, hown, hts, hlocks⟩ := id X
  generalize hHH : s.heap = H at hC ⊢
  generalize ([] : List Loc) = locs at hC ⊢
  clear hHH
  unfold m_advance at h
  refine lv_aload_n hx hb d_m_advance_0 rfl (lv_at hl 0 rfl) ?_
  refine mg_arr X hC 9 (by decide) (by decide) q_682 d_m_advance_1 ?_
  refine lv_bipush (v := 40) hx hb d_m_advance_4 (by decide) ?_
  refine lv_iload_n hx hb d_m_advance_6 rfl (lv_at hl 2 rfl) ?_
  refine lv_imul hx hb d_m_advance_7 ?_
  refine lv_aload_n hx hb d_m_advance_8 rfl (lv_at hl 0 rfl) ?_
  refine mg_arr X hC 30 (by decide) (by decide) q_703 d_m_advance_9 ?_
  refine lv_iload_n hx hb d_m_advance_12 rfl (lv_at hl 1 rfl) ?_
  obtain ⟨x1, ex1, h⟩ := obi h
  refine ma_ild X hC 30 (by decide) rfl ex1 d_m_advance_13 ?_
  refine lv_iadd hx hb d_m_advance_14 ?_
  obtain ⟨x2, ex2, h⟩ := obi h
  refine ma_ild X hC 9 (by decide) rfl ex2 d_m_advance_15 ?_
  refine lv_istore_n (lv' := [(3, .int x2), (0, .ref this), (1, .int a1), (2, .int a2)]) hx hb d_m_advance_16 rfl hl (by decide) rfl (fun ls hl => ?_)
  refine lv_aload_n hx hb d_m_advance_17 rfl (lv_at hl 1 rfl) ?_
  refine mg_arr X hC 10 (by decide) (by decide) q_683 d_m_advance_18 ?_
  refine lv_bipush (v := 40) hx hb d_m_advance_21 (by decide) ?_
  refine lv_iload_n hx hb d_m_advance_23 rfl (lv_at hl 3 rfl) ?_
  refine lv_imul hx hb d_m_advance_24 ?_
  refine lv_aload_n hx hb d_m_advance_25 rfl (lv_at hl 1 rfl) ?_
  refine mg_arr X hC 30 (by decide) (by decide) q_703 d_m_advance_26 ?_
  refine lv_iload_n hx hb d_m_advance_29 rfl (lv_at hl 2 rfl) ?_
  obtain ⟨x3, ex3, h⟩ := obi h
  refine ma_ild X hC 30 (by decide) rfl ex3 d_m_advance_30 ?_
  refine lv_iadd hx hb d_m_advance_31 ?_
  obtain ⟨x4, ex4, h⟩ := obi h
  refine ma_ild X hC 10 (by decide) rfl ex4 d_m_advance_32 ?_
  refine lv_istore (lv' := [(4, .int x4), (3, .int x2), (0, .ref this), (1, .int a1), (2, .int a2)]) hx hb d_m_advance_33 hl (by decide) rfl (fun ls hl => ?_)
  refine lv_iload_n hx hb d_m_advance_35 rfl (lv_at hl 1 rfl) ?_
  refine lv_iconst (v := 1) hx hb d_m_advance_36 (by decide) ?_
  refine lv_icmp_ne (tgt := 51) hx hb d_m_advance_37 (by decide) (fun c37 => ?_) (fun c37 => ?_)
  · replace h := ifn c37 h
    refine lv_iload_n hx hb d_m_advance_51 rfl (lv_at hl 1 rfl) ?_
    refine lv_iconst (v := 2) hx hb d_m_advance_52 (by decide) ?_
    refine lv_icmp_ne (tgt := 104) hx hb d_m_advance_53 (by decide) (fun c53 => ?_) (fun c53 => ?_)
    · replace h := ifn c53 h
      refine lv_aload_n hx hb d_m_advance_104 rfl (lv_at hl 2 rfl) ?_
      refine mg_arr X hC 30 (by decide) (by decide) q_703 d_m_advance_105 ?_
      refine lv_iload_n hx hb d_m_advance_108 rfl (lv_at hl 3 rfl) ?_
      refine lv_dup2_11 hx hb d_m_advance_109 rfl rfl ?_
      obtain ⟨x5, ex5, h⟩ := obi h
      refine ma_ild X hC 30 (by decide) rfl ex5 d_m_advance_110 ?_
      refine lv_iconst (v := 1) hx hb d_m_advance_111 (by decide) ?_
      refine lv_iadd hx hb d_m_advance_112 ?_
      obtain ⟨st6, est6, h⟩ := obi h
      refine ma_ist X hC 30 (by decide) rfl est6 d_m_advance_113 (fun H locs hC => ?_)
      refine lv_iload_n hx hb d_m_advance_114 rfl (lv_at hl 1 rfl) ?_
      refine lv_if_ne (tgt := 129) hx hb d_m_advance_115 (by decide) (fun c115 => ?_) (fun c115 => ?_)
      · replace h := ifn c115 h
        refine lv_iload_n hx hb d_m_advance_129 rfl (lv_at hl 1 rfl) ?_
        refine lv_iconst (v := 3) hx hb d_m_advance_130 (by decide) ?_
        refine lv_icmp_ne (tgt := 150) hx hb d_m_advance_131 (by decide) (fun c131 => ?_) (fun c131 => ?_)
        · replace h := ifn c131 h
          refine lv_iload_n hx hb d_m_advance_150 rfl (lv_at hl 1 rfl) ?_
          refine lv_bipush (v := 9) hx hb d_m_advance_151 (by decide) ?_
          refine lv_icmp_ne (tgt := 167) hx hb d_m_advance_153 (by decide) (fun c153 => ?_) (fun c153 => ?_)
          · replace h := ifn c153 h
            refine lv_iload_n hx hb d_m_advance_167 rfl (lv_at hl 1 rfl) ?_
            refine lv_bipush (v := 10) hx hb d_m_advance_168 (by decide) ?_
            refine lv_icmp_ne (tgt := 203) hx hb d_m_advance_170 (by decide) (fun c170 => ?_) (fun c170 => ?_)
            · replace h := ifn c170 h
              refine lv_aload_n hx hb d_m_advance_203 rfl (lv_at hl 2 rfl) ?_
              refine lv_iload_n hx hb d_m_advance_204 rfl (lv_at hl 3 rfl) ?_
              refine lv_iload_n hx hb d_m_advance_205 rfl (lv_at hl 1 rfl) ?_
              obtain ⟨st7, est7, h⟩ := obi h
              refine mcallV_v X hC (c_m_combine l G this est7) q_942 q_944 q_p48 q_8 q_945 ok_m_combine rfl ⟨by decide, by decide⟩ hl.1 rfl (Nat.le_of_ble_eq_true rfl) d_m_advance_206 ⟨Nat.zero_le _, Nat.zero_le _⟩ (fun H locs hC => ?_)
              cases h
              exact mret_v X hC d_m_advance_209
            · replace h := ifp c170 h
              refine lv_aload_n hx hb d_m_advance_173 rfl (lv_at hl 2 rfl) ?_
              refine mg_arr X hC 30 (by decide) (by decide) q_703 d_m_advance_174 ?_
              refine lv_iload_n hx hb d_m_advance_177 rfl (lv_at hl 3 rfl) ?_
              refine lv_aload_n hx hb d_m_advance_178 rfl (lv_at hl 2 rfl) ?_
              refine lv_iload_n hx hb d_m_advance_179 rfl (lv_at hl 3 rfl) ?_
              obtain ⟨q8, eq8, h⟩ := obi h
              refine mcallV_l X hC (c_m_pop l G this eq8) q_938 q_940 q_p47 q_8 q_941 ok_m_pop rfl ⟨by decide, by decide⟩ hl.1 rfl (Nat.le_of_ble_eq_true rfl) d_m_advance_180 ⟨Nat.zero_le _, Nat.zero_le _⟩ (fun H locs hC => ?_)
              refine lv_lconst (v := 0) hx hb d_m_advance_183 (by decide) ?_
              refine W.lcmp hx hb d_m_advance_184 ?_
              refine lv_if_ne (tgt := 193) hx hb d_m_advance_185 (by decide) (fun c185 => ?_) (fun c185 => ?_)
              · replace h := ifn c185 h
                refine lv_aload_n hx hb d_m_advance_193 rfl (lv_at hl 2 rfl) ?_
                refine mg_arr X hC 30 (by decide) (by decide) q_703 d_m_advance_194 ?_
                refine lv_iload_n hx hb d_m_advance_197 rfl (lv_at hl 3 rfl) ?_
                obtain ⟨x9, ex9, h⟩ := obi h
                refine ma_ild X hC 30 (by decide) rfl ex9 d_m_advance_198 ?_
                exact w_m_advance_J199 X hC (lv_sub hl [] rfl) h
              · replace h := ifp c185 h
                refine lv_iload hx hb d_m_advance_188 (lv_at hl 0 rfl) ?_
                refine lv_goto (tgt := 199) hx hb d_m_advance_190 (by decide) ?_
                exact w_m_advance_J199 X hC (lv_sub hl [] rfl) h
          · replace h := ifp c153 h
            refine lv_aload_n hx hb d_m_advance_156 rfl (lv_at hl 2 rfl) ?_
            refine mg_arr X hC 30 (by decide) (by decide) q_703 d_m_advance_157 ?_
            refine lv_iload_n hx hb d_m_advance_160 rfl (lv_at hl 3 rfl) ?_
            refine lv_iload hx hb d_m_advance_161 (lv_at hl 0 rfl) ?_
            obtain ⟨st10, est10, h⟩ := obi h
            refine ma_ist X hC 30 (by decide) rfl est10 d_m_advance_163 (fun H locs hC => ?_)
            refine lv_goto (tgt := 209) hx hb d_m_advance_164 (by decide) ?_
            cases h
            exact mret_v X hC d_m_advance_209
        · replace h := ifp c131 h
          refine lv_aload_n hx hb d_m_advance_134 rfl (lv_at hl 2 rfl) ?_
          refine lv_iload_n hx hb d_m_advance_135 rfl (lv_at hl 3 rfl) ?_
          refine lv_aload_n hx hb d_m_advance_136 rfl (lv_at hl 2 rfl) ?_
          refine lv_iload_n hx hb d_m_advance_137 rfl (lv_at hl 3 rfl) ?_
          obtain ⟨q11, eq11, h⟩ := obi h
          refine mcallV_l X hC (c_m_pop l G this eq11) q_938 q_940 q_p47 q_8 q_941 ok_m_pop rfl ⟨by decide, by decide⟩ hl.1 rfl (Nat.le_of_ble_eq_true rfl) d_m_advance_138 ⟨Nat.zero_le _, Nat.zero_le _⟩ (fun H locs hC => ?_)
          refine lv_l2i (v := _) hx hb d_m_advance_141 rfl ?_
          refine lv_ineg hx hb d_m_advance_142 ?_
          refine lv_i2l (v := _) hx hb d_m_advance_143 rfl ?_
          obtain ⟨st12, est12, h⟩ := obi h
          refine mcallV_v X hC (c_m_push l G this est12) q_934 q_936 q_p46 q_8 q_937 ok_m_push rfl ⟨by decide, by decide⟩ hl.1 rfl (Nat.le_of_ble_eq_true rfl) d_m_advance_144 ⟨Nat.zero_le _, Nat.zero_le _⟩ (fun H locs hC => ?_)
          refine lv_goto (tgt := 209) hx hb d_m_advance_147 (by decide) ?_
          cases h
          exact mret_v X hC d_m_advance_209
      · replace h := ifp c115 h
        refine lv_aload_n hx hb d_m_advance_118 rfl (lv_at hl 2 rfl) ?_
        refine lv_iload_n hx hb d_m_advance_119 rfl (lv_at hl 3 rfl) ?_
        refine lv_iload hx hb d_m_advance_120 (lv_at hl 0 rfl) ?_
        refine lv_i2l (v := _) hx hb d_m_advance_122 rfl ?_
        obtain ⟨st13, est13, h⟩ := obi h
        refine mcallV_v X hC (c_m_push l G this est13) q_934 q_936 q_p46 q_8 q_937 ok_m_push rfl ⟨by decide, by decide⟩ hl.1 rfl (Nat.le_of_ble_eq_true rfl) d_m_advance_123 ⟨Nat.zero_le _, Nat.zero_le _⟩ (fun H locs hC => ?_)
        refine lv_goto (tgt := 209) hx hb d_m_advance_126 (by decide) ?_
        cases h
        exact mret_v X hC d_m_advance_209
    · replace h := ifp c53 h
      refine lv_aload_n hx hb d_m_advance_56 rfl (lv_at hl 2 rfl) ?_
      refine mg_arr X hC 32 (by decide) (by decide) q_705 d_m_advance_57 ?_
      refine lv_bipush (v := 16) hx hb d_m_advance_60 (by decide) ?_
      refine lv_iload_n hx hb d_m_advance_62 rfl (lv_at hl 3 rfl) ?_
      refine lv_imul hx hb d_m_advance_63 ?_
      refine lv_aload_n hx hb d_m_advance_64 rfl (lv_at hl 2 rfl) ?_
      refine mg_arr X hC 31 (by decide) (by decide) q_704 d_m_advance_65 ?_
      refine lv_iload_n hx hb d_m_advance_68 rfl (lv_at hl 3 rfl) ?_
      obtain ⟨x14, ex14, h⟩ := obi h
      refine ma_ild X hC 31 (by decide) rfl ex14 d_m_advance_69 ?_
      refine lv_iadd hx hb d_m_advance_70 ?_
      refine lv_iconst (v := 1) hx hb d_m_advance_71 (by decide) ?_
      refine lv_isub hx hb d_m_advance_72 ?_
      obtain ⟨x15, ex15, h⟩ := obi h
      refine ma_lld X hC 32 (by decide) rfl ex15 d_m_advance_73 ?_
      refine lv_l2i (v := _) hx hb d_m_advance_74 rfl ?_
      refine lv_bipush (v := 12) hx hb d_m_advance_75 (by decide) ?_
      refine lv_irem hx hb d_m_advance_77 (by decide) ?_
      obtain ⟨x16, ex16, h⟩ := obi h
      refine lv_nm (Option.some.inj ex16) ?_
      refine lv_istore (lv' := [(5, .int x16), (4, .int x4), (3, .int x2), (0, .ref this), (1, .int a1), (2, .int a2)]) hx hb d_m_advance_78 hl (by decide) rfl (fun ls hl => ?_)
      refine lv_aload_n hx hb d_m_advance_80 rfl (lv_at hl 3 rfl) ?_
      refine lv_iload_n hx hb d_m_advance_81 rfl (lv_at hl 4 rfl) ?_
      refine lv_iload_n hx hb d_m_advance_82 rfl (lv_at hl 5 rfl) ?_
      refine lv_iload hx hb d_m_advance_83 (lv_at hl 0 rfl) ?_
      refine lv_if_ge (tgt := 96) hx hb d_m_advance_85 (by decide) (fun c85 => ?_) (fun c85 => ?_)
      · replace h := ifp c85 h
        refine lv_iload hx hb d_m_advance_96 (lv_at hl 0 rfl) ?_
        exact w_m_advance_J98 X hC (lv_sub hl [] rfl) h
      · replace h := ifn c85 h
        refine lv_iload hx hb d_m_advance_88 (lv_at hl 0 rfl) ?_
        refine lv_bipush (v := 12) hx hb d_m_advance_90 (by decide) ?_
        refine lv_iadd hx hb d_m_advance_92 ?_
        refine lv_goto (tgt := 98) hx hb d_m_advance_93 (by decide) ?_
        exact w_m_advance_J98 X hC (lv_sub hl [] rfl) h
  · replace h := ifp c37 h
    refine lv_aload_n hx hb d_m_advance_40 rfl (lv_at hl 2 rfl) ?_
    refine lv_iload_n hx hb d_m_advance_41 rfl (lv_at hl 3 rfl) ?_
    refine lv_iload_n hx hb d_m_advance_42 rfl (lv_at hl 4 rfl) ?_
    refine lv_iload hx hb d_m_advance_43 (lv_at hl 0 rfl) ?_
    obtain ⟨st17, est17, h⟩ := obi h
    refine mcallV_v X hC (c_m_look l G this est17) q_929 q_931 q_p45 q_8 q_932 ok_m_look rfl ⟨by decide, by decide⟩ hl.1 rfl (Nat.le_of_ble_eq_true rfl) d_m_advance_45 ⟨Nat.zero_le _, Nat.zero_le _⟩ (fun H locs hC => ?_)
    refine lv_goto (tgt := 209) hx hb d_m_advance_48 (by decide) ?_
    cases h
    exact mret_v X hC d_m_advance_209
theorem w_m_runAll_J163 {r : MS} {st : MS} {k_0 : MS → Option MS} {H : Heap} {locs : List Loc} {ls : Array Slot} (X : jx p s m args meth c b_m_runAll 2 none R_M) (hC : mC G this s st H locs) (hl : lv_has ls 2 [(0, .ref this)]) (hk_0 : ∀ (st : MS) (H : Heap) (locs : List Loc) (ls : Array Slot), k_0 st = some r → mC G this s st H locs → lv_has ls 2 [(0, .ref this)] → W p l e (rmL 4 0 0) s m args below meth c H locs 0 0 (MQ below (mQc G this none r) args s 0 0 (mFr this)) (F0 m 0 ls [])) (h : m_runAll_J163 k_0 st = some r) : W p l e (rmL 4 0 0) s m args below meth c H locs 0 0 (MQ below (mQc G this none r) args s 0 0 (mFr this)) (F0 m 163 ls []) := by
  obtain ⟨hx, hb, hr, hml, hown, hts, hlocks⟩ := id X
  unfold m_runAll_J163 at h
  refine lv_goto (tgt := 0) hx hb d_m_runAll_163 (by decide) ?_
  exact hk_0 _ _ _ _ h hC (lv_sub hl [0] rfl)
theorem w_m_runAll_L0 {r : MS} (X : jx p s m args meth c b_m_runAll 2 none R_M) : ∀ (n : Nat), ∀ (st : MS) (H : Heap) (locs : List Loc) (ls : Array Slot), m_runAll_L0 n st = some r → mC G this s st H locs → lv_has ls 2 [(0, .ref this)] → W p l e (rmL 4 0 0) s m args below meth c H locs 0 0 (MQ below (mQc G this none r) args s 0 0 (mFr this)) (F0 m 0 ls []) := by
  obtain ⟨hx, hb, hr, hml, hown, hts, hlocks⟩ := id X
  intro n
  induction n with
  | zero => intro st H locs ls h hC hl; exact absurd h (by simp [m_runAll_L0])
  | succ n ih =>
    intro st H locs ls h hC hl
    rw [m_runAll_L0] at h
    refine lv_aload_n hx hb d_m_runAll_0 rfl (lv_at hl 0 rfl) ?_
    refine mg_int X hC 27 (by decide) rfl q_700 d_m_runAll_1 ?_
    refine lv_if_le (tgt := 166) hx hb d_m_runAll_4 (by decide) (fun c4 => ?_) (fun c4 => ?_)
    · replace h := ifp c4 h
      cases h
      exact mret_v X hC d_m_runAll_166
    · replace h := ifn c4 h
      refine lv_aload_n hx hb d_m_runAll_7 rfl (lv_at hl 0 rfl) ?_
      refine mg_int X hC 27 (by decide) rfl q_700 d_m_runAll_8 ?_
      refine lv_iconst (v := 1) hx hb d_m_runAll_11 (by decide) ?_
      refine lv_isub hx hb d_m_runAll_12 ?_
      obtain ⟨x1, ex1, h⟩ := obi h
      refine lv_nm (Option.some.inj ex1) ?_
      refine lv_istore_n (lv' := [(1, .int x1), (0, .ref this)]) hx hb d_m_runAll_13 rfl hl (by decide) rfl (fun ls hl => ?_)
      refine lv_aload_n hx hb d_m_runAll_14 rfl (lv_at hl 1 rfl) ?_
      refine mg_arr X hC 29 (by decide) (by decide) q_702 d_m_runAll_15 ?_
      refine lv_iload_n hx hb d_m_runAll_18 rfl (lv_at hl 0 rfl) ?_
      obtain ⟨x2, ex2, h⟩ := obi h
      refine ma_ild X hC 29 (by decide) rfl ex2 d_m_runAll_19 ?_
      refine lv_if_ne (tgt := 37) hx hb d_m_runAll_20 (by decide) (fun c20 => ?_) (fun c20 => ?_)
      · replace h := ifn c20 h
        refine lv_aload_n hx hb d_m_runAll_37 rfl (lv_at hl 1 rfl) ?_
        refine mg_arr X hC 29 (by decide) (by decide) q_702 d_m_runAll_38 ?_
        refine lv_iload_n hx hb d_m_runAll_41 rfl (lv_at hl 0 rfl) ?_
        obtain ⟨x3, ex3, h⟩ := obi h
        refine ma_ild X hC 29 (by decide) rfl ex3 d_m_runAll_42 ?_
        refine lv_iconst (v := 1) hx hb d_m_runAll_43 (by decide) ?_
        refine lv_icmp_ne (tgt := 61) hx hb d_m_runAll_44 (by decide) (fun c44 => ?_) (fun c44 => ?_)
        · replace h := ifn c44 h
          refine lv_aload_n hx hb d_m_runAll_61 rfl (lv_at hl 1 rfl) ?_
          refine mg_arr X hC 29 (by decide) (by decide) q_702 d_m_runAll_62 ?_
          refine lv_iload_n hx hb d_m_runAll_65 rfl (lv_at hl 0 rfl) ?_
          obtain ⟨x4, ex4, h⟩ := obi h
          refine ma_ild X hC 29 (by decide) rfl ex4 d_m_runAll_66 ?_
          refine lv_iconst (v := 2) hx hb d_m_runAll_67 (by decide) ?_
          refine lv_icmp_ne (tgt := 109) hx hb d_m_runAll_68 (by decide) (fun c68 => ?_) (fun c68 => ?_)
          · replace h := ifn c68 h
            refine lv_aload_n hx hb d_m_runAll_109 rfl (lv_at hl 1 rfl) ?_
            refine mg_arr X hC 30 (by decide) (by decide) q_703 d_m_runAll_110 ?_
            refine lv_iload_n hx hb d_m_runAll_113 rfl (lv_at hl 0 rfl) ?_
            obtain ⟨x5, ex5, h⟩ := obi h
            refine ma_ild X hC 30 (by decide) rfl ex5 d_m_runAll_114 ?_
            refine lv_aload_n hx hb d_m_runAll_115 rfl (lv_at hl 1 rfl) ?_
            refine mg_arr X hC 8 (by decide) (by decide) q_681 d_m_runAll_116 ?_
            refine lv_aload_n hx hb d_m_runAll_119 rfl (lv_at hl 1 rfl) ?_
            refine mg_arr X hC 28 (by decide) (by decide) q_701 d_m_runAll_120 ?_
            refine lv_iload_n hx hb d_m_runAll_123 rfl (lv_at hl 0 rfl) ?_
            obtain ⟨x6, ex6, h⟩ := obi h
            refine ma_ild X hC 28 (by decide) rfl ex6 d_m_runAll_124 ?_
            obtain ⟨x7, ex7, h⟩ := obi h
            refine ma_ild X hC 8 (by decide) rfl ex7 d_m_runAll_125 ?_
            refine lv_icmp_ne (tgt := 152) hx hb d_m_runAll_126 (by decide) (fun c126 => ?_) (fun c126 => ?_)
            · replace h := ifn c126 h
              refine lv_aload_n hx hb d_m_runAll_152 rfl (lv_at hl 1 rfl) ?_
              refine lv_iload_n hx hb d_m_runAll_153 rfl (lv_at hl 0 rfl) ?_
              refine lv_aload_n hx hb d_m_runAll_154 rfl (lv_at hl 1 rfl) ?_
              refine mg_arr X hC 28 (by decide) (by decide) q_701 d_m_runAll_155 ?_
              refine lv_iload_n hx hb d_m_runAll_158 rfl (lv_at hl 0 rfl) ?_
              obtain ⟨x8, ex8, h⟩ := obi h
              refine ma_ild X hC 28 (by decide) rfl ex8 d_m_runAll_159 ?_
              obtain ⟨st9, est9, h⟩ := obi h
              refine mcallV_v X hC (c_m_advance l G this est9) q_925 q_927 q_p44 q_8 q_928 ok_m_advance rfl ⟨by decide, by decide⟩ hl.1 rfl (Nat.le_of_ble_eq_true rfl) d_m_runAll_160 ⟨Nat.zero_le _, Nat.zero_le _⟩ (fun H locs hC => ?_)
              exact w_m_runAll_J163 X hC (lv_sub hl [1] rfl) ih h
            · replace h := ifp c126 h
              refine lv_aload_n hx hb d_m_runAll_129 rfl (lv_at hl 1 rfl) ?_
              refine lv_iload_n hx hb d_m_runAll_130 rfl (lv_at hl 0 rfl) ?_
              refine lv_aload_n hx hb d_m_runAll_131 rfl (lv_at hl 1 rfl) ?_
              refine mg_arr X hC 28 (by decide) (by decide) q_701 d_m_runAll_132 ?_
              refine lv_iload_n hx hb d_m_runAll_135 rfl (lv_at hl 0 rfl) ?_
              obtain ⟨x10, ex10, h⟩ := obi h
              refine ma_ild X hC 28 (by decide) rfl ex10 d_m_runAll_136 ?_
              refine lv_aload_n hx hb d_m_runAll_137 rfl (lv_at hl 1 rfl) ?_
              refine mg_arr X hC 32 (by decide) (by decide) q_705 d_m_runAll_138 ?_
              refine lv_bipush (v := 16) hx hb d_m_runAll_141 (by decide) ?_
              refine lv_iload_n hx hb d_m_runAll_143 rfl (lv_at hl 0 rfl) ?_
              refine lv_imul hx hb d_m_runAll_144 ?_
              obtain ⟨x11, ex11, h⟩ := obi h
              refine ma_lld X hC 32 (by decide) rfl ex11 d_m_runAll_145 ?_
              obtain ⟨st12, est12, h⟩ := obi h
              refine mcallV_v X hC (c_m_worked l G this est12) q_917 q_919 q_p42 q_8 q_920 ok_m_worked rfl ⟨by decide, by decide⟩ hl.1 rfl (Nat.le_of_ble_eq_true rfl) d_m_runAll_146 ⟨Nat.zero_le _, Nat.zero_le _⟩ (fun H locs hC => ?_)
              refine lv_goto (tgt := 163) hx hb d_m_runAll_149 (by decide) ?_
              exact w_m_runAll_J163 X hC (lv_sub hl [1] rfl) ih h
          · replace h := ifp c68 h
            refine lv_aload_n hx hb d_m_runAll_71 rfl (lv_at hl 1 rfl) ?_
            refine mg_arr X hC 30 (by decide) (by decide) q_703 d_m_runAll_72 ?_
            refine lv_iload_n hx hb d_m_runAll_75 rfl (lv_at hl 0 rfl) ?_
            refine lv_iconst (v := 0) hx hb d_m_runAll_76 (by decide) ?_
            obtain ⟨st13, est13, h⟩ := obi h
            refine ma_ist X hC 30 (by decide) rfl est13 d_m_runAll_77 (fun H locs hC => ?_)
            refine lv_aload_n hx hb d_m_runAll_78 rfl (lv_at hl 1 rfl) ?_
            refine mg_arr X hC 31 (by decide) (by decide) q_704 d_m_runAll_79 ?_
            refine lv_iload_n hx hb d_m_runAll_82 rfl (lv_at hl 0 rfl) ?_
            refine lv_iconst (v := 0) hx hb d_m_runAll_83 (by decide) ?_
            obtain ⟨st14, est14, h⟩ := obi h
            refine ma_ist X hC 31 (by decide) rfl est14 d_m_runAll_84 (fun H locs hC => ?_)
            refine lv_aload_n hx hb d_m_runAll_85 rfl (lv_at hl 1 rfl) ?_
            refine mg_arr X hC 33 (by decide) (by decide) q_706 d_m_runAll_86 ?_
            refine lv_iload_n hx hb d_m_runAll_89 rfl (lv_at hl 0 rfl) ?_
            refine lv_iconst (v := 0) hx hb d_m_runAll_90 (by decide) ?_
            obtain ⟨st15, est15, h⟩ := obi h
            refine ma_ist X hC 33 (by decide) rfl est15 d_m_runAll_91 (fun H locs hC => ?_)
            refine lv_aload_n hx hb d_m_runAll_92 rfl (lv_at hl 1 rfl) ?_
            refine mg_arr X hC 36 (by decide) (by decide) q_709 d_m_runAll_93 ?_
            refine lv_iload_n hx hb d_m_runAll_96 rfl (lv_at hl 0 rfl) ?_
            refine lv_iconst (v := 0) hx hb d_m_runAll_97 (by decide) ?_
            obtain ⟨st16, est16, h⟩ := obi h
            refine ma_zst X hC 36 (by decide) rfl est16 d_m_runAll_98 (fun H locs hC => ?_)
            refine lv_aload_n hx hb d_m_runAll_99 rfl (lv_at hl 1 rfl) ?_
            refine mg_arr X hC 29 (by decide) (by decide) q_702 d_m_runAll_100 ?_
            refine lv_iload_n hx hb d_m_runAll_103 rfl (lv_at hl 0 rfl) ?_
            refine lv_iconst (v := 3) hx hb d_m_runAll_104 (by decide) ?_
            obtain ⟨st17, est17, h⟩ := obi h
            refine ma_ist X hC 29 (by decide) rfl est17 d_m_runAll_105 (fun H locs hC => ?_)
            refine lv_goto (tgt := 163) hx hb d_m_runAll_106 (by decide) ?_
            exact w_m_runAll_J163 X hC (lv_sub hl [1] rfl) ih h
        · replace h := ifp c44 h
          refine lv_aload_n hx hb d_m_runAll_47 rfl (lv_at hl 1 rfl) ?_
          refine lv_iload_n hx hb d_m_runAll_48 rfl (lv_at hl 0 rfl) ?_
          refine lv_aload_n hx hb d_m_runAll_49 rfl (lv_at hl 1 rfl) ?_
          refine mg_arr X hC 28 (by decide) (by decide) q_701 d_m_runAll_50 ?_
          refine lv_iload_n hx hb d_m_runAll_53 rfl (lv_at hl 0 rfl) ?_
          obtain ⟨x18, ex18, h⟩ := obi h
          refine ma_ild X hC 28 (by decide) rfl ex18 d_m_runAll_54 ?_
          obtain ⟨st19, est19, h⟩ := obi h
          refine mcallV_v X hC (c_m_lookThrough l G this est19) q_905 q_907 q_p39 q_8 q_908 ok_m_lookThrough rfl ⟨by decide, by decide⟩ hl.1 rfl (Nat.le_of_ble_eq_true rfl) d_m_runAll_55 ⟨Nat.zero_le _, Nat.zero_le _⟩ (fun H locs hC => ?_)
          refine lv_goto (tgt := 163) hx hb d_m_runAll_58 (by decide) ?_
          exact w_m_runAll_J163 X hC (lv_sub hl [1] rfl) ih h
      · replace h := ifp c20 h
        refine lv_aload_n hx hb d_m_runAll_23 rfl (lv_at hl 1 rfl) ?_
        refine lv_iload_n hx hb d_m_runAll_24 rfl (lv_at hl 0 rfl) ?_
        refine lv_aload_n hx hb d_m_runAll_25 rfl (lv_at hl 1 rfl) ?_
        refine mg_arr X hC 28 (by decide) (by decide) q_701 d_m_runAll_26 ?_
        refine lv_iload_n hx hb d_m_runAll_29 rfl (lv_at hl 0 rfl) ?_
        obtain ⟨x20, ex20, h⟩ := obi h
        refine ma_ild X hC 28 (by decide) rfl ex20 d_m_runAll_30 ?_
        obtain ⟨st21, est21, h⟩ := obi h
        refine mcallV_v X hC (c_m_enter l G this est21) q_893 q_895 q_p36 q_8 q_896 ok_m_enter rfl ⟨by decide, by decide⟩ hl.1 rfl (Nat.le_of_ble_eq_true rfl) d_m_runAll_31 ⟨Nat.zero_le _, Nat.zero_le _⟩ (fun H locs hC => ?_)
        refine lv_goto (tgt := 163) hx hb d_m_runAll_34 (by decide) ?_
        exact w_m_runAll_J163 X hC (lv_sub hl [1] rfl) ih h
theorem c_m_runAll (l : Launch) (G : MG) (this : Nat) {st : MS} {r : MS} (h : m_runAll st = some r) : Met l y_m_runAll (Cond.code y_m_runAll b_m_runAll 2 none :: lw_g) (rmL 4 0 0) (mPc G this [] st) (mQc G this none r) 0 0 (mFr this) := by
  refine Met.ofM (by decide +kernel) (Nat.le_of_ble_eq_true rfl) ?_
  intro p e s m below meth c ls X hC hl
  have hl : lv_has ls 2 [(0, .ref this)] := hl
  generalize (Value.ref this :: []).toArray = args at X ⊢
  obtain ⟨hx, hb, hr, hml, hown, hts, hlocks⟩ := id X
  generalize hHH : s.heap = H at hC ⊢
  generalize ([] : List Loc) = locs at hC ⊢
  clear hHH
  unfold m_runAll at h
  exact w_m_runAll_L0 X 100000 _ _ _ _ h hC (lv_sub hl [0] rfl)
theorem w_m_values_J26 {r : Int32} {st : MS} {l2 : Int32} {s0 : Int32} {k_4 : MS → Int32 → Int32 → Option Int32} {H : Heap} {locs : List Loc} {ls : Array Slot} (X : jx p s m args meth c b_m_values 3 (some .int) R_M) (hC : mC G this s st H locs) (hl : lv_has ls 3 [(0, .ref this), (2, .int l2)]) (hk_4 : ∀ (st : MS) (l1 : Int32) (l2 : Int32) (H : Heap) (locs : List Loc) (ls : Array Slot), k_4 st l1 l2 = some r → mC G this s st H locs → lv_has ls 3 [(0, .ref this), (1, .int l1), (2, .int l2)] → W p l e (rmL 0 0 0) s m args below meth c H locs 0 0 (MQ below (mQc G this (some (.int r)) st) args s 0 0 (mFr this)) (F0 m 4 ls [])) (h : m_values_J26 k_4 st l2 s0 = some r) : W p l e (rmL 0 0 0) s m args below meth c H locs 0 0 (MQ below (mQc G this (some (.int r)) st) args s 0 0 (mFr this)) (F0 m 26 ls [.int s0]) := by
  obtain ⟨hx, hb, hr, hml, hown, hts, hlocks⟩ := id X
  unfold m_values_J26 at h
  refine lv_istore_n (lv' := [(1, .int s0), (0, .ref this), (2, .int l2)]) hx hb d_m_values_26 rfl hl (by decide) rfl (fun ls hl => ?_)
  obtain ⟨x1, ex1, h⟩ := obi h
  refine lv_iinc (v := x1) (lv' := [(2, .int x1), (1, .int s0), (0, .ref this)]) hx hb d_m_values_27 hl (k := 2) rfl (Option.some.inj ex1) (by decide) rfl (fun ls hl => ?_)
  refine lv_goto (tgt := 4) hx hb d_m_values_30 (by decide) ?_
  exact hk_4 _ _ _ _ _ _ h hC (lv_sub hl [2, 1, 0] rfl)
theorem w_m_values_L4 {r : Int32} (X : jx p s m args meth c b_m_values 3 (some .int) R_M) : ∀ (n : Nat), ∀ (st : MS) (l1 : Int32) (l2 : Int32) (H : Heap) (locs : List Loc) (ls : Array Slot), m_values_L4 n st l1 l2 = some r → mC G this s st H locs → lv_has ls 3 [(0, .ref this), (1, .int l1), (2, .int l2)] → W p l e (rmL 0 0 0) s m args below meth c H locs 0 0 (MQ below (mQc G this (some (.int r)) st) args s 0 0 (mFr this)) (F0 m 4 ls []) := by
  obtain ⟨hx, hb, hr, hml, hown, hts, hlocks⟩ := id X
  intro n
  induction n with
  | zero => intro st l1 l2 H locs ls h hC hl; exact absurd h (by simp [m_values_L4])
  | succ n ih =>
    intro st l1 l2 H locs ls h hC hl
    rw [m_values_L4] at h
    refine lv_iload_n hx hb d_m_values_4 rfl (lv_at hl 2 rfl) ?_
    refine lv_bipush (v := 12) hx hb d_m_values_5 (by decide) ?_
    refine lv_icmp_ge (tgt := 33) hx hb d_m_values_7 (by decide) (fun c7 => ?_) (fun c7 => ?_)
    · replace h := ifp c7 h
      refine lv_iload_n hx hb d_m_values_33 rfl (lv_at hl 1 rfl) ?_
      cases h
      exact mret_i X hC d_m_values_34
    · replace h := ifn c7 h
      refine lv_aload_n hx hb d_m_values_10 rfl (lv_at hl 0 rfl) ?_
      refine mg_arr X hC 16 (by decide) (by decide) q_689 d_m_values_11 ?_
      refine lv_iload_n hx hb d_m_values_14 rfl (lv_at hl 2 rfl) ?_
      obtain ⟨x1, ex1, h⟩ := obi h
      refine ma_zld X hC 16 (by decide) rfl ex1 d_m_values_15 ?_
      refine lv_if_eq (tgt := 25) hx hb d_m_values_16 (by decide) (fun c16 => ?_) (fun c16 => ?_)
      · replace h := ifp c16 h
        refine lv_iload_n hx hb d_m_values_25 rfl (lv_at hl 1 rfl) ?_
        exact w_m_values_J26 X hC (lv_sub hl [0, 2] rfl) ih h
      · replace h := ifn c16 h
        refine lv_iload_n hx hb d_m_values_19 rfl (lv_at hl 1 rfl) ?_
        refine lv_iconst (v := 1) hx hb d_m_values_20 (by decide) ?_
        refine lv_iadd hx hb d_m_values_21 ?_
        refine lv_goto (tgt := 26) hx hb d_m_values_22 (by decide) ?_
        exact w_m_values_J26 X hC (lv_sub hl [0, 2] rfl) ih h
theorem c_m_values (l : Launch) (G : MG) (this : Nat) {st : MS} {r : Int32} (h : m_values st = some r) : Met l y_m_values (Cond.code y_m_values b_m_values 3 (some .int) :: lw_g) (rmL 0 0 0) (mPc G this [] st) (mQc G this (some (.int r)) st) 0 0 (mFr this) := by
  refine Met.ofM (by decide +kernel) (Nat.le_of_ble_eq_true rfl) ?_
  intro p e s m below meth c ls X hC hl
  have hl : lv_has ls 3 [(0, .ref this)] := hl
  generalize (Value.ref this :: []).toArray = args at X ⊢
  obtain ⟨hx, hb, hr, hml, hown, hts, hlocks⟩ := id X
  generalize hHH : s.heap = H at hC ⊢
  generalize ([] : List Loc) = locs at hC ⊢
  clear hHH
  unfold m_values at h
  refine lv_iconst (v := 0) hx hb d_m_values_0 (by decide) ?_
  refine lv_istore_n (lv' := [(1, .int 0), (0, .ref this)]) hx hb d_m_values_1 rfl hl (by decide) rfl (fun ls hl => ?_)
  refine lv_iconst (v := 0) hx hb d_m_values_2 (by decide) ?_
  refine lv_istore_n (lv' := [(2, .int 0), (1, .int 0), (0, .ref this)]) hx hb d_m_values_3 rfl hl (by decide) rfl (fun ls hl => ?_)
  exact w_m_values_L4 X 1000 _ _ _ _ _ _ h hC (lv_sub hl [2, 1, 0] rfl)
theorem w_m_ask_J165 {r : Int64 × MS} {st : MS} {l2 : Int64} {l5 : Int32} {s0 : Int32} {k_119 : MS → Int64 → Int32 → Int32 → Option (Int64 × MS)} {H : Heap} {locs : List Loc} {ls : Array Slot} (X : jx p s m args meth c b_m_ask 6 (some .long) R_M) (hC : mC G this s st H locs) (hl : lv_has ls 6 [(0, .ref this), (2, .long l2), (5, .int l5)]) (hk_119 : ∀ (st : MS) (l2 : Int64) (l4 : Int32) (l5 : Int32) (H : Heap) (locs : List Loc) (ls : Array Slot), k_119 st l2 l4 l5 = some r → mC G this s st H locs → lv_has ls 6 [(0, .ref this), (2, .long l2), (4, .int l4), (5, .int l5)] → W p l e (rmL 5 0 0) s m args below meth c H locs 0 0 (MQ below (mQc G this (some (.long r.1)) r.2) args s 0 0 (mFr this)) (F0 m 119 ls [])) (h : m_ask_J165 k_119 st l2 l5 s0 = some r) : W p l e (rmL 5 0 0) s m args below meth c H locs 0 0 (MQ below (mQc G this (some (.long r.1)) r.2) args s 0 0 (mFr this)) (F0 m 165 ls [.int s0]) := by
  obtain ⟨hx, hb, hr, hml, hown, hts, hlocks⟩ := id X
  unfold m_ask_J165 at h
  refine lv_istore (lv' := [(4, .int s0), (0, .ref this), (2, .long l2), (5, .int l5)]) hx hb d_m_ask_165 hl (by decide) rfl (fun ls hl => ?_)
  obtain ⟨x1, ex1, h⟩ := obi h
  refine lv_iinc (v := x1) (lv' := [(5, .int x1), (4, .int s0), (0, .ref this), (2, .long l2)]) hx hb d_m_ask_167 hl (k := 3) rfl (Option.some.inj ex1) (by decide) rfl (fun ls hl => ?_)
  refine lv_goto (tgt := 119) hx hb d_m_ask_170 (by decide) ?_
  exact hk_119 _ _ _ _ _ _ _ h hC (lv_sub hl [2, 3, 1, 0] rfl)
theorem w_m_ask_J163 {r : Int64 × MS} {st : MS} {l2 : Int64} {l4 : Int32} {l5 : Int32} {k_119 : MS → Int64 → Int32 → Int32 → Option (Int64 × MS)} {H : Heap} {locs : List Loc} {ls : Array Slot} (X : jx p s m args meth c b_m_ask 6 (some .long) R_M) (hC : mC G this s st H locs) (hl : lv_has ls 6 [(0, .ref this), (2, .long l2), (4, .int l4), (5, .int l5)]) (hk_119 : ∀ (st : MS) (l2 : Int64) (l4 : Int32) (l5 : Int32) (H : Heap) (locs : List Loc) (ls : Array Slot), k_119 st l2 l4 l5 = some r → mC G this s st H locs → lv_has ls 6 [(0, .ref this), (2, .long l2), (4, .int l4), (5, .int l5)] → W p l e (rmL 5 0 0) s m args below meth c H locs 0 0 (MQ below (mQc G this (some (.long r.1)) r.2) args s 0 0 (mFr this)) (F0 m 119 ls [])) (h : m_ask_J163 k_119 st l2 l4 l5 = some r) : W p l e (rmL 5 0 0) s m args below meth c H locs 0 0 (MQ below (mQc G this (some (.long r.1)) r.2) args s 0 0 (mFr this)) (F0 m 163 ls []) := by
  obtain ⟨hx, hb, hr, hml, hown, hts, hlocks⟩ := id X
  unfold m_ask_J163 at h
  refine lv_iload hx hb d_m_ask_163 (lv_at hl 2 rfl) ?_
  exact w_m_ask_J165 X hC (lv_sub hl [0, 1, 3] rfl) hk_119 h
theorem w_m_ask_J158 {r : Int64 × MS} {st : MS} {l2 : Int64} {l5 : Int32} {k_119 : MS → Int64 → Int32 → Int32 → Option (Int64 × MS)} {H : Heap} {locs : List Loc} {ls : Array Slot} (X : jx p s m args meth c b_m_ask 6 (some .long) R_M) (hC : mC G this s st H locs) (hl : lv_has ls 6 [(0, .ref this), (2, .long l2), (5, .int l5)]) (hk_119 : ∀ (st : MS) (l2 : Int64) (l4 : Int32) (l5 : Int32) (H : Heap) (locs : List Loc) (ls : Array Slot), k_119 st l2 l4 l5 = some r → mC G this s st H locs → lv_has ls 6 [(0, .ref this), (2, .long l2), (4, .int l4), (5, .int l5)] → W p l e (rmL 5 0 0) s m args below meth c H locs 0 0 (MQ below (mQc G this (some (.long r.1)) r.2) args s 0 0 (mFr this)) (F0 m 119 ls [])) (h : m_ask_J158 k_119 st l2 l5 = some r) : W p l e (rmL 5 0 0) s m args below meth c H locs 0 0 (MQ below (mQc G this (some (.long r.1)) r.2) args s 0 0 (mFr this)) (F0 m 158 ls []) := by
  obtain ⟨hx, hb, hr, hml, hown, hts, hlocks⟩ := id X
  unfold m_ask_J158 at h
  refine lv_iload hx hb d_m_ask_158 (lv_at hl 2 rfl) ?_
  refine lv_goto (tgt := 165) hx hb d_m_ask_160 (by decide) ?_
  exact w_m_ask_J165 X hC (lv_sub hl [0, 1, 2] rfl) hk_119 h
theorem w_m_ask_L119 {r : Int64 × MS} {k_102 : MS → Int64 → Option (Int64 × MS)} (X : jx p s m args meth c b_m_ask 6 (some .long) R_M) (hk_102 : ∀ (st : MS) (l2 : Int64) (H : Heap) (locs : List Loc) (ls : Array Slot), k_102 st l2 = some r → mC G this s st H locs → lv_has ls 6 [(0, .ref this), (2, .long l2)] → W p l e (rmL 5 0 0) s m args below meth c H locs 0 0 (MQ below (mQc G this (some (.long r.1)) r.2) args s 0 0 (mFr this)) (F0 m 102 ls [])) : ∀ (n : Nat), ∀ (st : MS) (l2 : Int64) (l4 : Int32) (l5 : Int32) (H : Heap) (locs : List Loc) (ls : Array Slot), m_ask_L119 k_102 n st l2 l4 l5 = some r → mC G this s st H locs → lv_has ls 6 [(0, .ref this), (2, .long l2), (4, .int l4), (5, .int l5)] → W p l e (rmL 5 0 0) s m args below meth c H locs 0 0 (MQ below (mQc G this (some (.long r.1)) r.2) args s 0 0 (mFr this)) (F0 m 119 ls []) := by
  obtain ⟨hx, hb, hr, hml, hown, hts, hlocks⟩ := id X
  intro n
  induction n with
  | zero => intro st l2 l4 l5 H locs ls h hC hl; exact absurd h (by simp [m_ask_L119])
  | succ n ih =>
    intro st l2 l4 l5 H locs ls h hC hl
    rw [m_ask_L119] at h
    refine lv_iload hx hb d_m_ask_119 (lv_at hl 3 rfl) ?_
    refine lv_bipush (v := 12) hx hb d_m_ask_121 (by decide) ?_
    refine lv_icmp_ge (tgt := 173) hx hb d_m_ask_123 (by decide) (fun c123 => ?_) (fun c123 => ?_)
    · replace h := ifp c123 h
      refine lv_aload_n hx hb d_m_ask_173 rfl (lv_at hl 0 rfl) ?_
      refine mg_arr X hC 16 (by decide) (by decide) q_689 d_m_ask_174 ?_
      refine lv_iload hx hb d_m_ask_177 (lv_at hl 2 rfl) ?_
      refine lv_iconst (v := 0) hx hb d_m_ask_179 (by decide) ?_
      obtain ⟨st1, est1, h⟩ := obi h
      refine ma_zst X hC 16 (by decide) rfl est1 d_m_ask_180 (fun H locs hC => ?_)
      refine lv_goto (tgt := 102) hx hb d_m_ask_181 (by decide) ?_
      exact hk_102 _ _ _ _ _ h hC (lv_sub hl [0, 1] rfl)
    · replace h := ifn c123 h
      refine lv_aload_n hx hb d_m_ask_126 rfl (lv_at hl 0 rfl) ?_
      refine mg_arr X hC 16 (by decide) (by decide) q_689 d_m_ask_127 ?_
      refine lv_iload hx hb d_m_ask_130 (lv_at hl 3 rfl) ?_
      obtain ⟨x2, ex2, h⟩ := obi h
      refine ma_zld X hC 16 (by decide) rfl ex2 d_m_ask_132 ?_
      refine lv_if_eq (tgt := 163) hx hb d_m_ask_133 (by decide) (fun c133 => ?_) (fun c133 => ?_)
      · replace h := ifp c133 h
        exact w_m_ask_J163 X hC (lv_sub hl [0, 1, 2, 3] rfl) ih h
      · replace h := ifn c133 h
        refine lv_iload hx hb d_m_ask_136 (lv_at hl 2 rfl) ?_
        refine lv_if_lt (tgt := 158) hx hb d_m_ask_138 (by decide) (fun c138 => ?_) (fun c138 => ?_)
        · replace h := ifp c138 h
          exact w_m_ask_J158 X hC (lv_sub hl [0, 1, 3] rfl) ih h
        · replace h := ifn c138 h
          refine lv_aload_n hx hb d_m_ask_141 rfl (lv_at hl 0 rfl) ?_
          refine mg_arr X hC 23 (by decide) (by decide) q_696 d_m_ask_142 ?_
          refine lv_iload hx hb d_m_ask_145 (lv_at hl 3 rfl) ?_
          obtain ⟨x3, ex3, h⟩ := obi h
          refine ma_ild X hC 23 (by decide) rfl ex3 d_m_ask_147 ?_
          refine lv_aload_n hx hb d_m_ask_148 rfl (lv_at hl 0 rfl) ?_
          refine mg_arr X hC 23 (by decide) (by decide) q_696 d_m_ask_149 ?_
          refine lv_iload hx hb d_m_ask_152 (lv_at hl 2 rfl) ?_
          obtain ⟨x4, ex4, h⟩ := obi h
          refine ma_ild X hC 23 (by decide) rfl ex4 d_m_ask_154 ?_
          refine lv_icmp_ge (tgt := 163) hx hb d_m_ask_155 (by decide) (fun c155 => ?_) (fun c155 => ?_)
          · replace h := ifp c155 h
            exact w_m_ask_J163 X hC (lv_sub hl [0, 1, 2, 3] rfl) ih h
          · replace h := ifn c155 h
            exact w_m_ask_J158 X hC (lv_sub hl [0, 1, 3] rfl) ih h
theorem w_m_ask_L102 {r : Int64 × MS} (X : jx p s m args meth c b_m_ask 6 (some .long) R_M) : ∀ (n : Nat), ∀ (st : MS) (l2 : Int64) (H : Heap) (locs : List Loc) (ls : Array Slot), m_ask_L102 n st l2 = some r → mC G this s st H locs → lv_has ls 6 [(0, .ref this), (2, .long l2)] → W p l e (rmL 5 0 0) s m args below meth c H locs 0 0 (MQ below (mQc G this (some (.long r.1)) r.2) args s 0 0 (mFr this)) (F0 m 102 ls []) := by
  obtain ⟨hx, hb, hr, hml, hown, hts, hlocks⟩ := id X
  intro n
  induction n with
  | zero => intro st l2 H locs ls h hC hl; exact absurd h (by simp [m_ask_L102])
  | succ n ih =>
    intro st l2 H locs ls h hC hl
    rw [m_ask_L102] at h
    refine lv_aload_n hx hb d_m_ask_102 rfl (lv_at hl 0 rfl) ?_
    obtain ⟨x1, ex1, h⟩ := obi h
    refine mcallV_i X hC (c_m_values l G this ex1) q_946 q_948 q_p49 q_8 q_949 ok_m_values rfl ⟨by decide, by decide⟩ hl.1 rfl (Nat.le_of_ble_eq_true rfl) d_m_ask_103 ⟨Nat.zero_le _, Nat.zero_le _⟩ (fun H locs hC => ?_)
    refine lv_aload_n hx hb d_m_ask_106 rfl (lv_at hl 0 rfl) ?_
    refine mg_int X hC 0 (by decide) rfl q_673 d_m_ask_107 ?_
    refine lv_icmp_le (tgt := 184) hx hb d_m_ask_110 (by decide) (fun c110 => ?_) (fun c110 => ?_)
    · replace h := ifp c110 h
      refine lv_lload_n hx hb d_m_ask_184 rfl (lv_at hl 1 rfl) ?_
      cases h
      exact mret_l X hC d_m_ask_185
    · replace h := ifn c110 h
      refine lv_iconst (v := -1) hx hb d_m_ask_113 (by decide) ?_
      refine lv_istore (lv' := [(4, .int ((-1))), (0, .ref this), (2, .long l2)]) hx hb d_m_ask_114 hl (by decide) rfl (fun ls hl => ?_)
      refine lv_iconst (v := 0) hx hb d_m_ask_116 (by decide) ?_
      refine lv_istore (lv' := [(5, .int 0), (4, .int ((-1))), (0, .ref this), (2, .long l2)]) hx hb d_m_ask_117 hl (by decide) rfl (fun ls hl => ?_)
      exact w_m_ask_L119 X ih 1000 _ _ _ _ _ _ _ h hC (lv_sub hl [2, 3, 1, 0] rfl)
theorem w_m_ask_J86 {r : Int64 × MS} {st : MS} {l1 : Int32} {H : Heap} {locs : List Loc} {ls : Array Slot} (X : jx p s m args meth c b_m_ask 6 (some .long) R_M) (hC : mC G this s st H locs) (hl : lv_has ls 6 [(0, .ref this), (1, .int l1)]) (h : m_ask_J86 st l1 = some r) : W p l e (rmL 5 0 0) s m args below meth c H locs 0 0 (MQ below (mQc G this (some (.long r.1)) r.2) args s 0 0 (mFr this)) (F0 m 86 ls []) := by
  obtain ⟨hx, hb, hr, hml, hown, hts, hlocks⟩ := id X
  unfold m_ask_J86 at h
  refine lv_aload_n hx hb d_m_ask_86 rfl (lv_at hl 0 rfl) ?_
  obtain ⟨st1, est1, h⟩ := obi h
  refine mcallV_v X hC (c_m_runAll l G this est1) q_889 q_891 q_p35 q_8 q_892 ok_m_runAll rfl ⟨by decide, by decide⟩ hl.1 rfl (Nat.le_of_ble_eq_true rfl) d_m_ask_87 ⟨Nat.zero_le _, Nat.zero_le _⟩ (fun H locs hC => ?_)
  refine lv_aload_n hx hb d_m_ask_90 rfl (lv_at hl 0 rfl) ?_
  refine lv_iload_n hx hb d_m_ask_91 rfl (lv_at hl 1 rfl) ?_
  obtain ⟨st2, est2, h⟩ := obi h
  refine mcallV_v X hC (c_m_use l G this est2) q_921 q_923 q_p43 q_8 q_924 ok_m_use rfl ⟨by decide, by decide⟩ hl.1 rfl (Nat.le_of_ble_eq_true rfl) d_m_ask_92 ⟨Nat.zero_le _, Nat.zero_le _⟩ (fun H locs hC => ?_)
  refine lv_aload_n hx hb d_m_ask_95 rfl (lv_at hl 0 rfl) ?_
  refine mg_arr X hC 17 (by decide) (by decide) q_690 d_m_ask_96 ?_
  refine lv_iload_n hx hb d_m_ask_99 rfl (lv_at hl 1 rfl) ?_
  obtain ⟨x3, ex3, h⟩ := obi h
  refine ma_lld X hC 17 (by decide) rfl ex3 d_m_ask_100 ?_
  refine lv_lstore_n (lv' := [(2, .long x3), (0, .ref this), (1, .int l1)]) hx hb d_m_ask_101 rfl hl (by decide) rfl (fun ls hl => ?_)
  exact w_m_ask_L102 X 1000 _ _ _ _ _ h hC (lv_sub hl [1, 0] rfl)
theorem w_m_ask_J67 {r : Int64 × MS} {st : MS} {l1 : Int32} {H : Heap} {locs : List Loc} {ls : Array Slot} (X : jx p s m args meth c b_m_ask 6 (some .long) R_M) (hC : mC G this s st H locs) (hl : lv_has ls 6 [(0, .ref this), (1, .int l1)]) (h : m_ask_J67 st l1 = some r) : W p l e (rmL 5 0 0) s m args below meth c H locs 0 0 (MQ below (mQc G this (some (.long r.1)) r.2) args s 0 0 (mFr this)) (F0 m 67 ls []) := by
  obtain ⟨hx, hb, hr, hml, hown, hts, hlocks⟩ := id X
  unfold m_ask_J67 at h
  refine lv_aload_n hx hb d_m_ask_67 rfl (lv_at hl 0 rfl) ?_
  obtain ⟨st1, est1, h⟩ := obi h
  refine mcallV_v X hC (c_m_runAll l G this est1) q_889 q_891 q_p35 q_8 q_892 ok_m_runAll rfl ⟨by decide, by decide⟩ hl.1 rfl (Nat.le_of_ble_eq_true rfl) d_m_ask_68 ⟨Nat.zero_le _, Nat.zero_le _⟩ (fun H locs hC => ?_)
  refine lv_aload_n hx hb d_m_ask_71 rfl (lv_at hl 0 rfl) ?_
  refine mg_arr X hC 16 (by decide) (by decide) q_689 d_m_ask_72 ?_
  refine lv_iload_n hx hb d_m_ask_75 rfl (lv_at hl 1 rfl) ?_
  obtain ⟨x2, ex2, h⟩ := obi h
  refine ma_zld X hC 16 (by decide) rfl ex2 d_m_ask_76 ?_
  refine lv_if_ne (tgt := 86) hx hb d_m_ask_77 (by decide) (fun c77 => ?_) (fun c77 => ?_)
  · replace h := ifn c77 h
    exact w_m_ask_J86 X hC (lv_sub hl [0, 1] rfl) h
  · replace h := ifp c77 h
    refine lv_aload_n hx hb d_m_ask_80 rfl (lv_at hl 0 rfl) ?_
    refine lv_iload_n hx hb d_m_ask_81 rfl (lv_at hl 1 rfl) ?_
    refine lv_iconst (v := 2) hx hb d_m_ask_82 (by decide) ?_
    obtain ⟨st3, est3, h⟩ := obi h
    refine mcallV_v X hC (c_m_start l G this est3) q_885 q_887 q_p34 q_8 q_888 ok_m_start rfl ⟨by decide, by decide⟩ hl.1 rfl (Nat.le_of_ble_eq_true rfl) d_m_ask_83 ⟨Nat.zero_le _, Nat.zero_le _⟩ (fun H locs hC => ?_)
    exact w_m_ask_J86 X hC (lv_sub hl [0, 1] rfl) h
theorem w_m_ask_L13 {r : Int64 × MS} (X : jx p s m args meth c b_m_ask 6 (some .long) R_M) : ∀ (n : Nat), ∀ (st : MS) (l1 : Int32) (l2 : Int32) (H : Heap) (locs : List Loc) (ls : Array Slot), m_ask_L13 n st l1 l2 = some r → mC G this s st H locs → lv_has ls 6 [(0, .ref this), (1, .int l1), (2, .int l2)] → W p l e (rmL 5 0 0) s m args below meth c H locs 0 0 (MQ below (mQc G this (some (.long r.1)) r.2) args s 0 0 (mFr this)) (F0 m 13 ls []) := by
  obtain ⟨hx, hb, hr, hml, hown, hts, hlocks⟩ := id X
  intro n
  induction n with
  | zero => intro st l1 l2 H locs ls h hC hl; exact absurd h (by simp [m_ask_L13])
  | succ n ih =>
    intro st l1 l2 H locs ls h hC hl
    rw [m_ask_L13] at h
    refine lv_iload_n hx hb d_m_ask_13 rfl (lv_at hl 2 rfl) ?_
    refine lv_iconst (v := 3) hx hb d_m_ask_14 (by decide) ?_
    refine lv_icmp_ge (tgt := 31) hx hb d_m_ask_15 (by decide) (fun c15 => ?_) (fun c15 => ?_)
    · replace h := ifp c15 h
      refine lv_aload_n hx hb d_m_ask_31 rfl (lv_at hl 0 rfl) ?_
      refine mg_arr X hC 5 (by decide) (by decide) q_678 d_m_ask_32 ?_
      refine lv_iload_n hx hb d_m_ask_35 rfl (lv_at hl 1 rfl) ?_
      obtain ⟨x1, ex1, h⟩ := obi h
      refine ma_zld X hC 5 (by decide) rfl ex1 d_m_ask_36 ?_
      refine lv_if_ne (tgt := 48) hx hb d_m_ask_37 (by decide) (fun c37 => ?_) (fun c37 => ?_)
      · replace h := ifn c37 h
        refine lv_aload_n hx hb d_m_ask_48 rfl (lv_at hl 0 rfl) ?_
        refine lv_iconst (v := 0) hx hb d_m_ask_49 (by decide) ?_
        obtain ⟨st2, est2, h⟩ := obi h
        refine mp_int X hC 27 (by decide) rfl rfl (by decide +kernel) q_700 est2 d_m_ask_50 (fun H locs hC => ?_)
        refine lv_aload_n hx hb d_m_ask_53 rfl (lv_at hl 0 rfl) ?_
        refine lv_iload_n hx hb d_m_ask_54 rfl (lv_at hl 1 rfl) ?_
        obtain ⟨x3, ex3, h⟩ := obi h
        refine mcallV_i X hC (c_m_settled l G this ex3) q_881 q_883 q_p33 q_8 q_884 ok_m_settled rfl ⟨by decide, by decide⟩ hl.1 rfl (Nat.le_of_ble_eq_true rfl) d_m_ask_55 ⟨Nat.zero_le _, Nat.zero_le _⟩ (fun H locs hC => ?_)
        refine lv_if_ne (tgt := 67) hx hb d_m_ask_58 (by decide) (fun c58 => ?_) (fun c58 => ?_)
        · replace h := ifn c58 h
          exact w_m_ask_J67 X hC (lv_sub hl [0, 1] rfl) h
        · replace h := ifp c58 h
          refine lv_aload_n hx hb d_m_ask_61 rfl (lv_at hl 0 rfl) ?_
          refine lv_iload_n hx hb d_m_ask_62 rfl (lv_at hl 1 rfl) ?_
          refine lv_iconst (v := 0) hx hb d_m_ask_63 (by decide) ?_
          obtain ⟨st4, est4, h⟩ := obi h
          refine mcallV_v X hC (c_m_start l G this est4) q_885 q_887 q_p34 q_8 q_888 ok_m_start rfl ⟨by decide, by decide⟩ hl.1 rfl (Nat.le_of_ble_eq_true rfl) d_m_ask_64 ⟨Nat.zero_le _, Nat.zero_le _⟩ (fun H locs hC => ?_)
          exact w_m_ask_J67 X hC (lv_sub hl [0, 1] rfl) h
      · replace h := ifp c37 h
        refine lv_aload_n hx hb d_m_ask_40 rfl (lv_at hl 0 rfl) ?_
        refine mg_arr X hC 12 (by decide) (by decide) q_685 d_m_ask_41 ?_
        refine lv_iload_n hx hb d_m_ask_44 rfl (lv_at hl 1 rfl) ?_
        obtain ⟨x5, ex5, h⟩ := obi h
        refine ma_ild X hC 12 (by decide) rfl ex5 d_m_ask_45 ?_
        refine lv_i2l (v := _) hx hb d_m_ask_46 rfl ?_
        cases h
        exact mret_l X hC d_m_ask_47
    · replace h := ifn c15 h
      refine lv_aload_n hx hb d_m_ask_18 rfl (lv_at hl 0 rfl) ?_
      refine mg_arr X hC 26 (by decide) (by decide) q_699 d_m_ask_19 ?_
      refine lv_iload_n hx hb d_m_ask_22 rfl (lv_at hl 2 rfl) ?_
      refine lv_iconst (v := 0) hx hb d_m_ask_23 (by decide) ?_
      obtain ⟨st6, est6, h⟩ := obi h
      refine ma_ist X hC 26 (by decide) rfl est6 d_m_ask_24 (fun H locs hC => ?_)
      obtain ⟨x7, ex7, h⟩ := obi h
      refine lv_iinc (v := x7) (lv' := [(2, .int x7), (0, .ref this), (1, .int l1)]) hx hb d_m_ask_25 hl (k := 2) rfl (Option.some.inj ex7) (by decide) rfl (fun ls hl => ?_)
      refine lv_goto (tgt := 13) hx hb d_m_ask_28 (by decide) ?_
      exact ih _ _ _ _ _ _ h hC (lv_sub hl [1, 2, 0] rfl)
theorem c_m_ask (l : Launch) (G : MG) (this : Nat) {st : MS} {a1 : Int32} {r : Int64 × MS} (h : m_ask st a1 = some r) : Met l y_m_ask (Cond.code y_m_ask b_m_ask 6 (some .long) :: lw_g) (rmL 5 0 0) (mPc G this [.int a1] st) (mQc G this (some (.long r.1)) r.2) 0 0 (mFr this) := by
  refine Met.ofM (by decide +kernel) (Nat.le_of_ble_eq_true rfl) ?_
  intro p e s m below meth c ls X hC hl
  have hl : lv_has ls 6 [(0, .ref this), (1, .int a1)] := hl
  generalize (Value.ref this :: [.int a1]).toArray = args at X ⊢
  obtain ⟨hx, hb, hr, hml, hown, hts, hlocks⟩ := id X
  generalize hHH : s.heap = H at hC ⊢
  generalize ([] : List Loc) = locs at hC ⊢
  clear hHH
  unfold m_ask at h
  refine lv_iload_n hx hb d_m_ask_0 rfl (lv_at hl 1 rfl) ?_
  refine mcallS_i X (c_m_isCell l a1) q_865 q_866 q_8 q_867 ok_m_isCell rfl ⟨by decide, by decide⟩ hl.1 rfl (Nat.le_of_ble_eq_true rfl) d_m_ask_1 ⟨Nat.zero_le _, Nat.zero_le _⟩ ?_
  refine lv_if_ne (tgt := 11) hx hb d_m_ask_4 (by decide) (fun c4 => ?_) (fun c4 => ?_)
  · replace h := ifn c4 h
    refine lv_iconst (v := 0) hx hb d_m_ask_11 (by decide) ?_
    refine lv_istore_n (lv' := [(2, .int 0), (0, .ref this), (1, .int a1)]) hx hb d_m_ask_12 rfl hl (by decide) rfl (fun ls hl => ?_)
    exact w_m_ask_L13 X 1000 _ _ _ _ _ _ h hC (lv_sub hl [1, 2, 0] rfl)
  · replace h := ifp c4 h
    refine lv_ldc2 (v := -1) hx hb hown (hts _ q_880) d_m_ask_7 ?_
    cases h
    exact mret_l X hC d_m_ask_10
theorem c_m_revision (l : Launch) (G : MG) (this : Nat) {st : MS} {r : Int32} (h : m_revision st = some r) : Met l y_m_revision (Cond.code y_m_revision b_m_revision 1 (some .int) :: lw_g) (rmL 0 0 0) (mPc G this [] st) (mQc G this (some (.int r)) st) 0 0 (mFr this) := by
  refine Met.ofM (by decide +kernel) (Nat.le_of_ble_eq_true rfl) ?_
  intro p e s m below meth c ls X hC hl
  have hl : lv_has ls 1 [(0, .ref this)] := hl
  generalize (Value.ref this :: []).toArray = args at X ⊢
  obtain ⟨hx, hb, hr, hml, hown, hts, hlocks⟩ := id X
  generalize hHH : s.heap = H at hC ⊢
  generalize ([] : List Loc) = locs at hC ⊢
  clear hHH
  unfold m_revision at h
  refine lv_aload_n hx hb d_m_revision_0 rfl (lv_at hl 0 rfl) ?_
  refine mg_int X hC 3 (by decide) rfl q_676 d_m_revision_1 ?_
  cases h
  exact mret_i X hC d_m_revision_4
theorem w_m_changed_J9 {r : Int32} {st : MS} {H : Heap} {locs : List Loc} {ls : Array Slot} (X : jx p s m args meth c b_m_changed 2 (some .int) R_M) (hC : mC G this s st H locs) (hl : lv_has ls 2 []) (h : m_changed_J9 st = some r) : W p l e (rmL 0 0 0) s m args below meth c H locs 0 0 (MQ below (mQc G this (some (.int r)) st) args s 0 0 (mFr this)) (F0 m 9 ls []) := by
  obtain ⟨hx, hb, hr, hml, hown, hts, hlocks⟩ := id X
  unfold m_changed_J9 at h
  refine lv_iconst (v := -1) hx hb d_m_changed_9 (by decide) ?_
  refine lv_goto (tgt := 19) hx hb d_m_changed_10 (by decide) ?_
  cases h
  exact mret_i X hC d_m_changed_19
theorem c_m_changed (l : Launch) (G : MG) (this : Nat) {st : MS} {a1 : Int32} {r : Int32} (h : m_changed st a1 = some r) : Met l y_m_changed (Cond.code y_m_changed b_m_changed 2 (some .int) :: lw_g) (rmL 0 0 0) (mPc G this [.int a1] st) (mQc G this (some (.int r)) st) 0 0 (mFr this) := by
  refine Met.ofM (by decide +kernel) (Nat.le_of_ble_eq_true rfl) ?_
  intro p e s m below meth c ls X hC hl
  have hl : lv_has ls 2 [(0, .ref this), (1, .int a1)] := hl
  generalize (Value.ref this :: [.int a1]).toArray = args at X ⊢
  obtain ⟨hx, hb, hr, hml, hown, hts, hlocks⟩ := id X
  generalize hHH : s.heap = H at hC ⊢
  generalize ([] : List Loc) = locs at hC ⊢
  clear hHH
  unfold m_changed at h
  refine lv_iload_n hx hb d_m_changed_0 rfl (lv_at hl 1 rfl) ?_
  refine lv_if_lt (tgt := 9) hx hb d_m_changed_1 (by decide) (fun c1 => ?_) (fun c1 => ?_)
  · replace h := ifp c1 h
    exact w_m_changed_J9 X hC (lv_sub hl [] rfl) h
  · replace h := ifn c1 h
    refine lv_iload_n hx hb d_m_changed_4 rfl (lv_at hl 1 rfl) ?_
    refine lv_iconst (v := 2) hx hb d_m_changed_5 (by decide) ?_
    refine lv_icmp_le (tgt := 13) hx hb d_m_changed_6 (by decide) (fun c6 => ?_) (fun c6 => ?_)
    · replace h := ifp c6 h
      refine lv_aload_n hx hb d_m_changed_13 rfl (lv_at hl 0 rfl) ?_
      refine mg_arr X hC 4 (by decide) (by decide) q_677 d_m_changed_14 ?_
      refine lv_iload_n hx hb d_m_changed_17 rfl (lv_at hl 1 rfl) ?_
      obtain ⟨x1, ex1, h⟩ := obi h
      refine ma_ild X hC 4 (by decide) rfl ex1 d_m_changed_18 ?_
      cases h
      exact mret_i X hC d_m_changed_19
    · replace h := ifn c6 h
      exact w_m_changed_J9 X hC (lv_sub hl [] rfl) h
theorem w_m_note_J143 {r : Int32} {st : MS} {H : Heap} {locs : List Loc} {ls : Array Slot} (X : jx p s m args meth c b_m_note 4 (some .int) R_M) (hC : mC G this s st H locs) (hl : lv_has ls 4 []) (h : m_note_J143 st = some r) : W p l e (rmL 1 0 0) s m args below meth c H locs 0 0 (MQ below (mQc G this (some (.int r)) st) args s 0 0 (mFr this)) (F0 m 143 ls []) := by
  obtain ⟨hx, hb, hr, hml, hown, hts, hlocks⟩ := id X
  unfold m_note_J143 at h
  refine lv_iconst (v := 1) hx hb d_m_note_143 (by decide) ?_
  refine lv_goto (tgt := 148) hx hb d_m_note_144 (by decide) ?_
  cases h
  exact mret_i X hC d_m_note_148
theorem w_m_note_J57 {r : Int32} {st : MS} {l1 : Int32} {l2 : Int32} {l3 : Int32} {H : Heap} {locs : List Loc} {ls : Array Slot} (X : jx p s m args meth c b_m_note 4 (some .int) R_M) (hC : mC G this s st H locs) (hl : lv_has ls 4 [(0, .ref this), (1, .int l1), (2, .int l2), (3, .int l3)]) (h : m_note_J57 st l1 l2 l3 = some r) : W p l e (rmL 1 0 0) s m args below meth c H locs 0 0 (MQ below (mQc G this (some (.int r)) st) args s 0 0 (mFr this)) (F0 m 57 ls []) := by
  obtain ⟨hx, hb, hr, hml, hown, hts, hlocks⟩ := id X
  unfold m_note_J57 at h
  refine lv_iload_n hx hb d_m_note_57 rfl (lv_at hl 2 rfl) ?_
  rcases Decidable.em (l2 = 3) with c58_3 | c58_3
  · replace h := ifp c58_3 h
    have hsw : l2.toInt = 3 := by rw [c58_3]; decide
    refine lv_tableIn (tgt := 88) hx hb d_m_note_58 (by rw [hsw]; decide) (by rw [hsw]; decide) (by rw [hsw]; rfl) (by decide) ?_
    refine lv_aload_n hx hb d_m_note_88 rfl (lv_at hl 0 rfl) ?_
    refine lv_iload_n hx hb d_m_note_89 rfl (lv_at hl 1 rfl) ?_
    obtain ⟨x1, ex1, h⟩ := obi h
    refine mcallV_i X hC (c_m_sinceOf l G this ex1) q_913 q_915 q_p41 q_8 q_916 ok_m_sinceOf rfl ⟨by decide, by decide⟩ hl.1 rfl (Nat.le_of_ble_eq_true rfl) d_m_note_90 ⟨Nat.zero_le _, Nat.zero_le _⟩ (fun H locs hC => ?_)
    cases h
    exact mret_i X hC d_m_note_93
  replace h := ifn c58_3 h
  have ec58_3 := i32_ne c58_3
  rcases Decidable.em (l2 = 4) with c58_4 | c58_4
  · replace h := ifp c58_4 h
    have hsw : l2.toInt = 4 := by rw [c58_4]; decide
    refine lv_tableIn (tgt := 94) hx hb d_m_note_58 (by rw [hsw]; decide) (by rw [hsw]; decide) (by rw [hsw]; rfl) (by decide) ?_
    refine lv_iload_n hx hb d_m_note_94 rfl (lv_at hl 3 rfl) ?_
    refine lv_if_eq (tgt := 107) hx hb d_m_note_95 (by decide) (fun c95 => ?_) (fun c95 => ?_)
    · replace h := ifp c95 h
      refine lv_iconst (v := 0) hx hb d_m_note_107 (by decide) ?_
      cases h
      exact mret_i X hC d_m_note_108
    · replace h := ifn c95 h
      refine lv_aload_n hx hb d_m_note_98 rfl (lv_at hl 0 rfl) ?_
      refine mg_arr X hC 18 (by decide) (by decide) q_691 d_m_note_99 ?_
      refine lv_iload_n hx hb d_m_note_102 rfl (lv_at hl 1 rfl) ?_
      obtain ⟨x2, ex2, h⟩ := obi h
      refine ma_ild X hC 18 (by decide) rfl ex2 d_m_note_103 ?_
      refine lv_goto (tgt := 108) hx hb d_m_note_104 (by decide) ?_
      cases h
      exact mret_i X hC d_m_note_108
  replace h := ifn c58_4 h
  have ec58_4 := i32_ne c58_4
  rcases Decidable.em (l2 = 5) with c58_5 | c58_5
  · replace h := ifp c58_5 h
    have hsw : l2.toInt = 5 := by rw [c58_5]; decide
    refine lv_tableIn (tgt := 109) hx hb d_m_note_58 (by rw [hsw]; decide) (by rw [hsw]; decide) (by rw [hsw]; rfl) (by decide) ?_
    refine lv_aload_n hx hb d_m_note_109 rfl (lv_at hl 0 rfl) ?_
    refine lv_iload_n hx hb d_m_note_110 rfl (lv_at hl 1 rfl) ?_
    obtain ⟨x3, ex3, h⟩ := obi h
    refine mcallV_i X hC (c_m_durabilityOf l G this ex3) q_909 q_911 q_p40 q_8 q_912 ok_m_durabilityOf rfl ⟨by decide, by decide⟩ hl.1 rfl (Nat.le_of_ble_eq_true rfl) d_m_note_111 ⟨Nat.zero_le _, Nat.zero_le _⟩ (fun H locs hC => ?_)
    cases h
    exact mret_i X hC d_m_note_114
  replace h := ifn c58_5 h
  have ec58_5 := i32_ne c58_5
  rcases Decidable.em (l2 = 6) with c58_6 | c58_6
  · replace h := ifp c58_6 h
    have hsw : l2.toInt = 6 := by rw [c58_6]; decide
    refine lv_tableIn (tgt := 115) hx hb d_m_note_58 (by rw [hsw]; decide) (by rw [hsw]; decide) (by rw [hsw]; rfl) (by decide) ?_
    refine lv_iload_n hx hb d_m_note_115 rfl (lv_at hl 3 rfl) ?_
    refine lv_if_eq (tgt := 128) hx hb d_m_note_116 (by decide) (fun c116 => ?_) (fun c116 => ?_)
    · replace h := ifp c116 h
      refine lv_iconst (v := 0) hx hb d_m_note_128 (by decide) ?_
      cases h
      exact mret_i X hC d_m_note_129
    · replace h := ifn c116 h
      refine lv_aload_n hx hb d_m_note_119 rfl (lv_at hl 0 rfl) ?_
      refine mg_arr X hC 21 (by decide) (by decide) q_694 d_m_note_120 ?_
      refine lv_iload_n hx hb d_m_note_123 rfl (lv_at hl 1 rfl) ?_
      obtain ⟨x4, ex4, h⟩ := obi h
      refine ma_ild X hC 21 (by decide) rfl ex4 d_m_note_124 ?_
      refine lv_goto (tgt := 129) hx hb d_m_note_125 (by decide) ?_
      cases h
      exact mret_i X hC d_m_note_129
  replace h := ifn c58_6 h
  have ec58_6 := i32_ne c58_6
  rw [show (3 : Int32).toInt = 3 by decide] at ec58_3
  rw [show (4 : Int32).toInt = 4 by decide] at ec58_4
  rw [show (5 : Int32).toInt = 5 by decide] at ec58_5
  rw [show (6 : Int32).toInt = 6 by decide] at ec58_6
  refine lv_tableOut (tgt := 130) hx hb d_m_note_58 (by omega) (by decide) ?_
  refine lv_iload_n hx hb d_m_note_130 rfl (lv_at hl 3 rfl) ?_
  refine lv_if_eq (tgt := 143) hx hb d_m_note_131 (by decide) (fun c131 => ?_) (fun c131 => ?_)
  · replace h := ifp c131 h
    exact w_m_note_J143 X hC (lv_sub hl [] rfl) h
  · replace h := ifn c131 h
    refine lv_aload_n hx hb d_m_note_134 rfl (lv_at hl 0 rfl) ?_
    refine mg_arr X hC 16 (by decide) (by decide) q_689 d_m_note_135 ?_
    refine lv_iload_n hx hb d_m_note_138 rfl (lv_at hl 1 rfl) ?_
    obtain ⟨x5, ex5, h⟩ := obi h
    refine ma_zld X hC 16 (by decide) rfl ex5 d_m_note_139 ?_
    refine lv_if_eq (tgt := 147) hx hb d_m_note_140 (by decide) (fun c140 => ?_) (fun c140 => ?_)
    · replace h := ifp c140 h
      refine lv_iconst (v := 0) hx hb d_m_note_147 (by decide) ?_
      cases h
      exact mret_i X hC d_m_note_148
    · replace h := ifn c140 h
      exact w_m_note_J143 X hC (lv_sub hl [] rfl) h
theorem c_m_note (l : Launch) (G : MG) (this : Nat) {st : MS} {a1 : Int32} {a2 : Int32} {r : Int32} (h : m_note st a1 a2 = some r) : Met l y_m_note (Cond.code y_m_note b_m_note 4 (some .int) :: lw_g) (rmL 1 0 0) (mPc G this [.int a1, .int a2] st) (mQc G this (some (.int r)) st) 0 0 (mFr this) := by
  refine Met.ofM (by decide +kernel) (Nat.le_of_ble_eq_true rfl) ?_
  intro p e s m below meth c ls X hC hl
  have hl : lv_has ls 4 [(0, .ref this), (1, .int a1), (2, .int a2)] := hl
  generalize (Value.ref this :: [.int a1, .int a2]).toArray = args at X ⊢
  obtain ⟨hx, hb, hr, hml, hown, hts, hlocks⟩ := id X
  generalize hHH : s.heap = H at hC ⊢
  generalize ([] : List Loc) = locs at hC ⊢
  clear hHH
  unfold m_note at h
  refine lv_iload_n hx hb d_m_note_0 rfl (lv_at hl 1 rfl) ?_
  refine mcallS_i X (c_m_isCell l a1) q_865 q_866 q_8 q_867 ok_m_isCell rfl ⟨by decide, by decide⟩ hl.1 rfl (Nat.le_of_ble_eq_true rfl) d_m_note_1 ⟨Nat.zero_le _, Nat.zero_le _⟩ ?_
  refine lv_if_eq (tgt := 17) hx hb d_m_note_4 (by decide) (fun c4 => ?_) (fun c4 => ?_)
  · replace h := ifp c4 h
    refine lv_iconst (v := -1) hx hb d_m_note_17 (by decide) ?_
    cases h
    exact mret_i X hC d_m_note_18
  · replace h := ifn c4 h
    refine lv_iload_n hx hb d_m_note_7 rfl (lv_at hl 2 rfl) ?_
    refine lv_if_lt (tgt := 17) hx hb d_m_note_8 (by decide) (fun c8 => ?_) (fun c8 => ?_)
    · replace h := ifp c8 h
      refine lv_iconst (v := -1) hx hb d_m_note_17 (by decide) ?_
      cases h
      exact mret_i X hC d_m_note_18
    · replace h := ifn c8 h
      refine lv_iload_n hx hb d_m_note_11 rfl (lv_at hl 2 rfl) ?_
      refine lv_bipush (v := 7) hx hb d_m_note_12 (by decide) ?_
      refine lv_icmp_le (tgt := 19) hx hb d_m_note_14 (by decide) (fun c14 => ?_) (fun c14 => ?_)
      · replace h := ifp c14 h
        refine lv_iload_n hx hb d_m_note_19 rfl (lv_at hl 2 rfl) ?_
        refine lv_iconst (v := 3) hx hb d_m_note_20 (by decide) ?_
        refine lv_icmp_ge (tgt := 35) hx hb d_m_note_21 (by decide) (fun c21 => ?_) (fun c21 => ?_)
        · replace h := ifp c21 h
          refine lv_aload_n hx hb d_m_note_35 rfl (lv_at hl 0 rfl) ?_
          refine mg_arr X hC 5 (by decide) (by decide) q_678 d_m_note_36 ?_
          refine lv_iload_n hx hb d_m_note_39 rfl (lv_at hl 1 rfl) ?_
          obtain ⟨x1, ex1, h⟩ := obi h
          refine ma_zld X hC 5 (by decide) rfl ex1 d_m_note_40 ?_
          refine lv_istore_n (lv' := [(3, .int x1), (0, .ref this), (1, .int a1), (2, .int a2)]) hx hb d_m_note_41 rfl hl (by decide) rfl (fun ls hl => ?_)
          refine lv_iload_n hx hb d_m_note_42 rfl (lv_at hl 0 rfl) ?_
          refine lv_if_eq (tgt := 57) hx hb d_m_note_43 (by decide) (fun c43 => ?_) (fun c43 => ?_)
          · replace h := ifp c43 h
            exact w_m_note_J57 X hC (lv_sub hl [1, 2, 3, 0] rfl) h
          · replace h := ifn c43 h
            refine lv_aload_n hx hb d_m_note_46 rfl (lv_at hl 1 rfl) ?_
            refine mg_arr X hC 15 (by decide) (by decide) q_688 d_m_note_47 ?_
            refine lv_iload_n hx hb d_m_note_50 rfl (lv_at hl 2 rfl) ?_
            obtain ⟨x2, ex2, h⟩ := obi h
            refine ma_zld X hC 15 (by decide) rfl ex2 d_m_note_51 ?_
            refine lv_if_ne (tgt := 57) hx hb d_m_note_52 (by decide) (fun c52 => ?_) (fun c52 => ?_)
            · replace h := ifn c52 h
              exact w_m_note_J57 X hC (lv_sub hl [1, 2, 3, 0] rfl) h
            · replace h := ifp c52 h
              refine lv_iconst (v := 0) hx hb d_m_note_55 (by decide) ?_
              cases h
              exact mret_i X hC d_m_note_56
        · replace h := ifn c21 h
          refine lv_aload_n hx hb d_m_note_24 rfl (lv_at hl 0 rfl) ?_
          refine mg_arr X hC 25 (by decide) (by decide) q_698 d_m_note_25 ?_
          refine lv_iconst (v := 3) hx hb d_m_note_28 (by decide) ?_
          refine lv_iload_n hx hb d_m_note_29 rfl (lv_at hl 1 rfl) ?_
          refine lv_imul hx hb d_m_note_30 ?_
          refine lv_iload_n hx hb d_m_note_31 rfl (lv_at hl 2 rfl) ?_
          refine lv_iadd hx hb d_m_note_32 ?_
          obtain ⟨x3, ex3, h⟩ := obi h
          refine ma_ild X hC 25 (by decide) rfl ex3 d_m_note_33 ?_
          cases h
          exact mret_i X hC d_m_note_34
      · replace h := ifn c14 h
        refine lv_iconst (v := -1) hx hb d_m_note_17 (by decide) ?_
        cases h
        exact mret_i X hC d_m_note_18
end
