section
variable {p : Program} {l : Launch} {e : Env} {s : State} {m : MethodId} {args : Array Value} {below : List Frame} {meth : Method} {c : Code} {G : MG} {this : Nat}
theorem w_m_goesOn_J127 {r : Int32 × MS} {st : MS} {l1 : Int32} {s0 : Int32} {s1 : Int32} {H : Heap} {locs : List Loc} {ls : Array Slot} (X : jx p s m args meth c b_m_goesOn 2 (some .boolean) R_M) (hC : mC G this s st H locs) (hl : lv_has ls 2 [(0, .ref this), (1, .int l1)]) (h : m_goesOn_J127 st l1 s0 s1 = some r) : W p l e (rmL 3 0 0) s m args below meth c H locs 0 0 (MQ below (mQc G this (some (.int r.1)) r.2) args s 0 0 (mFr this)) (F0 m 127 ls [.int s0, .int s1]) := by
  obtain ⟨hx, hb, hr, hml, hown, hts, hlocks⟩ := id X
  unfold m_goesOn_J127 at h
  refine lv_icmp_eq (tgt := 132) hx hb d_m_goesOn_127 (by decide) (fun c127 => ?_) (fun c127 => ?_)
  · replace h := ifp c127 h
    refine lv_aload_n hx hb d_m_goesOn_132 rfl (lv_at hl 0 rfl) ?_
    obtain ⟨st1, est1, h⟩ := obi h
    refine mcallV_v X hC (c_m_close l G this est1) q_861 q_863 q_p31 q_8 q_864 ok_m_close rfl ⟨by decide, by decide⟩ hl.1 rfl (Nat.le_of_ble_eq_true rfl) d_m_goesOn_133 ⟨Nat.zero_le _, Nat.zero_le _⟩ (fun H locs hC => ?_)
    refine lv_aload_n hx hb d_m_goesOn_136 rfl (lv_at hl 0 rfl) ?_
    refine lv_dup hx hb d_m_goesOn_137 rfl ?_
    refine mg_int X hC 37 (by decide) rfl q_710 d_m_goesOn_138 ?_
    refine lv_iconst (v := 1) hx hb d_m_goesOn_141 (by decide) ?_
    refine lv_isub hx hb d_m_goesOn_142 ?_
    obtain ⟨st2, est2, h⟩ := obi h
    refine mp_int X hC 37 (by decide) rfl rfl (by decide +kernel) q_710 est2 d_m_goesOn_143 (fun H locs hC => ?_)
    refine lv_iload_n hx hb d_m_goesOn_146 rfl (lv_at hl 1 rfl) ?_
    refine lv_bipush (v := 58) hx hb d_m_goesOn_147 (by decide) ?_
    refine lv_icmp_ne (tgt := 192) hx hb d_m_goesOn_149 (by decide) (fun c149 => ?_) (fun c149 => ?_)
    · replace h := ifn c149 h
      refine lv_aload_n hx hb d_m_goesOn_192 rfl (lv_at hl 0 rfl) ?_
      refine lv_iconst (v := 3) hx hb d_m_goesOn_193 (by decide) ?_
      obtain ⟨st3, est3, h⟩ := obi h
      refine mcallV_v X hC (c_m_settle l G this est3) q_830 q_832 q_p24 q_8 q_833 ok_m_settle rfl ⟨by decide, by decide⟩ hl.1 rfl (Nat.le_of_ble_eq_true rfl) d_m_goesOn_194 ⟨Nat.zero_le _, Nat.zero_le _⟩ (fun H locs hC => ?_)
      refine lv_iconst (v := 1) hx hb d_m_goesOn_197 (by decide) ?_
      cases h
      exact mret_z nz_1 X hC d_m_goesOn_198
    · replace h := ifp c149 h
      refine lv_aload_n hx hb d_m_goesOn_152 rfl (lv_at hl 0 rfl) ?_
      refine lv_bipush (v := 9) hx hb d_m_goesOn_153 (by decide) ?_
      refine lv_iconst (v := 0) hx hb d_m_goesOn_155 (by decide) ?_
      obtain ⟨st4, est4, h⟩ := obi h
      refine mcallV_v X hC (c_m_make l G this est4) q_826 q_828 q_p23 q_8 q_829 ok_m_make rfl ⟨by decide, by decide⟩ hl.1 rfl (Nat.le_of_ble_eq_true rfl) d_m_goesOn_156 ⟨Nat.zero_le _, Nat.zero_le _⟩ (fun H locs hC => ?_)
      refine lv_aload_n hx hb d_m_goesOn_159 rfl (lv_at hl 0 rfl) ?_
      refine mg_arr X hC 42 (by decide) (by decide) q_715 d_m_goesOn_160 ?_
      refine lv_aload_n hx hb d_m_goesOn_163 rfl (lv_at hl 0 rfl) ?_
      refine mg_arr X hC 39 (by decide) (by decide) q_712 d_m_goesOn_164 ?_
      refine lv_aload_n hx hb d_m_goesOn_167 rfl (lv_at hl 0 rfl) ?_
      refine mg_int X hC 37 (by decide) rfl q_710 d_m_goesOn_168 ?_
      obtain ⟨x5, ex5, h⟩ := obi h
      refine ma_ild X hC 39 (by decide) rfl ex5 d_m_goesOn_171 ?_
      refine lv_aload_n hx hb d_m_goesOn_172 rfl (lv_at hl 0 rfl) ?_
      refine mg_int X hC 40 (by decide) rfl q_713 d_m_goesOn_173 ?_
      obtain ⟨st6, est6, h⟩ := obi h
      refine ma_ist X hC 42 (by decide) rfl est6 d_m_goesOn_176 (fun H locs hC => ?_)
      refine lv_aload_n hx hb d_m_goesOn_177 rfl (lv_at hl 0 rfl) ?_
      refine lv_bipush (v := 58) hx hb d_m_goesOn_178 (by decide) ?_
      refine lv_aload_n hx hb d_m_goesOn_180 rfl (lv_at hl 0 rfl) ?_
      refine mg_int X hC 40 (by decide) rfl q_713 d_m_goesOn_181 ?_
      refine lv_iconst (v := 1) hx hb d_m_goesOn_184 (by decide) ?_
      refine lv_isub hx hb d_m_goesOn_185 ?_
      obtain ⟨st7, est7, h⟩ := obi h
      refine mcallV_v X hC (c_m_put l G this est7) q_841 q_843 q_p26 q_8 q_844 ok_m_put rfl ⟨by decide, by decide⟩ hl.1 rfl (Nat.le_of_ble_eq_true rfl) d_m_goesOn_186 ⟨Nat.zero_le _, Nat.zero_le _⟩ (fun H locs hC => ?_)
      refine lv_goto (tgt := 197) hx hb d_m_goesOn_189 (by decide) ?_
      refine lv_iconst (v := 1) hx hb d_m_goesOn_197 (by decide) ?_
      cases h
      exact mret_z nz_1 X hC d_m_goesOn_198
  · replace h := ifn c127 h
    refine lv_iconst (v := 0) hx hb d_m_goesOn_130 (by decide) ?_
    cases h
    exact mret_z nz_0 X hC d_m_goesOn_131
theorem w_m_goesOn_J67 {r : Int32 × MS} {st : MS} {l1 : Int32} {s0 : Int32} {H : Heap} {locs : List Loc} {ls : Array Slot} (X : jx p s m args meth c b_m_goesOn 2 (some .boolean) R_M) (hC : mC G this s st H locs) (hl : lv_has ls 2 [(0, .ref this), (1, .int l1)]) (h : m_goesOn_J67 st l1 s0 = some r) : W p l e (rmL 3 0 0) s m args below meth c H locs 0 0 (MQ below (mQc G this (some (.int r.1)) r.2) args s 0 0 (mFr this)) (F0 m 67 ls [.int s0, .ref this]) := by
  obtain ⟨hx, hb, hr, hml, hown, hts, hlocks⟩ := id X
  unfold m_goesOn_J67 at h
  obtain ⟨st1, est1, h⟩ := obi h
  refine mcallV_v X hC (c_m_settle l G this est1) q_830 q_832 q_p24 q_8 q_833 ok_m_settle rfl ⟨by decide, by decide⟩ hl.1 rfl (Nat.le_of_ble_eq_true rfl) d_m_goesOn_67 ⟨Nat.zero_le _, Nat.zero_le _⟩ (fun H locs hC => ?_)
  refine lv_aload_n hx hb d_m_goesOn_70 rfl (lv_at hl 0 rfl) ?_
  refine lv_iload_n hx hb d_m_goesOn_71 rfl (lv_at hl 1 rfl) ?_
  refine lv_iconst (v := 0) hx hb d_m_goesOn_72 (by decide) ?_
  obtain ⟨st2, est2, h⟩ := obi h
  refine mcallV_v X hC (c_m_put l G this est2) q_841 q_843 q_p26 q_8 q_844 ok_m_put rfl ⟨by decide, by decide⟩ hl.1 rfl (Nat.le_of_ble_eq_true rfl) d_m_goesOn_73 ⟨Nat.zero_le _, Nat.zero_le _⟩ (fun H locs hC => ?_)
  refine lv_iconst (v := 1) hx hb d_m_goesOn_76 (by decide) ?_
  cases h
  exact mret_z nz_1 X hC d_m_goesOn_77
theorem w_m_goesOn_J14 {r : Int32 × MS} {st : MS} {l1 : Int32} {H : Heap} {locs : List Loc} {ls : Array Slot} (X : jx p s m args meth c b_m_goesOn 2 (some .boolean) R_M) (hC : mC G this s st H locs) (hl : lv_has ls 2 [(0, .ref this), (1, .int l1)]) (h : m_goesOn_J14 st l1 = some r) : W p l e (rmL 3 0 0) s m args below meth c H locs 0 0 (MQ below (mQc G this (some (.int r.1)) r.2) args s 0 0 (mFr this)) (F0 m 14 ls []) := by
  obtain ⟨hx, hb, hr, hml, hown, hts, hlocks⟩ := id X
  unfold m_goesOn_J14 at h
  refine lv_iload_n hx hb d_m_goesOn_14 rfl (lv_at hl 1 rfl) ?_
  refine mcallS_i X (c_m_rank l l1) q_834 q_835 q_8 q_836 ok_m_rank rfl ⟨by decide, by decide⟩ hl.1 rfl (Nat.le_of_ble_eq_true rfl) d_m_goesOn_15 ⟨Nat.zero_le _, Nat.zero_le _⟩ ?_
  refine lv_iconst (v := 3) hx hb d_m_goesOn_18 (by decide) ?_
  refine lv_icmp_eq (tgt := 42) hx hb d_m_goesOn_19 (by decide) (fun c19 => ?_) (fun c19 => ?_)
  · replace h := ifp c19 h
    refine lv_iconst (v := 0) hx hb d_m_goesOn_42 (by decide) ?_
    cases h
    exact mret_z nz_0 X hC d_m_goesOn_43
  · replace h := ifn c19 h
    refine lv_iload_n hx hb d_m_goesOn_22 rfl (lv_at hl 1 rfl) ?_
    refine lv_bipush (v := 40) hx hb d_m_goesOn_23 (by decide) ?_
    refine lv_icmp_eq (tgt := 42) hx hb d_m_goesOn_25 (by decide) (fun c25 => ?_) (fun c25 => ?_)
    · replace h := ifp c25 h
      refine lv_iconst (v := 0) hx hb d_m_goesOn_42 (by decide) ?_
      cases h
      exact mret_z nz_0 X hC d_m_goesOn_43
    · replace h := ifn c25 h
      refine lv_iload_n hx hb d_m_goesOn_28 rfl (lv_at hl 1 rfl) ?_
      refine mcallS_i X (c_m_isLetter l l1) q_808 q_809 q_8 q_810 ok_m_isLetter rfl ⟨by decide, by decide⟩ hl.1 rfl (Nat.le_of_ble_eq_true rfl) d_m_goesOn_29 ⟨Nat.zero_le _, Nat.zero_le _⟩ ?_
      refine lv_if_ne (tgt := 42) hx hb d_m_goesOn_32 (by decide) (fun c32 => ?_) (fun c32 => ?_)
      · replace h := ifn c32 h
        refine lv_iconst (v := 0) hx hb d_m_goesOn_42 (by decide) ?_
        cases h
        exact mret_z nz_0 X hC d_m_goesOn_43
      · replace h := ifp c32 h
        refine lv_iload_n hx hb d_m_goesOn_35 rfl (lv_at hl 1 rfl) ?_
        refine mcallS_i X (c_m_isDigit l l1) q_811 q_812 q_8 q_813 ok_m_isDigit rfl ⟨by decide, by decide⟩ hl.1 rfl (Nat.le_of_ble_eq_true rfl) d_m_goesOn_36 ⟨Nat.zero_le _, Nat.zero_le _⟩ ?_
        refine lv_if_eq (tgt := 44) hx hb d_m_goesOn_39 (by decide) (fun c39 => ?_) (fun c39 => ?_)
        · replace h := ifp c39 h
          refine lv_iload_n hx hb d_m_goesOn_44 rfl (lv_at hl 1 rfl) ?_
          refine mcallS_i X (c_m_rank l l1) q_834 q_835 q_8 q_836 ok_m_rank rfl ⟨by decide, by decide⟩ hl.1 rfl (Nat.le_of_ble_eq_true rfl) d_m_goesOn_45 ⟨Nat.zero_le _, Nat.zero_le _⟩ ?_
          refine lv_if_lt (tgt := 78) hx hb d_m_goesOn_48 (by decide) (fun c48 => ?_) (fun c48 => ?_)
          · replace h := ifp c48 h
            refine lv_iload_n hx hb d_m_goesOn_78 rfl (lv_at hl 1 rfl) ?_
            refine lv_bipush (v := 63) hx hb d_m_goesOn_79 (by decide) ?_
            refine lv_icmp_ne (tgt := 110) hx hb d_m_goesOn_81 (by decide) (fun c81 => ?_) (fun c81 => ?_)
            · replace h := ifn c81 h
              refine lv_aload_n hx hb d_m_goesOn_110 rfl (lv_at hl 0 rfl) ?_
              obtain ⟨x1, ex1, h⟩ := obi h
              refine mcallV_i X hC (c_m_awaits l G this ex1) q_853 q_855 q_p29 q_8 q_856 ok_m_awaits rfl ⟨by decide, by decide⟩ hl.1 rfl (Nat.le_of_ble_eq_true rfl) d_m_goesOn_111 ⟨Nat.zero_le _, Nat.zero_le _⟩ (fun H locs hC => ?_)
              refine lv_iload_n hx hb d_m_goesOn_114 rfl (lv_at hl 1 rfl) ?_
              refine lv_bipush (v := 58) hx hb d_m_goesOn_115 (by decide) ?_
              refine lv_icmp_ne (tgt := 125) hx hb d_m_goesOn_117 (by decide) (fun c117 => ?_) (fun c117 => ?_)
              · replace h := ifn c117 h
                refine lv_bipush (v := 40) hx hb d_m_goesOn_125 (by decide) ?_
                exact w_m_goesOn_J127 X hC (lv_sub hl [0, 1] rfl) h
              · replace h := ifp c117 h
                refine lv_bipush (v := 63) hx hb d_m_goesOn_120 (by decide) ?_
                refine lv_goto (tgt := 127) hx hb d_m_goesOn_122 (by decide) ?_
                exact w_m_goesOn_J127 X hC (lv_sub hl [0, 1] rfl) h
            · replace h := ifp c81 h
              refine lv_aload_n hx hb d_m_goesOn_84 rfl (lv_at hl 0 rfl) ?_
              refine lv_iconst (v := 0) hx hb d_m_goesOn_85 (by decide) ?_
              obtain ⟨st2, est2, h⟩ := obi h
              refine mcallV_v X hC (c_m_settle l G this est2) q_830 q_832 q_p24 q_8 q_833 ok_m_settle rfl ⟨by decide, by decide⟩ hl.1 rfl (Nat.le_of_ble_eq_true rfl) d_m_goesOn_86 ⟨Nat.zero_le _, Nat.zero_le _⟩ (fun H locs hC => ?_)
              refine lv_aload_n hx hb d_m_goesOn_89 rfl (lv_at hl 0 rfl) ?_
              refine lv_bipush (v := 10) hx hb d_m_goesOn_90 (by decide) ?_
              refine lv_iconst (v := 0) hx hb d_m_goesOn_92 (by decide) ?_
              obtain ⟨st3, est3, h⟩ := obi h
              refine mcallV_v X hC (c_m_make l G this est3) q_826 q_828 q_p23 q_8 q_829 ok_m_make rfl ⟨by decide, by decide⟩ hl.1 rfl (Nat.le_of_ble_eq_true rfl) d_m_goesOn_93 ⟨Nat.zero_le _, Nat.zero_le _⟩ (fun H locs hC => ?_)
              refine lv_aload_n hx hb d_m_goesOn_96 rfl (lv_at hl 0 rfl) ?_
              refine lv_bipush (v := 63) hx hb d_m_goesOn_97 (by decide) ?_
              refine lv_aload_n hx hb d_m_goesOn_99 rfl (lv_at hl 0 rfl) ?_
              refine mg_int X hC 40 (by decide) rfl q_713 d_m_goesOn_100 ?_
              refine lv_iconst (v := 1) hx hb d_m_goesOn_103 (by decide) ?_
              refine lv_isub hx hb d_m_goesOn_104 ?_
              obtain ⟨st4, est4, h⟩ := obi h
              refine mcallV_v X hC (c_m_put l G this est4) q_841 q_843 q_p26 q_8 q_844 ok_m_put rfl ⟨by decide, by decide⟩ hl.1 rfl (Nat.le_of_ble_eq_true rfl) d_m_goesOn_105 ⟨Nat.zero_le _, Nat.zero_le _⟩ (fun H locs hC => ?_)
              refine lv_iconst (v := 1) hx hb d_m_goesOn_108 (by decide) ?_
              cases h
              exact mret_z nz_1 X hC d_m_goesOn_109
          · replace h := ifn c48 h
            refine lv_aload_n hx hb d_m_goesOn_51 rfl (lv_at hl 0 rfl) ?_
            refine lv_iload_n hx hb d_m_goesOn_52 rfl (lv_at hl 1 rfl) ?_
            refine mcallS_i X (c_m_rank l l1) q_834 q_835 q_8 q_836 ok_m_rank rfl ⟨by decide, by decide⟩ hl.1 rfl (Nat.le_of_ble_eq_true rfl) d_m_goesOn_53 ⟨Nat.zero_le _, Nat.zero_le _⟩ ?_
            refine lv_if_ne (tgt := 63) hx hb d_m_goesOn_56 (by decide) (fun c56 => ?_) (fun c56 => ?_)
            · replace h := ifn c56 h
              refine lv_iload_n hx hb d_m_goesOn_63 rfl (lv_at hl 1 rfl) ?_
              refine mcallS_i X (c_m_rank l l1) q_834 q_835 q_8 q_836 ok_m_rank rfl ⟨by decide, by decide⟩ hl.1 rfl (Nat.le_of_ble_eq_true rfl) d_m_goesOn_64 ⟨Nat.zero_le _, Nat.zero_le _⟩ ?_
              exact w_m_goesOn_J67 X hC (lv_sub hl [0, 1] rfl) h
            · replace h := ifp c56 h
              refine lv_iconst (v := 1) hx hb d_m_goesOn_59 (by decide) ?_
              refine lv_goto (tgt := 67) hx hb d_m_goesOn_60 (by decide) ?_
              exact w_m_goesOn_J67 X hC (lv_sub hl [0, 1] rfl) h
        · replace h := ifn c39 h
          refine lv_iconst (v := 0) hx hb d_m_goesOn_42 (by decide) ?_
          cases h
          exact mret_z nz_0 X hC d_m_goesOn_43
theorem c_m_goesOn (l : Launch) (G : MG) (this : Nat) {st : MS} {a1 : Int32} {r : Int32 × MS} (h : m_goesOn st a1 = some r) : Met l y_m_goesOn (Cond.code y_m_goesOn b_m_goesOn 2 (some .boolean) :: lw_g) (rmL 3 0 0) (mPc G this [.int a1] st) (mQc G this (some (.int r.1)) r.2) 0 0 (mFr this) := by
  refine Met.ofM (by decide +kernel) (Nat.le_of_ble_eq_true rfl) ?_
  intro p e s m below meth c ls X hC hl
  have hl : lv_has ls 2 [(0, .ref this), (1, .int a1)] := hl
  generalize (Value.ref this :: [.int a1]).toArray = args at X ⊢
  obtain ⟨hx, hb, hr, hml, hown, hts, hlocks⟩ := id X
  generalize hHH : s.heap = H at hC ⊢
  generalize ([] : List Loc) = locs at hC ⊢
  clear hHH
  unfold m_goesOn at h
  refine lv_iload_n hx hb d_m_goesOn_0 rfl (lv_at hl 1 rfl) ?_
  refine mcallS_i X (c_m_rank l a1) q_834 q_835 q_8 q_836 ok_m_rank rfl ⟨by decide, by decide⟩ hl.1 rfl (Nat.le_of_ble_eq_true rfl) d_m_goesOn_1 ⟨Nat.zero_le _, Nat.zero_le _⟩ ?_
  refine lv_if_ne (tgt := 14) hx hb d_m_goesOn_4 (by decide) (fun c4 => ?_) (fun c4 => ?_)
  · replace h := ifn c4 h
    exact w_m_goesOn_J14 X hC (lv_sub hl [0, 1] rfl) h
  · replace h := ifp c4 h
    refine lv_aload_n hx hb d_m_goesOn_7 rfl (lv_at hl 0 rfl) ?_
    obtain ⟨x1, ex1, h⟩ := obi h
    refine mcallV_i X hC (c_m_compared l G this ex1) q_849 q_851 q_p28 q_8 q_852 ok_m_compared rfl ⟨by decide, by decide⟩ hl.1 rfl (Nat.le_of_ble_eq_true rfl) d_m_goesOn_8 ⟨Nat.zero_le _, Nat.zero_le _⟩ (fun H locs hC => ?_)
    refine lv_if_ne (tgt := 42) hx hb d_m_goesOn_11 (by decide) (fun c11 => ?_) (fun c11 => ?_)
    · replace h := ifn c11 h
      refine lv_iconst (v := 0) hx hb d_m_goesOn_42 (by decide) ?_
      cases h
      exact mret_z nz_0 X hC d_m_goesOn_43
    · replace h := ifp c11 h
      exact w_m_goesOn_J14 X hC (lv_sub hl [0, 1] rfl) h
theorem w_m_fault_J171 {r : Int32 × MS} {st : MS} {H : Heap} {locs : List Loc} {ls : Array Slot} (X : jx p s m args meth c b_m_fault 6 (some .int) R_M) (hC : mC G this s st H locs) (hl : lv_has ls 6 [(0, .ref this)]) (h : m_fault_J171 st = some r) : W p l e (rmL 4 0 0) s m args below meth c H locs 0 0 (MQ below (mQc G this (some (.int r.1)) r.2) args s 0 0 (mFr this)) (F0 m 171 ls []) := by
  obtain ⟨hx, hb, hr, hml, hown, hts, hlocks⟩ := id X
  unfold m_fault_J171 at h
  refine lv_aload_n hx hb d_m_fault_171 rfl (lv_at hl 0 rfl) ?_
  refine mg_int X hC 2 (by decide) rfl q_675 d_m_fault_172 ?_
  cases h
  exact mret_i X hC d_m_fault_175
theorem w_m_fault_J156 {r : Int32 × MS} {st : MS} {l2 : Int32} {s0 : Int32} {k_14 : MS → Int32 → Int32 → Option (Int32 × MS)} {H : Heap} {locs : List Loc} {ls : Array Slot} (X : jx p s m args meth c b_m_fault 6 (some .int) R_M) (hC : mC G this s st H locs) (hl : lv_has ls 6 [(0, .ref this), (2, .int l2)]) (hk_14 : ∀ (st : MS) (l1 : Int32) (l2 : Int32) (H : Heap) (locs : List Loc) (ls : Array Slot), k_14 st l1 l2 = some r → mC G this s st H locs → lv_has ls 6 [(0, .ref this), (1, .int l1), (2, .int l2)] → W p l e (rmL 4 0 0) s m args below meth c H locs 0 0 (MQ below (mQc G this (some (.int r.1)) r.2) args s 0 0 (mFr this)) (F0 m 14 ls [])) (h : m_fault_J156 k_14 st l2 s0 = some r) : W p l e (rmL 4 0 0) s m args below meth c H locs 0 0 (MQ below (mQc G this (some (.int r.1)) r.2) args s 0 0 (mFr this)) (F0 m 156 ls [.int s0]) := by
  obtain ⟨hx, hb, hr, hml, hown, hts, hlocks⟩ := id X
  unfold m_fault_J156 at h
  refine lv_istore_n (lv' := [(1, .int s0), (0, .ref this), (2, .int l2)]) hx hb d_m_fault_156 rfl hl (by decide) rfl (fun ls hl => ?_)
  refine lv_goto (tgt := 14) hx hb d_m_fault_157 (by decide) ?_
  exact hk_14 _ _ _ _ _ _ h hC (lv_sub hl [1, 0, 2] rfl)
theorem w_m_fault_J136 {r : Int32 × MS} {st : MS} {l1 : Int32} {l2 : Int32} {l3 : Int32} {l4 : Int32} {k_14 : MS → Int32 → Int32 → Option (Int32 × MS)} {H : Heap} {locs : List Loc} {ls : Array Slot} (X : jx p s m args meth c b_m_fault 6 (some .int) R_M) (hC : mC G this s st H locs) (hl : lv_has ls 6 [(0, .ref this), (1, .int l1), (2, .int l2), (3, .int l3), (4, .int l4)]) (hk_14 : ∀ (st : MS) (l1 : Int32) (l2 : Int32) (H : Heap) (locs : List Loc) (ls : Array Slot), k_14 st l1 l2 = some r → mC G this s st H locs → lv_has ls 6 [(0, .ref this), (1, .int l1), (2, .int l2)] → W p l e (rmL 4 0 0) s m args below meth c H locs 0 0 (MQ below (mQc G this (some (.int r.1)) r.2) args s 0 0 (mFr this)) (F0 m 14 ls [])) (h : m_fault_J136 k_14 st l1 l2 l3 l4 = some r) : W p l e (rmL 4 0 0) s m args below meth c H locs 0 0 (MQ below (mQc G this (some (.int r.1)) r.2) args s 0 0 (mFr this)) (F0 m 136 ls []) := by
  obtain ⟨hx, hb, hr, hml, hown, hts, hlocks⟩ := id X
  unfold m_fault_J136 at h
  refine lv_iload_n hx hb d_m_fault_136 rfl (lv_at hl 1 rfl) ?_
  refine lv_if_eq (tgt := 145) hx hb d_m_fault_137 (by decide) (fun c137 => ?_) (fun c137 => ?_)
  · replace h := ifp c137 h
    refine lv_iload_n hx hb d_m_fault_145 rfl (lv_at hl 3 rfl) ?_
    refine lv_bipush (v := 41) hx hb d_m_fault_146 (by decide) ?_
    refine lv_icmp_eq (tgt := 155) hx hb d_m_fault_148 (by decide) (fun c148 => ?_) (fun c148 => ?_)
    · replace h := ifp c148 h
      refine lv_iconst (v := 0) hx hb d_m_fault_155 (by decide) ?_
      exact w_m_fault_J156 X hC (lv_sub hl [0, 2] rfl) hk_14 h
    · replace h := ifn c148 h
      refine lv_iconst (v := 1) hx hb d_m_fault_151 (by decide) ?_
      refine lv_goto (tgt := 156) hx hb d_m_fault_152 (by decide) ?_
      exact w_m_fault_J156 X hC (lv_sub hl [0, 2] rfl) hk_14 h
  · replace h := ifn c137 h
    refine lv_iload hx hb d_m_fault_140 (lv_at hl 4 rfl) ?_
    refine lv_goto (tgt := 156) hx hb d_m_fault_142 (by decide) ?_
    exact w_m_fault_J156 X hC (lv_sub hl [0, 2] rfl) hk_14 h
theorem w_m_fault_L90 {r : Int32 × MS} {k_14 : MS → Int32 → Int32 → Option (Int32 × MS)} (X : jx p s m args meth c b_m_fault 6 (some .int) R_M) (hk_14 : ∀ (st : MS) (l1 : Int32) (l2 : Int32) (H : Heap) (locs : List Loc) (ls : Array Slot), k_14 st l1 l2 = some r → mC G this s st H locs → lv_has ls 6 [(0, .ref this), (1, .int l1), (2, .int l2)] → W p l e (rmL 4 0 0) s m args below meth c H locs 0 0 (MQ below (mQc G this (some (.int r.1)) r.2) args s 0 0 (mFr this)) (F0 m 14 ls [])) : ∀ (n : Nat), ∀ (st : MS) (l1 : Int32) (l2 : Int32) (l3 : Int32) (l4 : Int32) (l5 : Int32) (H : Heap) (locs : List Loc) (ls : Array Slot), m_fault_L90 k_14 n st l1 l2 l3 l4 l5 = some r → mC G this s st H locs → lv_has ls 6 [(0, .ref this), (1, .int l1), (2, .int l2), (3, .int l3), (4, .int l4), (5, .int l5)] → W p l e (rmL 4 0 0) s m args below meth c H locs 0 0 (MQ below (mQc G this (some (.int r.1)) r.2) args s 0 0 (mFr this)) (F0 m 90 ls []) := by
  obtain ⟨hx, hb, hr, hml, hown, hts, hlocks⟩ := id X
  intro n
  induction n with
  | zero => intro st l1 l2 l3 l4 l5 H locs ls h hC hl; exact absurd h (by simp [m_fault_L90])
  | succ n ih =>
    intro st l1 l2 l3 l4 l5 H locs ls h hC hl
    rw [m_fault_L90] at h
    refine lv_iload_n hx hb d_m_fault_90 rfl (lv_at hl 1 rfl) ?_
    refine lv_if_eq (tgt := 136) hx hb d_m_fault_91 (by decide) (fun c91 => ?_) (fun c91 => ?_)
    · replace h := ifp c91 h
      exact w_m_fault_J136 X hC (lv_sub hl [0, 1, 2, 3, 4] rfl) hk_14 h
    · replace h := ifn c91 h
      refine lv_iload_n hx hb d_m_fault_94 rfl (lv_at hl 3 rfl) ?_
      refine mcallS_i X (c_m_isDigit l l3) q_811 q_812 q_8 q_813 ok_m_isDigit rfl ⟨by decide, by decide⟩ hl.1 rfl (Nat.le_of_ble_eq_true rfl) d_m_fault_95 ⟨Nat.zero_le _, Nat.zero_le _⟩ ?_
      refine lv_if_eq (tgt := 136) hx hb d_m_fault_98 (by decide) (fun c98 => ?_) (fun c98 => ?_)
      · replace h := ifp c98 h
        exact w_m_fault_J136 X hC (lv_sub hl [0, 1, 2, 3, 4] rfl) hk_14 h
      · replace h := ifn c98 h
        refine lv_iload_n hx hb d_m_fault_101 rfl (lv_at hl 2 rfl) ?_
        refine lv_aload_n hx hb d_m_fault_102 rfl (lv_at hl 0 rfl) ?_
        refine mg_int X hC 2 (by decide) rfl q_675 d_m_fault_103 ?_
        refine lv_icmp_ge (tgt := 136) hx hb d_m_fault_106 (by decide) (fun c106 => ?_) (fun c106 => ?_)
        · replace h := ifp c106 h
          exact w_m_fault_J136 X hC (lv_sub hl [0, 1, 2, 3, 4] rfl) hk_14 h
        · replace h := ifn c106 h
          refine lv_aload_n hx hb d_m_fault_109 rfl (lv_at hl 0 rfl) ?_
          refine mg_arr X hC 1 (by decide) (by decide) q_674 d_m_fault_110 ?_
          refine lv_iload_n hx hb d_m_fault_113 rfl (lv_at hl 2 rfl) ?_
          obtain ⟨x1, ex1, h⟩ := obi h
          refine ma_ild X hC 1 (by decide) rfl ex1 d_m_fault_114 ?_
          refine mcallS_i X (c_m_isDigit l x1) q_811 q_812 q_8 q_813 ok_m_isDigit rfl ⟨by decide, by decide⟩ hl.1 rfl (Nat.le_of_ble_eq_true rfl) d_m_fault_115 ⟨Nat.zero_le _, Nat.zero_le _⟩ ?_
          refine lv_if_eq (tgt := 136) hx hb d_m_fault_118 (by decide) (fun c118 => ?_) (fun c118 => ?_)
          · replace h := ifp c118 h
            exact w_m_fault_J136 X hC (lv_sub hl [0, 1, 2, 3, 4] rfl) hk_14 h
          · replace h := ifn c118 h
            refine lv_iload hx hb d_m_fault_121 (lv_at hl 5 rfl) ?_
            refine lv_iconst (v := 4) hx hb d_m_fault_123 (by decide) ?_
            refine lv_icmp_ge (tgt := 136) hx hb d_m_fault_124 (by decide) (fun c124 => ?_) (fun c124 => ?_)
            · replace h := ifp c124 h
              exact w_m_fault_J136 X hC (lv_sub hl [0, 1, 2, 3, 4] rfl) hk_14 h
            · replace h := ifn c124 h
              obtain ⟨x2, ex2, h⟩ := obi h
              refine lv_iinc (v := x2) (lv' := [(2, .int x2), (0, .ref this), (1, .int l1), (3, .int l3), (4, .int l4), (5, .int l5)]) hx hb d_m_fault_127 hl (k := 2) rfl (Option.some.inj ex2) (by decide) rfl (fun ls hl => ?_)
              obtain ⟨x3, ex3, h⟩ := obi h
              refine lv_iinc (v := x3) (lv' := [(5, .int x3), (2, .int x2), (0, .ref this), (1, .int l1), (3, .int l3), (4, .int l4)]) hx hb d_m_fault_130 hl (k := 5) rfl (Option.some.inj ex3) (by decide) rfl (fun ls hl => ?_)
              refine lv_goto (tgt := 90) hx hb d_m_fault_133 (by decide) ?_
              exact ih _ _ _ _ _ _ _ _ _ h hC (lv_sub hl [2, 3, 1, 4, 5, 0] rfl)
theorem w_m_fault_J84 {r : Int32 × MS} {st : MS} {l1 : Int32} {l2 : Int32} {l3 : Int32} {l4 : Int32} {k_14 : MS → Int32 → Int32 → Option (Int32 × MS)} {H : Heap} {locs : List Loc} {ls : Array Slot} (X : jx p s m args meth c b_m_fault 6 (some .int) R_M) (hC : mC G this s st H locs) (hl : lv_has ls 6 [(0, .ref this), (1, .int l1), (2, .int l2), (3, .int l3), (4, .int l4)]) (hk_14 : ∀ (st : MS) (l1 : Int32) (l2 : Int32) (H : Heap) (locs : List Loc) (ls : Array Slot), k_14 st l1 l2 = some r → mC G this s st H locs → lv_has ls 6 [(0, .ref this), (1, .int l1), (2, .int l2)] → W p l e (rmL 4 0 0) s m args below meth c H locs 0 0 (MQ below (mQc G this (some (.int r.1)) r.2) args s 0 0 (mFr this)) (F0 m 14 ls [])) (h : m_fault_J84 k_14 st l1 l2 l3 l4 = some r) : W p l e (rmL 4 0 0) s m args below meth c H locs 0 0 (MQ below (mQc G this (some (.int r.1)) r.2) args s 0 0 (mFr this)) (F0 m 84 ls []) := by
  obtain ⟨hx, hb, hr, hml, hown, hts, hlocks⟩ := id X
  unfold m_fault_J84 at h
  obtain ⟨x1, ex1, h⟩ := obi h
  refine lv_iinc (v := x1) (lv' := [(2, .int x1), (0, .ref this), (1, .int l1), (3, .int l3), (4, .int l4)]) hx hb d_m_fault_84 hl (k := 2) rfl (Option.some.inj ex1) (by decide) rfl (fun ls hl => ?_)
  refine lv_iconst (v := 1) hx hb d_m_fault_87 (by decide) ?_
  refine lv_istore (lv' := [(5, .int 1), (2, .int x1), (0, .ref this), (1, .int l1), (3, .int l3), (4, .int l4)]) hx hb d_m_fault_88 hl (by decide) rfl (fun ls hl => ?_)
  exact w_m_fault_L90 X hk_14 1000 _ _ _ _ _ _ _ _ _ h hC (lv_sub hl [2, 3, 1, 4, 5, 0] rfl)
theorem w_m_fault_J56 {r : Int32 × MS} {st : MS} {l1 : Int32} {l2 : Int32} {l3 : Int32} {s0 : Int32} {k_14 : MS → Int32 → Int32 → Option (Int32 × MS)} {H : Heap} {locs : List Loc} {ls : Array Slot} (X : jx p s m args meth c b_m_fault 6 (some .int) R_M) (hC : mC G this s st H locs) (hl : lv_has ls 6 [(0, .ref this), (1, .int l1), (2, .int l2), (3, .int l3)]) (hk_14 : ∀ (st : MS) (l1 : Int32) (l2 : Int32) (H : Heap) (locs : List Loc) (ls : Array Slot), k_14 st l1 l2 = some r → mC G this s st H locs → lv_has ls 6 [(0, .ref this), (1, .int l1), (2, .int l2)] → W p l e (rmL 4 0 0) s m args below meth c H locs 0 0 (MQ below (mQc G this (some (.int r.1)) r.2) args s 0 0 (mFr this)) (F0 m 14 ls [])) (h : m_fault_J56 k_14 st l1 l2 l3 s0 = some r) : W p l e (rmL 4 0 0) s m args below meth c H locs 0 0 (MQ below (mQc G this (some (.int r.1)) r.2) args s 0 0 (mFr this)) (F0 m 56 ls [.int s0]) := by
  obtain ⟨hx, hb, hr, hml, hown, hts, hlocks⟩ := id X
  unfold m_fault_J56 at h
  refine lv_istore (lv' := [(4, .int s0), (0, .ref this), (1, .int l1), (2, .int l2), (3, .int l3)]) hx hb d_m_fault_56 hl (by decide) rfl (fun ls hl => ?_)
  refine lv_iload_n hx hb d_m_fault_58 rfl (lv_at hl 2 rfl) ?_
  refine lv_if_eq (tgt := 74) hx hb d_m_fault_59 (by decide) (fun c59 => ?_) (fun c59 => ?_)
  · replace h := ifp c59 h
    refine lv_aload_n hx hb d_m_fault_74 rfl (lv_at hl 1 rfl) ?_
    refine lv_iload_n hx hb d_m_fault_75 rfl (lv_at hl 4 rfl) ?_
    obtain ⟨q1, eq1, h⟩ := obi h
    refine mcallV_i X hC (c_m_goesOn l G this eq1) q_845 q_847 q_p27 q_8 q_848 ok_m_goesOn rfl ⟨by decide, by decide⟩ hl.1 rfl (Nat.le_of_ble_eq_true rfl) d_m_fault_76 ⟨Nat.zero_le _, Nat.zero_le _⟩ (fun H locs hC => ?_)
    refine lv_if_ne (tgt := 84) hx hb d_m_fault_79 (by decide) (fun c79 => ?_) (fun c79 => ?_)
    · replace h := ifn c79 h
      exact w_m_fault_J84 X hC (lv_sub hl [1, 2, 3, 4, 0] rfl) hk_14 h
    · replace h := ifp c79 h
      refine lv_iload_n hx hb d_m_fault_82 rfl (lv_at hl 3 rfl) ?_
      cases h
      exact mret_i X hC d_m_fault_83
  · replace h := ifn c59 h
    refine lv_aload_n hx hb d_m_fault_62 rfl (lv_at hl 1 rfl) ?_
    refine lv_iload_n hx hb d_m_fault_63 rfl (lv_at hl 4 rfl) ?_
    refine lv_iload_n hx hb d_m_fault_64 rfl (lv_at hl 3 rfl) ?_
    obtain ⟨q2, eq2, h⟩ := obi h
    refine mcallV_i X hC (c_m_begin l G this eq2) q_822 q_824 q_p22 q_8 q_825 ok_m_begin rfl ⟨by decide, by decide⟩ hl.1 rfl (Nat.le_of_ble_eq_true rfl) d_m_fault_65 ⟨Nat.zero_le _, Nat.zero_le _⟩ (fun H locs hC => ?_)
    refine lv_if_ne (tgt := 84) hx hb d_m_fault_68 (by decide) (fun c68 => ?_) (fun c68 => ?_)
    · replace h := ifn c68 h
      exact w_m_fault_J84 X hC (lv_sub hl [1, 2, 3, 4, 0] rfl) hk_14 h
    · replace h := ifp c68 h
      refine lv_goto (tgt := 82) hx hb d_m_fault_71 (by decide) ?_
      refine lv_iload_n hx hb d_m_fault_82 rfl (lv_at hl 3 rfl) ?_
      cases h
      exact mret_i X hC d_m_fault_83
theorem w_m_fault_J55 {r : Int32 × MS} {st : MS} {l1 : Int32} {l2 : Int32} {l3 : Int32} {k_14 : MS → Int32 → Int32 → Option (Int32 × MS)} {H : Heap} {locs : List Loc} {ls : Array Slot} (X : jx p s m args meth c b_m_fault 6 (some .int) R_M) (hC : mC G this s st H locs) (hl : lv_has ls 6 [(0, .ref this), (1, .int l1), (2, .int l2), (3, .int l3)]) (hk_14 : ∀ (st : MS) (l1 : Int32) (l2 : Int32) (H : Heap) (locs : List Loc) (ls : Array Slot), k_14 st l1 l2 = some r → mC G this s st H locs → lv_has ls 6 [(0, .ref this), (1, .int l1), (2, .int l2)] → W p l e (rmL 4 0 0) s m args below meth c H locs 0 0 (MQ below (mQc G this (some (.int r.1)) r.2) args s 0 0 (mFr this)) (F0 m 14 ls [])) (h : m_fault_J55 k_14 st l1 l2 l3 = some r) : W p l e (rmL 4 0 0) s m args below meth c H locs 0 0 (MQ below (mQc G this (some (.int r.1)) r.2) args s 0 0 (mFr this)) (F0 m 55 ls []) := by
  obtain ⟨hx, hb, hr, hml, hown, hts, hlocks⟩ := id X
  unfold m_fault_J55 at h
  refine lv_iconst (v := 0) hx hb d_m_fault_55 (by decide) ?_
  exact w_m_fault_J56 X hC (lv_sub hl [0, 1, 2, 3] rfl) hk_14 h
theorem w_m_fault_J51 {r : Int32 × MS} {st : MS} {l1 : Int32} {l2 : Int32} {l3 : Int32} {k_14 : MS → Int32 → Int32 → Option (Int32 × MS)} {H : Heap} {locs : List Loc} {ls : Array Slot} (X : jx p s m args meth c b_m_fault 6 (some .int) R_M) (hC : mC G this s st H locs) (hl : lv_has ls 6 [(0, .ref this), (1, .int l1), (2, .int l2), (3, .int l3)]) (hk_14 : ∀ (st : MS) (l1 : Int32) (l2 : Int32) (H : Heap) (locs : List Loc) (ls : Array Slot), k_14 st l1 l2 = some r → mC G this s st H locs → lv_has ls 6 [(0, .ref this), (1, .int l1), (2, .int l2)] → W p l e (rmL 4 0 0) s m args below meth c H locs 0 0 (MQ below (mQc G this (some (.int r.1)) r.2) args s 0 0 (mFr this)) (F0 m 14 ls [])) (h : m_fault_J51 k_14 st l1 l2 l3 = some r) : W p l e (rmL 4 0 0) s m args below meth c H locs 0 0 (MQ below (mQc G this (some (.int r.1)) r.2) args s 0 0 (mFr this)) (F0 m 51 ls []) := by
  obtain ⟨hx, hb, hr, hml, hown, hts, hlocks⟩ := id X
  unfold m_fault_J51 at h
  refine lv_iconst (v := 1) hx hb d_m_fault_51 (by decide) ?_
  refine lv_goto (tgt := 56) hx hb d_m_fault_52 (by decide) ?_
  exact w_m_fault_J56 X hC (lv_sub hl [0, 1, 2, 3] rfl) hk_14 h
theorem w_m_fault_L14 {r : Int32 × MS} (X : jx p s m args meth c b_m_fault 6 (some .int) R_M) : ∀ (n : Nat), ∀ (st : MS) (l1 : Int32) (l2 : Int32) (H : Heap) (locs : List Loc) (ls : Array Slot), m_fault_L14 n st l1 l2 = some r → mC G this s st H locs → lv_has ls 6 [(0, .ref this), (1, .int l1), (2, .int l2)] → W p l e (rmL 4 0 0) s m args below meth c H locs 0 0 (MQ below (mQc G this (some (.int r.1)) r.2) args s 0 0 (mFr this)) (F0 m 14 ls []) := by
  obtain ⟨hx, hb, hr, hml, hown, hts, hlocks⟩ := id X
  intro n
  induction n with
  | zero => intro st l1 l2 H locs ls h hC hl; exact absurd h (by simp [m_fault_L14])
  | succ n ih =>
    intro st l1 l2 H locs ls h hC hl
    rw [m_fault_L14] at h
    refine lv_iload_n hx hb d_m_fault_14 rfl (lv_at hl 2 rfl) ?_
    refine lv_aload_n hx hb d_m_fault_15 rfl (lv_at hl 0 rfl) ?_
    refine mg_int X hC 2 (by decide) rfl q_675 d_m_fault_16 ?_
    refine lv_icmp_ge (tgt := 160) hx hb d_m_fault_19 (by decide) (fun c19 => ?_) (fun c19 => ?_)
    · replace h := ifp c19 h
      refine lv_iload_n hx hb d_m_fault_160 rfl (lv_at hl 1 rfl) ?_
      refine lv_if_ne (tgt := 171) hx hb d_m_fault_161 (by decide) (fun c161 => ?_) (fun c161 => ?_)
      · replace h := ifn c161 h
        exact w_m_fault_J171 X hC (lv_sub hl [0] rfl) h
      · replace h := ifp c161 h
        refine lv_aload_n hx hb d_m_fault_164 rfl (lv_at hl 0 rfl) ?_
        obtain ⟨x1, ex1, h⟩ := obi h
        refine mcallV_i X hC (c_m_awaits l G this ex1) q_853 q_855 q_p29 q_8 q_856 ok_m_awaits rfl ⟨by decide, by decide⟩ hl.1 rfl (Nat.le_of_ble_eq_true rfl) d_m_fault_165 ⟨Nat.zero_le _, Nat.zero_le _⟩ (fun H locs hC => ?_)
        refine lv_if_eq (tgt := 176) hx hb d_m_fault_168 (by decide) (fun c168 => ?_) (fun c168 => ?_)
        · replace h := ifp c168 h
          refine lv_aload_n hx hb d_m_fault_176 rfl (lv_at hl 0 rfl) ?_
          obtain ⟨st2, est2, h⟩ := obi h
          refine mcallV_v X hC (c_m_close l G this est2) q_861 q_863 q_p31 q_8 q_864 ok_m_close rfl ⟨by decide, by decide⟩ hl.1 rfl (Nat.le_of_ble_eq_true rfl) d_m_fault_177 ⟨Nat.zero_le _, Nat.zero_le _⟩ (fun H locs hC => ?_)
          refine lv_iconst (v := -1) hx hb d_m_fault_180 (by decide) ?_
          cases h
          exact mret_i X hC d_m_fault_181
        · replace h := ifn c168 h
          exact w_m_fault_J171 X hC (lv_sub hl [0] rfl) h
    · replace h := ifn c19 h
      refine lv_aload_n hx hb d_m_fault_22 rfl (lv_at hl 0 rfl) ?_
      refine mg_arr X hC 1 (by decide) (by decide) q_674 d_m_fault_23 ?_
      refine lv_iload_n hx hb d_m_fault_26 rfl (lv_at hl 2 rfl) ?_
      obtain ⟨x3, ex3, h⟩ := obi h
      refine ma_ild X hC 1 (by decide) rfl ex3 d_m_fault_27 ?_
      refine lv_istore_n (lv' := [(3, .int x3), (0, .ref this), (1, .int l1), (2, .int l2)]) hx hb d_m_fault_28 rfl hl (by decide) rfl (fun ls hl => ?_)
      refine lv_iload_n hx hb d_m_fault_29 rfl (lv_at hl 2 rfl) ?_
      refine lv_if_eq (tgt := 55) hx hb d_m_fault_30 (by decide) (fun c30 => ?_) (fun c30 => ?_)
      · replace h := ifp c30 h
        exact w_m_fault_J55 X hC (lv_sub hl [1, 2, 3, 0] rfl) ih h
      · replace h := ifn c30 h
        refine lv_iload_n hx hb d_m_fault_33 rfl (lv_at hl 0 rfl) ?_
        refine lv_bipush (v := 40) hx hb d_m_fault_34 (by decide) ?_
        refine lv_icmp_eq (tgt := 51) hx hb d_m_fault_36 (by decide) (fun c36 => ?_) (fun c36 => ?_)
        · replace h := ifp c36 h
          exact w_m_fault_J51 X hC (lv_sub hl [1, 2, 3, 0] rfl) ih h
        · replace h := ifn c36 h
          refine lv_iload_n hx hb d_m_fault_39 rfl (lv_at hl 0 rfl) ?_
          refine lv_bipush (v := 45) hx hb d_m_fault_40 (by decide) ?_
          refine lv_icmp_eq (tgt := 51) hx hb d_m_fault_42 (by decide) (fun c42 => ?_) (fun c42 => ?_)
          · replace h := ifp c42 h
            exact w_m_fault_J51 X hC (lv_sub hl [1, 2, 3, 0] rfl) ih h
          · replace h := ifn c42 h
            refine lv_iload_n hx hb d_m_fault_45 rfl (lv_at hl 0 rfl) ?_
            refine lv_bipush (v := 64) hx hb d_m_fault_46 (by decide) ?_
            refine lv_icmp_ne (tgt := 55) hx hb d_m_fault_48 (by decide) (fun c48 => ?_) (fun c48 => ?_)
            · replace h := ifn c48 h
              exact w_m_fault_J55 X hC (lv_sub hl [1, 2, 3, 0] rfl) ih h
            · replace h := ifp c48 h
              exact w_m_fault_J51 X hC (lv_sub hl [1, 2, 3, 0] rfl) ih h
theorem c_m_fault (l : Launch) (G : MG) (this : Nat) {st : MS} {r : Int32 × MS} (h : m_fault st = some r) : Met l y_m_fault (Cond.code y_m_fault b_m_fault 6 (some .int) :: lw_g) (rmL 4 0 0) (mPc G this [] st) (mQc G this (some (.int r.1)) r.2) 0 0 (mFr this) := by
  refine Met.ofM (by decide +kernel) (Nat.le_of_ble_eq_true rfl) ?_
  intro p e s m below meth c ls X hC hl
  have hl : lv_has ls 6 [(0, .ref this)] := hl
  generalize (Value.ref this :: []).toArray = args at X ⊢
  obtain ⟨hx, hb, hr, hml, hown, hts, hlocks⟩ := id X
  generalize hHH : s.heap = H at hC ⊢
  generalize ([] : List Loc) = locs at hC ⊢
  clear hHH
  unfold m_fault at h
  refine lv_aload_n hx hb d_m_fault_0 rfl (lv_at hl 0 rfl) ?_
  refine lv_iconst (v := 0) hx hb d_m_fault_1 (by decide) ?_
  obtain ⟨st1, est1, h⟩ := obi h
  refine mp_int X hC 37 (by decide) rfl rfl (by decide +kernel) q_710 est1 d_m_fault_2 (fun H locs hC => ?_)
  refine lv_aload_n hx hb d_m_fault_5 rfl (lv_at hl 0 rfl) ?_
  refine lv_iconst (v := 0) hx hb d_m_fault_6 (by decide) ?_
  obtain ⟨st2, est2, h⟩ := obi h
  refine mp_int X hC 40 (by decide) rfl rfl (by decide +kernel) q_713 est2 d_m_fault_7 (fun H locs hC => ?_)
  refine lv_iconst (v := 1) hx hb d_m_fault_10 (by decide) ?_
  refine lv_istore_n (lv' := [(1, .int 1), (0, .ref this)]) hx hb d_m_fault_11 rfl hl (by decide) rfl (fun ls hl => ?_)
  refine lv_iconst (v := 0) hx hb d_m_fault_12 (by decide) ?_
  refine lv_istore_n (lv' := [(2, .int 0), (1, .int 1), (0, .ref this)]) hx hb d_m_fault_13 rfl hl (by decide) rfl (fun ls hl => ?_)
  exact w_m_fault_L14 X 1000 _ _ _ _ _ _ h hC (lv_sub hl [2, 1, 0] rfl)
theorem w_m_change_L12 {r : MS} (X : jx p s m args meth c b_m_change 3 none R_M) : ∀ (n : Nat), ∀ (st : MS) (l1 : Int32) (l2 : Int32) (H : Heap) (locs : List Loc) (ls : Array Slot), m_change_L12 n st l1 l2 = some r → mC G this s st H locs → lv_has ls 3 [(0, .ref this), (1, .int l1), (2, .int l2)] → W p l e (rmL 0 0 0) s m args below meth c H locs 0 0 (MQ below (mQc G this none r) args s 0 0 (mFr this)) (F0 m 12 ls []) := by
  obtain ⟨hx, hb, hr, hml, hown, hts, hlocks⟩ := id X
  intro n
  induction n with
  | zero => intro st l1 l2 H locs ls h hC hl; exact absurd h (by simp [m_change_L12])
  | succ n ih =>
    intro st l1 l2 H locs ls h hC hl
    rw [m_change_L12] at h
    refine lv_iload_n hx hb d_m_change_12 rfl (lv_at hl 2 rfl) ?_
    refine lv_iload_n hx hb d_m_change_13 rfl (lv_at hl 1 rfl) ?_
    refine lv_icmp_gt (tgt := 33) hx hb d_m_change_14 (by decide) (fun c14 => ?_) (fun c14 => ?_)
    · replace h := ifp c14 h
      cases h
      exact mret_v X hC d_m_change_33
    · replace h := ifn c14 h
      refine lv_aload_n hx hb d_m_change_17 rfl (lv_at hl 0 rfl) ?_
      refine mg_arr X hC 4 (by decide) (by decide) q_677 d_m_change_18 ?_
      refine lv_iload_n hx hb d_m_change_21 rfl (lv_at hl 2 rfl) ?_
      refine lv_aload_n hx hb d_m_change_22 rfl (lv_at hl 0 rfl) ?_
      refine mg_int X hC 3 (by decide) rfl q_676 d_m_change_23 ?_
      obtain ⟨st1, est1, h⟩ := obi h
      refine ma_ist X hC 4 (by decide) rfl est1 d_m_change_26 (fun H locs hC => ?_)
      obtain ⟨x2, ex2, h⟩ := obi h
      refine lv_iinc (v := x2) (lv' := [(2, .int x2), (0, .ref this), (1, .int l1)]) hx hb d_m_change_27 hl (k := 2) rfl (Option.some.inj ex2) (by decide) rfl (fun ls hl => ?_)
      refine lv_goto (tgt := 12) hx hb d_m_change_30 (by decide) ?_
      exact ih _ _ _ _ _ _ h hC (lv_sub hl [1, 2, 0] rfl)
theorem c_m_change (l : Launch) (G : MG) (this : Nat) {st : MS} {a1 : Int32} {r : MS} (h : m_change st a1 = some r) : Met l y_m_change (Cond.code y_m_change b_m_change 3 none :: lw_g) (rmL 0 0 0) (mPc G this [.int a1] st) (mQc G this none r) 0 0 (mFr this) := by
  refine Met.ofM (by decide +kernel) (Nat.le_of_ble_eq_true rfl) ?_
  intro p e s m below meth c ls X hC hl
  have hl : lv_has ls 3 [(0, .ref this), (1, .int a1)] := hl
  generalize (Value.ref this :: [.int a1]).toArray = args at X ⊢
  obtain ⟨hx, hb, hr, hml, hown, hts, hlocks⟩ := id X
  generalize hHH : s.heap = H at hC ⊢
  generalize ([] : List Loc) = locs at hC ⊢
  clear hHH
  unfold m_change at h
  refine lv_aload_n hx hb d_m_change_0 rfl (lv_at hl 0 rfl) ?_
  refine lv_dup hx hb d_m_change_1 rfl ?_
  refine mg_int X hC 3 (by decide) rfl q_676 d_m_change_2 ?_
  refine lv_iconst (v := 1) hx hb d_m_change_5 (by decide) ?_
  refine lv_iadd hx hb d_m_change_6 ?_
  obtain ⟨st1, est1, h⟩ := obi h
  refine mp_int X hC 3 (by decide) rfl rfl (by decide +kernel) q_676 est1 d_m_change_7 (fun H locs hC => ?_)
  refine lv_iconst (v := 0) hx hb d_m_change_10 (by decide) ?_
  refine lv_istore_n (lv' := [(2, .int 0), (0, .ref this), (1, .int a1)]) hx hb d_m_change_11 rfl hl (by decide) rfl (fun ls hl => ?_)
  exact w_m_change_L12 X 1000 _ _ _ _ _ _ h hC (lv_sub hl [1, 2, 0] rfl)
theorem w_m_define_L266 {r : Int32 × MS} (X : jx p s m args meth c b_m_define 6 (some .int) R_M) : ∀ (n : Nat), ∀ (st : MS) (l1 : Int32) (l5 : Int32) (H : Heap) (locs : List Loc) (ls : Array Slot), m_define_L266 n st l1 l5 = some r → mC G this s st H locs → lv_has ls 6 [(0, .ref this), (1, .int l1), (5, .int l5)] → W p l e (rmL 5 0 0) s m args below meth c H locs 0 0 (MQ below (mQc G this (some (.int r.1)) r.2) args s 0 0 (mFr this)) (F0 m 266 ls []) := by
  obtain ⟨hx, hb, hr, hml, hown, hts, hlocks⟩ := id X
  intro n
  induction n with
  | zero => intro st l1 l5 H locs ls h hC hl; exact absurd h (by simp [m_define_L266])
  | succ n ih =>
    intro st l1 l5 H locs ls h hC hl
    rw [m_define_L266] at h
    refine lv_iload hx hb d_m_define_266 (lv_at hl 2 rfl) ?_
    refine lv_aload_n hx hb d_m_define_268 rfl (lv_at hl 0 rfl) ?_
    refine mg_int X hC 40 (by decide) rfl q_713 d_m_define_269 ?_
    refine lv_icmp_ge (tgt := 319) hx hb d_m_define_272 (by decide) (fun c272 => ?_) (fun c272 => ?_)
    · replace h := ifp c272 h
      refine lv_iconst (v := 0) hx hb d_m_define_319 (by decide) ?_
      cases h
      exact mret_i X hC d_m_define_320
    · replace h := ifn c272 h
      refine lv_aload_n hx hb d_m_define_275 rfl (lv_at hl 0 rfl) ?_
      refine mg_arr X hC 9 (by decide) (by decide) q_682 d_m_define_276 ?_
      refine lv_bipush (v := 40) hx hb d_m_define_279 (by decide) ?_
      refine lv_iload_n hx hb d_m_define_281 rfl (lv_at hl 1 rfl) ?_
      refine lv_imul hx hb d_m_define_282 ?_
      refine lv_iload hx hb d_m_define_283 (lv_at hl 2 rfl) ?_
      refine lv_iadd hx hb d_m_define_285 ?_
      refine lv_aload_n hx hb d_m_define_286 rfl (lv_at hl 0 rfl) ?_
      refine mg_arr X hC 41 (by decide) (by decide) q_714 d_m_define_287 ?_
      refine lv_iload hx hb d_m_define_290 (lv_at hl 2 rfl) ?_
      obtain ⟨x1, ex1, h⟩ := obi h
      refine ma_ild X hC 41 (by decide) rfl ex1 d_m_define_292 ?_
      obtain ⟨st2, est2, h⟩ := obi h
      refine ma_ist X hC 9 (by decide) rfl est2 d_m_define_293 (fun H locs hC => ?_)
      refine lv_aload_n hx hb d_m_define_294 rfl (lv_at hl 0 rfl) ?_
      refine mg_arr X hC 10 (by decide) (by decide) q_683 d_m_define_295 ?_
      refine lv_bipush (v := 40) hx hb d_m_define_298 (by decide) ?_
      refine lv_iload_n hx hb d_m_define_300 rfl (lv_at hl 1 rfl) ?_
      refine lv_imul hx hb d_m_define_301 ?_
      refine lv_iload hx hb d_m_define_302 (lv_at hl 2 rfl) ?_
      refine lv_iadd hx hb d_m_define_304 ?_
      refine lv_aload_n hx hb d_m_define_305 rfl (lv_at hl 0 rfl) ?_
      refine mg_arr X hC 42 (by decide) (by decide) q_715 d_m_define_306 ?_
      refine lv_iload hx hb d_m_define_309 (lv_at hl 2 rfl) ?_
      obtain ⟨x3, ex3, h⟩ := obi h
      refine ma_ild X hC 42 (by decide) rfl ex3 d_m_define_311 ?_
      obtain ⟨st4, est4, h⟩ := obi h
      refine ma_ist X hC 10 (by decide) rfl est4 d_m_define_312 (fun H locs hC => ?_)
      obtain ⟨x5, ex5, h⟩ := obi h
      refine lv_iinc (v := x5) (lv' := [(5, .int x5), (0, .ref this), (1, .int l1)]) hx hb d_m_define_313 hl (k := 2) rfl (Option.some.inj ex5) (by decide) rfl (fun ls hl => ?_)
      refine lv_goto (tgt := 266) hx hb d_m_define_316 (by decide) ?_
      exact ih _ _ _ _ _ _ h hC (lv_sub hl [1, 2, 0] rfl)
theorem w_m_define_L232 {r : Int32 × MS} (X : jx p s m args meth c b_m_define 6 (some .int) R_M) : ∀ (n : Nat), ∀ (st : MS) (l1 : Int32) (l3 : Int32) (l5 : Int32) (H : Heap) (locs : List Loc) (ls : Array Slot), m_define_L232 n st l1 l3 l5 = some r → mC G this s st H locs → lv_has ls 6 [(0, .ref this), (1, .int l1), (3, .int l3), (5, .int l5)] → W p l e (rmL 5 0 0) s m args below meth c H locs 0 0 (MQ below (mQc G this (some (.int r.1)) r.2) args s 0 0 (mFr this)) (F0 m 232 ls []) := by
  obtain ⟨hx, hb, hr, hml, hown, hts, hlocks⟩ := id X
  intro n
  induction n with
  | zero => intro st l1 l3 l5 H locs ls h hC hl; exact absurd h (by simp [m_define_L232])
  | succ n ih =>
    intro st l1 l3 l5 H locs ls h hC hl
    rw [m_define_L232] at h
    refine lv_iload hx hb d_m_define_232 (lv_at hl 3 rfl) ?_
    refine lv_iload_n hx hb d_m_define_234 rfl (lv_at hl 2 rfl) ?_
    refine lv_icmp_ge (tgt := 263) hx hb d_m_define_235 (by decide) (fun c235 => ?_) (fun c235 => ?_)
    · replace h := ifp c235 h
      refine lv_iconst (v := 0) hx hb d_m_define_263 (by decide) ?_
      refine lv_istore (lv' := [(5, .int 0), (0, .ref this), (1, .int l1), (3, .int l3)]) hx hb d_m_define_264 hl (by decide) rfl (fun ls hl => ?_)
      exact w_m_define_L266 X 1000 _ _ _ _ _ _ h hC (lv_sub hl [1, 2, 0] rfl)
    · replace h := ifn c235 h
      refine lv_aload_n hx hb d_m_define_238 rfl (lv_at hl 0 rfl) ?_
      refine mg_arr X hC 6 (by decide) (by decide) q_679 d_m_define_239 ?_
      refine lv_bipush (v := 30) hx hb d_m_define_242 (by decide) ?_
      refine lv_iload_n hx hb d_m_define_244 rfl (lv_at hl 1 rfl) ?_
      refine lv_imul hx hb d_m_define_245 ?_
      refine lv_iload hx hb d_m_define_246 (lv_at hl 3 rfl) ?_
      refine lv_iadd hx hb d_m_define_248 ?_
      refine lv_aload_n hx hb d_m_define_249 rfl (lv_at hl 0 rfl) ?_
      refine mg_arr X hC 1 (by decide) (by decide) q_674 d_m_define_250 ?_
      refine lv_iload hx hb d_m_define_253 (lv_at hl 3 rfl) ?_
      obtain ⟨x1, ex1, h⟩ := obi h
      refine ma_ild X hC 1 (by decide) rfl ex1 d_m_define_255 ?_
      obtain ⟨st2, est2, h⟩ := obi h
      refine ma_ist X hC 6 (by decide) rfl est2 d_m_define_256 (fun H locs hC => ?_)
      obtain ⟨x3, ex3, h⟩ := obi h
      refine lv_iinc (v := x3) (lv' := [(5, .int x3), (0, .ref this), (1, .int l1), (3, .int l3)]) hx hb d_m_define_257 hl (k := 3) rfl (Option.some.inj ex3) (by decide) rfl (fun ls hl => ?_)
      refine lv_goto (tgt := 232) hx hb d_m_define_260 (by decide) ?_
      exact ih _ _ _ _ _ _ _ h hC (lv_sub hl [1, 2, 3, 0] rfl)
theorem w_m_define_J194 {r : Int32 × MS} {st : MS} {l1 : Int32} {l3 : Int32} {s0 : Int32} {s1 : Int32} {H : Heap} {locs : List Loc} {ls : Array Slot} (X : jx p s m args meth c b_m_define 6 (some .int) R_M) (hC : mC G this s st H locs) (hl : lv_has ls 6 [(0, .ref this), (1, .int l1), (3, .int l3)]) (h : m_define_J194 st l1 l3 s0 s1 = some r) : W p l e (rmL 5 0 0) s m args below meth c H locs 0 0 (MQ below (mQc G this (some (.int r.1)) r.2) args s 0 0 (mFr this)) (F0 m 194 ls [.int s0, .int s1, .ref (this + mo 16)]) := by
  obtain ⟨hx, hb, hr, hml, hown, hts, hlocks⟩ := id X
  unfold m_define_J194 at h
  obtain ⟨st1, est1, h⟩ := obi h
  refine ma_zst X hC 16 (by decide) rfl est1 d_m_define_194 (fun H locs hC => ?_)
  refine lv_aload_n hx hb d_m_define_195 rfl (lv_at hl 0 rfl) ?_
  refine mg_arr X hC 5 (by decide) (by decide) q_678 d_m_define_196 ?_
  refine lv_iload_n hx hb d_m_define_199 rfl (lv_at hl 1 rfl) ?_
  refine lv_iconst (v := 1) hx hb d_m_define_200 (by decide) ?_
  obtain ⟨st2, est2, h⟩ := obi h
  refine ma_zst X hC 5 (by decide) rfl est2 d_m_define_201 (fun H locs hC => ?_)
  refine lv_aload_n hx hb d_m_define_202 rfl (lv_at hl 0 rfl) ?_
  refine mg_arr X hC 7 (by decide) (by decide) q_680 d_m_define_203 ?_
  refine lv_iload_n hx hb d_m_define_206 rfl (lv_at hl 1 rfl) ?_
  refine lv_iload_n hx hb d_m_define_207 rfl (lv_at hl 2 rfl) ?_
  obtain ⟨st3, est3, h⟩ := obi h
  refine ma_ist X hC 7 (by decide) rfl est3 d_m_define_208 (fun H locs hC => ?_)
  refine lv_aload_n hx hb d_m_define_209 rfl (lv_at hl 0 rfl) ?_
  refine mg_arr X hC 8 (by decide) (by decide) q_681 d_m_define_210 ?_
  refine lv_iload_n hx hb d_m_define_213 rfl (lv_at hl 1 rfl) ?_
  refine lv_aload_n hx hb d_m_define_214 rfl (lv_at hl 0 rfl) ?_
  refine mg_int X hC 40 (by decide) rfl q_713 d_m_define_215 ?_
  obtain ⟨st4, est4, h⟩ := obi h
  refine ma_ist X hC 8 (by decide) rfl est4 d_m_define_218 (fun H locs hC => ?_)
  refine lv_aload_n hx hb d_m_define_219 rfl (lv_at hl 0 rfl) ?_
  refine mg_arr X hC 11 (by decide) (by decide) q_684 d_m_define_220 ?_
  refine lv_iload_n hx hb d_m_define_223 rfl (lv_at hl 1 rfl) ?_
  refine lv_aload_n hx hb d_m_define_224 rfl (lv_at hl 0 rfl) ?_
  refine mg_int X hC 3 (by decide) rfl q_676 d_m_define_225 ?_
  obtain ⟨st5, est5, h⟩ := obi h
  refine ma_ist X hC 11 (by decide) rfl est5 d_m_define_228 (fun H locs hC => ?_)
  refine lv_iconst (v := 0) hx hb d_m_define_229 (by decide) ?_
  refine lv_istore (lv' := [(5, .int 0), (0, .ref this), (1, .int l1), (3, .int l3)]) hx hb d_m_define_230 hl (by decide) rfl (fun ls hl => ?_)
  exact w_m_define_L232 X 1000 _ _ _ _ _ _ _ h hC (lv_sub hl [1, 2, 3, 0] rfl)
theorem w_m_define_J193 {r : Int32 × MS} {st : MS} {l1 : Int32} {l3 : Int32} {s0 : Int32} {H : Heap} {locs : List Loc} {ls : Array Slot} (X : jx p s m args meth c b_m_define 6 (some .int) R_M) (hC : mC G this s st H locs) (hl : lv_has ls 6 [(0, .ref this), (1, .int l1), (3, .int l3)]) (h : m_define_J193 st l1 l3 s0 = some r) : W p l e (rmL 5 0 0) s m args below meth c H locs 0 0 (MQ below (mQc G this (some (.int r.1)) r.2) args s 0 0 (mFr this)) (F0 m 193 ls [.int s0, .ref (this + mo 16)]) := by
  obtain ⟨hx, hb, hr, hml, hown, hts, hlocks⟩ := id X
  unfold m_define_J193 at h
  refine lv_iconst (v := 0) hx hb d_m_define_193 (by decide) ?_
  exact w_m_define_J194 X hC (lv_sub hl [0, 1, 2] rfl) h
theorem w_m_define_J165 {r : Int32 × MS} {st : MS} {l1 : Int32} {l3 : Int32} {s0 : Int32} {s1 : Int32} {H : Heap} {locs : List Loc} {ls : Array Slot} (X : jx p s m args meth c b_m_define 6 (some .int) R_M) (hC : mC G this s st H locs) (hl : lv_has ls 6 [(0, .ref this), (1, .int l1), (3, .int l3)]) (h : m_define_J165 st l1 l3 s0 s1 = some r) : W p l e (rmL 5 0 0) s m args below meth c H locs 0 0 (MQ below (mQc G this (some (.int r.1)) r.2) args s 0 0 (mFr this)) (F0 m 165 ls [.int s0, .int s1, .ref (this + mo 15)]) := by
  obtain ⟨hx, hb, hr, hml, hown, hts, hlocks⟩ := id X
  unfold m_define_J165 at h
  obtain ⟨st1, est1, h⟩ := obi h
  refine ma_zst X hC 15 (by decide) rfl est1 d_m_define_165 (fun H locs hC => ?_)
  refine lv_aload_n hx hb d_m_define_166 rfl (lv_at hl 0 rfl) ?_
  refine mg_arr X hC 16 (by decide) (by decide) q_689 d_m_define_167 ?_
  refine lv_iload_n hx hb d_m_define_170 rfl (lv_at hl 1 rfl) ?_
  refine lv_aload_n hx hb d_m_define_171 rfl (lv_at hl 0 rfl) ?_
  refine mg_arr X hC 16 (by decide) (by decide) q_689 d_m_define_172 ?_
  refine lv_iload_n hx hb d_m_define_175 rfl (lv_at hl 1 rfl) ?_
  obtain ⟨x2, ex2, h⟩ := obi h
  refine ma_zld X hC 16 (by decide) rfl ex2 d_m_define_176 ?_
  refine lv_if_eq (tgt := 193) hx hb d_m_define_177 (by decide) (fun c177 => ?_) (fun c177 => ?_)
  · replace h := ifp c177 h
    exact w_m_define_J193 X hC (lv_sub hl [0, 1, 2] rfl) h
  · replace h := ifn c177 h
    refine lv_aload_n hx hb d_m_define_180 rfl (lv_at hl 0 rfl) ?_
    refine mg_arr X hC 5 (by decide) (by decide) q_678 d_m_define_181 ?_
    refine lv_iload_n hx hb d_m_define_184 rfl (lv_at hl 1 rfl) ?_
    obtain ⟨x3, ex3, h⟩ := obi h
    refine ma_zld X hC 5 (by decide) rfl ex3 d_m_define_185 ?_
    refine lv_if_eq (tgt := 193) hx hb d_m_define_186 (by decide) (fun c186 => ?_) (fun c186 => ?_)
    · replace h := ifp c186 h
      exact w_m_define_J193 X hC (lv_sub hl [0, 1, 2] rfl) h
    · replace h := ifn c186 h
      refine lv_iconst (v := 1) hx hb d_m_define_189 (by decide) ?_
      refine lv_goto (tgt := 194) hx hb d_m_define_190 (by decide) ?_
      exact w_m_define_J194 X hC (lv_sub hl [0, 1, 2] rfl) h
theorem w_m_define_J164 {r : Int32 × MS} {st : MS} {l1 : Int32} {l3 : Int32} {s0 : Int32} {H : Heap} {locs : List Loc} {ls : Array Slot} (X : jx p s m args meth c b_m_define 6 (some .int) R_M) (hC : mC G this s st H locs) (hl : lv_has ls 6 [(0, .ref this), (1, .int l1), (3, .int l3)]) (h : m_define_J164 st l1 l3 s0 = some r) : W p l e (rmL 5 0 0) s m args below meth c H locs 0 0 (MQ below (mQc G this (some (.int r.1)) r.2) args s 0 0 (mFr this)) (F0 m 164 ls [.int s0, .ref (this + mo 15)]) := by
  obtain ⟨hx, hb, hr, hml, hown, hts, hlocks⟩ := id X
  unfold m_define_J164 at h
  refine lv_iconst (v := 0) hx hb d_m_define_164 (by decide) ?_
  exact w_m_define_J165 X hC (lv_sub hl [0, 1, 2] rfl) h
theorem w_m_define_J134 {r : Int32 × MS} {st : MS} {l1 : Int32} {l3 : Int32} {s0 : Int32} {H : Heap} {locs : List Loc} {ls : Array Slot} (X : jx p s m args meth c b_m_define 6 (some .int) R_M) (hC : mC G this s st H locs) (hl : lv_has ls 6 [(0, .ref this), (1, .int l1), (3, .int l3)]) (h : m_define_J134 st l1 l3 s0 = some r) : W p l e (rmL 5 0 0) s m args below meth c H locs 0 0 (MQ below (mQc G this (some (.int r.1)) r.2) args s 0 0 (mFr this)) (F0 m 134 ls [.int s0, .ref this]) := by
  obtain ⟨hx, hb, hr, hml, hown, hts, hlocks⟩ := id X
  unfold m_define_J134 at h
  obtain ⟨st1, est1, h⟩ := obi h
  refine mcallV_v X hC (c_m_change l G this est1) q_868 q_870 q_p32 q_8 q_871 ok_m_change rfl ⟨by decide, by decide⟩ hl.1 rfl (Nat.le_of_ble_eq_true rfl) d_m_define_134 ⟨Nat.zero_le _, Nat.zero_le _⟩ (fun H locs hC => ?_)
  refine lv_aload_n hx hb d_m_define_137 rfl (lv_at hl 0 rfl) ?_
  refine mg_arr X hC 15 (by decide) (by decide) q_688 d_m_define_138 ?_
  refine lv_iload_n hx hb d_m_define_141 rfl (lv_at hl 1 rfl) ?_
  refine lv_aload_n hx hb d_m_define_142 rfl (lv_at hl 0 rfl) ?_
  refine mg_arr X hC 15 (by decide) (by decide) q_688 d_m_define_143 ?_
  refine lv_iload_n hx hb d_m_define_146 rfl (lv_at hl 1 rfl) ?_
  obtain ⟨x2, ex2, h⟩ := obi h
  refine ma_zld X hC 15 (by decide) rfl ex2 d_m_define_147 ?_
  refine lv_if_eq (tgt := 164) hx hb d_m_define_148 (by decide) (fun c148 => ?_) (fun c148 => ?_)
  · replace h := ifp c148 h
    exact w_m_define_J164 X hC (lv_sub hl [0, 1, 2] rfl) h
  · replace h := ifn c148 h
    refine lv_aload_n hx hb d_m_define_151 rfl (lv_at hl 0 rfl) ?_
    refine mg_arr X hC 5 (by decide) (by decide) q_678 d_m_define_152 ?_
    refine lv_iload_n hx hb d_m_define_155 rfl (lv_at hl 1 rfl) ?_
    obtain ⟨x3, ex3, h⟩ := obi h
    refine ma_zld X hC 5 (by decide) rfl ex3 d_m_define_156 ?_
    refine lv_if_eq (tgt := 164) hx hb d_m_define_157 (by decide) (fun c157 => ?_) (fun c157 => ?_)
    · replace h := ifp c157 h
      exact w_m_define_J164 X hC (lv_sub hl [0, 1, 2] rfl) h
    · replace h := ifn c157 h
      refine lv_iconst (v := 1) hx hb d_m_define_160 (by decide) ?_
      refine lv_goto (tgt := 165) hx hb d_m_define_161 (by decide) ?_
      exact w_m_define_J165 X hC (lv_sub hl [0, 1, 2] rfl) h
theorem w_m_define_J99 {r : Int32 × MS} {st : MS} {l1 : Int32} {l3 : Int32} {l5 : Int32} {s0 : Int32} {k_61 : MS → Int32 → Int32 → Int32 → Int32 → Option (Int32 × MS)} {H : Heap} {locs : List Loc} {ls : Array Slot} (X : jx p s m args meth c b_m_define 6 (some .int) R_M) (hC : mC G this s st H locs) (hl : lv_has ls 6 [(0, .ref this), (1, .int l1), (3, .int l3), (5, .int l5)]) (hk_61 : ∀ (st : MS) (l1 : Int32) (l3 : Int32) (l4 : Int32) (l5 : Int32) (H : Heap) (locs : List Loc) (ls : Array Slot), k_61 st l1 l3 l4 l5 = some r → mC G this s st H locs → lv_has ls 6 [(0, .ref this), (1, .int l1), (3, .int l3), (4, .int l4), (5, .int l5)] → W p l e (rmL 5 0 0) s m args below meth c H locs 0 0 (MQ below (mQc G this (some (.int r.1)) r.2) args s 0 0 (mFr this)) (F0 m 61 ls [])) (h : m_define_J99 k_61 st l1 l3 l5 s0 = some r) : W p l e (rmL 5 0 0) s m args below meth c H locs 0 0 (MQ below (mQc G this (some (.int r.1)) r.2) args s 0 0 (mFr this)) (F0 m 99 ls [.int s0]) := by
  obtain ⟨hx, hb, hr, hml, hown, hts, hlocks⟩ := id X
  unfold m_define_J99 at h
  refine lv_istore (lv' := [(4, .int s0), (0, .ref this), (1, .int l1), (3, .int l3), (5, .int l5)]) hx hb d_m_define_99 hl (by decide) rfl (fun ls hl => ?_)
  obtain ⟨x1, ex1, h⟩ := obi h
  refine lv_iinc (v := x1) (lv' := [(5, .int x1), (4, .int s0), (0, .ref this), (1, .int l1), (3, .int l3)]) hx hb d_m_define_101 hl (k := 4) rfl (Option.some.inj ex1) (by decide) rfl (fun ls hl => ?_)
  refine lv_goto (tgt := 61) hx hb d_m_define_104 (by decide) ?_
  exact hk_61 _ _ _ _ _ _ _ _ h hC (lv_sub hl [2, 3, 4, 1, 0] rfl)
theorem w_m_define_J98 {r : Int32 × MS} {st : MS} {l1 : Int32} {l3 : Int32} {l5 : Int32} {k_61 : MS → Int32 → Int32 → Int32 → Int32 → Option (Int32 × MS)} {H : Heap} {locs : List Loc} {ls : Array Slot} (X : jx p s m args meth c b_m_define 6 (some .int) R_M) (hC : mC G this s st H locs) (hl : lv_has ls 6 [(0, .ref this), (1, .int l1), (3, .int l3), (5, .int l5)]) (hk_61 : ∀ (st : MS) (l1 : Int32) (l3 : Int32) (l4 : Int32) (l5 : Int32) (H : Heap) (locs : List Loc) (ls : Array Slot), k_61 st l1 l3 l4 l5 = some r → mC G this s st H locs → lv_has ls 6 [(0, .ref this), (1, .int l1), (3, .int l3), (4, .int l4), (5, .int l5)] → W p l e (rmL 5 0 0) s m args below meth c H locs 0 0 (MQ below (mQc G this (some (.int r.1)) r.2) args s 0 0 (mFr this)) (F0 m 61 ls [])) (h : m_define_J98 k_61 st l1 l3 l5 = some r) : W p l e (rmL 5 0 0) s m args below meth c H locs 0 0 (MQ below (mQc G this (some (.int r.1)) r.2) args s 0 0 (mFr this)) (F0 m 98 ls []) := by
  obtain ⟨hx, hb, hr, hml, hown, hts, hlocks⟩ := id X
  unfold m_define_J98 at h
  refine lv_iconst (v := 0) hx hb d_m_define_98 (by decide) ?_
  exact w_m_define_J99 X hC (lv_sub hl [0, 1, 2, 3] rfl) hk_61 h
theorem w_m_define_L61 {r : Int32 × MS} (X : jx p s m args meth c b_m_define 6 (some .int) R_M) : ∀ (n : Nat), ∀ (st : MS) (l1 : Int32) (l3 : Int32) (l4 : Int32) (l5 : Int32) (H : Heap) (locs : List Loc) (ls : Array Slot), m_define_L61 n st l1 l3 l4 l5 = some r → mC G this s st H locs → lv_has ls 6 [(0, .ref this), (1, .int l1), (3, .int l3), (4, .int l4), (5, .int l5)] → W p l e (rmL 5 0 0) s m args below meth c H locs 0 0 (MQ below (mQc G this (some (.int r.1)) r.2) args s 0 0 (mFr this)) (F0 m 61 ls []) := by
  obtain ⟨hx, hb, hr, hml, hown, hts, hlocks⟩ := id X
  intro n
  induction n with
  | zero => intro st l1 l3 l4 l5 H locs ls h hC hl; exact absurd h (by simp [m_define_L61])
  | succ n ih =>
    intro st l1 l3 l4 l5 H locs ls h hC hl
    rw [m_define_L61] at h
    refine lv_iload hx hb d_m_define_61 (lv_at hl 4 rfl) ?_
    refine lv_iload_n hx hb d_m_define_63 rfl (lv_at hl 2 rfl) ?_
    refine lv_icmp_ge (tgt := 107) hx hb d_m_define_64 (by decide) (fun c64 => ?_) (fun c64 => ?_)
    · replace h := ifp c64 h
      refine lv_iload hx hb d_m_define_107 (lv_at hl 3 rfl) ?_
      refine lv_if_eq (tgt := 114) hx hb d_m_define_109 (by decide) (fun c109 => ?_) (fun c109 => ?_)
      · replace h := ifp c109 h
        refine lv_aload_n hx hb d_m_define_114 rfl (lv_at hl 0 rfl) ?_
        refine lv_aload_n hx hb d_m_define_115 rfl (lv_at hl 0 rfl) ?_
        refine mg_arr X hC 5 (by decide) (by decide) q_678 d_m_define_116 ?_
        refine lv_iload_n hx hb d_m_define_119 rfl (lv_at hl 1 rfl) ?_
        obtain ⟨x1, ex1, h⟩ := obi h
        refine ma_zld X hC 5 (by decide) rfl ex1 d_m_define_120 ?_
        refine lv_if_eq (tgt := 128) hx hb d_m_define_121 (by decide) (fun c121 => ?_) (fun c121 => ?_)
        · replace h := ifp c121 h
          refine lv_aload_n hx hb d_m_define_128 rfl (lv_at hl 0 rfl) ?_
          refine mg_arr X hC 13 (by decide) (by decide) q_686 d_m_define_129 ?_
          refine lv_iload_n hx hb d_m_define_132 rfl (lv_at hl 1 rfl) ?_
          obtain ⟨x2, ex2, h⟩ := obi h
          refine ma_ild X hC 13 (by decide) rfl ex2 d_m_define_133 ?_
          exact w_m_define_J134 X hC (lv_sub hl [0, 1, 2] rfl) h
        · replace h := ifn c121 h
          refine lv_iconst (v := 2) hx hb d_m_define_124 (by decide) ?_
          refine lv_goto (tgt := 134) hx hb d_m_define_125 (by decide) ?_
          exact w_m_define_J134 X hC (lv_sub hl [0, 1, 2] rfl) h
      · replace h := ifn c109 h
        refine lv_iconst (v := 0) hx hb d_m_define_112 (by decide) ?_
        cases h
        exact mret_i X hC d_m_define_113
    · replace h := ifn c64 h
      refine lv_iload hx hb d_m_define_67 (lv_at hl 3 rfl) ?_
      refine lv_if_eq (tgt := 98) hx hb d_m_define_69 (by decide) (fun c69 => ?_) (fun c69 => ?_)
      · replace h := ifp c69 h
        exact w_m_define_J98 X hC (lv_sub hl [0, 1, 2, 4] rfl) ih h
      · replace h := ifn c69 h
        refine lv_aload_n hx hb d_m_define_72 rfl (lv_at hl 0 rfl) ?_
        refine mg_arr X hC 6 (by decide) (by decide) q_679 d_m_define_73 ?_
        refine lv_bipush (v := 30) hx hb d_m_define_76 (by decide) ?_
        refine lv_iload_n hx hb d_m_define_78 rfl (lv_at hl 1 rfl) ?_
        refine lv_imul hx hb d_m_define_79 ?_
        refine lv_iload hx hb d_m_define_80 (lv_at hl 4 rfl) ?_
        refine lv_iadd hx hb d_m_define_82 ?_
        obtain ⟨x3, ex3, h⟩ := obi h
        refine ma_ild X hC 6 (by decide) rfl ex3 d_m_define_83 ?_
        refine lv_aload_n hx hb d_m_define_84 rfl (lv_at hl 0 rfl) ?_
        refine mg_arr X hC 1 (by decide) (by decide) q_674 d_m_define_85 ?_
        refine lv_iload hx hb d_m_define_88 (lv_at hl 4 rfl) ?_
        obtain ⟨x4, ex4, h⟩ := obi h
        refine ma_ild X hC 1 (by decide) rfl ex4 d_m_define_90 ?_
        refine lv_icmp_ne (tgt := 98) hx hb d_m_define_91 (by decide) (fun c91 => ?_) (fun c91 => ?_)
        · replace h := ifn c91 h
          exact w_m_define_J98 X hC (lv_sub hl [0, 1, 2, 4] rfl) ih h
        · replace h := ifp c91 h
          refine lv_iconst (v := 1) hx hb d_m_define_94 (by decide) ?_
          refine lv_goto (tgt := 99) hx hb d_m_define_95 (by decide) ?_
          exact w_m_define_J99 X hC (lv_sub hl [0, 1, 2, 4] rfl) ih h
theorem w_m_define_J56 {r : Int32 × MS} {st : MS} {l1 : Int32} {l3 : Int32} {s0 : Int32} {H : Heap} {locs : List Loc} {ls : Array Slot} (X : jx p s m args meth c b_m_define 6 (some .int) R_M) (hC : mC G this s st H locs) (hl : lv_has ls 6 [(0, .ref this), (1, .int l1), (3, .int l3)]) (h : m_define_J56 st l1 l3 s0 = some r) : W p l e (rmL 5 0 0) s m args below meth c H locs 0 0 (MQ below (mQc G this (some (.int r.1)) r.2) args s 0 0 (mFr this)) (F0 m 56 ls [.int s0]) := by
  obtain ⟨hx, hb, hr, hml, hown, hts, hlocks⟩ := id X
  unfold m_define_J56 at h
  refine lv_istore (lv' := [(4, .int s0), (0, .ref this), (1, .int l1), (3, .int l3)]) hx hb d_m_define_56 hl (by decide) rfl (fun ls hl => ?_)
  refine lv_iconst (v := 0) hx hb d_m_define_58 (by decide) ?_
  refine lv_istore (lv' := [(5, .int 0), (4, .int s0), (0, .ref this), (1, .int l1), (3, .int l3)]) hx hb d_m_define_59 hl (by decide) rfl (fun ls hl => ?_)
  exact w_m_define_L61 X 1000 _ _ _ _ _ _ _ _ h hC (lv_sub hl [2, 3, 4, 1, 0] rfl)
theorem w_m_define_J55 {r : Int32 × MS} {st : MS} {l1 : Int32} {l3 : Int32} {H : Heap} {locs : List Loc} {ls : Array Slot} (X : jx p s m args meth c b_m_define 6 (some .int) R_M) (hC : mC G this s st H locs) (hl : lv_has ls 6 [(0, .ref this), (1, .int l1), (3, .int l3)]) (h : m_define_J55 st l1 l3 = some r) : W p l e (rmL 5 0 0) s m args below meth c H locs 0 0 (MQ below (mQc G this (some (.int r.1)) r.2) args s 0 0 (mFr this)) (F0 m 55 ls []) := by
  obtain ⟨hx, hb, hr, hml, hown, hts, hlocks⟩ := id X
  unfold m_define_J55 at h
  refine lv_iconst (v := 0) hx hb d_m_define_55 (by decide) ?_
  exact w_m_define_J56 X hC (lv_sub hl [0, 1, 2] rfl) h
theorem c_m_define (l : Launch) (G : MG) (this : Nat) {st : MS} {a1 : Int32} {r : Int32 × MS} (h : m_define st a1 = some r) : Met l y_m_define (Cond.code y_m_define b_m_define 6 (some .int) :: lw_g) (rmL 5 0 0) (mPc G this [.int a1] st) (mQc G this (some (.int r.1)) r.2) 0 0 (mFr this) := by
  refine Met.ofM (by decide +kernel) (Nat.le_of_ble_eq_true rfl) ?_
  intro p e s m below meth c ls X hC hl
  have hl : lv_has ls 6 [(0, .ref this), (1, .int a1)] := hl
  generalize (Value.ref this :: [.int a1]).toArray = args at X ⊢
  obtain ⟨hx, hb, hr, hml, hown, hts, hlocks⟩ := id X
  generalize hHH : s.heap = H at hC ⊢
  generalize ([] : List Loc) = locs at hC ⊢
  clear hHH
  unfold m_define at h
  refine lv_aload_n hx hb d_m_define_0 rfl (lv_at hl 0 rfl) ?_
  obtain ⟨q1, eq1, h⟩ := obi h
  refine mcallV_i X hC (c_m_fault l G this eq1) q_818 q_820 q_p21 q_8 q_821 ok_m_fault rfl ⟨by decide, by decide⟩ hl.1 rfl (Nat.le_of_ble_eq_true rfl) d_m_define_1 ⟨Nat.zero_le _, Nat.zero_le _⟩ (fun H locs hC => ?_)
  refine lv_istore_n (lv' := [(2, .int (q1.1)), (0, .ref this), (1, .int a1)]) hx hb d_m_define_4 rfl hl (by decide) rfl (fun ls hl => ?_)
  refine lv_aload_n hx hb d_m_define_5 rfl (lv_at hl 1 rfl) ?_
  refine mg_int X hC 2 (by decide) rfl q_675 d_m_define_6 ?_
  obtain ⟨x2, ex2, h⟩ := obi h
  refine lv_nm (Option.some.inj ex2) ?_
  refine lv_istore_n (lv' := [(3, .int x2), (2, .int (q1.1)), (0, .ref this), (1, .int a1)]) hx hb d_m_define_9 rfl hl (by decide) rfl (fun ls hl => ?_)
  refine lv_aload_n hx hb d_m_define_10 rfl (lv_at hl 2 rfl) ?_
  refine lv_iconst (v := 0) hx hb d_m_define_11 (by decide) ?_
  obtain ⟨st3, est3, h⟩ := obi h
  refine mp_int X hC 2 (by decide) rfl rfl (by decide +kernel) q_675 est3 d_m_define_12 (fun H locs hC => ?_)
  refine lv_iload_n hx hb d_m_define_15 rfl (lv_at hl 3 rfl) ?_
  refine mcallS_i X (c_m_isCell l a1) q_865 q_866 q_8 q_867 ok_m_isCell rfl ⟨by decide, by decide⟩ hl.1 rfl (Nat.le_of_ble_eq_true rfl) d_m_define_16 ⟨Nat.zero_le _, Nat.zero_le _⟩ ?_
  refine lv_if_ne (tgt := 24) hx hb d_m_define_19 (by decide) (fun c19 => ?_) (fun c19 => ?_)
  · replace h := ifn c19 h
    refine lv_iload_n hx hb d_m_define_24 rfl (lv_at hl 1 rfl) ?_
    refine lv_if_lt (tgt := 32) hx hb d_m_define_25 (by decide) (fun c25 => ?_) (fun c25 => ?_)
    · replace h := ifp c25 h
      refine lv_aload_n hx hb d_m_define_32 rfl (lv_at hl 2 rfl) ?_
      refine mg_arr X hC 5 (by decide) (by decide) q_678 d_m_define_33 ?_
      refine lv_iload_n hx hb d_m_define_36 rfl (lv_at hl 3 rfl) ?_
      obtain ⟨x4, ex4, h⟩ := obi h
      refine ma_zld X hC 5 (by decide) rfl ex4 d_m_define_37 ?_
      refine lv_if_eq (tgt := 55) hx hb d_m_define_38 (by decide) (fun c38 => ?_) (fun c38 => ?_)
      · replace h := ifp c38 h
        exact w_m_define_J55 X hC (lv_sub hl [2, 3, 0] rfl) h
      · replace h := ifn c38 h
        refine lv_aload_n hx hb d_m_define_41 rfl (lv_at hl 2 rfl) ?_
        refine mg_arr X hC 7 (by decide) (by decide) q_680 d_m_define_42 ?_
        refine lv_iload_n hx hb d_m_define_45 rfl (lv_at hl 3 rfl) ?_
        obtain ⟨x5, ex5, h⟩ := obi h
        refine ma_ild X hC 7 (by decide) rfl ex5 d_m_define_46 ?_
        refine lv_iload_n hx hb d_m_define_47 rfl (lv_at hl 0 rfl) ?_
        refine lv_icmp_ne (tgt := 55) hx hb d_m_define_48 (by decide) (fun c48 => ?_) (fun c48 => ?_)
        · replace h := ifn c48 h
          exact w_m_define_J55 X hC (lv_sub hl [2, 3, 0] rfl) h
        · replace h := ifp c48 h
          refine lv_iconst (v := 1) hx hb d_m_define_51 (by decide) ?_
          refine lv_goto (tgt := 56) hx hb d_m_define_52 (by decide) ?_
          exact w_m_define_J56 X hC (lv_sub hl [2, 3, 0] rfl) h
    · replace h := ifn c25 h
      refine lv_iconst (v := 1) hx hb d_m_define_28 (by decide) ?_
      refine lv_iload_n hx hb d_m_define_29 rfl (lv_at hl 1 rfl) ?_
      refine lv_iadd hx hb d_m_define_30 ?_
      cases h
      exact mret_i X hC d_m_define_31
  · replace h := ifp c19 h
    refine lv_iconst (v := -1) hx hb d_m_define_22 (by decide) ?_
    cases h
    exact mret_i X hC d_m_define_23
theorem w_m_set_J105 {r : Int32 × MS} {st : MS} {l1 : Int32} {l2 : Int32} {l3 : Int32} {s0 : Int32} {s1 : Int32} {H : Heap} {locs : List Loc} {ls : Array Slot} (X : jx p s m args meth c b_m_set 5 (some .boolean) R_M) (hC : mC G this s st H locs) (hl : lv_has ls 5 [(0, .ref this), (1, .int l1), (2, .int l2), (3, .int l3)]) (h : m_set_J105 st l1 l2 l3 s0 s1 = some r) : W p l e (rmL 1 0 0) s m args below meth c H locs 0 0 (MQ below (mQc G this (some (.int r.1)) r.2) args s 0 0 (mFr this)) (F0 m 105 ls [.int s0, .int s1, .ref (this + mo 14)]) := by
  obtain ⟨hx, hb, hr, hml, hown, hts, hlocks⟩ := id X
  unfold m_set_J105 at h
  obtain ⟨st1, est1, h⟩ := obi h
  refine ma_ist X hC 14 (by decide) rfl est1 d_m_set_105 (fun H locs hC => ?_)
  refine lv_aload_n hx hb d_m_set_106 rfl (lv_at hl 0 rfl) ?_
  refine mg_arr X hC 5 (by decide) (by decide) q_678 d_m_set_107 ?_
  refine lv_iload_n hx hb d_m_set_110 rfl (lv_at hl 1 rfl) ?_
  refine lv_iconst (v := 0) hx hb d_m_set_111 (by decide) ?_
  obtain ⟨st2, est2, h⟩ := obi h
  refine ma_zst X hC 5 (by decide) rfl est2 d_m_set_112 (fun H locs hC => ?_)
  refine lv_aload_n hx hb d_m_set_113 rfl (lv_at hl 0 rfl) ?_
  refine mg_arr X hC 15 (by decide) (by decide) q_688 d_m_set_114 ?_
  refine lv_iload_n hx hb d_m_set_117 rfl (lv_at hl 1 rfl) ?_
  refine lv_iconst (v := 0) hx hb d_m_set_118 (by decide) ?_
  obtain ⟨st3, est3, h⟩ := obi h
  refine ma_zst X hC 15 (by decide) rfl est3 d_m_set_119 (fun H locs hC => ?_)
  refine lv_aload_n hx hb d_m_set_120 rfl (lv_at hl 0 rfl) ?_
  refine mg_arr X hC 16 (by decide) (by decide) q_689 d_m_set_121 ?_
  refine lv_iload_n hx hb d_m_set_124 rfl (lv_at hl 1 rfl) ?_
  refine lv_iconst (v := 0) hx hb d_m_set_125 (by decide) ?_
  obtain ⟨st4, est4, h⟩ := obi h
  refine ma_zst X hC 16 (by decide) rfl est4 d_m_set_126 (fun H locs hC => ?_)
  refine lv_aload_n hx hb d_m_set_127 rfl (lv_at hl 0 rfl) ?_
  refine mg_arr X hC 12 (by decide) (by decide) q_685 d_m_set_128 ?_
  refine lv_iload_n hx hb d_m_set_131 rfl (lv_at hl 1 rfl) ?_
  refine lv_iload_n hx hb d_m_set_132 rfl (lv_at hl 2 rfl) ?_
  obtain ⟨st5, est5, h⟩ := obi h
  refine ma_ist X hC 12 (by decide) rfl est5 d_m_set_133 (fun H locs hC => ?_)
  refine lv_aload_n hx hb d_m_set_134 rfl (lv_at hl 0 rfl) ?_
  refine mg_arr X hC 13 (by decide) (by decide) q_686 d_m_set_135 ?_
  refine lv_iload_n hx hb d_m_set_138 rfl (lv_at hl 1 rfl) ?_
  refine lv_iload_n hx hb d_m_set_139 rfl (lv_at hl 3 rfl) ?_
  obtain ⟨st6, est6, h⟩ := obi h
  refine ma_ist X hC 13 (by decide) rfl est6 d_m_set_140 (fun H locs hC => ?_)
  refine lv_iconst (v := 1) hx hb d_m_set_141 (by decide) ?_
  cases h
  exact mret_z nz_1 X hC d_m_set_142
theorem w_m_set_J92 {r : Int32 × MS} {st : MS} {l1 : Int32} {l2 : Int32} {l3 : Int32} {s0 : Int32} {H : Heap} {locs : List Loc} {ls : Array Slot} (X : jx p s m args meth c b_m_set 5 (some .boolean) R_M) (hC : mC G this s st H locs) (hl : lv_has ls 5 [(0, .ref this), (1, .int l1), (2, .int l2), (3, .int l3)]) (h : m_set_J92 st l1 l2 l3 s0 = some r) : W p l e (rmL 1 0 0) s m args below meth c H locs 0 0 (MQ below (mQc G this (some (.int r.1)) r.2) args s 0 0 (mFr this)) (F0 m 92 ls [.int s0, .ref (this + mo 14)]) := by
  obtain ⟨hx, hb, hr, hml, hown, hts, hlocks⟩ := id X
  unfold m_set_J92 at h
  refine lv_aload_n hx hb d_m_set_92 rfl (lv_at hl 0 rfl) ?_
  refine mg_int X hC 3 (by decide) rfl q_676 d_m_set_93 ?_
  refine lv_goto (tgt := 105) hx hb d_m_set_96 (by decide) ?_
  exact w_m_set_J105 X hC (lv_sub hl [0, 1, 2, 3] rfl) h
theorem w_m_set_J69 {r : Int32 × MS} {st : MS} {l1 : Int32} {l2 : Int32} {l3 : Int32} {l4 : Int32} {s0 : Int32} {H : Heap} {locs : List Loc} {ls : Array Slot} (X : jx p s m args meth c b_m_set 5 (some .boolean) R_M) (hC : mC G this s st H locs) (hl : lv_has ls 5 [(0, .ref this), (1, .int l1), (2, .int l2), (3, .int l3), (4, .int l4)]) (h : m_set_J69 st l1 l2 l3 l4 s0 = some r) : W p l e (rmL 1 0 0) s m args below meth c H locs 0 0 (MQ below (mQc G this (some (.int r.1)) r.2) args s 0 0 (mFr this)) (F0 m 69 ls [.int s0, .ref this]) := by
  obtain ⟨hx, hb, hr, hml, hown, hts, hlocks⟩ := id X
  unfold m_set_J69 at h
  obtain ⟨st1, est1, h⟩ := obi h
  refine mcallV_v X hC (c_m_change l G this est1) q_868 q_870 q_p32 q_8 q_871 ok_m_change rfl ⟨by decide, by decide⟩ hl.1 rfl (Nat.le_of_ble_eq_true rfl) d_m_set_69 ⟨Nat.zero_le _, Nat.zero_le _⟩ (fun H locs hC => ?_)
  refine lv_aload_n hx hb d_m_set_72 rfl (lv_at hl 0 rfl) ?_
  refine mg_arr X hC 14 (by decide) (by decide) q_687 d_m_set_73 ?_
  refine lv_iload_n hx hb d_m_set_76 rfl (lv_at hl 1 rfl) ?_
  refine lv_iload hx hb d_m_set_77 (lv_at hl 4 rfl) ?_
  refine lv_if_ne (tgt := 92) hx hb d_m_set_79 (by decide) (fun c79 => ?_) (fun c79 => ?_)
  · replace h := ifn c79 h
    exact w_m_set_J92 X hC (lv_sub hl [0, 1, 2, 3] rfl) h
  · replace h := ifp c79 h
    refine lv_aload_n hx hb d_m_set_82 rfl (lv_at hl 0 rfl) ?_
    refine mg_arr X hC 12 (by decide) (by decide) q_685 d_m_set_83 ?_
    refine lv_iload_n hx hb d_m_set_86 rfl (lv_at hl 1 rfl) ?_
    obtain ⟨x2, ex2, h⟩ := obi h
    refine ma_ild X hC 12 (by decide) rfl ex2 d_m_set_87 ?_
    refine lv_iload_n hx hb d_m_set_88 rfl (lv_at hl 2 rfl) ?_
    refine lv_icmp_eq (tgt := 99) hx hb d_m_set_89 (by decide) (fun c89 => ?_) (fun c89 => ?_)
    · replace h := ifp c89 h
      refine lv_aload_n hx hb d_m_set_99 rfl (lv_at hl 0 rfl) ?_
      refine mg_arr X hC 14 (by decide) (by decide) q_687 d_m_set_100 ?_
      refine lv_iload_n hx hb d_m_set_103 rfl (lv_at hl 1 rfl) ?_
      obtain ⟨x3, ex3, h⟩ := obi h
      refine ma_ild X hC 14 (by decide) rfl ex3 d_m_set_104 ?_
      exact w_m_set_J105 X hC (lv_sub hl [0, 1, 2, 3] rfl) h
    · replace h := ifn c89 h
      exact w_m_set_J92 X hC (lv_sub hl [0, 1, 2, 3] rfl) h
theorem w_m_set_J53 {r : Int32 × MS} {st : MS} {l1 : Int32} {l2 : Int32} {l3 : Int32} {l4 : Int32} {H : Heap} {locs : List Loc} {ls : Array Slot} (X : jx p s m args meth c b_m_set 5 (some .boolean) R_M) (hC : mC G this s st H locs) (hl : lv_has ls 5 [(0, .ref this), (1, .int l1), (2, .int l2), (3, .int l3), (4, .int l4)]) (h : m_set_J53 st l1 l2 l3 l4 = some r) : W p l e (rmL 1 0 0) s m args below meth c H locs 0 0 (MQ below (mQc G this (some (.int r.1)) r.2) args s 0 0 (mFr this)) (F0 m 53 ls []) := by
  obtain ⟨hx, hb, hr, hml, hown, hts, hlocks⟩ := id X
  unfold m_set_J53 at h
  refine lv_aload_n hx hb d_m_set_53 rfl (lv_at hl 0 rfl) ?_
  refine lv_iload hx hb d_m_set_54 (lv_at hl 4 rfl) ?_
  refine lv_if_eq (tgt := 63) hx hb d_m_set_56 (by decide) (fun c56 => ?_) (fun c56 => ?_)
  · replace h := ifp c56 h
    refine lv_aload_n hx hb d_m_set_63 rfl (lv_at hl 0 rfl) ?_
    refine mg_arr X hC 13 (by decide) (by decide) q_686 d_m_set_64 ?_
    refine lv_iload_n hx hb d_m_set_67 rfl (lv_at hl 1 rfl) ?_
    obtain ⟨x1, ex1, h⟩ := obi h
    refine ma_ild X hC 13 (by decide) rfl ex1 d_m_set_68 ?_
    exact w_m_set_J69 X hC (lv_sub hl [0, 1, 2, 3, 4] rfl) h
  · replace h := ifn c56 h
    refine lv_iconst (v := 2) hx hb d_m_set_59 (by decide) ?_
    refine lv_goto (tgt := 69) hx hb d_m_set_60 (by decide) ?_
    exact w_m_set_J69 X hC (lv_sub hl [0, 1, 2, 3, 4] rfl) h
theorem c_m_set (l : Launch) (G : MG) (this : Nat) {st : MS} {a1 : Int32} {a2 : Int32} {a3 : Int32} {r : Int32 × MS} (h : m_set st a1 a2 a3 = some r) : Met l y_m_set (Cond.code y_m_set b_m_set 5 (some .boolean) :: lw_g) (rmL 1 0 0) (mPc G this [.int a1, .int a2, .int a3] st) (mQc G this (some (.int r.1)) r.2) 0 0 (mFr this) := by
  refine Met.ofM (by decide +kernel) (Nat.le_of_ble_eq_true rfl) ?_
  intro p e s m below meth c ls X hC hl
  have hl : lv_has ls 5 [(0, .ref this), (1, .int a1), (2, .int a2), (3, .int a3)] := hl
  generalize (Value.ref this :: [.int a1, .int a2, .int a3]).toArray = args at X ⊢
  obtain ⟨hx, hb, hr, hml, hown, hts, hlocks⟩ := id X
  generalize hHH : s.heap = H at hC ⊢
  generalize ([] : List Loc) = locs at hC ⊢
  clear hHH
  unfold m_set at h
  refine lv_iload_n hx hb d_m_set_0 rfl (lv_at hl 1 rfl) ?_
  refine mcallS_i X (c_m_isCell l a1) q_865 q_866 q_8 q_867 ok_m_isCell rfl ⟨by decide, by decide⟩ hl.1 rfl (Nat.le_of_ble_eq_true rfl) d_m_set_1 ⟨Nat.zero_le _, Nat.zero_le _⟩ ?_
  refine lv_if_eq (tgt := 16) hx hb d_m_set_4 (by decide) (fun c4 => ?_) (fun c4 => ?_)
  · replace h := ifp c4 h
    refine lv_iconst (v := 0) hx hb d_m_set_16 (by decide) ?_
    cases h
    exact mret_z nz_0 X hC d_m_set_17
  · replace h := ifn c4 h
    refine lv_iload_n hx hb d_m_set_7 rfl (lv_at hl 3 rfl) ?_
    refine lv_if_lt (tgt := 16) hx hb d_m_set_8 (by decide) (fun c8 => ?_) (fun c8 => ?_)
    · replace h := ifp c8 h
      refine lv_iconst (v := 0) hx hb d_m_set_16 (by decide) ?_
      cases h
      exact mret_z nz_0 X hC d_m_set_17
    · replace h := ifn c8 h
      refine lv_iload_n hx hb d_m_set_11 rfl (lv_at hl 3 rfl) ?_
      refine lv_iconst (v := 2) hx hb d_m_set_12 (by decide) ?_
      refine lv_icmp_le (tgt := 18) hx hb d_m_set_13 (by decide) (fun c13 => ?_) (fun c13 => ?_)
      · replace h := ifp c13 h
        refine lv_aload_n hx hb d_m_set_18 rfl (lv_at hl 0 rfl) ?_
        refine mg_arr X hC 5 (by decide) (by decide) q_678 d_m_set_19 ?_
        refine lv_iload_n hx hb d_m_set_22 rfl (lv_at hl 1 rfl) ?_
        obtain ⟨x1, ex1, h⟩ := obi h
        refine ma_zld X hC 5 (by decide) rfl ex1 d_m_set_23 ?_
        refine lv_istore (lv' := [(4, .int x1), (0, .ref this), (1, .int a1), (2, .int a2), (3, .int a3)]) hx hb d_m_set_24 hl (by decide) rfl (fun ls hl => ?_)
        refine lv_iload hx hb d_m_set_26 (lv_at hl 0 rfl) ?_
        refine lv_if_ne (tgt := 53) hx hb d_m_set_28 (by decide) (fun c28 => ?_) (fun c28 => ?_)
        · replace h := ifn c28 h
          exact w_m_set_J53 X hC (lv_sub hl [1, 2, 3, 4, 0] rfl) h
        · replace h := ifp c28 h
          refine lv_aload_n hx hb d_m_set_31 rfl (lv_at hl 1 rfl) ?_
          refine mg_arr X hC 12 (by decide) (by decide) q_685 d_m_set_32 ?_
          refine lv_iload_n hx hb d_m_set_35 rfl (lv_at hl 2 rfl) ?_
          obtain ⟨x2, ex2, h⟩ := obi h
          refine ma_ild X hC 12 (by decide) rfl ex2 d_m_set_36 ?_
          refine lv_iload_n hx hb d_m_set_37 rfl (lv_at hl 3 rfl) ?_
          refine lv_icmp_ne (tgt := 53) hx hb d_m_set_38 (by decide) (fun c38 => ?_) (fun c38 => ?_)
          · replace h := ifn c38 h
            exact w_m_set_J53 X hC (lv_sub hl [1, 2, 3, 4, 0] rfl) h
          · replace h := ifp c38 h
            refine lv_aload_n hx hb d_m_set_41 rfl (lv_at hl 1 rfl) ?_
            refine mg_arr X hC 13 (by decide) (by decide) q_686 d_m_set_42 ?_
            refine lv_iload_n hx hb d_m_set_45 rfl (lv_at hl 2 rfl) ?_
            obtain ⟨x3, ex3, h⟩ := obi h
            refine ma_ild X hC 13 (by decide) rfl ex3 d_m_set_46 ?_
            refine lv_iload_n hx hb d_m_set_47 rfl (lv_at hl 4 rfl) ?_
            refine lv_icmp_ne (tgt := 53) hx hb d_m_set_48 (by decide) (fun c48 => ?_) (fun c48 => ?_)
            · replace h := ifn c48 h
              exact w_m_set_J53 X hC (lv_sub hl [1, 2, 3, 4, 0] rfl) h
            · replace h := ifp c48 h
              refine lv_iconst (v := 1) hx hb d_m_set_51 (by decide) ?_
              cases h
              exact mret_z nz_1 X hC d_m_set_52
      · replace h := ifn c13 h
        refine lv_iconst (v := 0) hx hb d_m_set_16 (by decide) ?_
        cases h
        exact mret_z nz_0 X hC d_m_set_17
end
