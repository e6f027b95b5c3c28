section
variable {p : Program} {l : Launch} {e : Env} {s : State} {m : MethodId} {args : Array Value} {below : List Frame} {meth : Method} {c : Code} {G : HG} {A : Nat → Prop} {K Kg : Nat}
theorem w_x_Str_init2_J35 {r : HS} {st : HS} {w0 : Option Nat} {w1 : Nat} {n0 s0 : Nat} {H : Heap} {locs : List Loc} {ce sl : Nat} {ls : Array Slot} (X : jx p s m args meth c b_x_Str_init2 5 none "java/lang/String") (hK : 3 ≤ K) (hmn : meth.name = "<init>") (hq : hC G A s st H locs) (hn : hN ce sl n0 s0 st) (hl : lv_has ls 5 []) (h : x_Str_init2_J35 st w0 w1 = some r) : W p l e (rmL K (hNx r - n0) (hNs r - s0)) s m args below meth c H locs ce sl (MQ below (hQc G A none r) args s (hNx r - n0) (hNs r - s0) A) (F0 m 35 ls [va_rf w0, .ref w1]) := by
  obtain ⟨hx, hb, hr, hml, hown, hts, hlocks⟩ := id X
  have hmr : hle st r := n_x_Str_init2_J35 h
  unfold x_Str_init2_J35 at h
  replace h := obi h; obtain ⟨st1, est1, h⟩ := h
  refine hpF_v (ty := (.array .byte)) X hmn hq 6 0 rfl (by decide) rfl rfl (by decide +kernel) rf_narA rf_fitA est1 q_394 d_x_Str_init2_35 (fun H locs hq => ?_)
  have hn := hn.ke (hP_ke est1)
  have hmr := hmr.ke (hP_ke est1)
  refine lv_goto (tgt := 97) hx hb d_x_Str_init2_38 (by decide) ?_
  cases h
  exact hret_v X hq (hn.fit hle.rf) d_x_Str_init2_97
theorem c_x_Str_init2 (l : Launch) (K : Nat) (hK : 3 ≤ K) (G : HG) (A : Nat → Prop) {st : HS} {this : Nat} {a1 : Nat} {a2 : Option Nat} {r : HS} (h : x_Str_init2 st this a1 a2 = some r) : Met l y_x_Str_init2 (Cond.code y_x_Str_init2 b_x_Str_init2 5 none :: lw_g) (rmL K (hNx r - hNx st) (hNs r - hNs st)) (hPc G A [.ref this, .ref a1, va_rf a2] st) (hQc G A none r) (hNx r - hNx st) (hNs r - hNs st) A := by
  refine Met.ofH (by decide +kernel) (by cases a2 <;> exact Nat.le_of_ble_eq_true rfl) ?_
  intro p e s m below meth c ls X hmn hq hl
  have hl : lv_has ls 5 [(0, .ref this), (1, .ref a1), (2, va_rf a2)] := hl
  generalize ([.ref this, .ref a1, va_rf a2] : List Value).toArray = args at X ⊢
  obtain ⟨hx, hb, hr, hml, hown, hts, hlocks⟩ := id X
  generalize hHH : s.heap = H at hq ⊢
  generalize ([] : List Loc) = locs at hq ⊢
  clear hHH
  have hmr : hle st r := n_x_Str_init2 h
  have hn : hN 0 0 (hNx st) (hNs st) st := ⟨Nat.zero_add _, Nat.zero_add _⟩
  unfold x_Str_init2 at h
  refine lv_aload_n hx hb d_x_Str_init2_0 rfl (lv_at hl 0 rfl) ?_
  refine h_obj X hl.1 q_367 q_26 q_27 (Nat.le_of_ble_eq_true rfl) (by omega) d_x_Str_init2_1 ?_
  refine lv_aload_n hx hb d_x_Str_init2_4 rfl (lv_at hl 1 rfl) ?_
  replace h := obi h; obtain ⟨u1, eu1, h⟩ := h
  replace h := obi h; obtain ⟨x2, ex2, h⟩ := h
  refine hcallU (st' := st) (n := 0) X hq hle.rf (c_x_ASB_getValue l 0 (Nat.le_refl _) G A ex2) (C := 5) rfl eu1 q_368 q_370 q_369 q_371 q_2 q_372 rfl ⟨by decide +kernel, by decide +kernel, by decide +kernel⟩ rfl (lvl (by omega) (by decide)) hl.1 rfl (Nat.le_of_ble_eq_true rfl) d_x_Str_init2_5 (hn.fit hmr) (fun H locs hq => ?_)
  refine lv_astore_nq (lv' := [(3, va_rf x2), (0, .ref this), (1, .ref a1), (2, va_rf a2)]) hx hb d_x_Str_init2_8 rfl hl (by decide) (by first | (simp only [List.filter, rf_cat]; rfl) | (simp [rf_cat, List.filter]; exact ⟨rfl, rfl⟩)) (fun ls hl => ?_)
  refine lv_aload_n hx hb d_x_Str_init2_9 rfl (lv_at hl 2 rfl) ?_
  replace h := obi h; obtain ⟨u3, eu3, h⟩ := h
  replace h := obi h; obtain ⟨x4, ex4, h⟩ := h
  refine hcallO (st' := st) (n := 0) X hq hle.rf (c_x_SB_length l 1 (Nat.le_refl _) G A ex4) (C := 5) rfl eu3 q_373 q_970 q_261 q_975 q_3 q_263 q_266 q_265 ⟨by decide +kernel, by decide +kernel, by decide +kernel⟩ rfl (lvl (by omega) (by decide)) hl.1 rfl (Nat.le_of_ble_eq_true rfl) d_x_Str_init2_10 (hn.fit hmr) (fun H locs hq => ?_)
  refine lv_istore (lv' := [(4, .int x4), (3, va_rf x2), (0, .ref this), (1, .ref a1), (2, va_rf a2)]) hx hb d_x_Str_init2_13 hl (by decide) (by first | (simp only [List.filter, rf_cat]; rfl) | (simp [rf_cat, List.filter]; exact ⟨rfl, rfl⟩)) (fun ls hl => ?_)
  refine lv_aload_n hx hb d_x_Str_init2_15 rfl (lv_at hl 3 rfl) ?_
  replace h := obi h; obtain ⟨u5, eu5, h⟩ := h
  replace h := obi h; obtain ⟨x6, ex6, h⟩ := h
  refine hcallU (st' := st) (n := 0) X hq hle.rf (c_x_ASB_isLatin1 l 0 (Nat.le_refl _) G A ex6) (C := 5) rfl eu5 q_374 q_307 q_306 q_308 q_2 q_309 rfl ⟨by decide +kernel, by decide +kernel, by decide +kernel⟩ rfl (lvl (by omega) (by decide)) hl.1 rfl (Nat.le_of_ble_eq_true rfl) d_x_Str_init2_16 (hn.fit hmr) (fun H locs hq => ?_)
  refine lv_if_eq (tgt := 41) hx hb d_x_Str_init2_19 (by decide) (fun c19 => ?_) (fun c19 => ?_)
  · replace h := ifp c19 h
    cases h
  · replace h := ifn c19 h
    refine lv_aload_n hx hb d_x_Str_init2_22 rfl (lv_at hl 2 rfl) ?_
    refine lv_iconst (v := 0) hx hb d_x_Str_init2_23 (by decide) ?_
    replace h := obi h; obtain ⟨st7, est7, h⟩ := h
    refine hpF_v (ty := .byte) X hmn hq 6 1 rfl (by decide) rfl rfl (by decide +kernel) (by decide) (by decide) est7 q_395 d_x_Str_init2_24 (fun H locs hq => ?_)
    have hn := hn.ke (hP_ke est7)
    have hmr := hmr.ke (hP_ke est7)
    refine lv_aload_n hx hb d_x_Str_init2_27 rfl (lv_at hl 2 rfl) ?_
    refine lv_aload_nq hx hb d_x_Str_init2_28 rfl (lv_at hl 1 rfl) ?_
    refine lv_iconst (v := 0) hx hb d_x_Str_init2_29 (by decide) ?_
    refine lv_iload hx hb d_x_Str_init2_30 (lv_at hl 0 rfl) ?_
    replace h := obi h; obtain ⟨ad8, rfl, h⟩ := h
    replace h := obi h; obtain ⟨q9, eq9, h⟩ := h
    have hn2 := hn.call (n_x_Arr_copyOfRange eq9)
    have hmr := n_x_Str_init2_J35 h
    refine hcallS (n := 3) X hq (n_x_Arr_copyOfRange eq9) (c_x_Arr_copyOfRange l 2 (Nat.le_refl _) G A eq9) q_375 q_376 q_14 q_377 ok_x_Arr_copyOfRange rfl (lvl (by omega) (by decide)) hl.1 rfl (Nat.le_of_ble_eq_true rfl) d_x_Str_init2_32 (hn2.fit hmr) (fun H locs hq => ?_)
    have hn := hn2
    exact w_x_Str_init2_J35 X hK hmn hq hn (lv_sub hl [] rfl) h
theorem w_x_Str_init_J6 {r : HS} {st : HS} {n0 s0 : Nat} {H : Heap} {locs : List Loc} {ce sl : Nat} {ls : Array Slot} (X : jx p s m args meth c b_x_Str_init 2 none "java/lang/String") (hK : 4 ≤ K) (hmn : meth.name = "<init>") (hq : hC G A s st H locs) (hn : hN ce sl n0 s0 st) (hl : lv_has ls 2 []) (h : x_Str_init_J6 st = some r) : W p l e (rmL K (hNx r - n0) (hNs r - s0)) s m args below meth c H locs ce sl (MQ below (hQc G A none r) args s (hNx r - n0) (hNs r - s0) A) (F0 m 6 ls []) := by
  obtain ⟨hx, hb, hr, hml, hown, hts, hlocks⟩ := id X
  have hmr : hle st r := n_x_Str_init_J6 h
  unfold x_Str_init_J6 at h
  cases h
  exact hret_v X hq (hn.fit hle.rf) d_x_Str_init_6
theorem c_x_Str_init (l : Launch) (K : Nat) (hK : 4 ≤ K) (G : HG) (A : Nat → Prop) {st : HS} {this : Nat} {a1 : Nat} {r : HS} (h : x_Str_init st this a1 = some r) : Met l y_x_Str_init (Cond.code y_x_Str_init b_x_Str_init 2 none :: lw_g) (rmL K (hNx r - hNx st) (hNs r - hNs st)) (hPc G A [.ref this, .ref a1] st) (hQc G A none r) (hNx r - hNx st) (hNs r - hNs st) A := by
  refine Met.ofH (by decide +kernel) (Nat.le_of_ble_eq_true rfl) ?_
  intro p e s m below meth c ls X hmn hq hl
  have hl : lv_has ls 2 [(0, .ref this), (1, .ref a1)] := hl
  generalize ([.ref this, .ref a1] : List Value).toArray = args at X ⊢
  obtain ⟨hx, hb, hr, hml, hown, hts, hlocks⟩ := id X
  generalize hHH : s.heap = H at hq ⊢
  generalize ([] : List Loc) = locs at hq ⊢
  clear hHH
  have hmr : hle st r := n_x_Str_init h
  have hn : hN 0 0 (hNx st) (hNs st) st := ⟨Nat.zero_add _, Nat.zero_add _⟩
  unfold x_Str_init at h
  refine lv_aload_n hx hb d_x_Str_init_0 rfl (lv_at hl 0 rfl) ?_
  refine lv_aload_n hx hb d_x_Str_init_1 rfl (lv_at hl 1 rfl) ?_
  refine lv_null hx hb d_x_Str_init_2 ?_
  replace h := obi h; obtain ⟨st1, est1, h⟩ := h
  have hn2 := hn.call (n_x_Str_init2 est1)
  have hmr := n_x_Str_init_J6 h
  refine hcallI (n := 2) X hq (n_x_Str_init2 est1) (c_x_Str_init2 l 3 (Nat.le_refl _) G A est1) q_364 q_365 q_4 q_366 ok_x_Str_init2 rfl rfl (lvl (by omega) (by decide)) hl.1 rfl (Nat.le_of_ble_eq_true rfl) d_x_Str_init_3 (hn2.fit hmr) (fun H locs hq => ?_)
  have hn := hn2
  exact w_x_Str_init_J6 X hK hmn hq hn (lv_sub hl [] rfl) h
theorem w_x_SB_toString_J8 {r : Option Nat × HS} {st : HS} {w0 : Nat} {n0 s0 : Nat} {H : Heap} {locs : List Loc} {ce sl : Nat} {ls : Array Slot} (X : jx p s m args meth c b_x_SB_toString 1 (some (.object "java/lang/String")) "java/lang/StringBuilder") (hK : 5 ≤ K) (hq : hC G A s st H locs) (hn : hN ce sl n0 s0 st) (hl : lv_has ls 1 []) (h : x_SB_toString_J8 st w0 = some r) : W p l e (rmL K (hNx r.2 - n0) (hNs r.2 - s0)) s m args below meth c H locs ce sl (MQ below (hQc G A (some (va_rf r.1)) r.2) args s (hNx r.2 - n0) (hNs r.2 - s0) A) (F0 m 8 ls [.ref w0]) := by
  obtain ⟨hx, hb, hr, hml, hown, hts, hlocks⟩ := id X
  have hmr : hle st r.2 := n_x_SB_toString_J8 h
  unfold x_SB_toString_J8 at h
  cases h
  exact hret_a (v := some _) (Or.inl ⟨_, rfl⟩) X hq (hn.fit hle.rf) d_x_SB_toString_8
theorem w_x_SB_toString_J3 {r : Option Nat × HS} {st : HS} {l0 : Nat} {w0 : Nat} {n0 s0 : Nat} {H : Heap} {locs : List Loc} {ce sl : Nat} {ls : Array Slot} (X : jx p s m args meth c b_x_SB_toString 1 (some (.object "java/lang/String")) "java/lang/StringBuilder") (hK : 5 ≤ K) (hq : hC G A s st H locs) (hn : hN ce sl n0 s0 st) (hl : lv_has ls 1 [(0, .ref l0)]) (h : x_SB_toString_J3 st l0 w0 = some r) : W p l e (rmL K (hNx r.2 - n0) (hNs r.2 - s0)) s m args below meth c H locs ce sl (MQ below (hQc G A (some (va_rf r.1)) r.2) args s (hNx r.2 - n0) (hNs r.2 - s0) A) (F0 m 3 ls [.ref w0]) := by
  obtain ⟨hx, hb, hr, hml, hown, hts, hlocks⟩ := id X
  have hmr : hle st r.2 := n_x_SB_toString_J3 h
  unfold x_SB_toString_J3 at h
  refine lv_dup hx hb d_x_SB_toString_3 rfl ?_
  refine lv_aload_n hx hb d_x_SB_toString_4 rfl (lv_at hl 0 rfl) ?_
  replace h := obi h; obtain ⟨st1, est1, h⟩ := h
  have hn2 := hn.call (n_x_Str_init est1)
  have hmr := n_x_SB_toString_J8 h
  refine hcallI (n := 1) X hq (n_x_Str_init est1) (c_x_Str_init l 4 (Nat.le_refl _) G A est1) q_361 q_362 q_4 q_363 ok_x_Str_init rfl rfl (lvl (by omega) (by decide)) hl.1 rfl (Nat.le_of_ble_eq_true rfl) d_x_SB_toString_5 (hn2.fit hmr) (fun H locs hq => ?_)
  have hn := hn2
  exact w_x_SB_toString_J8 X hK hq hn (lv_sub hl [] rfl) h
theorem c_x_SB_toString (l : Launch) (K : Nat) (hK : 5 ≤ K) (G : HG) (A : Nat → Prop) {st : HS} {this : Nat} {r : Option Nat × HS} (h : x_SB_toString st this = some r) : Met l y_x_SB_toString (Cond.code y_x_SB_toString b_x_SB_toString 1 (some (.object "java/lang/String")) :: lw_g) (rmL K (hNx r.2 - hNx st) (hNs r.2 - hNs st)) (hPc G A [.ref this] st) (hQc G A (some (va_rf r.1)) r.2) (hNx r.2 - hNx st) (hNs r.2 - hNs st) A := by
  refine Met.ofH (by decide +kernel) (Nat.le_of_ble_eq_true rfl) ?_
  intro p e s m below meth c ls X hmn hq hl
  have hl : lv_has ls 1 [(0, .ref this)] := hl
  generalize ([.ref this] : List Value).toArray = args at X ⊢
  obtain ⟨hx, hb, hr, hml, hown, hts, hlocks⟩ := id X
  generalize hHH : s.heap = H at hq ⊢
  generalize ([] : List Loc) = locs at hq ⊢
  clear hHH
  have hmr : hle st r.2 := n_x_SB_toString h
  have hn : hN 0 0 (hNx st) (hNs st) st := ⟨Nat.zero_add _, Nat.zero_add _⟩
  unfold x_SB_toString at h
  replace h := obi h; obtain ⟨ad1, ead1, h⟩ := h
  replace h := obi h; obtain ⟨st2, est2, h⟩ := h
  have hn2 := hn.new est2
  have hmr := n_x_SB_toString_J3 h
  refine h_new X hq 6 rfl est2 q_359 q_360 q_4 (hn2.fit hmr) d_x_SB_toString_0 (fun H hq => ?_)
  have hn := hn2
  refine lv_nma (Option.some.inj ead1) ?_
  exact w_x_SB_toString_J3 X hK hq hn (lv_sub hl [0] rfl) h
theorem c_x_Str_isLatin1 (l : Launch) (K : Nat) (hK : 0 ≤ K) (G : HG) (A : Nat → Prop) {st : HS} {this : Nat} {r : Int32} (h : x_Str_isLatin1 st this = some r) : Met l y_x_Str_isLatin1 (Cond.code y_x_Str_isLatin1 b_x_Str_isLatin1 1 (some .boolean) :: lw_g) (rmL K 0 0) (hPc G A [.ref this] st) (hQc G A (some (.int r)) st) 0 0 A := by
  refine Met.ofH (by decide +kernel) (Nat.le_of_ble_eq_true rfl) ?_
  intro p e s m below meth c ls X hmn hq hl
  have hl : lv_has ls 1 [(0, .ref this)] := hl
  generalize ([.ref this] : List Value).toArray = args at X ⊢
  obtain ⟨hx, hb, hr, hml, hown, hts, hlocks⟩ := id X
  generalize hHH : s.heap = H at hq ⊢
  generalize ([] : List Loc) = locs at hq ⊢
  clear hHH
  unfold x_Str_isLatin1 at h
  refine hs_cs X hq q_187 d_x_Str_isLatin1_0 ?_
  refine lv_if_eq (tgt := 17) hx hb d_x_Str_isLatin1_3 (by decide) (fun c3 => ?_) (fun c3 => ?_)
  · replace h := ifp c3 h
    refine lv_iconst (v := 0) hx hb d_x_Str_isLatin1_17 (by decide) ?_
    cases h
    exact hret_z (v := 0) (by decide) X hq ⟨Nat.le_refl _, Nat.le_refl _⟩ d_x_Str_isLatin1_18
  · replace h := ifn c3 h
    refine lv_aload_n hx hb d_x_Str_isLatin1_6 rfl (lv_at hl 0 rfl) ?_
    replace h := obi h; obtain ⟨x1, ex1, h⟩ := h
    refine hg_i X hq 6 1 rfl (by decide) ex1 q_395 d_x_Str_isLatin1_7 ?_
    refine lv_if_ne (tgt := 17) hx hb d_x_Str_isLatin1_10 (by decide) (fun c10 => ?_) (fun c10 => ?_)
    · replace h := ifn c10 h
      refine lv_iconst (v := 0) hx hb d_x_Str_isLatin1_17 (by decide) ?_
      cases h
      exact hret_z (v := 0) (by decide) X hq ⟨Nat.le_refl _, Nat.le_refl _⟩ d_x_Str_isLatin1_18
    · replace h := ifp c10 h
      refine lv_iconst (v := 1) hx hb d_x_Str_isLatin1_13 (by decide) ?_
      refine lv_goto (tgt := 18) hx hb d_x_Str_isLatin1_14 (by decide) ?_
      cases h
      exact hret_z (v := 1) (by decide) X hq ⟨Nat.le_refl _, Nat.le_refl _⟩ d_x_Str_isLatin1_18
theorem c_x_Pre_checkIndex (l : Launch) (K : Nat) (hK : 0 ≤ K) (G : HG) (A : Nat → Prop) {st : HS} {a0 : Int32} {a1 : Int32} {a2 : Option Nat} {r : Int32} (h : x_Pre_checkIndex st a0 a1 a2 = some r) : Met l y_x_Pre_checkIndex (Cond.code y_x_Pre_checkIndex b_x_Pre_checkIndex 3 (some .int) :: lw_g) (rmL K 0 0) (hPc G A [.int a0, .int a1, va_rf a2] st) (hQc G A (some (.int r)) st) 0 0 A := by
  refine Met.ofH (by decide +kernel) (by cases a2 <;> exact Nat.le_of_ble_eq_true rfl) ?_
  intro p e s m below meth c ls X hmn hq hl
  have hl : lv_has ls 3 [(0, .int a0), (1, .int a1), (2, va_rf a2)] := hl
  generalize ([.int a0, .int a1, va_rf a2] : List Value).toArray = args at X ⊢
  obtain ⟨hx, hb, hr, hml, hown, hts, hlocks⟩ := id X
  generalize hHH : s.heap = H at hq ⊢
  generalize ([] : List Loc) = locs at hq ⊢
  clear hHH
  unfold x_Pre_checkIndex at h
  refine lv_iload_n hx hb d_x_Pre_checkIndex_0 rfl (lv_at hl 0 rfl) ?_
  refine lv_if_lt (tgt := 9) hx hb d_x_Pre_checkIndex_1 (by decide) (fun c1 => ?_) (fun c1 => ?_)
  · replace h := ifp c1 h
    cases h
  · replace h := ifn c1 h
    refine lv_iload_n hx hb d_x_Pre_checkIndex_4 rfl (lv_at hl 0 rfl) ?_
    refine lv_iload_n hx hb d_x_Pre_checkIndex_5 rfl (lv_at hl 1 rfl) ?_
    refine lv_icmp_lt (tgt := 16) hx hb d_x_Pre_checkIndex_6 (by decide) (fun c6 => ?_) (fun c6 => ?_)
    · replace h := ifp c6 h
      refine lv_iload_n hx hb d_x_Pre_checkIndex_16 rfl (lv_at hl 0 rfl) ?_
      cases h
      exact hret_i X hq ⟨Nat.le_refl _, Nat.le_refl _⟩ d_x_Pre_checkIndex_17
    · replace h := ifn c6 h
      cases h
theorem c_x_Str_checkIndex (l : Launch) (K : Nat) (hK : 1 ≤ K) (G : HG) (A : Nat → Prop) {st : HS} {a0 : Int32} {a1 : Int32} {r : Unit} (h : x_Str_checkIndex st a0 a1 = some r) : Met l y_x_Str_checkIndex (Cond.code y_x_Str_checkIndex b_x_Str_checkIndex 2 none :: lw_g) (rmL K 0 0) (hPc G A [.int a0, .int a1] st) (hQc G A none st) 0 0 A := by
  refine Met.ofH (by decide +kernel) (Nat.le_of_ble_eq_true rfl) ?_
  intro p e s m below meth c ls X hmn hq hl
  have hl : lv_has ls 2 [(0, .int a0), (1, .int a1)] := hl
  generalize ([.int a0, .int a1] : List Value).toArray = args at X ⊢
  obtain ⟨hx, hb, hr, hml, hown, hts, hlocks⟩ := id X
  generalize hHH : s.heap = H at hq ⊢
  generalize ([] : List Loc) = locs at hq ⊢
  clear hHH
  unfold x_Str_checkIndex at h
  refine lv_iload_n hx hb d_x_Str_checkIndex_0 rfl (lv_at hl 0 rfl) ?_
  refine lv_iload_n hx hb d_x_Str_checkIndex_1 rfl (lv_at hl 1 rfl) ?_
  refine hs_fm X hq q_229 d_x_Str_checkIndex_2 ?_
  replace h := obi h; obtain ⟨x1, ex1, h⟩ := h
  refine hcallS (st' := st) (n := 3) X hq hle.rf (c_x_Pre_checkIndex l 0 (Nat.le_refl _) G A ex1) q_344 q_345 q_11 q_346 ok_x_Pre_checkIndex rfl (lvl (by omega) (by decide)) hl.1 rfl (Nat.le_of_ble_eq_true rfl) d_x_Str_checkIndex_5 ⟨Nat.le_refl _, Nat.le_refl _⟩ (fun H locs hq => ?_)
  refine lv_pop hx hb d_x_Str_checkIndex_8 rfl ?_
  cases h
  exact hret_v X hq ⟨Nat.le_refl _, Nat.le_refl _⟩ d_x_Str_checkIndex_9
theorem c_x_L1_charAt (l : Launch) (K : Nat) (hK : 2 ≤ K) (G : HG) (A : Nat → Prop) {st : HS} {a0 : Nat} {a1 : Int32} {r : Int32} (h : x_L1_charAt st a0 a1 = some r) : Met l y_x_L1_charAt (Cond.code y_x_L1_charAt b_x_L1_charAt 2 (some .char) :: lw_g) (rmL K 0 0) (hPc G A [.ref a0, .int a1] st) (hQc G A (some (.int r)) st) 0 0 A := by
  refine Met.ofH (by decide +kernel) (Nat.le_of_ble_eq_true rfl) ?_
  intro p e s m below meth c ls X hmn hq hl
  have hl : lv_has ls 2 [(0, .ref a0), (1, .int a1)] := hl
  generalize ([.ref a0, .int a1] : List Value).toArray = args at X ⊢
  obtain ⟨hx, hb, hr, hml, hown, hts, hlocks⟩ := id X
  generalize hHH : s.heap = H at hq ⊢
  generalize ([] : List Loc) = locs at hq ⊢
  clear hHH
  unfold x_L1_charAt at h
  refine lv_iload_n hx hb d_x_L1_charAt_0 rfl (lv_at hl 1 rfl) ?_
  refine lv_aload_n hx hb d_x_L1_charAt_1 rfl (lv_at hl 0 rfl) ?_
  replace h := obi h; obtain ⟨x1, ex1, h⟩ := h
  refine ha_len X hq ex1 d_x_L1_charAt_2 ?_
  replace h := obi h; obtain ⟨x2, ex2, h⟩ := h
  refine hcallS (st' := st) (n := 2) X hq hle.rf (c_x_Str_checkIndex l 1 (Nat.le_refl _) G A ex2) q_465 q_342 q_4 q_343 ok_x_Str_checkIndex rfl (lvl (by omega) (by decide)) hl.1 rfl (Nat.le_of_ble_eq_true rfl) d_x_L1_charAt_3 ⟨Nat.le_refl _, Nat.le_refl _⟩ (fun H locs hq => ?_)
  refine lv_aload_n hx hb d_x_L1_charAt_6 rfl (lv_at hl 0 rfl) ?_
  refine lv_iload_n hx hb d_x_L1_charAt_7 rfl (lv_at hl 1 rfl) ?_
  replace h := obi h; obtain ⟨x3, ex3, h⟩ := h
  refine ha_bld X hq ex3 d_x_L1_charAt_8 ?_
  refine lv_sipush (v := 255) hx hb d_x_L1_charAt_9 (by decide) ?_
  refine lv_iand hx hb d_x_L1_charAt_12 ?_
  refine lv_i2c (v := _) hx hb d_x_L1_charAt_13 rfl ?_
  replace h := obi h; obtain ⟨x4, ex4, h⟩ := h
  obtain ⟨ez, hz⟩ := nchk_spec ex4
  cases h
  subst ez
  exact hret_z (nar_eq (Or.inr (Or.inl rfl)) hz) X hq ⟨Nat.le_refl _, Nat.le_refl _⟩ d_x_L1_charAt_14
theorem c_x_Str_charAt (l : Launch) (K : Nat) (hK : 3 ≤ K) (G : HG) (A : Nat → Prop) {st : HS} {this : Nat} {a1 : Int32} {r : Int32} (h : x_Str_charAt st this a1 = some r) : Met l y_x_Str_charAt (Cond.code y_x_Str_charAt b_x_Str_charAt 2 (some .char) :: lw_g) (rmL K 0 0) (hPc G A [.ref this, .int a1] st) (hQc G A (some (.int r)) st) 0 0 A := by
  refine Met.ofH (by decide +kernel) (Nat.le_of_ble_eq_true rfl) ?_
  intro p e s m below meth c ls X hmn hq hl
  have hl : lv_has ls 2 [(0, .ref this), (1, .int a1)] := hl
  generalize ([.ref this, .int a1] : List Value).toArray = args at X ⊢
  obtain ⟨hx, hb, hr, hml, hown, hts, hlocks⟩ := id X
  generalize hHH : s.heap = H at hq ⊢
  generalize ([] : List Loc) = locs at hq ⊢
  clear hHH
  unfold x_Str_charAt at h
  refine lv_aload_n hx hb d_x_Str_charAt_0 rfl (lv_at hl 0 rfl) ?_
  replace h := obi h; obtain ⟨u1, eu1, h⟩ := h
  replace h := obi h; obtain ⟨x2, ex2, h⟩ := h
  refine hcallV (st' := st) (n := 0) X hq hle.rf (c_x_Str_isLatin1 l 0 (Nat.le_refl _) G A ex2) (C := 6) rfl eu1 q_183 q_184 q_185 q_4 q_186 ok_x_Str_isLatin1 rfl (lvl (by omega) (by decide)) hl.1 rfl (Nat.le_of_ble_eq_true rfl) d_x_Str_charAt_1 ⟨Nat.le_refl _, Nat.le_refl _⟩ (fun H locs hq => ?_)
  refine lv_if_eq (tgt := 16) hx hb d_x_Str_charAt_4 (by decide) (fun c4 => ?_) (fun c4 => ?_)
  · replace h := ifp c4 h
    cases h
  · replace h := ifn c4 h
    refine lv_aload_n hx hb d_x_Str_charAt_7 rfl (lv_at hl 0 rfl) ?_
    replace h := obi h; obtain ⟨x3, ex3, h⟩ := h
    refine hg_r X hq 6 0 rfl (by decide) ex3 q_394 d_x_Str_charAt_8 ?_
    refine lv_iload_n hx hb d_x_Str_charAt_11 rfl (lv_at hl 1 rfl) ?_
    replace h := obi h; obtain ⟨ad4, rfl, h⟩ := h
    replace h := obi h; obtain ⟨x5, ex5, h⟩ := h
    refine hcallS (st' := st) (n := 2) X hq hle.rf (c_x_L1_charAt l 2 (Nat.le_refl _) G A ex5) q_462 q_463 q_9 q_464 ok_x_L1_charAt rfl (lvl (by omega) (by decide)) hl.1 rfl (Nat.le_of_ble_eq_true rfl) d_x_Str_charAt_12 ⟨Nat.le_refl _, Nat.le_refl _⟩ (fun H locs hq => ?_)
    replace h := obi h; obtain ⟨x6, ex6, h⟩ := h
    obtain ⟨ez, hz⟩ := nchk_spec ex6
    cases h
    subst ez
    exact hret_z (nar_eq (Or.inr (Or.inl rfl)) hz) X hq ⟨Nat.le_refl _, Nat.le_refl _⟩ d_x_Str_charAt_15
theorem c_x_Str_coder (l : Launch) (K : Nat) (hK : 0 ≤ K) (G : HG) (A : Nat → Prop) {st : HS} {this : Nat} {r : Int32} (h : x_Str_coder st this = some r) : Met l y_x_Str_coder (Cond.code y_x_Str_coder b_x_Str_coder 1 (some .byte) :: lw_g) (rmL K 0 0) (hPc G A [.ref this] st) (hQc G A (some (.int r)) st) 0 0 A := by
  refine Met.ofH (by decide +kernel) (Nat.le_of_ble_eq_true rfl) ?_
  intro p e s m below meth c ls X hmn hq hl
  have hl : lv_has ls 1 [(0, .ref this)] := hl
  generalize ([.ref this] : List Value).toArray = args at X ⊢
  obtain ⟨hx, hb, hr, hml, hown, hts, hlocks⟩ := id X
  generalize hHH : s.heap = H at hq ⊢
  generalize ([] : List Loc) = locs at hq ⊢
  clear hHH
  unfold x_Str_coder at h
  refine hs_cs X hq q_187 d_x_Str_coder_0 ?_
  refine lv_if_eq (tgt := 13) hx hb d_x_Str_coder_3 (by decide) (fun c3 => ?_) (fun c3 => ?_)
  · replace h := ifp c3 h
    cases h
  · replace h := ifn c3 h
    refine lv_aload_n hx hb d_x_Str_coder_6 rfl (lv_at hl 0 rfl) ?_
    replace h := obi h; obtain ⟨x1, ex1, h⟩ := h
    refine hg_i X hq 6 1 rfl (by decide) ex1 q_395 d_x_Str_coder_7 ?_
    refine lv_goto (tgt := 14) hx hb d_x_Str_coder_10 (by decide) ?_
    replace h := obi h; obtain ⟨x2, ex2, h⟩ := h
    obtain ⟨ez, hz⟩ := nchk_spec ex2
    cases h
    subst ez
    exact hret_z (nar_eq (Or.inr (Or.inr rfl)) hz) X hq ⟨Nat.le_refl _, Nat.le_refl _⟩ d_x_Str_coder_14
theorem w_x_L1_equals_L9 {r : Int32} (X : jx p s m args meth c b_x_L1_equals 3 (some .boolean) "java/lang/StringLatin1") (hK : 0 ≤ K) : ∀ (n : Nat), ∀ (st : HS) (l0 : Nat) (l1 : Nat) (l2 : Int32) (H : Heap) (locs : List Loc) (ls : Array Slot), x_L1_equals_L9 n st l0 l1 l2 = some r → hC G A s st H locs → lv_has ls 3 [(0, .ref l0), (1, .ref l1), (2, .int l2)] → W p l e (rmL K 0 0) s m args below meth c H locs 0 0 (MQ below (hQc G A (some (.int r)) st) args s 0 0 A) (F0 m 9 ls []) := by
  obtain ⟨hx, hb, hr, hml, hown, hts, hlocks⟩ := id X
  intro n
  induction n with
  | zero => intro st l0 l1 l2 H locs ls h hq hl; exact absurd h (by simp [x_L1_equals_L9])
  | succ n ih =>
    intro st l0 l1 l2 H locs ls h hq hl
    rw [x_L1_equals_L9] at h
    refine lv_iload_n hx hb d_x_L1_equals_9 rfl (lv_at hl 2 rfl) ?_
    refine lv_aload_n hx hb d_x_L1_equals_10 rfl (lv_at hl 0 rfl) ?_
    replace h := obi h; obtain ⟨x1, ex1, h⟩ := h
    refine ha_len X hq ex1 d_x_L1_equals_11 ?_
    refine lv_icmp_ge (tgt := 32) hx hb d_x_L1_equals_12 (by decide) (fun c12 => ?_) (fun c12 => ?_)
    · replace h := ifp c12 h
      refine lv_iconst (v := 1) hx hb d_x_L1_equals_32 (by decide) ?_
      cases h
      exact hret_z (v := 1) (by decide) X hq ⟨Nat.le_refl _, Nat.le_refl _⟩ d_x_L1_equals_33
    · replace h := ifn c12 h
      refine lv_aload_n hx hb d_x_L1_equals_15 rfl (lv_at hl 0 rfl) ?_
      refine lv_iload_n hx hb d_x_L1_equals_16 rfl (lv_at hl 2 rfl) ?_
      replace h := obi h; obtain ⟨x2, ex2, h⟩ := h
      refine ha_bld X hq ex2 d_x_L1_equals_17 ?_
      refine lv_aload_n hx hb d_x_L1_equals_18 rfl (lv_at hl 1 rfl) ?_
      refine lv_iload_n hx hb d_x_L1_equals_19 rfl (lv_at hl 2 rfl) ?_
      replace h := obi h; obtain ⟨x3, ex3, h⟩ := h
      refine ha_bld X hq ex3 d_x_L1_equals_20 ?_
      refine lv_icmp_eq (tgt := 26) hx hb d_x_L1_equals_21 (by decide) (fun c21 => ?_) (fun c21 => ?_)
      · replace h := ifp c21 h
        replace h := obi h; obtain ⟨x4, ex4, h⟩ := h
        refine lv_iinc (v := x4) (lv' := [(2, .int x4), (0, .ref l0), (1, .ref l1)]) hx hb d_x_L1_equals_26 hl (k := 2) rfl (Option.some.inj ex4) (by decide) rfl (fun ls hl => ?_)
        refine lv_goto (tgt := 9) hx hb d_x_L1_equals_29 (by decide) ?_
        exact ih _ _ _ _ _ _ _ h hq (lv_sub hl [1, 2, 0] rfl)
      · replace h := ifn c21 h
        refine lv_iconst (v := 0) hx hb d_x_L1_equals_24 (by decide) ?_
        cases h
        exact hret_z (v := 0) (by decide) X hq ⟨Nat.le_refl _, Nat.le_refl _⟩ d_x_L1_equals_25
theorem c_x_L1_equals (l : Launch) (K : Nat) (hK : 0 ≤ K) (G : HG) (A : Nat → Prop) {st : HS} {a0 : Nat} {a1 : Nat} {r : Int32} (h : x_L1_equals st a0 a1 = some r) : Met l y_x_L1_equals (Cond.code y_x_L1_equals b_x_L1_equals 3 (some .boolean) :: lw_g) (rmL K 0 0) (hPc G A [.ref a0, .ref a1] st) (hQc G A (some (.int r)) st) 0 0 A := by
  refine Met.ofH (by decide +kernel) (Nat.le_of_ble_eq_true rfl) ?_
  intro p e s m below meth c ls X hmn hq hl
  have hl : lv_has ls 3 [(0, .ref a0), (1, .ref a1)] := hl
  generalize ([.ref a0, .ref a1] : List Value).toArray = args at X ⊢
  obtain ⟨hx, hb, hr, hml, hown, hts, hlocks⟩ := id X
  generalize hHH : s.heap = H at hq ⊢
  generalize ([] : List Loc) = locs at hq ⊢
  clear hHH
  unfold x_L1_equals at h
  refine lv_aload_n hx hb d_x_L1_equals_0 rfl (lv_at hl 0 rfl) ?_
  replace h := obi h; obtain ⟨x1, ex1, h⟩ := h
  refine ha_len X hq ex1 d_x_L1_equals_1 ?_
  refine lv_aload_n hx hb d_x_L1_equals_2 rfl (lv_at hl 1 rfl) ?_
  replace h := obi h; obtain ⟨x2, ex2, h⟩ := h
  refine ha_len X hq ex2 d_x_L1_equals_3 ?_
  refine lv_icmp_ne (tgt := 34) hx hb d_x_L1_equals_4 (by decide) (fun c4 => ?_) (fun c4 => ?_)
  · replace h := ifn c4 h
    refine lv_iconst (v := 0) hx hb d_x_L1_equals_34 (by decide) ?_
    cases h
    exact hret_z (v := 0) (by decide) X hq ⟨Nat.le_refl _, Nat.le_refl _⟩ d_x_L1_equals_35
  · replace h := ifp c4 h
    refine lv_iconst (v := 0) hx hb d_x_L1_equals_7 (by decide) ?_
    refine lv_istore_n (lv' := [(2, .int 0), (0, .ref a0), (1, .ref a1)]) hx hb d_x_L1_equals_8 rfl hl (by decide) rfl (fun ls hl => ?_)
    exact w_x_L1_equals_L9 X hK 1000 _ _ _ _ _ _ _ h hq (lv_sub hl [1, 2, 0] rfl)
theorem w_x_Str_equals_J36 {r : Int32} {st : HS} {l0 : Nat} {l2 : Nat} {H : Heap} {locs : List Loc} {ls : Array Slot} (X : jx p s m args meth c b_x_Str_equals 3 (some .boolean) "java/lang/String") (hK : 1 ≤ K) (hq : hC G A s st H locs) (hl : lv_has ls 3 [(0, .ref l0), (2, .ref l2)]) (h : x_Str_equals_J36 st l0 l2 = some r) : W p l e (rmL K 0 0) s m args below meth c H locs 0 0 (MQ below (hQc G A (some (.int r)) st) args s 0 0 A) (F0 m 36 ls []) := by
  obtain ⟨hx, hb, hr, hml, hown, hts, hlocks⟩ := id X
  unfold x_Str_equals_J36 at h
  refine lv_aload_n hx hb d_x_Str_equals_36 rfl (lv_at hl 0 rfl) ?_
  replace h := obi h; obtain ⟨x1, ex1, h⟩ := h
  refine hg_r X hq 6 0 rfl (by decide) ex1 q_394 d_x_Str_equals_37 ?_
  refine lv_aload_n hx hb d_x_Str_equals_40 rfl (lv_at hl 1 rfl) ?_
  replace h := obi h; obtain ⟨x2, ex2, h⟩ := h
  refine hg_r X hq 6 0 rfl (by decide) ex2 q_394 d_x_Str_equals_41 ?_
  replace h := obi h; obtain ⟨ad3, rfl, h⟩ := h
  replace h := obi h; obtain ⟨ad4, rfl, h⟩ := h
  replace h := obi h; obtain ⟨x5, ex5, h⟩ := h
  refine hcallS (st' := st) (n := 2) X hq hle.rf (c_x_L1_equals l 0 (Nat.le_refl _) G A ex5) q_532 q_533 q_9 q_534 ok_x_L1_equals rfl (lvl (by omega) (by decide)) hl.1 rfl (Nat.le_of_ble_eq_true rfl) d_x_Str_equals_44 ⟨Nat.le_refl _, Nat.le_refl _⟩ (fun H locs hq => ?_)
  refine lv_if_eq (tgt := 54) hx hb d_x_Str_equals_47 (by decide) (fun c47 => ?_) (fun c47 => ?_)
  · replace h := ifp c47 h
    refine lv_iconst (v := 0) hx hb d_x_Str_equals_54 (by decide) ?_
    cases h
    exact hret_z (v := 0) (by decide) X hq ⟨Nat.le_refl _, Nat.le_refl _⟩ d_x_Str_equals_55
  · replace h := ifn c47 h
    refine lv_iconst (v := 1) hx hb d_x_Str_equals_50 (by decide) ?_
    refine lv_goto (tgt := 55) hx hb d_x_Str_equals_51 (by decide) ?_
    cases h
    exact hret_z (v := 1) (by decide) X hq ⟨Nat.le_refl _, Nat.le_refl _⟩ d_x_Str_equals_55
theorem c_x_Str_equals (l : Launch) (K : Nat) (hK : 1 ≤ K) (G : HG) (A : Nat → Prop) {st : HS} {this : Nat} {a1 : Nat} {r : Int32} (h : x_Str_equals st this a1 = some r) : Met l y_x_Str_equals (Cond.code y_x_Str_equals b_x_Str_equals 3 (some .boolean) :: lw_g) (rmL K 0 0) (hPc G A [.ref this, .ref a1] st) (hQc G A (some (.int r)) st) 0 0 A := by
  refine Met.ofH (by decide +kernel) (Nat.le_of_ble_eq_true rfl) ?_
  intro p e s m below meth c ls X hmn hq hl
  have hl : lv_has ls 3 [(0, .ref this), (1, .ref a1)] := hl
  generalize ([.ref this, .ref a1] : List Value).toArray = args at X ⊢
  obtain ⟨hx, hb, hr, hml, hown, hts, hlocks⟩ := id X
  generalize hHH : s.heap = H at hq ⊢
  generalize ([] : List Loc) = locs at hq ⊢
  clear hHH
  unfold x_Str_equals at h
  refine lv_aload_n hx hb d_x_Str_equals_0 rfl (lv_at hl 0 rfl) ?_
  refine lv_aload_n hx hb d_x_Str_equals_1 rfl (lv_at hl 1 rfl) ?_
  refine lv_acmp_ne (rx := (some this)) (ry := (some a1)) (tgt := 7) hx hb d_x_Str_equals_2 (by decide) (fun c2 => ?_) (fun c2 => ?_)
  · replace h := ifn c2 h
    refine lv_aload_n hx hb d_x_Str_equals_7 rfl (lv_at hl 1 rfl) ?_
    replace h := obi h; obtain ⟨u1, eu1, h⟩ := h
    refine h_inst X hq eu1 q_531 d_x_Str_equals_8 ?_
    refine lv_if_eq (tgt := 54) hx hb d_x_Str_equals_11 (by decide) (fun c11 => ?_) (fun c11 => ?_)
    · replace h := ifp c11 h
      refine lv_iconst (v := 0) hx hb d_x_Str_equals_54 (by decide) ?_
      cases h
      exact hret_z (v := 0) (by decide) X hq ⟨Nat.le_refl _, Nat.le_refl _⟩ d_x_Str_equals_55
    · replace h := ifn c11 h
      refine lv_aload_n hx hb d_x_Str_equals_14 rfl (lv_at hl 1 rfl) ?_
      replace h := obi h; obtain ⟨u2, eu2, h⟩ := h
      refine h_cast X hq eu2 q_531 d_x_Str_equals_15 ?_
      refine lv_astore_n (lv' := [(2, .ref a1), (0, .ref this), (1, .ref a1)]) hx hb d_x_Str_equals_18 rfl hl (by decide) rfl (fun ls hl => ?_)
      refine hs_cs X hq q_187 d_x_Str_equals_19 ?_
      refine lv_if_eq (tgt := 36) hx hb d_x_Str_equals_22 (by decide) (fun c22 => ?_) (fun c22 => ?_)
      · replace h := ifp c22 h
        exact w_x_Str_equals_J36 X hK hq (lv_sub hl [1, 0] rfl) h
      · replace h := ifn c22 h
        refine lv_aload_n hx hb d_x_Str_equals_25 rfl (lv_at hl 1 rfl) ?_
        replace h := obi h; obtain ⟨x3, ex3, h⟩ := h
        refine hg_i X hq 6 1 rfl (by decide) ex3 q_395 d_x_Str_equals_26 ?_
        refine lv_aload_n hx hb d_x_Str_equals_29 rfl (lv_at hl 0 rfl) ?_
        replace h := obi h; obtain ⟨x4, ex4, h⟩ := h
        refine hg_i X hq 6 1 rfl (by decide) ex4 q_395 d_x_Str_equals_30 ?_
        refine lv_icmp_ne (tgt := 54) hx hb d_x_Str_equals_33 (by decide) (fun c33 => ?_) (fun c33 => ?_)
        · replace h := ifn c33 h
          refine lv_iconst (v := 0) hx hb d_x_Str_equals_54 (by decide) ?_
          cases h
          exact hret_z (v := 0) (by decide) X hq ⟨Nat.le_refl _, Nat.le_refl _⟩ d_x_Str_equals_55
        · replace h := ifp c33 h
          exact w_x_Str_equals_J36 X hK hq (lv_sub hl [1, 0] rfl) h
  · replace h := ifp c2 h
    refine lv_iconst (v := 1) hx hb d_x_Str_equals_5 (by decide) ?_
    cases h
    exact hret_z (v := 1) (by decide) X hq ⟨Nat.le_refl _, Nat.le_refl _⟩ d_x_Str_equals_6
theorem c_x_Str_length (l : Launch) (K : Nat) (hK : 1 ≤ K) (G : HG) (A : Nat → Prop) {st : HS} {this : Nat} {r : Int32} (h : x_Str_length st this = some r) : Met l y_x_Str_length (Cond.code y_x_Str_length b_x_Str_length 1 (some .int) :: lw_g) (rmL K 0 0) (hPc G A [.ref this] st) (hQc G A (some (.int r)) st) 0 0 A := by
  refine Met.ofH (by decide +kernel) (Nat.le_of_ble_eq_true rfl) ?_
  intro p e s m below meth c ls X hmn hq hl
  have hl : lv_has ls 1 [(0, .ref this)] := hl
  generalize ([.ref this] : List Value).toArray = args at X ⊢
  obtain ⟨hx, hb, hr, hml, hown, hts, hlocks⟩ := id X
  generalize hHH : s.heap = H at hq ⊢
  generalize ([] : List Loc) = locs at hq ⊢
  clear hHH
  unfold x_Str_length at h
  refine lv_aload_n hx hb d_x_Str_length_0 rfl (lv_at hl 0 rfl) ?_
  replace h := obi h; obtain ⟨x1, ex1, h⟩ := h
  refine hg_r X hq 6 0 rfl (by decide) ex1 q_394 d_x_Str_length_1 ?_
  replace h := obi h; obtain ⟨ad2, rfl, h⟩ := h
  replace h := obi h; obtain ⟨x3, ex3, h⟩ := h
  refine ha_len X hq ex3 d_x_Str_length_4 ?_
  refine lv_aload_n hx hb d_x_Str_length_5 rfl (lv_at hl 0 rfl) ?_
  replace h := obi h; obtain ⟨u4, eu4, h⟩ := h
  replace h := obi h; obtain ⟨x5, ex5, h⟩ := h
  refine hcallV (st' := st) (n := 0) X hq hle.rf (c_x_Str_coder l 0 (Nat.le_refl _) G A ex5) (C := 6) rfl eu4 q_192 q_193 q_194 q_4 q_195 ok_x_Str_coder rfl (lvl (by omega) (by decide)) hl.1 rfl (Nat.le_of_ble_eq_true rfl) d_x_Str_length_6 ⟨Nat.le_refl _, Nat.le_refl _⟩ (fun H locs hq => ?_)
  refine lv_ishr hx hb d_x_Str_length_9 ?_
  cases h
  exact hret_i X hq ⟨Nat.le_refl _, Nat.le_refl _⟩ d_x_Str_length_10
theorem c_x_L1_canEncodeI (l : Launch) (K : Nat) (hK : 0 ≤ K) (G : HG) (A : Nat → Prop) {st : HS} {a0 : Int32} {r : Int32} (h : x_L1_canEncodeI st a0 = some r) : Met l y_x_L1_canEncodeI (Cond.code y_x_L1_canEncodeI b_x_L1_canEncodeI 1 (some .boolean) :: lw_g) (rmL K 0 0) (hPc G A [.int a0] st) (hQc G A (some (.int r)) st) 0 0 A := by
  refine Met.ofH (by decide +kernel) (Nat.le_of_ble_eq_true rfl) ?_
  intro p e s m below meth c ls X hmn hq hl
  have hl : lv_has ls 1 [(0, .int a0)] := hl
  generalize ([.int a0] : List Value).toArray = args at X ⊢
  obtain ⟨hx, hb, hr, hml, hown, hts, hlocks⟩ := id X
  generalize hHH : s.heap = H at hq ⊢
  generalize ([] : List Loc) = locs at hq ⊢
  clear hHH
  unfold x_L1_canEncodeI at h
  refine lv_iload_n hx hb d_x_L1_canEncodeI_0 rfl (lv_at hl 0 rfl) ?_
  refine lv_if_lt (tgt := 15) hx hb d_x_L1_canEncodeI_1 (by decide) (fun c1 => ?_) (fun c1 => ?_)
  · replace h := ifp c1 h
    refine lv_iconst (v := 0) hx hb d_x_L1_canEncodeI_15 (by decide) ?_
    cases h
    exact hret_z (v := 0) (by decide) X hq ⟨Nat.le_refl _, Nat.le_refl _⟩ d_x_L1_canEncodeI_16
  · replace h := ifn c1 h
    refine lv_iload_n hx hb d_x_L1_canEncodeI_4 rfl (lv_at hl 0 rfl) ?_
    refine lv_sipush (v := 255) hx hb d_x_L1_canEncodeI_5 (by decide) ?_
    refine lv_icmp_gt (tgt := 15) hx hb d_x_L1_canEncodeI_8 (by decide) (fun c8 => ?_) (fun c8 => ?_)
    · replace h := ifp c8 h
      refine lv_iconst (v := 0) hx hb d_x_L1_canEncodeI_15 (by decide) ?_
      cases h
      exact hret_z (v := 0) (by decide) X hq ⟨Nat.le_refl _, Nat.le_refl _⟩ d_x_L1_canEncodeI_16
    · replace h := ifn c8 h
      refine lv_iconst (v := 1) hx hb d_x_L1_canEncodeI_11 (by decide) ?_
      refine lv_goto (tgt := 16) hx hb d_x_L1_canEncodeI_12 (by decide) ?_
      cases h
      exact hret_z (v := 1) (by decide) X hq ⟨Nat.le_refl _, Nat.le_refl _⟩ d_x_L1_canEncodeI_16
theorem w_x_L1_indexOfChar_L7 {r : Int32} (X : jx p s m args meth c b_x_L1_indexOfChar 6 (some .int) "java/lang/StringLatin1") (hK : 0 ≤ K) : ∀ (n : Nat), ∀ (st : HS) (l0 : Nat) (l3 : Int32) (l4 : Int32) (l5 : Int32) (H : Heap) (locs : List Loc) (ls : Array Slot), x_L1_indexOfChar_L7 n st l0 l3 l4 l5 = some r → hC G A s st H locs → lv_has ls 6 [(0, .ref l0), (3, .int l3), (4, .int l4), (5, .int l5)] → W p l e (rmL K 0 0) s m args below meth c H locs 0 0 (MQ below (hQc G A (some (.int r)) st) args s 0 0 A) (F0 m 7 ls []) := by
  obtain ⟨hx, hb, hr, hml, hown, hts, hlocks⟩ := id X
  intro n
  induction n with
  | zero => intro st l0 l3 l4 l5 H locs ls h hq hl; exact absurd h (by simp [x_L1_indexOfChar_L7])
  | succ n ih =>
    intro st l0 l3 l4 l5 H locs ls h hq hl
    rw [x_L1_indexOfChar_L7] at h
    refine lv_iload hx hb d_x_L1_indexOfChar_7 (lv_at hl 3 rfl) ?_
    refine lv_iload_n hx hb d_x_L1_indexOfChar_9 rfl (lv_at hl 1 rfl) ?_
    refine lv_icmp_ge (tgt := 31) hx hb d_x_L1_indexOfChar_10 (by decide) (fun c10 => ?_) (fun c10 => ?_)
    · replace h := ifp c10 h
      refine lv_iconst (v := -1) hx hb d_x_L1_indexOfChar_31 (by decide) ?_
      cases h
      exact hret_i X hq ⟨Nat.le_refl _, Nat.le_refl _⟩ d_x_L1_indexOfChar_32
    · replace h := ifn c10 h
      refine lv_aload_n hx hb d_x_L1_indexOfChar_13 rfl (lv_at hl 0 rfl) ?_
      refine lv_iload hx hb d_x_L1_indexOfChar_14 (lv_at hl 3 rfl) ?_
      replace h := obi h; obtain ⟨x1, ex1, h⟩ := h
      refine ha_bld X hq ex1 d_x_L1_indexOfChar_16 ?_
      refine lv_iload hx hb d_x_L1_indexOfChar_17 (lv_at hl 2 rfl) ?_
      refine lv_icmp_ne (tgt := 25) hx hb d_x_L1_indexOfChar_19 (by decide) (fun c19 => ?_) (fun c19 => ?_)
      · replace h := ifn c19 h
        replace h := obi h; obtain ⟨x2, ex2, h⟩ := h
        refine lv_iinc (v := x2) (lv' := [(5, .int x2), (0, .ref l0), (3, .int l3), (4, .int l4)]) hx hb d_x_L1_indexOfChar_25 hl (k := 3) rfl (Option.some.inj ex2) (by decide) rfl (fun ls hl => ?_)
        refine lv_goto (tgt := 7) hx hb d_x_L1_indexOfChar_28 (by decide) ?_
        exact ih _ _ _ _ _ _ _ _ h hq (lv_sub hl [1, 2, 3, 0] rfl)
      · replace h := ifp c19 h
        refine lv_iload hx hb d_x_L1_indexOfChar_22 (lv_at hl 3 rfl) ?_
        cases h
        exact hret_i X hq ⟨Nat.le_refl _, Nat.le_refl _⟩ d_x_L1_indexOfChar_24
theorem c_x_L1_indexOfChar (l : Launch) (K : Nat) (hK : 0 ≤ K) (G : HG) (A : Nat → Prop) {st : HS} {a0 : Nat} {a1 : Int32} {a2 : Int32} {a3 : Int32} {r : Int32} (h : x_L1_indexOfChar st a0 a1 a2 a3 = some r) : Met l y_x_L1_indexOfChar (Cond.code y_x_L1_indexOfChar b_x_L1_indexOfChar 6 (some .int) :: lw_g) (rmL K 0 0) (hPc G A [.ref a0, .int a1, .int a2, .int a3] st) (hQc G A (some (.int r)) st) 0 0 A := by
  refine Met.ofH (by decide +kernel) (Nat.le_of_ble_eq_true rfl) ?_
  intro p e s m below meth c ls X hmn hq hl
  have hl : lv_has ls 6 [(0, .ref a0), (1, .int a1), (2, .int a2), (3, .int a3)] := hl
  generalize ([.ref a0, .int a1, .int a2, .int a3] : List Value).toArray = args at X ⊢
  obtain ⟨hx, hb, hr, hml, hown, hts, hlocks⟩ := id X
  generalize hHH : s.heap = H at hq ⊢
  generalize ([] : List Loc) = locs at hq ⊢
  clear hHH
  unfold x_L1_indexOfChar at h
  refine lv_iload_n hx hb d_x_L1_indexOfChar_0 rfl (lv_at hl 1 rfl) ?_
  refine lv_i2b (v := _) hx hb d_x_L1_indexOfChar_1 rfl ?_
  replace h := obi h; obtain ⟨x1, ex1, h⟩ := h
  refine lv_nm (Option.some.inj ex1) ?_
  refine lv_istore (lv' := [(4, .int x1), (0, .ref a0), (1, .int a1), (2, .int a2), (3, .int a3)]) hx hb d_x_L1_indexOfChar_2 hl (by decide) rfl (fun ls hl => ?_)
  refine lv_iload_n hx hb d_x_L1_indexOfChar_4 rfl (lv_at hl 3 rfl) ?_
  refine lv_istore (lv' := [(5, .int a2), (4, .int x1), (0, .ref a0), (1, .int a1), (2, .int a2), (3, .int a3)]) hx hb d_x_L1_indexOfChar_5 hl (by decide) rfl (fun ls hl => ?_)
  exact w_x_L1_indexOfChar_L7 X hK 1000 _ _ _ _ _ _ _ _ h hq (lv_sub hl [2, 5, 1, 0] rfl)
theorem c_x_L1_indexOf (l : Launch) (K : Nat) (hK : 1 ≤ K) (G : HG) (A : Nat → Prop) {st : HS} {a0 : Nat} {a1 : Int32} {a2 : Int32} {a3 : Int32} {r : Int32} (h : x_L1_indexOf st a0 a1 a2 a3 = some r) : Met l y_x_L1_indexOf (Cond.code y_x_L1_indexOf b_x_L1_indexOf 4 (some .int) :: lw_g) (rmL K 0 0) (hPc G A [.ref a0, .int a1, .int a2, .int a3] st) (hQc G A (some (.int r)) st) 0 0 A := by
  refine Met.ofH (by decide +kernel) (Nat.le_of_ble_eq_true rfl) ?_
  intro p e s m below meth c ls X hmn hq hl
  have hl : lv_has ls 4 [(0, .ref a0), (1, .int a1), (2, .int a2), (3, .int a3)] := hl
  generalize ([.ref a0, .int a1, .int a2, .int a3] : List Value).toArray = args at X ⊢
  obtain ⟨hx, hb, hr, hml, hown, hts, hlocks⟩ := id X
  generalize hHH : s.heap = H at hq ⊢
  generalize ([] : List Loc) = locs at hq ⊢
  clear hHH
  unfold x_L1_indexOf at h
  refine lv_iload_n hx hb d_x_L1_indexOf_0 rfl (lv_at hl 1 rfl) ?_
  replace h := obi h; obtain ⟨x1, ex1, h⟩ := h
  refine hcallS (st' := st) (n := 1) X hq hle.rf (c_x_L1_canEncodeI l 0 (Nat.le_refl _) G A ex1) q_199 q_200 q_9 q_201 ok_x_L1_canEncodeI rfl (lvl (by omega) (by decide)) hl.1 rfl (Nat.le_of_ble_eq_true rfl) d_x_L1_indexOf_1 ⟨Nat.le_refl _, Nat.le_refl _⟩ (fun H locs hq => ?_)
  refine lv_if_ne (tgt := 9) hx hb d_x_L1_indexOf_4 (by decide) (fun c4 => ?_) (fun c4 => ?_)
  · replace h := ifn c4 h
    refine lv_iload_n hx hb d_x_L1_indexOf_9 rfl (lv_at hl 2 rfl) ?_
    refine lv_iconst (v := 0) hx hb d_x_L1_indexOf_10 (by decide) ?_
    replace h := obi h; obtain ⟨x2, ex2, h⟩ := h
    refine hcallS (st' := st) (n := 2) X hq hle.rf (c_x_Math_max l 0 (Nat.le_refl _) G A ex2) q_202 q_203 q_10 q_204 ok_x_Math_max rfl (lvl (by omega) (by decide)) hl.1 rfl (Nat.le_of_ble_eq_true rfl) d_x_L1_indexOf_11 ⟨Nat.le_refl _, Nat.le_refl _⟩ (fun H locs hq => ?_)
    refine lv_istore_n (lv' := [(2, .int x2), (0, .ref a0), (1, .int a1), (3, .int a3)]) hx hb d_x_L1_indexOf_14 rfl hl (by decide) rfl (fun ls hl => ?_)
    refine lv_iload_n hx hb d_x_L1_indexOf_15 rfl (lv_at hl 3 rfl) ?_
    refine lv_aload_n hx hb d_x_L1_indexOf_16 rfl (lv_at hl 1 rfl) ?_
    replace h := obi h; obtain ⟨x3, ex3, h⟩ := h
    refine ha_len X hq ex3 d_x_L1_indexOf_17 ?_
    replace h := obi h; obtain ⟨x4, ex4, h⟩ := h
    refine hcallS (st' := st) (n := 2) X hq hle.rf (c_x_Math_min l 0 (Nat.le_refl _) G A ex4) q_205 q_206 q_10 q_207 ok_x_Math_min rfl (lvl (by omega) (by decide)) hl.1 rfl (Nat.le_of_ble_eq_true rfl) d_x_L1_indexOf_18 ⟨Nat.le_refl _, Nat.le_refl _⟩ (fun H locs hq => ?_)
    refine lv_istore_n (lv' := [(3, .int x4), (2, .int x2), (0, .ref a0), (1, .int a1)]) hx hb d_x_L1_indexOf_21 rfl hl (by decide) rfl (fun ls hl => ?_)
    refine lv_iload_n hx hb d_x_L1_indexOf_22 rfl (lv_at hl 1 rfl) ?_
    refine lv_iload_n hx hb d_x_L1_indexOf_23 rfl (lv_at hl 0 rfl) ?_
    refine lv_icmp_lt (tgt := 29) hx hb d_x_L1_indexOf_24 (by decide) (fun c24 => ?_) (fun c24 => ?_)
    · replace h := ifp c24 h
      refine lv_aload_n hx hb d_x_L1_indexOf_29 rfl (lv_at hl 2 rfl) ?_
      refine lv_iload_n hx hb d_x_L1_indexOf_30 rfl (lv_at hl 3 rfl) ?_
      refine lv_iload_n hx hb d_x_L1_indexOf_31 rfl (lv_at hl 1 rfl) ?_
      refine lv_iload_n hx hb d_x_L1_indexOf_32 rfl (lv_at hl 0 rfl) ?_
      replace h := obi h; obtain ⟨x5, ex5, h⟩ := h
      refine hcallS (st' := st) (n := 4) X hq hle.rf (c_x_L1_indexOfChar l 0 (Nat.le_refl _) G A ex5) q_208 q_209 q_9 q_210 ok_x_L1_indexOfChar rfl (lvl (by omega) (by decide)) hl.1 rfl (Nat.le_of_ble_eq_true rfl) d_x_L1_indexOf_33 ⟨Nat.le_refl _, Nat.le_refl _⟩ (fun H locs hq => ?_)
      cases h
      exact hret_i X hq ⟨Nat.le_refl _, Nat.le_refl _⟩ d_x_L1_indexOf_36
    · replace h := ifn c24 h
      refine lv_iconst (v := -1) hx hb d_x_L1_indexOf_27 (by decide) ?_
      cases h
      exact hret_i X hq ⟨Nat.le_refl _, Nat.le_refl _⟩ d_x_L1_indexOf_28
  · replace h := ifp c4 h
    refine lv_iconst (v := -1) hx hb d_x_L1_indexOf_7 (by decide) ?_
    cases h
    exact hret_i X hq ⟨Nat.le_refl _, Nat.le_refl _⟩ d_x_L1_indexOf_8
theorem c_x_Str_indexOf2 (l : Launch) (K : Nat) (hK : 2 ≤ K) (G : HG) (A : Nat → Prop) {st : HS} {this : Nat} {a1 : Int32} {a2 : Int32} {r : Int32} (h : x_Str_indexOf2 st this a1 a2 = some r) : Met l y_x_Str_indexOf2 (Cond.code y_x_Str_indexOf2 b_x_Str_indexOf2 3 (some .int) :: lw_g) (rmL K 0 0) (hPc G A [.ref this, .int a1, .int a2] st) (hQc G A (some (.int r)) st) 0 0 A := by
  refine Met.ofH (by decide +kernel) (Nat.le_of_ble_eq_true rfl) ?_
  intro p e s m below meth c ls X hmn hq hl
  have hl : lv_has ls 3 [(0, .ref this), (1, .int a1), (2, .int a2)] := hl
  generalize ([.ref this, .int a1, .int a2] : List Value).toArray = args at X ⊢
  obtain ⟨hx, hb, hr, hml, hown, hts, hlocks⟩ := id X
  generalize hHH : s.heap = H at hq ⊢
  generalize ([] : List Loc) = locs at hq ⊢
  clear hHH
  unfold x_Str_indexOf2 at h
  refine lv_aload_n hx hb d_x_Str_indexOf2_0 rfl (lv_at hl 0 rfl) ?_
  replace h := obi h; obtain ⟨u1, eu1, h⟩ := h
  replace h := obi h; obtain ⟨x2, ex2, h⟩ := h
  refine hcallV (st' := st) (n := 0) X hq hle.rf (c_x_Str_isLatin1 l 0 (Nat.le_refl _) G A ex2) (C := 6) rfl eu1 q_183 q_184 q_185 q_4 q_186 ok_x_Str_isLatin1 rfl (lvl (by omega) (by decide)) hl.1 rfl (Nat.le_of_ble_eq_true rfl) d_x_Str_indexOf2_1 ⟨Nat.le_refl _, Nat.le_refl _⟩ (fun H locs hq => ?_)
  refine lv_if_eq (tgt := 23) hx hb d_x_Str_indexOf2_4 (by decide) (fun c4 => ?_) (fun c4 => ?_)
  · replace h := ifp c4 h
    cases h
  · replace h := ifn c4 h
    refine lv_aload_n hx hb d_x_Str_indexOf2_7 rfl (lv_at hl 0 rfl) ?_
    replace h := obi h; obtain ⟨x3, ex3, h⟩ := h
    refine hg_r X hq 6 0 rfl (by decide) ex3 q_394 d_x_Str_indexOf2_8 ?_
    refine lv_iload_n hx hb d_x_Str_indexOf2_11 rfl (lv_at hl 1 rfl) ?_
    refine lv_iload_n hx hb d_x_Str_indexOf2_12 rfl (lv_at hl 2 rfl) ?_
    refine lv_aload_n hx hb d_x_Str_indexOf2_13 rfl (lv_at hl 0 rfl) ?_
    replace h := obi h; obtain ⟨u4, eu4, h⟩ := h
    replace h := obi h; obtain ⟨x5, ex5, h⟩ := h
    refine hcallV (st' := st) (n := 0) X hq hle.rf (c_x_Str_length l 1 (Nat.le_refl _) G A ex5) (C := 6) rfl eu4 q_188 q_189 q_190 q_4 q_191 ok_x_Str_length rfl (lvl (by omega) (by decide)) hl.1 rfl (by simp only [List.map_cons, List.map_nil, List.sum_cons, List.sum_nil, rf_cat]; simp [Value.category]) d_x_Str_indexOf2_14 ⟨Nat.le_refl _, Nat.le_refl _⟩ (fun H locs hq => ?_)
    replace h := obi h; obtain ⟨ad6, rfl, h⟩ := h
    replace h := obi h; obtain ⟨x7, ex7, h⟩ := h
    refine hcallS (st' := st) (n := 4) X hq hle.rf (c_x_L1_indexOf l 1 (Nat.le_refl _) G A ex7) q_196 q_197 q_9 q_198 ok_x_L1_indexOf rfl (lvl (by omega) (by decide)) hl.1 rfl (Nat.le_of_ble_eq_true rfl) d_x_Str_indexOf2_17 ⟨Nat.le_refl _, Nat.le_refl _⟩ (fun H locs hq => ?_)
    refine lv_goto (tgt := 36) hx hb d_x_Str_indexOf2_20 (by decide) ?_
    cases h
    exact hret_i X hq ⟨Nat.le_refl _, Nat.le_refl _⟩ d_x_Str_indexOf2_36
theorem c_x_Str_indexOf (l : Launch) (K : Nat) (hK : 3 ≤ K) (G : HG) (A : Nat → Prop) {st : HS} {this : Nat} {a1 : Int32} {r : Int32} (h : x_Str_indexOf st this a1 = some r) : Met l y_x_Str_indexOf (Cond.code y_x_Str_indexOf b_x_Str_indexOf 2 (some .int) :: lw_g) (rmL K 0 0) (hPc G A [.ref this, .int a1] st) (hQc G A (some (.int r)) st) 0 0 A := by
  refine Met.ofH (by decide +kernel) (Nat.le_of_ble_eq_true rfl) ?_
  intro p e s m below meth c ls X hmn hq hl
  have hl : lv_has ls 2 [(0, .ref this), (1, .int a1)] := hl
  generalize ([.ref this, .int a1] : List Value).toArray = args at X ⊢
  obtain ⟨hx, hb, hr, hml, hown, hts, hlocks⟩ := id X
  generalize hHH : s.heap = H at hq ⊢
  generalize ([] : List Loc) = locs at hq ⊢
  clear hHH
  unfold x_Str_indexOf at h
  refine lv_aload_n hx hb d_x_Str_indexOf_0 rfl (lv_at hl 0 rfl) ?_
  refine lv_iload_n hx hb d_x_Str_indexOf_1 rfl (lv_at hl 1 rfl) ?_
  refine lv_iconst (v := 0) hx hb d_x_Str_indexOf_2 (by decide) ?_
  replace h := obi h; obtain ⟨u1, eu1, h⟩ := h
  replace h := obi h; obtain ⟨x2, ex2, h⟩ := h
  refine hcallV (st' := st) (n := 2) X hq hle.rf (c_x_Str_indexOf2 l 2 (Nat.le_refl _) G A ex2) (C := 6) rfl eu1 q_179 q_180 q_181 q_4 q_182 ok_x_Str_indexOf2 rfl (lvl (by omega) (by decide)) hl.1 rfl (Nat.le_of_ble_eq_true rfl) d_x_Str_indexOf_3 ⟨Nat.le_refl _, Nat.le_refl _⟩ (fun H locs hq => ?_)
  cases h
  exact hret_i X hq ⟨Nat.le_refl _, Nat.le_refl _⟩ d_x_Str_indexOf_6
theorem c_x_Math_floorMod (l : Launch) (K : Nat) (hK : 0 ≤ K) (G : HG) (A : Nat → Prop) {st : HS} {a0 : Int32} {a1 : Int32} {r : Int32} (h : x_Math_floorMod st a0 a1 = some r) : Met l y_x_Math_floorMod (Cond.code y_x_Math_floorMod b_x_Math_floorMod 3 (some .int) :: lw_g) (rmL K 0 0) (hPc G A [.int a0, .int a1] st) (hQc G A (some (.int r)) st) 0 0 A := by
  refine Met.ofH (by decide +kernel) (Nat.le_of_ble_eq_true rfl) ?_
  intro p e s m below meth c ls X hmn hq hl
  have hl : lv_has ls 3 [(0, .int a0), (1, .int a1)] := hl
  generalize ([.int a0, .int a1] : List Value).toArray = args at X ⊢
  obtain ⟨hx, hb, hr, hml, hown, hts, hlocks⟩ := id X
  generalize hHH : s.heap = H at hq ⊢
  generalize ([] : List Loc) = locs at hq ⊢
  clear hHH
  unfold x_Math_floorMod at h
  refine lv_iload_n hx hb d_x_Math_floorMod_0 rfl (lv_at hl 0 rfl) ?_
  refine lv_iload_n hx hb d_x_Math_floorMod_1 rfl (lv_at hl 1 rfl) ?_
  replace h := obi h; obtain ⟨u1, eu1, h⟩ := h
  refine lv_irem hx hb d_x_Math_floorMod_2 (fun z => by rw [if_pos z] at eu1; cases eu1) ?_
  replace h := obi h; obtain ⟨x2, ex2, h⟩ := h
  refine lv_nm (Option.some.inj ex2) ?_
  refine lv_istore_n (lv' := [(2, .int x2), (0, .int a0), (1, .int a1)]) hx hb d_x_Math_floorMod_3 rfl hl (by decide) rfl (fun ls hl => ?_)
  refine lv_iload_n hx hb d_x_Math_floorMod_4 rfl (lv_at hl 1 rfl) ?_
  refine lv_iload_n hx hb d_x_Math_floorMod_5 rfl (lv_at hl 2 rfl) ?_
  refine lv_ixor hx hb d_x_Math_floorMod_6 ?_
  refine lv_if_ge (tgt := 18) hx hb d_x_Math_floorMod_7 (by decide) (fun c7 => ?_) (fun c7 => ?_)
  · replace h := ifp c7 h
    refine lv_iload_n hx hb d_x_Math_floorMod_18 rfl (lv_at hl 0 rfl) ?_
    cases h
    exact hret_i X hq ⟨Nat.le_refl _, Nat.le_refl _⟩ d_x_Math_floorMod_19
  · replace h := ifn c7 h
    refine lv_iload_n hx hb d_x_Math_floorMod_10 rfl (lv_at hl 0 rfl) ?_
    refine lv_if_eq (tgt := 18) hx hb d_x_Math_floorMod_11 (by decide) (fun c11 => ?_) (fun c11 => ?_)
    · replace h := ifp c11 h
      refine lv_iload_n hx hb d_x_Math_floorMod_18 rfl (lv_at hl 0 rfl) ?_
      cases h
      exact hret_i X hq ⟨Nat.le_refl _, Nat.le_refl _⟩ d_x_Math_floorMod_19
    · replace h := ifn c11 h
      refine lv_iload_n hx hb d_x_Math_floorMod_14 rfl (lv_at hl 0 rfl) ?_
      refine lv_iload_n hx hb d_x_Math_floorMod_15 rfl (lv_at hl 2 rfl) ?_
      refine lv_iadd hx hb d_x_Math_floorMod_16 ?_
      cases h
      exact hret_i X hq ⟨Nat.le_refl _, Nat.le_refl _⟩ d_x_Math_floorMod_17
theorem c_x_Enum_ordinal (l : Launch) (K : Nat) (hK : 0 ≤ K) (G : HG) (A : Nat → Prop) {st : HS} {this : Nat} {r : Int32} (h : x_Enum_ordinal st this = some r) : Met l y_x_Enum_ordinal (Cond.code y_x_Enum_ordinal b_x_Enum_ordinal 1 (some .int) :: lw_g) (rmL K 0 0) (hPc G A [.ref this] st) (hQc G A (some (.int r)) st) 0 0 A := by
  refine Met.ofH (by decide +kernel) (Nat.le_of_ble_eq_true rfl) ?_
  intro p e s m below meth c ls X hmn hq hl
  have hl : lv_has ls 1 [(0, .ref this)] := hl
  generalize ([.ref this] : List Value).toArray = args at X ⊢
  obtain ⟨hx, hb, hr, hml, hown, hts, hlocks⟩ := id X
  generalize hHH : s.heap = H at hq ⊢
  generalize ([] : List Loc) = locs at hq ⊢
  clear hHH
  unfold x_Enum_ordinal at h
  refine lv_aload_n hx hb d_x_Enum_ordinal_0 rfl (lv_at hl 0 rfl) ?_
  replace h := obi h; obtain ⟨x1, ex1, h⟩ := h
  refine hg_i X hq 8 0 rfl (by decide) ex1 q_977 d_x_Enum_ordinal_1 ?_
  cases h
  exact hret_i X hq ⟨Nat.le_refl _, Nat.le_refl _⟩ d_x_Enum_ordinal_4
theorem w_x_Rdr_init_J18 {r : HS} {st : HS} {w0 : Nat} {w1 : Nat} {n0 s0 : Nat} {H : Heap} {locs : List Loc} {ce sl : Nat} {ls : Array Slot} (X : jx p s m args meth c b_x_Rdr_init 1 none "NoteSheet$Reader") (hK : 1 ≤ K) (hmn : meth.name = "<init>") (hq : hC G A s st H locs) (hn : hN ce sl n0 s0 st) (hl : lv_has ls 1 []) (h : x_Rdr_init_J18 st w0 w1 = some r) : W p l e (rmL K (hNx r - n0) (hNs r - s0)) s m args below meth c H locs ce sl (MQ below (hQc G A none r) args s (hNx r - n0) (hNs r - s0) A) (F0 m 18 ls [.ref w0, .ref w1]) := by
  obtain ⟨hx, hb, hr, hml, hown, hts, hlocks⟩ := id X
  have hmr : hle st r := n_x_Rdr_init_J18 h
  unfold x_Rdr_init_J18 at h
  replace h := obi h; obtain ⟨st1, est1, h⟩ := h
  refine hpF_v (ty := (.array .int)) X hmn hq 4 5 rfl (by decide) rfl rfl (by decide +kernel) rfl rfl est1 q_77 d_x_Rdr_init_18 (fun H locs hq => ?_)
  have hn := hn.ke (hP_ke est1)
  have hmr := hmr.ke (hP_ke est1)
  cases h
  exact hret_v X hq (hn.fit hle.rf) d_x_Rdr_init_21
theorem w_x_Rdr_init_J10 {r : HS} {st : HS} {l0 : Nat} {w0 : Nat} {w1 : Nat} {n0 s0 : Nat} {H : Heap} {locs : List Loc} {ce sl : Nat} {ls : Array Slot} (X : jx p s m args meth c b_x_Rdr_init 1 none "NoteSheet$Reader") (hK : 1 ≤ K) (hmn : meth.name = "<init>") (hq : hC G A s st H locs) (hn : hN ce sl n0 s0 st) (hl : lv_has ls 1 [(0, .ref l0)]) (h : x_Rdr_init_J10 st l0 w0 w1 = some r) : W p l e (rmL K (hNx r - n0) (hNs r - s0)) s m args below meth c H locs ce sl (MQ below (hQc G A none r) args s (hNx r - n0) (hNs r - s0) A) (F0 m 10 ls [.ref w0, .ref w1]) := by
  obtain ⟨hx, hb, hr, hml, hown, hts, hlocks⟩ := id X
  have hmr : hle st r := n_x_Rdr_init_J10 h
  unfold x_Rdr_init_J10 at h
  replace h := obi h; obtain ⟨st1, est1, h⟩ := h
  refine hpF_v (ty := (.array (.object "NoteSheet$Op"))) X hmn hq 4 4 rfl (by decide) rfl rfl (by decide +kernel) rfl rfl est1 q_76 d_x_Rdr_init_10 (fun H locs hq => ?_)
  have hn := hn.ke (hP_ke est1)
  have hmr := hmr.ke (hP_ke est1)
  refine lv_aload_n hx hb d_x_Rdr_init_13 rfl (lv_at hl 0 rfl) ?_
  refine lv_bipush (v := 64) hx hb d_x_Rdr_init_14 (by decide) ?_
  replace h := obi h; obtain ⟨ad2, ead2, h⟩ := h
  replace h := obi h; obtain ⟨st3, est3, h⟩ := h
  have hn2 := hn.newa est3
  have hmr := n_x_Rdr_init_J18 h
  refine h_newa X hq 0 (by decide) .int rfl est3 q_91 (by decide) (hn2.fit hmr) d_x_Rdr_init_16 (fun H hq => ?_)
  have hn := hn2
  refine lv_nma (Option.some.inj ead2) ?_
  exact w_x_Rdr_init_J18 X hK hmn hq hn (lv_sub hl [] rfl) h
theorem c_x_Rdr_init (l : Launch) (K : Nat) (hK : 1 ≤ K) (G : HG) (A : Nat → Prop) {st : HS} {this : Nat} {r : HS} (h : x_Rdr_init st this = some r) : Met l y_x_Rdr_init (Cond.code y_x_Rdr_init b_x_Rdr_init 1 none :: lw_g) (rmL K (hNx r - hNx st) (hNs r - hNs st)) (hPc G A [.ref this] st) (hQc G A none r) (hNx r - hNx st) (hNs r - hNs st) A := by
  refine Met.ofH (by decide +kernel) (Nat.le_of_ble_eq_true rfl) ?_
  intro p e s m below meth c ls X hmn hq hl
  have hl : lv_has ls 1 [(0, .ref this)] := hl
  generalize ([.ref this] : List Value).toArray = args at X ⊢
  obtain ⟨hx, hb, hr, hml, hown, hts, hlocks⟩ := id X
  generalize hHH : s.heap = H at hq ⊢
  generalize ([] : List Loc) = locs at hq ⊢
  clear hHH
  have hmr : hle st r := n_x_Rdr_init h
  have hn : hN 0 0 (hNx st) (hNs st) st := ⟨Nat.zero_add _, Nat.zero_add _⟩
  unfold x_Rdr_init at h
  refine lv_aload_n hx hb d_x_Rdr_init_0 rfl (lv_at hl 0 rfl) ?_
  refine h_obj X hl.1 q_68 q_26 q_27 (Nat.le_of_ble_eq_true rfl) (by omega) d_x_Rdr_init_1 ?_
  refine lv_aload_n hx hb d_x_Rdr_init_4 rfl (lv_at hl 0 rfl) ?_
  refine lv_bipush (v := 64) hx hb d_x_Rdr_init_5 (by decide) ?_
  replace h := obi h; obtain ⟨ad1, ead1, h⟩ := h
  replace h := obi h; obtain ⟨st2, est2, h⟩ := h
  have hn2 := hn.newa est2
  have hmr := n_x_Rdr_init_J10 h
  refine h_newr X hq 5 (by decide) (by decide) rfl est2 q_69 qn_70 (hn2.fit hmr) d_x_Rdr_init_7 (fun H hq => ?_)
  have hn := hn2
  refine lv_nma (Option.some.inj ead1) ?_
  exact w_x_Rdr_init_J10 X hK hmn hq hn (lv_sub hl [0] rfl) h
theorem c_x_Cell_init (l : Launch) (K : Nat) (hK : 1 ≤ K) (G : HG) (A : Nat → Prop) {st : HS} {this : Nat} {a1 : Int32} {r : HS} (h : x_Cell_init st this a1 = some r) : Met l y_x_Cell_init (Cond.code y_x_Cell_init b_x_Cell_init 2 none :: lw_g) (rmL K 0 0) (hPc G A [.ref this, .int a1] st) (hQc G A none r) 0 0 A := by
  refine Met.ofH (by decide +kernel) (Nat.le_of_ble_eq_true rfl) ?_
  intro p e s m below meth c ls X hmn hq hl
  have hl : lv_has ls 2 [(0, .ref this), (1, .int a1)] := hl
  generalize ([.ref this, .int a1] : List Value).toArray = args at X ⊢
  obtain ⟨hx, hb, hr, hml, hown, hts, hlocks⟩ := id X
  generalize hHH : s.heap = H at hq ⊢
  generalize ([] : List Loc) = locs at hq ⊢
  clear hHH
  unfold x_Cell_init at h
  refine lv_aload_n hx hb d_x_Cell_init_0 rfl (lv_at hl 0 rfl) ?_
  refine h_obj X hl.1 q_96 q_26 q_27 (Nat.le_of_ble_eq_true rfl) (by omega) d_x_Cell_init_1 ?_
  refine lv_aload_n hx hb d_x_Cell_init_4 rfl (lv_at hl 0 rfl) ?_
  refine lv_iconst (v := 1) hx hb d_x_Cell_init_5 (by decide) ?_
  replace h := obi h; obtain ⟨st1, est1, h⟩ := h
  refine hp_v (ty := .boolean) X hq 1 1 rfl (by decide) rfl (by decide +kernel) (by decide) (by decide) est1 q_99 d_x_Cell_init_6 (fun H locs hq => ?_)
  refine lv_aload_n hx hb d_x_Cell_init_9 rfl (lv_at hl 0 rfl) ?_
  refine lv_iload_n hx hb d_x_Cell_init_10 rfl (lv_at hl 1 rfl) ?_
  replace h := obi h; obtain ⟨st2, est2, h⟩ := h
  refine hpF_v (ty := .int) X hmn hq 1 0 rfl (by decide) rfl rfl (by decide +kernel) rfl rfl est2 q_97 d_x_Cell_init_11 (fun H locs hq => ?_)
  cases h
  exact hret_v X hq ⟨Nat.le_refl _, Nat.le_refl _⟩ d_x_Cell_init_14
end
