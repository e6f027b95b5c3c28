section
variable {p : Program} {l : Launch} {e : Env} {s : State} {m : MethodId} {args : Array Value} {below : List Frame} {meth : Method} {c : Code} {G : HG} {A : Nat → Prop} {K Kg : Nat}
theorem w_x_ASB_init_J14 {r : HS} {st : HS} {l0 : Nat} {w0 : Nat} {w1 : Nat} {n0 s0 : Nat} {H : Heap} {locs : List Loc} {ce sl : Nat} {ls : Array Slot} (X : jx p s m args meth c b_x_ASB_init 2 none "java/lang/AbstractStringBuilder") (hK : 1 ≤ K) (hmn : meth.name = "<init>") (hq : hC G A s st H locs) (hn : hN ce sl n0 s0 st) (hl : lv_has ls 2 [(0, .ref l0)]) (h : x_ASB_init_J14 st l0 w0 w1 = some r) : W p l e (rmL K (hNx r - n0) (hNs r - s0)) s m args below meth c H locs ce sl (MQ below (hQc G A none r) args s (hNx r - n0) (hNs r - s0) A) (F0 m 14 ls [.ref w0, .ref w1]) := by
  obtain ⟨hx, hb, hr, hml, hown, hts, hlocks⟩ := id X
  have hmr : hle st r := n_x_ASB_init_J14 h
  unfold x_ASB_init_J14 at h
  replace h := obi h; obtain ⟨st1, est1, h⟩ := h
  refine hp_v (ty := (.array .byte)) X hq 5 0 rfl (by decide) rfl (by decide +kernel) rfl rfl est1 q_48 d_x_ASB_init_14 (fun H locs hq => ?_)
  have hn := hn.ke (hP_ke est1)
  have hmr := hmr.ke (hP_ke est1)
  refine lv_aload_n hx hb d_x_ASB_init_17 rfl (lv_at hl 0 rfl) ?_
  refine lv_iconst (v := 0) hx hb d_x_ASB_init_18 (by decide) ?_
  replace h := obi h; obtain ⟨st2, est2, h⟩ := h
  refine hp_v (ty := .byte) X hq 5 1 rfl (by decide) rfl (by decide +kernel) (by decide) (by decide) est2 q_49 d_x_ASB_init_19 (fun H locs hq => ?_)
  have hn := hn.ke (hP_ke est2)
  have hmr := hmr.ke (hP_ke est2)
  refine lv_goto (tgt := 38) hx hb d_x_ASB_init_22 (by decide) ?_
  cases h
  exact hret_v X hq (hn.fit hle.rf) d_x_ASB_init_38
theorem c_x_ASB_init (l : Launch) (K : Nat) (hK : 1 ≤ K) (G : HG) (A : Nat → Prop) {st : HS} {this : Nat} {a1 : Int32} {r : HS} (h : x_ASB_init st this a1 = some r) : Met l y_x_ASB_init (Cond.code y_x_ASB_init b_x_ASB_init 2 none :: lw_g) (rmL K (hNx r - hNx st) (hNs r - hNs st)) (hPc G A [.ref this, .int a1] st) (hQc G A none r) (hNx r - hNx st) (hNs r - hNs st) A := by
  refine Met.ofH (by decide +kernel) (Nat.le_of_ble_eq_true rfl) ?_
  intro p e s m below meth c ls X hmn hq hl
  have hl : lv_has ls 2 [(0, .ref this), (1, .int a1)] := hl
  generalize ([.ref this, .int a1] : List Value).toArray = args at X ⊢
  obtain ⟨hx, hb, hr, hml, hown, hts, hlocks⟩ := id X
  generalize hHH : s.heap = H at hq ⊢
  generalize ([] : List Loc) = locs at hq ⊢
  clear hHH
  have hmr : hle st r := n_x_ASB_init h
  have hn : hN 0 0 (hNx st) (hNs st) st := ⟨Nat.zero_add _, Nat.zero_add _⟩
  unfold x_ASB_init at h
  refine lv_aload_n hx hb d_x_ASB_init_0 rfl (lv_at hl 0 rfl) ?_
  refine h_obj X hl.1 q_38 q_26 q_27 (Nat.le_of_ble_eq_true rfl) (by omega) d_x_ASB_init_1 ?_
  refine hs_cs X hq q_39 d_x_ASB_init_4 ?_
  refine lv_if_eq (tgt := 25) hx hb d_x_ASB_init_7 (by decide) (fun c7 => ?_) (fun c7 => ?_)
  · replace h := ifp c7 h
    cases h
  · replace h := ifn c7 h
    refine lv_aload_n hx hb d_x_ASB_init_10 rfl (lv_at hl 0 rfl) ?_
    refine lv_iload_n hx hb d_x_ASB_init_11 rfl (lv_at hl 1 rfl) ?_
    replace h := obi h; obtain ⟨ad1, ead1, h⟩ := h
    replace h := obi h; obtain ⟨st2, est2, h⟩ := h
    have hn2 := hn.newa est2
    have hmr := n_x_ASB_init_J14 h
    refine h_newa X hq 1 (by decide) .byte rfl est2 q_62 (by decide) (hn2.fit hmr) d_x_ASB_init_12 (fun H hq => ?_)
    have hn := hn2
    refine lv_nma (Option.some.inj ead1) ?_
    exact w_x_ASB_init_J14 X hK hmn hq hn (lv_sub hl [0] rfl) h
theorem c_x_Math_max (l : Launch) (K : Nat) (hK : 0 ≤ K) (G : HG) (A : Nat → Prop) {st : HS} {a0 : Int32} {a1 : Int32} {r : Int32} (h : x_Math_max st a0 a1 = some r) : Met l y_x_Math_max (Cond.code y_x_Math_max b_x_Math_max 2 (some .int) :: lw_g) (rmL K 0 0) (hPc G A [.int a0, .int a1] st) (hQc G A (some (.int r)) st) 0 0 A := by
  refine Met.ofH (by decide +kernel) (Nat.le_of_ble_eq_true rfl) ?_
  intro p e s m below meth c ls X hmn hq hl
  have hl : lv_has ls 2 [(0, .int a0), (1, .int a1)] := hl
  generalize ([.int a0, .int a1] : List Value).toArray = args at X ⊢
  obtain ⟨hx, hb, hr, hml, hown, hts, hlocks⟩ := id X
  generalize hHH : s.heap = H at hq ⊢
  generalize ([] : List Loc) = locs at hq ⊢
  clear hHH
  unfold x_Math_max at h
  refine lv_iload_n hx hb d_x_Math_max_0 rfl (lv_at hl 0 rfl) ?_
  refine lv_iload_n hx hb d_x_Math_max_1 rfl (lv_at hl 1 rfl) ?_
  refine lv_icmp_lt (tgt := 9) hx hb d_x_Math_max_2 (by decide) (fun c2 => ?_) (fun c2 => ?_)
  · replace h := ifp c2 h
    refine lv_iload_n hx hb d_x_Math_max_9 rfl (lv_at hl 1 rfl) ?_
    cases h
    exact hret_i X hq ⟨Nat.le_refl _, Nat.le_refl _⟩ d_x_Math_max_10
  · replace h := ifn c2 h
    refine lv_iload_n hx hb d_x_Math_max_5 rfl (lv_at hl 0 rfl) ?_
    refine lv_goto (tgt := 10) hx hb d_x_Math_max_6 (by decide) ?_
    cases h
    exact hret_i X hq ⟨Nat.le_refl _, Nat.le_refl _⟩ d_x_Math_max_10
theorem c_x_AS_newLength (l : Launch) (K : Nat) (hK : 1 ≤ K) (G : HG) (A : Nat → Prop) {st : HS} {a0 : Int32} {a1 : Int32} {a2 : Int32} {r : Int32} (h : x_AS_newLength st a0 a1 a2 = some r) : Met l y_x_AS_newLength (Cond.code y_x_AS_newLength b_x_AS_newLength 4 (some .int) :: lw_g) (rmL K 0 0) (hPc G A [.int a0, .int a1, .int a2] st) (hQc G A (some (.int r)) st) 0 0 A := by
  refine Met.ofH (by decide +kernel) (Nat.le_of_ble_eq_true rfl) ?_
  intro p e s m below meth c ls X hmn hq hl
  have hl : lv_has ls 4 [(0, .int a0), (1, .int a1), (2, .int a2)] := hl
  generalize ([.int a0, .int a1, .int a2] : List Value).toArray = args at X ⊢
  obtain ⟨hx, hb, hr, hml, hown, hts, hlocks⟩ := id X
  generalize hHH : s.heap = H at hq ⊢
  generalize ([] : List Loc) = locs at hq ⊢
  clear hHH
  unfold x_AS_newLength at h
  refine lv_iload_n hx hb d_x_AS_newLength_0 rfl (lv_at hl 0 rfl) ?_
  refine lv_iload_n hx hb d_x_AS_newLength_1 rfl (lv_at hl 1 rfl) ?_
  refine lv_iload_n hx hb d_x_AS_newLength_2 rfl (lv_at hl 2 rfl) ?_
  replace h := obi h; obtain ⟨x1, ex1, h⟩ := h
  refine hcallS (st' := st) (n := 2) X hq hle.rf (c_x_Math_max l 0 (Nat.le_refl _) G A ex1) q_285 q_203 q_10 q_204 ok_x_Math_max rfl (lvl (by omega) (by decide)) hl.1 rfl (Nat.le_of_ble_eq_true rfl) d_x_AS_newLength_3 ⟨Nat.le_refl _, Nat.le_refl _⟩ (fun H locs hq => ?_)
  refine lv_iadd hx hb d_x_AS_newLength_6 ?_
  replace h := obi h; obtain ⟨x2, ex2, h⟩ := h
  refine lv_nm (Option.some.inj ex2) ?_
  refine lv_istore_n (lv' := [(3, .int x2), (0, .int a0), (1, .int a1), (2, .int a2)]) hx hb d_x_AS_newLength_7 rfl hl (by decide) rfl (fun ls hl => ?_)
  refine lv_iconst (v := 0) hx hb d_x_AS_newLength_8 (by decide) ?_
  refine lv_iload_n hx hb d_x_AS_newLength_9 rfl (lv_at hl 0 rfl) ?_
  refine lv_icmp_ge (tgt := 21) hx hb d_x_AS_newLength_10 (by decide) (fun c10 => ?_) (fun c10 => ?_)
  · replace h := ifp c10 h
    cases h
  · replace h := ifn c10 h
    refine lv_iload_n hx hb d_x_AS_newLength_13 rfl (lv_at hl 0 rfl) ?_
    refine lv_ldc (v := 2147483639) hx hb hown (hts _ q_286) d_x_AS_newLength_14 ?_
    refine lv_icmp_gt (tgt := 21) hx hb d_x_AS_newLength_16 (by decide) (fun c16 => ?_) (fun c16 => ?_)
    · replace h := ifp c16 h
      cases h
    · replace h := ifn c16 h
      refine lv_iload_n hx hb d_x_AS_newLength_19 rfl (lv_at hl 0 rfl) ?_
      cases h
      exact hret_i X hq ⟨Nat.le_refl _, Nat.le_refl _⟩ d_x_AS_newLength_20
theorem c_x_ASB_newCapacity (l : Launch) (K : Nat) (hK : 2 ≤ K) (G : HG) (A : Nat → Prop) {st : HS} {this : Nat} {a1 : Int32} {r : Int32} (h : x_ASB_newCapacity st this a1 = some r) : Met l y_x_ASB_newCapacity (Cond.code y_x_ASB_newCapacity b_x_ASB_newCapacity 6 (some .int) :: lw_g) (rmL K 0 0) (hPc G A [.ref this, .int a1] st) (hQc G A (some (.int r)) st) 0 0 A := by
  refine Met.ofH (by decide +kernel) (Nat.le_of_ble_eq_true rfl) ?_
  intro p e s m below meth c ls X hmn hq hl
  have hl : lv_has ls 6 [(0, .ref this), (1, .int a1)] := hl
  generalize ([.ref this, .int a1] : List Value).toArray = args at X ⊢
  obtain ⟨hx, hb, hr, hml, hown, hts, hlocks⟩ := id X
  generalize hHH : s.heap = H at hq ⊢
  generalize ([] : List Loc) = locs at hq ⊢
  clear hHH
  unfold x_ASB_newCapacity at h
  refine lv_aload_n hx hb d_x_ASB_newCapacity_0 rfl (lv_at hl 0 rfl) ?_
  replace h := obi h; obtain ⟨x1, ex1, h⟩ := h
  refine hg_r X hq 5 0 rfl (by decide) ex1 q_48 d_x_ASB_newCapacity_1 ?_
  replace h := obi h; obtain ⟨ad2, rfl, h⟩ := h
  replace h := obi h; obtain ⟨x3, ex3, h⟩ := h
  refine ha_len X hq ex3 d_x_ASB_newCapacity_4 ?_
  refine lv_istore_n (lv' := [(2, .int x3), (0, .ref this), (1, .int a1)]) hx hb d_x_ASB_newCapacity_5 rfl hl (by decide) rfl (fun ls hl => ?_)
  refine lv_iload_n hx hb d_x_ASB_newCapacity_6 rfl (lv_at hl 2 rfl) ?_
  refine lv_aload_n hx hb d_x_ASB_newCapacity_7 rfl (lv_at hl 1 rfl) ?_
  replace h := obi h; obtain ⟨x4, ex4, h⟩ := h
  refine hg_i X hq 5 1 rfl (by decide) ex4 q_49 d_x_ASB_newCapacity_8 ?_
  refine lv_ishl hx hb d_x_ASB_newCapacity_11 ?_
  replace h := obi h; obtain ⟨x5, ex5, h⟩ := h
  refine lv_nm (Option.some.inj ex5) ?_
  refine lv_istore_n (lv' := [(3, .int x5), (2, .int x3), (0, .ref this), (1, .int a1)]) hx hb d_x_ASB_newCapacity_12 rfl hl (by decide) rfl (fun ls hl => ?_)
  refine lv_iload_n hx hb d_x_ASB_newCapacity_13 rfl (lv_at hl 0 rfl) ?_
  refine lv_iload_n hx hb d_x_ASB_newCapacity_14 rfl (lv_at hl 1 rfl) ?_
  refine lv_isub hx hb d_x_ASB_newCapacity_15 ?_
  replace h := obi h; obtain ⟨x6, ex6, h⟩ := h
  refine lv_nm (Option.some.inj ex6) ?_
  refine lv_istore (lv' := [(4, .int x6), (3, .int x5), (2, .int x3), (0, .ref this), (1, .int a1)]) hx hb d_x_ASB_newCapacity_16 hl (by decide) rfl (fun ls hl => ?_)
  refine lv_iload_n hx hb d_x_ASB_newCapacity_18 rfl (lv_at hl 2 rfl) ?_
  refine lv_iload hx hb d_x_ASB_newCapacity_19 (lv_at hl 0 rfl) ?_
  refine lv_iload_n hx hb d_x_ASB_newCapacity_21 rfl (lv_at hl 2 rfl) ?_
  refine lv_iconst (v := 2) hx hb d_x_ASB_newCapacity_22 (by decide) ?_
  refine lv_aload_n hx hb d_x_ASB_newCapacity_23 rfl (lv_at hl 3 rfl) ?_
  replace h := obi h; obtain ⟨x7, ex7, h⟩ := h
  refine hg_i X hq 5 1 rfl (by decide) ex7 q_49 d_x_ASB_newCapacity_24 ?_
  refine lv_ishl hx hb d_x_ASB_newCapacity_27 ?_
  refine lv_iadd hx hb d_x_ASB_newCapacity_28 ?_
  replace h := obi h; obtain ⟨x8, ex8, h⟩ := h
  refine hcallS (st' := st) (n := 3) X hq hle.rf (c_x_AS_newLength l 1 (Nat.le_refl _) G A ex8) q_282 q_283 q_13 q_284 ok_x_AS_newLength rfl (lvl (by omega) (by decide)) hl.1 rfl (Nat.le_of_ble_eq_true rfl) d_x_ASB_newCapacity_29 ⟨Nat.le_refl _, Nat.le_refl _⟩ (fun H locs hq => ?_)
  refine lv_istore (lv' := [(5, .int x8), (4, .int x6), (3, .int x5), (2, .int x3), (0, .ref this), (1, .int a1)]) hx hb d_x_ASB_newCapacity_32 hl (by decide) rfl (fun ls hl => ?_)
  refine lv_iload hx hb d_x_ASB_newCapacity_34 (lv_at hl 0 rfl) ?_
  refine lv_ldc (v := 2147483647) hx hb hown (hts _ q_290) d_x_ASB_newCapacity_36 ?_
  refine lv_icmp_ne (tgt := 51) hx hb d_x_ASB_newCapacity_38 (by decide) (fun c38 => ?_) (fun c38 => ?_)
  · replace h := ifn c38 h
    refine lv_iload hx hb d_x_ASB_newCapacity_51 (lv_at hl 0 rfl) ?_
    refine lv_aload_n hx hb d_x_ASB_newCapacity_53 rfl (lv_at hl 4 rfl) ?_
    replace h := obi h; obtain ⟨x9, ex9, h⟩ := h
    refine hg_i X hq 5 1 rfl (by decide) ex9 q_49 d_x_ASB_newCapacity_54 ?_
    refine lv_ishr hx hb d_x_ASB_newCapacity_57 ?_
    cases h
    exact hret_i X hq ⟨Nat.le_refl _, Nat.le_refl _⟩ d_x_ASB_newCapacity_58
  · replace h := ifp c38 h
    cases h
theorem c_x_Math_min (l : Launch) (K : Nat) (hK : 0 ≤ K) (G : HG) (A : Nat → Prop) {st : HS} {a0 : Int32} {a1 : Int32} {r : Int32} (h : x_Math_min st a0 a1 = some r) : Met l y_x_Math_min (Cond.code y_x_Math_min b_x_Math_min 2 (some .int) :: lw_g) (rmL K 0 0) (hPc G A [.int a0, .int a1] st) (hQc G A (some (.int r)) st) 0 0 A := by
  refine Met.ofH (by decide +kernel) (Nat.le_of_ble_eq_true rfl) ?_
  intro p e s m below meth c ls X hmn hq hl
  have hl : lv_has ls 2 [(0, .int a0), (1, .int a1)] := hl
  generalize ([.int a0, .int a1] : List Value).toArray = args at X ⊢
  obtain ⟨hx, hb, hr, hml, hown, hts, hlocks⟩ := id X
  generalize hHH : s.heap = H at hq ⊢
  generalize ([] : List Loc) = locs at hq ⊢
  clear hHH
  unfold x_Math_min at h
  refine lv_iload_n hx hb d_x_Math_min_0 rfl (lv_at hl 0 rfl) ?_
  refine lv_iload_n hx hb d_x_Math_min_1 rfl (lv_at hl 1 rfl) ?_
  refine lv_icmp_gt (tgt := 9) hx hb d_x_Math_min_2 (by decide) (fun c2 => ?_) (fun c2 => ?_)
  · replace h := ifp c2 h
    refine lv_iload_n hx hb d_x_Math_min_9 rfl (lv_at hl 1 rfl) ?_
    cases h
    exact hret_i X hq ⟨Nat.le_refl _, Nat.le_refl _⟩ d_x_Math_min_10
  · replace h := ifn c2 h
    refine lv_iload_n hx hb d_x_Math_min_5 rfl (lv_at hl 0 rfl) ?_
    refine lv_goto (tgt := 10) hx hb d_x_Math_min_6 (by decide) ?_
    cases h
    exact hret_i X hq ⟨Nat.le_refl _, Nat.le_refl _⟩ d_x_Math_min_10
theorem w_x_Arr_copyOf_J17 {r : Option Nat × HS} {st : HS} {l0 : Nat} {l1 : Int32} {w0 : Nat} {n0 s0 : Nat} {H : Heap} {locs : List Loc} {ce sl : Nat} {ls : Array Slot} (X : jx p s m args meth c b_x_Arr_copyOf 3 (some (.array .byte)) "java/util/Arrays") (hK : 1 ≤ K) (hq : hC G A s st H locs) (hn : hN ce sl n0 s0 st) (hl : lv_has ls 3 [(0, .ref l0), (1, .int l1)]) (h : x_Arr_copyOf_J17 st l0 l1 w0 = some r) : W p l e (rmL K (hNx r.2 - n0) (hNs r.2 - s0)) s m args below meth c H locs ce sl (MQ below (hQc G A (some (va_rf r.1)) r.2) args s (hNx r.2 - n0) (hNs r.2 - s0) A) (F0 m 17 ls [.ref w0]) := by
  obtain ⟨hx, hb, hr, hml, hown, hts, hlocks⟩ := id X
  have hmr : hle st r.2 := n_x_Arr_copyOf_J17 h
  unfold x_Arr_copyOf_J17 at h
  refine lv_astore_n (lv' := [(2, .ref w0), (0, .ref l0), (1, .int l1)]) hx hb d_x_Arr_copyOf_17 rfl hl (by decide) rfl (fun ls hl => ?_)
  refine lv_aload_n hx hb d_x_Arr_copyOf_18 rfl (lv_at hl 1 rfl) ?_
  refine lv_iconst (v := 0) hx hb d_x_Arr_copyOf_19 (by decide) ?_
  refine lv_aload_n hx hb d_x_Arr_copyOf_20 rfl (lv_at hl 0 rfl) ?_
  refine lv_iconst (v := 0) hx hb d_x_Arr_copyOf_21 (by decide) ?_
  refine lv_aload_n hx hb d_x_Arr_copyOf_22 rfl (lv_at hl 1 rfl) ?_
  replace h := obi h; obtain ⟨x1, ex1, h⟩ := h
  refine ha_len X hq ex1 d_x_Arr_copyOf_23 ?_
  refine lv_iload_n hx hb d_x_Arr_copyOf_24 rfl (lv_at hl 2 rfl) ?_
  replace h := obi h; obtain ⟨x2, ex2, h⟩ := h
  refine hcallS (st' := st) (n := 2) X hq hle.rf (c_x_Math_min l 0 (Nat.le_refl _) G A ex2) q_301 q_206 q_10 q_207 ok_x_Math_min rfl (lvl (by omega) (by decide)) hl.1 rfl (Nat.le_of_ble_eq_true rfl) d_x_Arr_copyOf_25 (hn.fit hmr) (fun H locs hq => ?_)
  replace h := obi h; obtain ⟨st3, est3, h⟩ := h
  refine h_cpy X hl.1 hq est3 q_302 q_304 q_303 q_15 (by omega) (Nat.le_of_ble_eq_true rfl) (by decide +kernel) d_x_Arr_copyOf_28 (fun H locs hq => ?_)
  have hn := hn.ke (hCpy_ke est3)
  have hmr := hmr.ke (hCpy_ke est3)
  refine lv_aload_n hx hb d_x_Arr_copyOf_31 rfl (lv_at hl 0 rfl) ?_
  cases h
  exact hret_a (v := some _) (Or.inr ⟨_, rfl⟩) X hq (hn.fit hle.rf) d_x_Arr_copyOf_32
theorem c_x_Arr_copyOf (l : Launch) (K : Nat) (hK : 1 ≤ K) (G : HG) (A : Nat → Prop) {st : HS} {a0 : Nat} {a1 : Int32} {r : Option Nat × HS} (h : x_Arr_copyOf st a0 a1 = some r) : Met l y_x_Arr_copyOf (Cond.code y_x_Arr_copyOf b_x_Arr_copyOf 3 (some (.array .byte)) :: lw_g) (rmL K (hNx r.2 - hNx st) (hNs r.2 - hNs st)) (hPc G A [.ref a0, .int a1] st) (hQc G A (some (va_rf r.1)) r.2) (hNx r.2 - hNx st) (hNs r.2 - hNs st) A := by
  refine Met.ofH (by decide +kernel) (Nat.le_of_ble_eq_true rfl) ?_
  intro p e s m below meth c ls X hmn hq hl
  have hl : lv_has ls 3 [(0, .ref a0), (1, .int a1)] := hl
  generalize ([.ref a0, .int a1] : List Value).toArray = args at X ⊢
  obtain ⟨hx, hb, hr, hml, hown, hts, hlocks⟩ := id X
  generalize hHH : s.heap = H at hq ⊢
  generalize ([] : List Loc) = locs at hq ⊢
  clear hHH
  have hmr : hle st r.2 := n_x_Arr_copyOf h
  have hn : hN 0 0 (hNx st) (hNs st) st := ⟨Nat.zero_add _, Nat.zero_add _⟩
  unfold x_Arr_copyOf at h
  refine lv_iload_n hx hb d_x_Arr_copyOf_0 rfl (lv_at hl 1 rfl) ?_
  refine lv_aload_n hx hb d_x_Arr_copyOf_1 rfl (lv_at hl 0 rfl) ?_
  replace h := obi h; obtain ⟨x1, ex1, h⟩ := h
  refine ha_len X hq ex1 d_x_Arr_copyOf_2 ?_
  refine lv_icmp_ne (tgt := 14) hx hb d_x_Arr_copyOf_3 (by decide) (fun c3 => ?_) (fun c3 => ?_)
  · replace h := ifn c3 h
    refine lv_iload_n hx hb d_x_Arr_copyOf_14 rfl (lv_at hl 1 rfl) ?_
    replace h := obi h; obtain ⟨ad2, ead2, h⟩ := h
    replace h := obi h; obtain ⟨st3, est3, h⟩ := h
    have hn2 := hn.newa est3
    have hmr := n_x_Arr_copyOf_J17 h
    refine h_newa X hq 1 (by decide) .byte rfl est3 q_62 (by decide) (hn2.fit hmr) d_x_Arr_copyOf_15 (fun H hq => ?_)
    have hn := hn2
    refine lv_nma (Option.some.inj ead2) ?_
    exact w_x_Arr_copyOf_J17 X hK hq hn (lv_sub hl [0, 1] rfl) h
  · replace h := ifp c3 h
    cases h
theorem w_x_ASB_ensureCapacityInternal_J35 {r : HS} {st : HS} {w0 : Option Nat} {w1 : Nat} {n0 s0 : Nat} {H : Heap} {locs : List Loc} {ce sl : Nat} {ls : Array Slot} (X : jx p s m args meth c b_x_ASB_ensureCapacityInternal 3 none "java/lang/AbstractStringBuilder") (hK : 3 ≤ K) (hq : hC G A s st H locs) (hn : hN ce sl n0 s0 st) (hl : lv_has ls 3 []) (h : x_ASB_ensureCapacityInternal_J35 st w0 w1 = some r) : W p l e (rmL K (hNx r - n0) (hNs r - s0)) s m args below meth c H locs ce sl (MQ below (hQc G A none r) args s (hNx r - n0) (hNs r - s0) A) (F0 m 35 ls [va_rf w0, .ref w1]) := by
  obtain ⟨hx, hb, hr, hml, hown, hts, hlocks⟩ := id X
  have hmr : hle st r := n_x_ASB_ensureCapacityInternal_J35 h
  unfold x_ASB_ensureCapacityInternal_J35 at h
  replace h := obi h; obtain ⟨st1, est1, h⟩ := h
  refine hp_v (ty := (.array .byte)) X hq 5 0 rfl (by decide) rfl (by decide +kernel) rf_narA rf_fitA est1 q_48 d_x_ASB_ensureCapacityInternal_35 (fun H locs hq => ?_)
  have hn := hn.ke (hP_ke est1)
  have hmr := hmr.ke (hP_ke est1)
  cases h
  exact hret_v X hq (hn.fit hle.rf) d_x_ASB_ensureCapacityInternal_38
theorem c_x_ASB_ensureCapacityInternal (l : Launch) (K : Nat) (hK : 3 ≤ K) (G : HG) (A : Nat → Prop) {st : HS} {this : Nat} {a1 : Int32} {r : HS} (h : x_ASB_ensureCapacityInternal st this a1 = some r) : Met l y_x_ASB_ensureCapacityInternal (Cond.code y_x_ASB_ensureCapacityInternal b_x_ASB_ensureCapacityInternal 3 none :: lw_g) (rmL K (hNx r - hNx st) (hNs r - hNs st)) (hPc G A [.ref this, .int a1] st) (hQc G A none r) (hNx r - hNx st) (hNs r - hNs st) A := by
  refine Met.ofH (by decide +kernel) (Nat.le_of_ble_eq_true rfl) ?_
  intro p e s m below meth c ls X hmn hq hl
  have hl : lv_has ls 3 [(0, .ref this), (1, .int a1)] := hl
  generalize ([.ref this, .int a1] : List Value).toArray = args at X ⊢
  obtain ⟨hx, hb, hr, hml, hown, hts, hlocks⟩ := id X
  generalize hHH : s.heap = H at hq ⊢
  generalize ([] : List Loc) = locs at hq ⊢
  clear hHH
  have hmr : hle st r := n_x_ASB_ensureCapacityInternal h
  have hn : hN 0 0 (hNx st) (hNs st) st := ⟨Nat.zero_add _, Nat.zero_add _⟩
  unfold x_ASB_ensureCapacityInternal at h
  refine lv_aload_n hx hb d_x_ASB_ensureCapacityInternal_0 rfl (lv_at hl 0 rfl) ?_
  replace h := obi h; obtain ⟨x1, ex1, h⟩ := h
  refine hg_r X hq 5 0 rfl (by decide) ex1 q_48 d_x_ASB_ensureCapacityInternal_1 ?_
  replace h := obi h; obtain ⟨ad2, rfl, h⟩ := h
  replace h := obi h; obtain ⟨x3, ex3, h⟩ := h
  refine ha_len X hq ex3 d_x_ASB_ensureCapacityInternal_4 ?_
  refine lv_aload_n hx hb d_x_ASB_ensureCapacityInternal_5 rfl (lv_at hl 0 rfl) ?_
  replace h := obi h; obtain ⟨x4, ex4, h⟩ := h
  refine hg_i X hq 5 1 rfl (by decide) ex4 q_49 d_x_ASB_ensureCapacityInternal_6 ?_
  refine lv_ishr hx hb d_x_ASB_ensureCapacityInternal_9 ?_
  replace h := obi h; obtain ⟨x5, ex5, h⟩ := h
  refine lv_nm (Option.some.inj ex5) ?_
  refine lv_istore_n (lv' := [(2, .int x5), (0, .ref this), (1, .int a1)]) hx hb d_x_ASB_ensureCapacityInternal_10 rfl hl (by decide) rfl (fun ls hl => ?_)
  refine lv_iload_n hx hb d_x_ASB_ensureCapacityInternal_11 rfl (lv_at hl 2 rfl) ?_
  refine lv_iload_n hx hb d_x_ASB_ensureCapacityInternal_12 rfl (lv_at hl 0 rfl) ?_
  refine lv_isub hx hb d_x_ASB_ensureCapacityInternal_13 ?_
  refine lv_if_le (tgt := 38) hx hb d_x_ASB_ensureCapacityInternal_14 (by decide) (fun c14 => ?_) (fun c14 => ?_)
  · replace h := ifp c14 h
    cases h
    exact hret_v X hq (hn.fit hle.rf) d_x_ASB_ensureCapacityInternal_38
  · replace h := ifn c14 h
    refine lv_aload_n hx hb d_x_ASB_ensureCapacityInternal_17 rfl (lv_at hl 1 rfl) ?_
    refine lv_aload_n hx hb d_x_ASB_ensureCapacityInternal_18 rfl (lv_at hl 1 rfl) ?_
    replace h := obi h; obtain ⟨x6, ex6, h⟩ := h
    refine hg_r X hq 5 0 rfl (by decide) ex6 q_48 d_x_ASB_ensureCapacityInternal_19 ?_
    refine lv_aload_n hx hb d_x_ASB_ensureCapacityInternal_22 rfl (lv_at hl 1 rfl) ?_
    refine lv_iload_n hx hb d_x_ASB_ensureCapacityInternal_23 rfl (lv_at hl 2 rfl) ?_
    replace h := obi h; obtain ⟨u7, eu7, h⟩ := h
    replace h := obi h; obtain ⟨x8, ex8, h⟩ := h
    refine hcallU (st' := st) (n := 1) X hq hle.rf (c_x_ASB_newCapacity l 2 (Nat.le_refl _) G A ex8) (C := 5) rfl eu7 q_278 q_973 q_280 in_x1 q_2 q_281 rfl ⟨by decide +kernel, by decide +kernel, by decide +kernel⟩ rfl (lvl (by omega) (by decide)) hl.1 rfl (by simp only [List.map_cons, List.map_nil, List.sum_cons, List.sum_nil, rf_cat]; simp [Value.category]) d_x_ASB_ensureCapacityInternal_24 (hn.fit hmr) (fun H locs hq => ?_)
    refine lv_aload_n hx hb d_x_ASB_ensureCapacityInternal_27 rfl (lv_at hl 1 rfl) ?_
    replace h := obi h; obtain ⟨x9, ex9, h⟩ := h
    refine hg_i X hq 5 1 rfl (by decide) ex9 q_49 d_x_ASB_ensureCapacityInternal_28 ?_
    refine lv_ishl hx hb d_x_ASB_ensureCapacityInternal_31 ?_
    replace h := obi h; obtain ⟨ad10, rfl, h⟩ := h
    replace h := obi h; obtain ⟨q11, eq11, h⟩ := h
    have hn2 := hn.call (n_x_Arr_copyOf eq11)
    have hmr := n_x_ASB_ensureCapacityInternal_J35 h
    refine hcallS (n := 2) X hq (n_x_Arr_copyOf eq11) (c_x_Arr_copyOf l 1 (Nat.le_refl _) G A eq11) q_291 q_292 q_14 q_293 ok_x_Arr_copyOf rfl (lvl (by omega) (by decide)) hl.1 rfl (Nat.le_of_ble_eq_true rfl) d_x_ASB_ensureCapacityInternal_32 (hn2.fit hmr) (fun H locs hq => ?_)
    have hn := hn2
    exact w_x_ASB_ensureCapacityInternal_J35 X hK hq hn (lv_sub hl [] rfl) h
theorem c_x_ASB_isLatin1 (l : Launch) (K : Nat) (hK : 0 ≤ K) (G : HG) (A : Nat → Prop) {st : HS} {this : Nat} {r : Int32} (h : x_ASB_isLatin1 st this = some r) : Met l y_x_ASB_isLatin1 (Cond.code y_x_ASB_isLatin1 b_x_ASB_isLatin1 1 (some .boolean) :: lw_g) (rmL K 0 0) (hPc G A [.ref this] st) (hQc G A (some (.int r)) st) 0 0 A := by
  refine Met.ofH (by decide +kernel) (Nat.le_of_ble_eq_true rfl) ?_
  intro p e s m below meth c ls X hmn hq hl
  have hl : lv_has ls 1 [(0, .ref this)] := hl
  generalize ([.ref this] : List Value).toArray = args at X ⊢
  obtain ⟨hx, hb, hr, hml, hown, hts, hlocks⟩ := id X
  generalize hHH : s.heap = H at hq ⊢
  generalize ([] : List Loc) = locs at hq ⊢
  clear hHH
  unfold x_ASB_isLatin1 at h
  refine hs_cs X hq q_39 d_x_ASB_isLatin1_0 ?_
  refine lv_if_eq (tgt := 17) hx hb d_x_ASB_isLatin1_3 (by decide) (fun c3 => ?_) (fun c3 => ?_)
  · replace h := ifp c3 h
    refine lv_iconst (v := 0) hx hb d_x_ASB_isLatin1_17 (by decide) ?_
    cases h
    exact hret_z (v := 0) (by decide) X hq ⟨Nat.le_refl _, Nat.le_refl _⟩ d_x_ASB_isLatin1_18
  · replace h := ifn c3 h
    refine lv_aload_n hx hb d_x_ASB_isLatin1_6 rfl (lv_at hl 0 rfl) ?_
    replace h := obi h; obtain ⟨x1, ex1, h⟩ := h
    refine hg_i X hq 5 1 rfl (by decide) ex1 q_49 d_x_ASB_isLatin1_7 ?_
    refine lv_if_ne (tgt := 17) hx hb d_x_ASB_isLatin1_10 (by decide) (fun c10 => ?_) (fun c10 => ?_)
    · replace h := ifn c10 h
      refine lv_iconst (v := 0) hx hb d_x_ASB_isLatin1_17 (by decide) ?_
      cases h
      exact hret_z (v := 0) (by decide) X hq ⟨Nat.le_refl _, Nat.le_refl _⟩ d_x_ASB_isLatin1_18
    · replace h := ifp c10 h
      refine lv_iconst (v := 1) hx hb d_x_ASB_isLatin1_13 (by decide) ?_
      refine lv_goto (tgt := 18) hx hb d_x_ASB_isLatin1_14 (by decide) ?_
      cases h
      exact hret_z (v := 1) (by decide) X hq ⟨Nat.le_refl _, Nat.le_refl _⟩ d_x_ASB_isLatin1_18
theorem c_x_L1_canEncode (l : Launch) (K : Nat) (hK : 0 ≤ K) (G : HG) (A : Nat → Prop) {st : HS} {a0 : Int32} {r : Int32} (h : x_L1_canEncode st a0 = some r) : Met l y_x_L1_canEncode (Cond.code y_x_L1_canEncode b_x_L1_canEncode 1 (some .boolean) :: lw_g) (rmL K 0 0) (hPc G A [.int a0] st) (hQc G A (some (.int r)) st) 0 0 A := by
  refine Met.ofH (by decide +kernel) (Nat.le_of_ble_eq_true rfl) ?_
  intro p e s m below meth c ls X hmn hq hl
  have hl : lv_has ls 1 [(0, .int a0)] := hl
  generalize ([.int a0] : List Value).toArray = args at X ⊢
  obtain ⟨hx, hb, hr, hml, hown, hts, hlocks⟩ := id X
  generalize hHH : s.heap = H at hq ⊢
  generalize ([] : List Loc) = locs at hq ⊢
  clear hHH
  unfold x_L1_canEncode at h
  refine lv_iload_n hx hb d_x_L1_canEncode_0 rfl (lv_at hl 0 rfl) ?_
  refine lv_sipush (v := 255) hx hb d_x_L1_canEncode_1 (by decide) ?_
  refine lv_icmp_gt (tgt := 11) hx hb d_x_L1_canEncode_4 (by decide) (fun c4 => ?_) (fun c4 => ?_)
  · replace h := ifp c4 h
    refine lv_iconst (v := 0) hx hb d_x_L1_canEncode_11 (by decide) ?_
    cases h
    exact hret_z (v := 0) (by decide) X hq ⟨Nat.le_refl _, Nat.le_refl _⟩ d_x_L1_canEncode_12
  · replace h := ifn c4 h
    refine lv_iconst (v := 1) hx hb d_x_L1_canEncode_7 (by decide) ?_
    refine lv_goto (tgt := 12) hx hb d_x_L1_canEncode_8 (by decide) ?_
    cases h
    exact hret_z (v := 1) (by decide) X hq ⟨Nat.le_refl _, Nat.le_refl _⟩ d_x_L1_canEncode_12
theorem w_x_ASB_append_J10 {r : Option Nat × HS} {st : HS} {l0 : Nat} {l1 : Int32} {n0 s0 : Nat} {H : Heap} {locs : List Loc} {ce sl : Nat} {ls : Array Slot} (X : jx p s m args meth c b_x_ASB_append 2 (some (.object "java/lang/AbstractStringBuilder")) "java/lang/AbstractStringBuilder") (hK : 4 ≤ K) (hq : hC G A s st H locs) (hn : hN ce sl n0 s0 st) (hl : lv_has ls 2 [(0, .ref l0), (1, .int l1)]) (h : x_ASB_append_J10 st l0 l1 = some r) : W p l e (rmL K (hNx r.2 - n0) (hNs r.2 - s0)) s m args below meth c H locs ce sl (MQ below (hQc G A (some (va_rf r.1)) r.2) args s (hNx r.2 - n0) (hNs r.2 - s0) A) (F0 m 10 ls []) := by
  obtain ⟨hx, hb, hr, hml, hown, hts, hlocks⟩ := id X
  have hmr : hle st r.2 := n_x_ASB_append_J10 h
  unfold x_ASB_append_J10 at h
  refine lv_aload_n hx hb d_x_ASB_append_10 rfl (lv_at hl 0 rfl) ?_
  replace h := obi h; obtain ⟨u1, eu1, h⟩ := h
  replace h := obi h; obtain ⟨x2, ex2, h⟩ := h
  refine hcallU (st' := st) (n := 0) X hq hle.rf (c_x_ASB_isLatin1 l 0 (Nat.le_refl _) G A ex2) (C := 5) rfl eu1 q_305 q_307 q_306 q_308 q_2 q_309 rfl ⟨by decide +kernel, by decide +kernel, by decide +kernel⟩ rfl (lvl (by omega) (by decide)) hl.1 rfl (Nat.le_of_ble_eq_true rfl) d_x_ASB_append_11 (hn.fit hmr) (fun H locs hq => ?_)
  refine lv_if_eq (tgt := 45) hx hb d_x_ASB_append_14 (by decide) (fun c14 => ?_) (fun c14 => ?_)
  · replace h := ifp c14 h
    cases h
  · replace h := ifn c14 h
    refine lv_iload_n hx hb d_x_ASB_append_17 rfl (lv_at hl 1 rfl) ?_
    replace h := obi h; obtain ⟨x3, ex3, h⟩ := h
    refine hcallS (st' := st) (n := 1) X hq hle.rf (c_x_L1_canEncode l 0 (Nat.le_refl _) G A ex3) q_310 q_311 q_9 q_312 ok_x_L1_canEncode rfl (lvl (by omega) (by decide)) hl.1 rfl (Nat.le_of_ble_eq_true rfl) d_x_ASB_append_18 (hn.fit hmr) (fun H locs hq => ?_)
    refine lv_if_eq (tgt := 45) hx hb d_x_ASB_append_21 (by decide) (fun c21 => ?_) (fun c21 => ?_)
    · replace h := ifp c21 h
      cases h
    · replace h := ifn c21 h
      refine lv_aload_n hx hb d_x_ASB_append_24 rfl (lv_at hl 0 rfl) ?_
      replace h := obi h; obtain ⟨x4, ex4, h⟩ := h
      refine hg_r X hq 5 0 rfl (by decide) ex4 q_48 d_x_ASB_append_25 ?_
      refine lv_aload_n hx hb d_x_ASB_append_28 rfl (lv_at hl 0 rfl) ?_
      refine lv_dup hx hb d_x_ASB_append_29 rfl ?_
      replace h := obi h; obtain ⟨x5, ex5, h⟩ := h
      refine hg_i X hq 5 3 rfl (by decide) ex5 q_52 d_x_ASB_append_30 ?_
      refine lv_dup_x1 hx hb d_x_ASB_append_33 rfl rfl ?_
      refine lv_iconst (v := 1) hx hb d_x_ASB_append_34 (by decide) ?_
      refine lv_iadd hx hb d_x_ASB_append_35 ?_
      replace h := obi h; obtain ⟨st6, est6, h⟩ := h
      refine hp_v (ty := .int) X hq 5 3 rfl (by decide) rfl (by decide +kernel) rfl rfl est6 q_52 d_x_ASB_append_36 (fun H locs hq => ?_)
      have hn := hn.ke (hP_ke est6)
      have hmr := hmr.ke (hP_ke est6)
      refine lv_iload_n hx hb d_x_ASB_append_39 rfl (lv_at hl 1 rfl) ?_
      refine lv_i2b (v := _) hx hb d_x_ASB_append_40 rfl ?_
      replace h := obi h; obtain ⟨ad7, rfl, h⟩ := h
      replace h := obi h; obtain ⟨st8, est8, h⟩ := h
      refine ha_bst X hq est8 d_x_ASB_append_41 (fun H locs hq => ?_)
      have hn := hn.ke (hWi_ke est8)
      have hmr := hmr.ke (hWi_ke est8)
      refine lv_goto (tgt := 75) hx hb d_x_ASB_append_42 (by decide) ?_
      refine lv_aload_n hx hb d_x_ASB_append_75 rfl (lv_at hl 0 rfl) ?_
      cases h
      exact hret_a (v := some _) (Or.inl ⟨_, rfl⟩) X hq (hn.fit hle.rf) d_x_ASB_append_76
theorem c_x_ASB_append (l : Launch) (K : Nat) (hK : 4 ≤ K) (G : HG) (A : Nat → Prop) {st : HS} {this : Nat} {a1 : Int32} {r : Option Nat × HS} (h : x_ASB_append st this a1 = some r) : Met l y_x_ASB_append (Cond.code y_x_ASB_append b_x_ASB_append 2 (some (.object "java/lang/AbstractStringBuilder")) :: lw_g) (rmL K (hNx r.2 - hNx st) (hNs r.2 - hNs st)) (hPc G A [.ref this, .int a1] st) (hQc G A (some (va_rf r.1)) r.2) (hNx r.2 - hNx st) (hNs r.2 - hNs st) A := by
  refine Met.ofH (by decide +kernel) (Nat.le_of_ble_eq_true rfl) ?_
  intro p e s m below meth c ls X hmn hq hl
  have hl : lv_has ls 2 [(0, .ref this), (1, .int a1)] := hl
  generalize ([.ref this, .int a1] : List Value).toArray = args at X ⊢
  obtain ⟨hx, hb, hr, hml, hown, hts, hlocks⟩ := id X
  generalize hHH : s.heap = H at hq ⊢
  generalize ([] : List Loc) = locs at hq ⊢
  clear hHH
  have hmr : hle st r.2 := n_x_ASB_append h
  have hn : hN 0 0 (hNx st) (hNs st) st := ⟨Nat.zero_add _, Nat.zero_add _⟩
  unfold x_ASB_append at h
  refine lv_aload_n hx hb d_x_ASB_append_0 rfl (lv_at hl 0 rfl) ?_
  refine lv_aload_n hx hb d_x_ASB_append_1 rfl (lv_at hl 0 rfl) ?_
  replace h := obi h; obtain ⟨x1, ex1, h⟩ := h
  refine hg_i X hq 5 3 rfl (by decide) ex1 q_52 d_x_ASB_append_2 ?_
  refine lv_iconst (v := 1) hx hb d_x_ASB_append_5 (by decide) ?_
  refine lv_iadd hx hb d_x_ASB_append_6 ?_
  replace h := obi h; obtain ⟨u2, eu2, h⟩ := h
  replace h := obi h; obtain ⟨st3, est3, h⟩ := h
  have hn2 := hn.call (n_x_ASB_ensureCapacityInternal est3)
  have hmr := n_x_ASB_append_J10 h
  refine hcallU (n := 1) X hq (n_x_ASB_ensureCapacityInternal est3) (c_x_ASB_ensureCapacityInternal l 3 (Nat.le_refl _) G A est3) (C := 5) rfl eu2 q_274 q_972 q_276 in_x0 q_2 q_277 rfl ⟨by decide +kernel, by decide +kernel, by decide +kernel⟩ rfl (lvl (by omega) (by decide)) hl.1 rfl (Nat.le_of_ble_eq_true rfl) d_x_ASB_append_7 (hn2.fit hmr) (fun H locs hq => ?_)
  have hn := hn2
  exact w_x_ASB_append_J10 X hK hq hn (lv_sub hl [0, 1] rfl) h
theorem c_x_ASB_getValue (l : Launch) (K : Nat) (hK : 0 ≤ K) (G : HG) (A : Nat → Prop) {st : HS} {this : Nat} {r : Option Nat} (h : x_ASB_getValue st this = some r) : Met l y_x_ASB_getValue (Cond.code y_x_ASB_getValue b_x_ASB_getValue 1 (some (.array .byte)) :: lw_g) (rmL K 0 0) (hPc G A [.ref this] st) (hQc G A (some (va_rf r)) st) 0 0 A := by
  refine Met.ofH (by decide +kernel) (Nat.le_of_ble_eq_true rfl) ?_
  intro p e s m below meth c ls X hmn hq hl
  have hl : lv_has ls 1 [(0, .ref this)] := hl
  generalize ([.ref this] : List Value).toArray = args at X ⊢
  obtain ⟨hx, hb, hr, hml, hown, hts, hlocks⟩ := id X
  generalize hHH : s.heap = H at hq ⊢
  generalize ([] : List Loc) = locs at hq ⊢
  clear hHH
  unfold x_ASB_getValue at h
  refine lv_aload_n hx hb d_x_ASB_getValue_0 rfl (lv_at hl 0 rfl) ?_
  replace h := obi h; obtain ⟨x1, ex1, h⟩ := h
  refine hg_r X hq 5 0 rfl (by decide) ex1 q_48 d_x_ASB_getValue_1 ?_
  cases h
  exact hret_a (v := _) (Or.inr ⟨_, rfl⟩) X hq ⟨Nat.le_refl _, Nat.le_refl _⟩ d_x_ASB_getValue_4
theorem c_x_ASB_length (l : Launch) (K : Nat) (hK : 0 ≤ K) (G : HG) (A : Nat → Prop) {st : HS} {this : Nat} {r : Int32} (h : x_ASB_length st this = some r) : Met l y_x_ASB_length (Cond.code y_x_ASB_length b_x_ASB_length 1 (some .int) :: lw_g) (rmL K 0 0) (hPc G A [.ref this] st) (hQc G A (some (.int r)) st) 0 0 A := by
  refine Met.ofH (by decide +kernel) (Nat.le_of_ble_eq_true rfl) ?_
  intro p e s m below meth c ls X hmn hq hl
  have hl : lv_has ls 1 [(0, .ref this)] := hl
  generalize ([.ref this] : List Value).toArray = args at X ⊢
  obtain ⟨hx, hb, hr, hml, hown, hts, hlocks⟩ := id X
  generalize hHH : s.heap = H at hq ⊢
  generalize ([] : List Loc) = locs at hq ⊢
  clear hHH
  unfold x_ASB_length at h
  refine lv_aload_n hx hb d_x_ASB_length_0 rfl (lv_at hl 0 rfl) ?_
  replace h := obi h; obtain ⟨x1, ex1, h⟩ := h
  refine hg_i X hq 5 3 rfl (by decide) ex1 q_52 d_x_ASB_length_1 ?_
  cases h
  exact hret_i X hq ⟨Nat.le_refl _, Nat.le_refl _⟩ d_x_ASB_length_4
theorem w_x_ASB_setLength_J76 {r : HS} {st : HS} {l0 : Nat} {l1 : Int32} {n0 s0 : Nat} {H : Heap} {locs : List Loc} {ce sl : Nat} {ls : Array Slot} (X : jx p s m args meth c b_x_ASB_setLength 2 none "java/lang/AbstractStringBuilder") (hK : 4 ≤ K) (hq : hC G A s st H locs) (hn : hN ce sl n0 s0 st) (hl : lv_has ls 2 [(0, .ref l0), (1, .int l1)]) (h : x_ASB_setLength_J76 st l0 l1 = some r) : W p l e (rmL K (hNx r - n0) (hNs r - s0)) s m args below meth c H locs ce sl (MQ below (hQc G A none r) args s (hNx r - n0) (hNs r - s0) A) (F0 m 76 ls []) := by
  obtain ⟨hx, hb, hr, hml, hown, hts, hlocks⟩ := id X
  have hmr : hle st r := n_x_ASB_setLength_J76 h
  unfold x_ASB_setLength_J76 at h
  refine lv_aload_n hx hb d_x_ASB_setLength_76 rfl (lv_at hl 0 rfl) ?_
  refine lv_iload_n hx hb d_x_ASB_setLength_77 rfl (lv_at hl 1 rfl) ?_
  replace h := obi h; obtain ⟨st1, est1, h⟩ := h
  refine hp_v (ty := .int) X hq 5 3 rfl (by decide) rfl (by decide +kernel) rfl rfl est1 q_52 d_x_ASB_setLength_78 (fun H locs hq => ?_)
  have hn := hn.ke (hP_ke est1)
  have hmr := hmr.ke (hP_ke est1)
  cases h
  exact hret_v X hq (hn.fit hle.rf) d_x_ASB_setLength_81
theorem w_x_ASB_setLength_J18 {r : HS} {st : HS} {l0 : Nat} {l1 : Int32} {n0 s0 : Nat} {H : Heap} {locs : List Loc} {ce sl : Nat} {ls : Array Slot} (X : jx p s m args meth c b_x_ASB_setLength 2 none "java/lang/AbstractStringBuilder") (hK : 4 ≤ K) (hq : hC G A s st H locs) (hn : hN ce sl n0 s0 st) (hl : lv_has ls 2 [(0, .ref l0), (1, .int l1)]) (h : x_ASB_setLength_J18 st l0 l1 = some r) : W p l e (rmL K (hNx r - n0) (hNs r - s0)) s m args below meth c H locs ce sl (MQ below (hQc G A none r) args s (hNx r - n0) (hNs r - s0) A) (F0 m 18 ls []) := by
  obtain ⟨hx, hb, hr, hml, hown, hts, hlocks⟩ := id X
  have hmr : hle st r := n_x_ASB_setLength_J18 h
  unfold x_ASB_setLength_J18 at h
  refine lv_aload_n hx hb d_x_ASB_setLength_18 rfl (lv_at hl 0 rfl) ?_
  replace h := obi h; obtain ⟨x1, ex1, h⟩ := h
  refine hg_i X hq 5 3 rfl (by decide) ex1 q_52 d_x_ASB_setLength_19 ?_
  refine lv_iload_n hx hb d_x_ASB_setLength_22 rfl (lv_at hl 1 rfl) ?_
  refine lv_icmp_ge (tgt := 63) hx hb d_x_ASB_setLength_23 (by decide) (fun c23 => ?_) (fun c23 => ?_)
  · replace h := ifp c23 h
    refine lv_aload_n hx hb d_x_ASB_setLength_63 rfl (lv_at hl 0 rfl) ?_
    replace h := obi h; obtain ⟨x2, ex2, h⟩ := h
    refine hg_i X hq 5 3 rfl (by decide) ex2 q_52 d_x_ASB_setLength_64 ?_
    refine lv_iload_n hx hb d_x_ASB_setLength_67 rfl (lv_at hl 1 rfl) ?_
    refine lv_icmp_le (tgt := 76) hx hb d_x_ASB_setLength_68 (by decide) (fun c68 => ?_) (fun c68 => ?_)
    · replace h := ifp c68 h
      exact w_x_ASB_setLength_J76 X hK hq hn (lv_sub hl [0, 1] rfl) h
    · replace h := ifn c68 h
      refine lv_aload_n hx hb d_x_ASB_setLength_71 rfl (lv_at hl 0 rfl) ?_
      refine lv_iconst (v := 1) hx hb d_x_ASB_setLength_72 (by decide) ?_
      replace h := obi h; obtain ⟨st3, est3, h⟩ := h
      refine hp_v (ty := .boolean) X hq 5 2 rfl (by decide) rfl (by decide +kernel) (by decide) (by decide) est3 q_50 d_x_ASB_setLength_73 (fun H locs hq => ?_)
      have hn := hn.ke (hP_ke est3)
      have hmr := hmr.ke (hP_ke est3)
      exact w_x_ASB_setLength_J76 X hK hq hn (lv_sub hl [0, 1] rfl) h
  · replace h := ifn c23 h
    cases h
theorem c_x_ASB_setLength (l : Launch) (K : Nat) (hK : 4 ≤ K) (G : HG) (A : Nat → Prop) {st : HS} {this : Nat} {a1 : Int32} {r : HS} (h : x_ASB_setLength st this a1 = some r) : Met l y_x_ASB_setLength (Cond.code y_x_ASB_setLength b_x_ASB_setLength 2 none :: lw_g) (rmL K (hNx r - hNx st) (hNs r - hNs st)) (hPc G A [.ref this, .int a1] st) (hQc G A none r) (hNx r - hNx st) (hNs r - hNs st) A := by
  refine Met.ofH (by decide +kernel) (Nat.le_of_ble_eq_true rfl) ?_
  intro p e s m below meth c ls X hmn hq hl
  have hl : lv_has ls 2 [(0, .ref this), (1, .int a1)] := hl
  generalize ([.ref this, .int a1] : List Value).toArray = args at X ⊢
  obtain ⟨hx, hb, hr, hml, hown, hts, hlocks⟩ := id X
  generalize hHH : s.heap = H at hq ⊢
  generalize ([] : List Loc) = locs at hq ⊢
  clear hHH
  have hmr : hle st r := n_x_ASB_setLength h
  have hn : hN 0 0 (hNx st) (hNs st) st := ⟨Nat.zero_add _, Nat.zero_add _⟩
  unfold x_ASB_setLength at h
  refine lv_iload_n hx hb d_x_ASB_setLength_0 rfl (lv_at hl 1 rfl) ?_
  refine lv_if_ge (tgt := 13) hx hb d_x_ASB_setLength_1 (by decide) (fun c1 => ?_) (fun c1 => ?_)
  · replace h := ifp c1 h
    refine lv_aload_n hx hb d_x_ASB_setLength_13 rfl (lv_at hl 0 rfl) ?_
    refine lv_iload_n hx hb d_x_ASB_setLength_14 rfl (lv_at hl 1 rfl) ?_
    replace h := obi h; obtain ⟨u1, eu1, h⟩ := h
    replace h := obi h; obtain ⟨st2, est2, h⟩ := h
    have hn2 := hn.call (n_x_ASB_ensureCapacityInternal est2)
    have hmr := n_x_ASB_setLength_J18 h
    refine hcallU (n := 1) X hq (n_x_ASB_ensureCapacityInternal est2) (c_x_ASB_ensureCapacityInternal l 3 (Nat.le_refl _) G A est2) (C := 5) rfl eu1 q_274 q_972 q_276 in_x0 q_2 q_277 rfl ⟨by decide +kernel, by decide +kernel, by decide +kernel⟩ rfl (lvl (by omega) (by decide)) hl.1 rfl (Nat.le_of_ble_eq_true rfl) d_x_ASB_setLength_15 (hn2.fit hmr) (fun H locs hq => ?_)
    have hn := hn2
    exact w_x_ASB_setLength_J18 X hK hq hn (lv_sub hl [0, 1] rfl) h
  · replace h := ifn c1 h
    cases h
theorem w_x_SB_init_J6 {r : HS} {st : HS} {n0 s0 : Nat} {H : Heap} {locs : List Loc} {ce sl : Nat} {ls : Array Slot} (X : jx p s m args meth c b_x_SB_init 1 none "java/lang/StringBuilder") (hK : 2 ≤ K) (hmn : meth.name = "<init>") (hq : hC G A s st H locs) (hn : hN ce sl n0 s0 st) (hl : lv_has ls 1 []) (h : x_SB_init_J6 st = some r) : W p l e (rmL K (hNx r - n0) (hNs r - s0)) s m args below meth c H locs ce sl (MQ below (hQc G A none r) args s (hNx r - n0) (hNs r - s0) A) (F0 m 6 ls []) := by
  obtain ⟨hx, hb, hr, hml, hown, hts, hlocks⟩ := id X
  have hmr : hle st r := n_x_SB_init_J6 h
  unfold x_SB_init_J6 at h
  cases h
  exact hret_v X hq (hn.fit hle.rf) d_x_SB_init_6
theorem c_x_SB_init (l : Launch) (K : Nat) (hK : 2 ≤ K) (G : HG) (A : Nat → Prop) {st : HS} {this : Nat} {r : HS} (h : x_SB_init st this = some r) : Met l y_x_SB_init (Cond.code y_x_SB_init b_x_SB_init 1 none :: lw_g) (rmL K (hNx r - hNx st) (hNs r - hNs st)) (hPc G A [.ref this] st) (hQc G A none r) (hNx r - hNx st) (hNs r - hNs st) A := by
  refine Met.ofH (by decide +kernel) (Nat.le_of_ble_eq_true rfl) ?_
  intro p e s m below meth c ls X hmn hq hl
  have hl : lv_has ls 1 [(0, .ref this)] := hl
  generalize ([.ref this] : List Value).toArray = args at X ⊢
  obtain ⟨hx, hb, hr, hml, hown, hts, hlocks⟩ := id X
  generalize hHH : s.heap = H at hq ⊢
  generalize ([] : List Loc) = locs at hq ⊢
  clear hHH
  have hmr : hle st r := n_x_SB_init h
  have hn : hN 0 0 (hNx st) (hNs st) st := ⟨Nat.zero_add _, Nat.zero_add _⟩
  unfold x_SB_init at h
  refine lv_aload_n hx hb d_x_SB_init_0 rfl (lv_at hl 0 rfl) ?_
  refine lv_bipush (v := 16) hx hb d_x_SB_init_1 (by decide) ?_
  replace h := obi h; obtain ⟨st1, est1, h⟩ := h
  have hn2 := hn.call (n_x_ASB_init est1)
  have hmr := n_x_SB_init_J6 h
  refine hcallI (n := 1) X hq (n_x_ASB_init est1) (c_x_ASB_init l 1 (Nat.le_refl _) G A est1) q_35 q_36 q_2 q_37 ok_x_ASB_init rfl rfl (lvl (by omega) (by decide)) hl.1 rfl (Nat.le_of_ble_eq_true rfl) d_x_SB_init_3 (hn2.fit hmr) (fun H locs hq => ?_)
  have hn := hn2
  exact w_x_SB_init_J6 X hK hmn hq hn (lv_sub hl [] rfl) h
theorem w_x_SB_append_J5 {r : Option Nat × HS} {st : HS} {l0 : Nat} {w0 : Option Nat} {n0 s0 : Nat} {H : Heap} {locs : List Loc} {ce sl : Nat} {ls : Array Slot} (X : jx p s m args meth c b_x_SB_append 2 (some (.object "java/lang/StringBuilder")) "java/lang/StringBuilder") (hK : 5 ≤ K) (hq : hC G A s st H locs) (hn : hN ce sl n0 s0 st) (hl : lv_has ls 2 [(0, .ref l0)]) (h : x_SB_append_J5 st l0 w0 = some r) : W p l e (rmL K (hNx r.2 - n0) (hNs r.2 - s0)) s m args below meth c H locs ce sl (MQ below (hQc G A (some (va_rf r.1)) r.2) args s (hNx r.2 - n0) (hNs r.2 - s0) A) (F0 m 5 ls [va_rf w0]) := by
  obtain ⟨hx, hb, hr, hml, hown, hts, hlocks⟩ := id X
  have hmr : hle st r.2 := n_x_SB_append_J5 h
  unfold x_SB_append_J5 at h
  refine lv_pop_q hx hb d_x_SB_append_5 ?_
  refine lv_aload_n hx hb d_x_SB_append_6 rfl (lv_at hl 0 rfl) ?_
  cases h
  exact hret_a (v := some _) (Or.inl ⟨_, rfl⟩) X hq (hn.fit hle.rf) d_x_SB_append_7
theorem c_x_SB_append (l : Launch) (K : Nat) (hK : 5 ≤ K) (G : HG) (A : Nat → Prop) {st : HS} {this : Nat} {a1 : Int32} {r : Option Nat × HS} (h : x_SB_append st this a1 = some r) : Met l y_x_SB_append (Cond.code y_x_SB_append b_x_SB_append 2 (some (.object "java/lang/StringBuilder")) :: lw_g) (rmL K (hNx r.2 - hNx st) (hNs r.2 - hNs st)) (hPc G A [.ref this, .int a1] st) (hQc G A (some (va_rf r.1)) r.2) (hNx r.2 - hNx st) (hNs r.2 - hNs st) A := by
  refine Met.ofH (by decide +kernel) (Nat.le_of_ble_eq_true rfl) ?_
  intro p e s m below meth c ls X hmn hq hl
  have hl : lv_has ls 2 [(0, .ref this), (1, .int a1)] := hl
  generalize ([.ref this, .int a1] : List Value).toArray = args at X ⊢
  obtain ⟨hx, hb, hr, hml, hown, hts, hlocks⟩ := id X
  generalize hHH : s.heap = H at hq ⊢
  generalize ([] : List Loc) = locs at hq ⊢
  clear hHH
  have hmr : hle st r.2 := n_x_SB_append h
  have hn : hN 0 0 (hNx st) (hNs st) st := ⟨Nat.zero_add _, Nat.zero_add _⟩
  unfold x_SB_append at h
  refine lv_aload_n hx hb d_x_SB_append_0 rfl (lv_at hl 0 rfl) ?_
  refine lv_iload_n hx hb d_x_SB_append_1 rfl (lv_at hl 1 rfl) ?_
  replace h := obi h; obtain ⟨u1, eu1, h⟩ := h
  replace h := obi h; obtain ⟨q2, eq2, h⟩ := h
  have hn2 := hn.call (n_x_ASB_append eq2)
  have hmr := n_x_SB_append_J5 h
  refine hcallSU (n := 1) X hq (n_x_ASB_append eq2) (c_x_ASB_append l 4 (Nat.le_refl _) G A eq2) (C := 5) rfl eu1 q_271 q_971 q_61 q_272 q_2 q_273 ⟨by decide +kernel, by decide +kernel⟩ rfl (lvl (by omega) (by decide)) hl.1 rfl (Nat.le_of_ble_eq_true rfl) d_x_SB_append_2 (hn2.fit hmr) (fun H locs hq => ?_)
  have hn := hn2
  exact w_x_SB_append_J5 X hK hq hn (lv_sub hl [0] rfl) h
theorem c_x_SB_length (l : Launch) (K : Nat) (hK : 1 ≤ K) (G : HG) (A : Nat → Prop) {st : HS} {this : Nat} {r : Int32} (h : x_SB_length st this = some r) : Met l y_x_SB_length (Cond.code y_x_SB_length b_x_SB_length 1 (some .int) :: lw_g) (rmL K 0 0) (hPc G A [.ref this] st) (hQc G A (some (.int r)) st) 0 0 A := by
  refine Met.ofH (by decide +kernel) (Nat.le_of_ble_eq_true rfl) ?_
  intro p e s m below meth c ls X hmn hq hl
  have hl : lv_has ls 1 [(0, .ref this)] := hl
  generalize ([.ref this] : List Value).toArray = args at X ⊢
  obtain ⟨hx, hb, hr, hml, hown, hts, hlocks⟩ := id X
  generalize hHH : s.heap = H at hq ⊢
  generalize ([] : List Loc) = locs at hq ⊢
  clear hHH
  unfold x_SB_length at h
  refine lv_aload_n hx hb d_x_SB_length_0 rfl (lv_at hl 0 rfl) ?_
  replace h := obi h; obtain ⟨u1, eu1, h⟩ := h
  replace h := obi h; obtain ⟨x2, ex2, h⟩ := h
  refine hcallSU (st' := st) (n := 0) X hq hle.rf (c_x_ASB_length l 0 (Nat.le_refl _) G A ex2) (C := 5) rfl eu1 q_264 q_970 q_61 q_265 q_2 q_266 ⟨by decide +kernel, by decide +kernel⟩ rfl (lvl (by omega) (by decide)) hl.1 rfl (Nat.le_of_ble_eq_true rfl) d_x_SB_length_1 ⟨Nat.le_refl _, Nat.le_refl _⟩ (fun H locs hq => ?_)
  cases h
  exact hret_i X hq ⟨Nat.le_refl _, Nat.le_refl _⟩ d_x_SB_length_4
theorem w_x_SB_setLength_J5 {r : HS} {st : HS} {n0 s0 : Nat} {H : Heap} {locs : List Loc} {ce sl : Nat} {ls : Array Slot} (X : jx p s m args meth c b_x_SB_setLength 2 none "java/lang/StringBuilder") (hK : 5 ≤ K) (hq : hC G A s st H locs) (hn : hN ce sl n0 s0 st) (hl : lv_has ls 2 []) (h : x_SB_setLength_J5 st = some r) : W p l e (rmL K (hNx r - n0) (hNs r - s0)) s m args below meth c H locs ce sl (MQ below (hQc G A none r) args s (hNx r - n0) (hNs r - s0) A) (F0 m 5 ls []) := by
  obtain ⟨hx, hb, hr, hml, hown, hts, hlocks⟩ := id X
  have hmr : hle st r := n_x_SB_setLength_J5 h
  unfold x_SB_setLength_J5 at h
  cases h
  exact hret_v X hq (hn.fit hle.rf) d_x_SB_setLength_5
theorem c_x_SB_setLength (l : Launch) (K : Nat) (hK : 5 ≤ K) (G : HG) (A : Nat → Prop) {st : HS} {this : Nat} {a1 : Int32} {r : HS} (h : x_SB_setLength st this a1 = some r) : Met l y_x_SB_setLength (Cond.code y_x_SB_setLength b_x_SB_setLength 2 none :: lw_g) (rmL K (hNx r - hNx st) (hNs r - hNs st)) (hPc G A [.ref this, .int a1] st) (hQc G A none r) (hNx r - hNx st) (hNs r - hNs st) A := by
  refine Met.ofH (by decide +kernel) (Nat.le_of_ble_eq_true rfl) ?_
  intro p e s m below meth c ls X hmn hq hl
  have hl : lv_has ls 2 [(0, .ref this), (1, .int a1)] := hl
  generalize ([.ref this, .int a1] : List Value).toArray = args at X ⊢
  obtain ⟨hx, hb, hr, hml, hown, hts, hlocks⟩ := id X
  generalize hHH : s.heap = H at hq ⊢
  generalize ([] : List Loc) = locs at hq ⊢
  clear hHH
  have hmr : hle st r := n_x_SB_setLength h
  have hn : hN 0 0 (hNx st) (hNs st) st := ⟨Nat.zero_add _, Nat.zero_add _⟩
  unfold x_SB_setLength at h
  refine lv_aload_n hx hb d_x_SB_setLength_0 rfl (lv_at hl 0 rfl) ?_
  refine lv_iload_n hx hb d_x_SB_setLength_1 rfl (lv_at hl 1 rfl) ?_
  replace h := obi h; obtain ⟨u1, eu1, h⟩ := h
  replace h := obi h; obtain ⟨st2, est2, h⟩ := h
  have hn2 := hn.call (n_x_ASB_setLength est2)
  have hmr := n_x_SB_setLength_J5 h
  refine hcallSU (n := 1) X hq (n_x_ASB_setLength est2) (c_x_ASB_setLength l 4 (Nat.le_refl _) G A est2) (C := 5) rfl eu1 q_409 q_976 q_61 q_410 q_2 q_411 ⟨by decide +kernel, by decide +kernel⟩ rfl (lvl (by omega) (by decide)) hl.1 rfl (Nat.le_of_ble_eq_true rfl) d_x_SB_setLength_2 (hn2.fit hmr) (fun H locs hq => ?_)
  have hn := hn2
  exact w_x_SB_setLength_J5 X hK hq hn (lv_sub hl [] rfl) h
theorem c_x_Arr_checkLength (l : Launch) (K : Nat) (hK : 0 ≤ K) (G : HG) (A : Nat → Prop) {st : HS} {a0 : Int32} {a1 : Int32} {r : Unit} (h : x_Arr_checkLength st a0 a1 = some r) : Met l y_x_Arr_checkLength (Cond.code y_x_Arr_checkLength b_x_Arr_checkLength 2 none :: lw_g) (rmL K 0 0) (hPc G A [.int a0, .int a1] st) (hQc G A none st) 0 0 A := by
  refine Met.ofH (by decide +kernel) (Nat.le_of_ble_eq_true rfl) ?_
  intro p e s m below meth c ls X hmn hq hl
  have hl : lv_has ls 2 [(0, .int a0), (1, .int a1)] := hl
  generalize ([.int a0, .int a1] : List Value).toArray = args at X ⊢
  obtain ⟨hx, hb, hr, hml, hown, hts, hlocks⟩ := id X
  generalize hHH : s.heap = H at hq ⊢
  generalize ([] : List Loc) = locs at hq ⊢
  clear hHH
  unfold x_Arr_checkLength at h
  refine lv_iload_n hx hb d_x_Arr_checkLength_0 rfl (lv_at hl 1 rfl) ?_
  refine lv_iload_n hx hb d_x_Arr_checkLength_1 rfl (lv_at hl 0 rfl) ?_
  refine lv_icmp_ge (tgt := 37) hx hb d_x_Arr_checkLength_2 (by decide) (fun c2 => ?_) (fun c2 => ?_)
  · replace h := ifp c2 h
    cases h
    exact hret_v X hq ⟨Nat.le_refl _, Nat.le_refl _⟩ d_x_Arr_checkLength_37
  · replace h := ifn c2 h
    cases h
theorem w_x_Arr_copyOfRangeByte_J12 {r : Option Nat × HS} {st : HS} {l0 : Nat} {l1 : Int32} {l3 : Int32} {w0 : Nat} {n0 s0 : Nat} {H : Heap} {locs : List Loc} {ce sl : Nat} {ls : Array Slot} (X : jx p s m args meth c b_x_Arr_copyOfRangeByte 5 (some (.array .byte)) "java/util/Arrays") (hK : 1 ≤ K) (hq : hC G A s st H locs) (hn : hN ce sl n0 s0 st) (hl : lv_has ls 5 [(0, .ref l0), (1, .int l1), (3, .int l3)]) (h : x_Arr_copyOfRangeByte_J12 st l0 l1 l3 w0 = some r) : W p l e (rmL K (hNx r.2 - n0) (hNs r.2 - s0)) s m args below meth c H locs ce sl (MQ below (hQc G A (some (va_rf r.1)) r.2) args s (hNx r.2 - n0) (hNs r.2 - s0) A) (F0 m 12 ls [.ref w0]) := by
  obtain ⟨hx, hb, hr, hml, hown, hts, hlocks⟩ := id X
  have hmr : hle st r.2 := n_x_Arr_copyOfRangeByte_J12 h
  unfold x_Arr_copyOfRangeByte_J12 at h
  refine lv_astore (lv' := [(4, .ref w0), (0, .ref l0), (1, .int l1), (3, .int l3)]) hx hb d_x_Arr_copyOfRangeByte_12 hl (by decide) rfl (fun ls hl => ?_)
  refine lv_aload_n hx hb d_x_Arr_copyOfRangeByte_14 rfl (lv_at hl 1 rfl) ?_
  refine lv_iload_n hx hb d_x_Arr_copyOfRangeByte_15 rfl (lv_at hl 2 rfl) ?_
  refine lv_aload hx hb d_x_Arr_copyOfRangeByte_16 (lv_at hl 0 rfl) ?_
  refine lv_iconst (v := 0) hx hb d_x_Arr_copyOfRangeByte_18 (by decide) ?_
  refine lv_aload_n hx hb d_x_Arr_copyOfRangeByte_19 rfl (lv_at hl 1 rfl) ?_
  replace h := obi h; obtain ⟨x1, ex1, h⟩ := h
  refine ha_len X hq ex1 d_x_Arr_copyOfRangeByte_20 ?_
  refine lv_iload_n hx hb d_x_Arr_copyOfRangeByte_21 rfl (lv_at hl 2 rfl) ?_
  refine lv_isub hx hb d_x_Arr_copyOfRangeByte_22 ?_
  refine lv_iload_n hx hb d_x_Arr_copyOfRangeByte_23 rfl (lv_at hl 3 rfl) ?_
  replace h := obi h; obtain ⟨x2, ex2, h⟩ := h
  refine hcallS (st' := st) (n := 2) X hq hle.rf (c_x_Math_min l 0 (Nat.le_refl _) G A ex2) q_301 q_206 q_10 q_207 ok_x_Math_min rfl (lvl (by omega) (by decide)) hl.1 rfl (Nat.le_of_ble_eq_true rfl) d_x_Arr_copyOfRangeByte_24 (hn.fit hmr) (fun H locs hq => ?_)
  replace h := obi h; obtain ⟨st3, est3, h⟩ := h
  refine h_cpy X hl.1 hq est3 q_302 q_304 q_303 q_15 (by omega) (Nat.le_of_ble_eq_true rfl) (by decide +kernel) d_x_Arr_copyOfRangeByte_27 (fun H locs hq => ?_)
  have hn := hn.ke (hCpy_ke est3)
  have hmr := hmr.ke (hCpy_ke est3)
  refine lv_aload hx hb d_x_Arr_copyOfRangeByte_30 (lv_at hl 0 rfl) ?_
  cases h
  exact hret_a (v := some _) (Or.inr ⟨_, rfl⟩) X hq (hn.fit hle.rf) d_x_Arr_copyOfRangeByte_32
theorem c_x_Arr_copyOfRangeByte (l : Launch) (K : Nat) (hK : 1 ≤ K) (G : HG) (A : Nat → Prop) {st : HS} {a0 : Nat} {a1 : Int32} {a2 : Int32} {r : Option Nat × HS} (h : x_Arr_copyOfRangeByte st a0 a1 a2 = some r) : Met l y_x_Arr_copyOfRangeByte (Cond.code y_x_Arr_copyOfRangeByte b_x_Arr_copyOfRangeByte 5 (some (.array .byte)) :: lw_g) (rmL K (hNx r.2 - hNx st) (hNs r.2 - hNs st)) (hPc G A [.ref a0, .int a1, .int a2] st) (hQc G A (some (va_rf r.1)) r.2) (hNx r.2 - hNx st) (hNs r.2 - hNs st) A := by
  refine Met.ofH (by decide +kernel) (Nat.le_of_ble_eq_true rfl) ?_
  intro p e s m below meth c ls X hmn hq hl
  have hl : lv_has ls 5 [(0, .ref a0), (1, .int a1), (2, .int a2)] := hl
  generalize ([.ref a0, .int a1, .int a2] : List Value).toArray = args at X ⊢
  obtain ⟨hx, hb, hr, hml, hown, hts, hlocks⟩ := id X
  generalize hHH : s.heap = H at hq ⊢
  generalize ([] : List Loc) = locs at hq ⊢
  clear hHH
  have hmr : hle st r.2 := n_x_Arr_copyOfRangeByte h
  have hn : hN 0 0 (hNx st) (hNs st) st := ⟨Nat.zero_add _, Nat.zero_add _⟩
  unfold x_Arr_copyOfRangeByte at h
  refine lv_iload_n hx hb d_x_Arr_copyOfRangeByte_0 rfl (lv_at hl 1 rfl) ?_
  refine lv_iload_n hx hb d_x_Arr_copyOfRangeByte_1 rfl (lv_at hl 2 rfl) ?_
  replace h := obi h; obtain ⟨x1, ex1, h⟩ := h
  refine hcallS (st' := st) (n := 2) X hq hle.rf (c_x_Arr_checkLength l 0 (Nat.le_refl _) G A ex1) q_381 q_382 q_14 q_383 ok_x_Arr_checkLength rfl (lvl (by omega) (by decide)) hl.1 rfl (Nat.le_of_ble_eq_true rfl) d_x_Arr_copyOfRangeByte_2 (hn.fit hmr) (fun H locs hq => ?_)
  refine lv_iload_n hx hb d_x_Arr_copyOfRangeByte_5 rfl (lv_at hl 2 rfl) ?_
  refine lv_iload_n hx hb d_x_Arr_copyOfRangeByte_6 rfl (lv_at hl 1 rfl) ?_
  refine lv_isub hx hb d_x_Arr_copyOfRangeByte_7 ?_
  replace h := obi h; obtain ⟨x2, ex2, h⟩ := h
  refine lv_nm (Option.some.inj ex2) ?_
  refine lv_istore_n (lv' := [(3, .int x2), (0, .ref a0), (1, .int a1), (2, .int a2)]) hx hb d_x_Arr_copyOfRangeByte_8 rfl hl (by decide) rfl (fun ls hl => ?_)
  refine lv_iload_n hx hb d_x_Arr_copyOfRangeByte_9 rfl (lv_at hl 0 rfl) ?_
  replace h := obi h; obtain ⟨ad3, ead3, h⟩ := h
  replace h := obi h; obtain ⟨st4, est4, h⟩ := h
  have hn2 := hn.newa est4
  have hmr := n_x_Arr_copyOfRangeByte_J12 h
  refine h_newa X hq 1 (by decide) .byte rfl est4 q_62 (by decide) (hn2.fit hmr) d_x_Arr_copyOfRangeByte_10 (fun H hq => ?_)
  have hn := hn2
  refine lv_nma (Option.some.inj ead3) ?_
  exact w_x_Arr_copyOfRangeByte_J12 X hK hq hn (lv_sub hl [1, 2, 0] rfl) h
theorem w_x_Arr_copyOfRange_J21 {r : Option Nat × HS} {st : HS} {w0 : Nat} {n0 s0 : Nat} {H : Heap} {locs : List Loc} {ce sl : Nat} {ls : Array Slot} (X : jx p s m args meth c b_x_Arr_copyOfRange 3 (some (.array .byte)) "java/util/Arrays") (hK : 2 ≤ K) (hq : hC G A s st H locs) (hn : hN ce sl n0 s0 st) (hl : lv_has ls 3 []) (h : x_Arr_copyOfRange_J21 st w0 = some r) : W p l e (rmL K (hNx r.2 - n0) (hNs r.2 - s0)) s m args below meth c H locs ce sl (MQ below (hQc G A (some (va_rf r.1)) r.2) args s (hNx r.2 - n0) (hNs r.2 - s0) A) (F0 m 21 ls [.ref w0]) := by
  obtain ⟨hx, hb, hr, hml, hown, hts, hlocks⟩ := id X
  have hmr : hle st r.2 := n_x_Arr_copyOfRange_J21 h
  unfold x_Arr_copyOfRange_J21 at h
  replace h := obi h; obtain ⟨x1, ex1, h⟩ := h
  replace h := obi h; obtain ⟨u2, eu2, h⟩ := h
  obtain ⟨nb, fb, eb⟩ := hB_spec eu2
  refine h_castB (x := 0) X hq eb q_300 d_x_Arr_copyOfRange_21 ?_
  cases h
  exact hret_a (v := some _) (Or.inr ⟨_, rfl⟩) X hq (hn.fit hle.rf) d_x_Arr_copyOfRange_24
theorem w_x_Arr_copyOfRange_J16 {r : Option Nat × HS} {st : HS} {w0 : Option Nat} {n0 s0 : Nat} {H : Heap} {locs : List Loc} {ce sl : Nat} {ls : Array Slot} (X : jx p s m args meth c b_x_Arr_copyOfRange 3 (some (.array .byte)) "java/util/Arrays") (hK : 2 ≤ K) (hq : hC G A s st H locs) (hn : hN ce sl n0 s0 st) (hl : lv_has ls 3 []) (h : x_Arr_copyOfRange_J16 st w0 = some r) : W p l e (rmL K (hNx r.2 - n0) (hNs r.2 - s0)) s m args below meth c H locs ce sl (MQ below (hQc G A (some (va_rf r.1)) r.2) args s (hNx r.2 - n0) (hNs r.2 - s0) A) (F0 m 16 ls [va_rf w0]) := by
  obtain ⟨hx, hb, hr, hml, hown, hts, hlocks⟩ := id X
  have hmr : hle st r.2 := n_x_Arr_copyOfRange_J16 h
  unfold x_Arr_copyOfRange_J16 at h
  cases h
  exact hret_a (v := _) (Or.inr ⟨_, rfl⟩) X hq (hn.fit hle.rf) d_x_Arr_copyOfRange_16
theorem w_x_Arr_copyOfRange_J10 {r : Option Nat × HS} {st : HS} {l0 : Nat} {l1 : Int32} {l2 : Int32} {n0 s0 : Nat} {H : Heap} {locs : List Loc} {ce sl : Nat} {ls : Array Slot} (X : jx p s m args meth c b_x_Arr_copyOfRange 3 (some (.array .byte)) "java/util/Arrays") (hK : 2 ≤ K) (hq : hC G A s st H locs) (hn : hN ce sl n0 s0 st) (hl : lv_has ls 3 [(0, .ref l0), (1, .int l1), (2, .int l2)]) (h : x_Arr_copyOfRange_J10 st l0 l1 l2 = some r) : W p l e (rmL K (hNx r.2 - n0) (hNs r.2 - s0)) s m args below meth c H locs ce sl (MQ below (hQc G A (some (va_rf r.1)) r.2) args s (hNx r.2 - n0) (hNs r.2 - s0) A) (F0 m 10 ls []) := by
  obtain ⟨hx, hb, hr, hml, hown, hts, hlocks⟩ := id X
  have hmr : hle st r.2 := n_x_Arr_copyOfRange_J10 h
  unfold x_Arr_copyOfRange_J10 at h
  refine lv_aload_n hx hb d_x_Arr_copyOfRange_10 rfl (lv_at hl 0 rfl) ?_
  refine lv_iload_n hx hb d_x_Arr_copyOfRange_11 rfl (lv_at hl 1 rfl) ?_
  refine lv_iload_n hx hb d_x_Arr_copyOfRange_12 rfl (lv_at hl 2 rfl) ?_
  replace h := obi h; obtain ⟨q1, eq1, h⟩ := h
  have hn2 := hn.call (n_x_Arr_copyOfRangeByte eq1)
  have hmr := n_x_Arr_copyOfRange_J16 h
  refine hcallS (n := 3) X hq (n_x_Arr_copyOfRangeByte eq1) (c_x_Arr_copyOfRangeByte l 1 (Nat.le_refl _) G A eq1) q_378 q_379 q_14 q_380 ok_x_Arr_copyOfRangeByte rfl (lvl (by omega) (by decide)) hl.1 rfl (Nat.le_of_ble_eq_true rfl) d_x_Arr_copyOfRange_13 (hn2.fit hmr) (fun H locs hq => ?_)
  have hn := hn2
  exact w_x_Arr_copyOfRange_J16 X hK hq hn (lv_sub hl [] rfl) h
theorem c_x_Arr_copyOfRange (l : Launch) (K : Nat) (hK : 2 ≤ K) (G : HG) (A : Nat → Prop) {st : HS} {a0 : Nat} {a1 : Int32} {a2 : Int32} {r : Option Nat × HS} (h : x_Arr_copyOfRange st a0 a1 a2 = some r) : Met l y_x_Arr_copyOfRange (Cond.code y_x_Arr_copyOfRange b_x_Arr_copyOfRange 3 (some (.array .byte)) :: lw_g) (rmL K (hNx r.2 - hNx st) (hNs r.2 - hNs st)) (hPc G A [.ref a0, .int a1, .int a2] st) (hQc G A (some (va_rf r.1)) r.2) (hNx r.2 - hNx st) (hNs r.2 - hNs st) A := by
  refine Met.ofH (by decide +kernel) (Nat.le_of_ble_eq_true rfl) ?_
  intro p e s m below meth c ls X hmn hq hl
  have hl : lv_has ls 3 [(0, .ref a0), (1, .int a1), (2, .int a2)] := hl
  generalize ([.ref a0, .int a1, .int a2] : List Value).toArray = args at X ⊢
  obtain ⟨hx, hb, hr, hml, hown, hts, hlocks⟩ := id X
  generalize hHH : s.heap = H at hq ⊢
  generalize ([] : List Loc) = locs at hq ⊢
  clear hHH
  have hmr : hle st r.2 := n_x_Arr_copyOfRange h
  have hn : hN 0 0 (hNx st) (hNs st) st := ⟨Nat.zero_add _, Nat.zero_add _⟩
  unfold x_Arr_copyOfRange at h
  refine lv_iload_n hx hb d_x_Arr_copyOfRange_0 rfl (lv_at hl 1 rfl) ?_
  refine lv_if_ne (tgt := 10) hx hb d_x_Arr_copyOfRange_1 (by decide) (fun c1 => ?_) (fun c1 => ?_)
  · replace h := ifn c1 h
    exact w_x_Arr_copyOfRange_J10 X hK hq hn (lv_sub hl [0, 1, 2] rfl) h
  · replace h := ifp c1 h
    refine lv_iload_n hx hb d_x_Arr_copyOfRange_4 rfl (lv_at hl 2 rfl) ?_
    refine lv_aload_n hx hb d_x_Arr_copyOfRange_5 rfl (lv_at hl 0 rfl) ?_
    replace h := obi h; obtain ⟨x1, ex1, h⟩ := h
    refine ha_len X hq ex1 d_x_Arr_copyOfRange_6 ?_
    refine lv_icmp_eq (tgt := 17) hx hb d_x_Arr_copyOfRange_7 (by decide) (fun c7 => ?_) (fun c7 => ?_)
    · replace h := ifp c7 h
      refine lv_aload_n hx hb d_x_Arr_copyOfRange_17 rfl (lv_at hl 0 rfl) ?_
      replace h := obi h; obtain ⟨ad3, ead3, h⟩ := h
      replace h := obi h; obtain ⟨st2, est2, h⟩ := h
      have hn2 := hn.call (hCln_le est2)
      have hmr := n_x_Arr_copyOfRange_J21 h
      refine h_cln X hl.1 hq est2 q_294 q_295 q_296 q_297 q_298 qn_299 (by omega) (Nat.le_of_ble_eq_true rfl) (hn2.fit hmr) d_x_Arr_copyOfRange_18 (fun H hq => ?_)
      have hn := hn2
      refine lv_nma (Option.some.inj ead3) ?_
      exact w_x_Arr_copyOfRange_J21 X hK hq hn (lv_sub hl [] rfl) h
    · replace h := ifn c7 h
      exact w_x_Arr_copyOfRange_J10 X hK hq hn (lv_sub hl [0, 1, 2] rfl) h
end
