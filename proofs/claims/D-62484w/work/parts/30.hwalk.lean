section
variable {p : Program} {l : Launch} {e : Env} {s : State} {m : MethodId} {args : Array Value} {below : List Frame} {meth : Method} {c : Code} {G : HG} {A : Nat → Prop} {K Kg : Nat}
theorem w_x_Rdr_product_L5 {r : HS} {g_unitIn : HS → Nat → Int32 → Option HS} (X : jx p s m args meth c b_x_Rdr_product 2 none "NoteSheet$Reader") (hK : 6 ≤ K) (nm_unitIn : ∀ {st : HS} {this : Nat} {a1 : Int32} {r : HS}, g_unitIn st this a1 = some r → hke st r) (M_unitIn : ∀ {st : HS} {this : Nat} {a1 : Int32} {r : HS}, g_unitIn st this a1 = some r → Met l y_x_Rdr_unitIn (Cond.code y_x_Rdr_unitIn b_x_Rdr_unitIn 2 none :: lw_g) (rmL Kg 0 0) (hPc G A [.ref this, .int a1] st) (hQc G A none r) 0 0 A) (hKg : Kg + 1 ≤ K) : ∀ (n : Nat), ∀ (st : HS) (l0 : Nat) (l1 : Int32) (H : Heap) (locs : List Loc) (ls : Array Slot), x_Rdr_product_L5 g_unitIn n st l0 l1 = some r → hC G A s st H locs → lv_has ls 2 [(0, .ref l0), (1, .int l1)] → W p l e (rmL K 0 0) s m args below meth c H locs 0 0 (MQ below (hQc G A none r) args s 0 0 A) (F0 m 5 ls []) := by
  obtain ⟨hx, hb, hr, hml, hown, hts, hlocks⟩ := id X
  intro n
  induction n with
  | zero => intro st l0 l1 H locs ls h hq hl; exact absurd h (by simp [x_Rdr_product_L5])
  | succ n ih =>
    intro st l0 l1 H locs ls h hq hl
    rw [x_Rdr_product_L5] at h
    refine lv_aload_n hx hb d_x_Rdr_product_5 rfl (lv_at hl 0 rfl) ?_
    refine lv_bipush (v := 42) hx hb d_x_Rdr_product_6 (by decide) ?_
    replace h := obi h; obtain ⟨u1, eu1, h⟩ := h
    replace h := obi h; obtain ⟨q2, eq2, h⟩ := h
    refine hcallV (n := 1) X hq (n_x_Rdr_takes eq2).le (c_x_Rdr_takes l 5 (Nat.le_refl _) G A eq2) (C := 4) rfl eu1 q_477 q_479 q_p9 q_6 q_480 ok_x_Rdr_takes rfl (lvl (by omega) (by decide)) hl.1 rfl (Nat.le_of_ble_eq_true rfl) d_x_Rdr_product_8 ⟨Nat.le_refl _, Nat.le_refl _⟩ (fun H locs hq => ?_)
    refine lv_if_eq (tgt := 31) hx hb d_x_Rdr_product_11 (by decide) (fun c11 => ?_) (fun c11 => ?_)
    · replace h := ifp c11 h
      cases h
      exact hret_v X hq ⟨Nat.le_refl _, Nat.le_refl _⟩ d_x_Rdr_product_31
    · replace h := ifn c11 h
      refine lv_aload_n hx hb d_x_Rdr_product_14 rfl (lv_at hl 0 rfl) ?_
      refine lv_iload_n hx hb d_x_Rdr_product_15 rfl (lv_at hl 1 rfl) ?_
      replace h := obi h; obtain ⟨u3, eu3, h⟩ := h
      replace h := obi h; obtain ⟨st4, est4, h⟩ := h
      refine hcallV (n := 1) X hq (nm_unitIn est4).le (M_unitIn est4) (C := 4) rfl eu3 q_445 q_447 q_p5 q_6 q_448 ok_x_Rdr_unitIn rfl (lvl (by omega) (by decide)) hl.1 rfl (Nat.le_of_ble_eq_true rfl) d_x_Rdr_product_16 ⟨Nat.le_refl _, Nat.le_refl _⟩ (fun H locs hq => ?_)
      refine lv_aload_n hx hb d_x_Rdr_product_19 rfl (lv_at hl 0 rfl) ?_
      refine hs_op X hq 5 (by decide) rfl q_493 d_x_Rdr_product_20 ?_
      refine lv_iconst (v := 0) hx hb d_x_Rdr_product_23 (by decide) ?_
      replace h := obi h; obtain ⟨u5, eu5, h⟩ := h
      replace h := obi h; obtain ⟨q6, eq6, h⟩ := h
      refine hcallV (n := 2) X hq (n_x_Rdr_put eq6).le (c_x_Rdr_put l 0 (Nat.le_refl _) G A eq6) (C := 4) rfl eu5 q_471 q_473 q_p8 q_6 q_474 ok_x_Rdr_put rfl (lvl (by omega) (by decide)) hl.1 rfl (Nat.le_of_ble_eq_true rfl) d_x_Rdr_product_24 ⟨Nat.le_refl _, Nat.le_refl _⟩ (fun H locs hq => ?_)
      refine lv_pop hx hb d_x_Rdr_product_27 rfl ?_
      refine lv_goto (tgt := 5) hx hb d_x_Rdr_product_28 (by decide) ?_
      exact ih _ _ _ _ _ _ h hq (lv_sub hl [0, 1] rfl)
theorem c_x_Rdr_product (l : Launch) (K : Nat) (hK : 6 ≤ K) (G : HG) (A : Nat → Prop) {g_unitIn : HS → Nat → Int32 → Option HS} {Kg : Nat} (nm_unitIn : ∀ {st : HS} {this : Nat} {a1 : Int32} {r : HS}, g_unitIn st this a1 = some r → hke st r) (M_unitIn : ∀ {st : HS} {this : Nat} {a1 : Int32} {r : HS}, g_unitIn st this a1 = some r → Met l y_x_Rdr_unitIn (Cond.code y_x_Rdr_unitIn b_x_Rdr_unitIn 2 none :: lw_g) (rmL Kg 0 0) (hPc G A [.ref this, .int a1] st) (hQc G A none r) 0 0 A) (hKg : Kg + 1 ≤ K) {st : HS} {this : Nat} {a1 : Int32} {r : HS} (h : x_Rdr_product g_unitIn st this a1 = some r) : Met l y_x_Rdr_product (Cond.code y_x_Rdr_product b_x_Rdr_product 2 none :: lw_g) (rmL K 0 0) (hPc G A [.ref this, .int a1] st) (hQc G A none r) 0 0 A := by
  refine Met.ofH (by decide +kernel) (Nat.le_of_ble_eq_true rfl) ?_
  intro p e s m below meth c ls X hmn hq hl
  have hl : lv_has ls 2 [(0, .ref this), (1, .int a1)] := hl
  generalize ([.ref this, .int a1] : List Value).toArray = args at X ⊢
  obtain ⟨hx, hb, hr, hml, hown, hts, hlocks⟩ := id X
  generalize hHH : s.heap = H at hq ⊢
  generalize ([] : List Loc) = locs at hq ⊢
  clear hHH
  unfold x_Rdr_product at h
  refine lv_aload_n hx hb d_x_Rdr_product_0 rfl (lv_at hl 0 rfl) ?_
  refine lv_iload_n hx hb d_x_Rdr_product_1 rfl (lv_at hl 1 rfl) ?_
  replace h := obi h; obtain ⟨u1, eu1, h⟩ := h
  replace h := obi h; obtain ⟨st2, est2, h⟩ := h
  refine hcallV (n := 1) X hq (nm_unitIn est2).le (M_unitIn est2) (C := 4) rfl eu1 q_445 q_447 q_p5 q_6 q_448 ok_x_Rdr_unitIn rfl (lvl (by omega) (by decide)) hl.1 rfl (Nat.le_of_ble_eq_true rfl) d_x_Rdr_product_2 ⟨Nat.le_refl _, Nat.le_refl _⟩ (fun H locs hq => ?_)
  exact w_x_Rdr_product_L5 X hK nm_unitIn M_unitIn hKg 1000 _ _ _ _ _ _ h hq (lv_sub hl [0, 1] rfl)
theorem c_x_Rdr_unitIn (l : Launch) (K : Nat) (hK : 0 ≤ K) (G : HG) (A : Nat → Prop) {g_unit : HS → Nat → Int32 → Option HS} {Kg : Nat} (nm_unit : ∀ {st : HS} {this : Nat} {a1 : Int32} {r : HS}, g_unit st this a1 = some r → hke st r) (M_unit : ∀ {st : HS} {this : Nat} {a1 : Int32} {r : HS}, g_unit st this a1 = some r → Met l y_x_Rdr_unit (Cond.code y_x_Rdr_unit b_x_Rdr_unit 5 none :: lw_g) (rmL Kg 0 0) (hPc G A [.ref this, .int a1] st) (hQc G A none r) 0 0 A) (hKg : Kg + 1 ≤ K) {st : HS} {this : Nat} {a1 : Int32} {r : HS} (h : x_Rdr_unitIn g_unit st this a1 = some r) : Met l y_x_Rdr_unitIn (Cond.code y_x_Rdr_unitIn b_x_Rdr_unitIn 2 none :: lw_g) (rmL K 0 0) (hPc G A [.ref this, .int a1] st) (hQc G A none r) 0 0 A := by
  refine Met.ofH (by decide +kernel) (Nat.le_of_ble_eq_true rfl) ?_
  intro p e s m below meth c ls X hmn hq hl
  have hl : lv_has ls 2 [(0, .ref this), (1, .int a1)] := hl
  generalize ([.ref this, .int a1] : List Value).toArray = args at X ⊢
  obtain ⟨hx, hb, hr, hml, hown, hts, hlocks⟩ := id X
  generalize hHH : s.heap = H at hq ⊢
  generalize ([] : List Loc) = locs at hq ⊢
  clear hHH
  unfold x_Rdr_unitIn at h
  refine lv_aload_n hx hb d_x_Rdr_unitIn_0 rfl (lv_at hl 0 rfl) ?_
  replace h := obi h; obtain ⟨x1, ex1, h⟩ := h
  refine hg_i X hq 4 3 rfl (by decide) ex1 q_75 d_x_Rdr_unitIn_1 ?_
  refine lv_if_ne (tgt := 12) hx hb d_x_Rdr_unitIn_4 (by decide) (fun c4 => ?_) (fun c4 => ?_)
  · replace h := ifn c4 h
    cases h
    exact hret_v X hq ⟨Nat.le_refl _, Nat.le_refl _⟩ d_x_Rdr_unitIn_12
  · replace h := ifp c4 h
    refine lv_aload_n hx hb d_x_Rdr_unitIn_7 rfl (lv_at hl 0 rfl) ?_
    refine lv_iload_n hx hb d_x_Rdr_unitIn_8 rfl (lv_at hl 1 rfl) ?_
    replace h := obi h; obtain ⟨u2, eu2, h⟩ := h
    replace h := obi h; obtain ⟨st3, est3, h⟩ := h
    refine hcallV (n := 1) X hq (nm_unit est3).le (M_unit est3) (C := 4) rfl eu2 q_449 q_451 q_p6 q_6 q_452 ok_x_Rdr_unit rfl (lvl (by omega) (by decide)) hl.1 rfl (Nat.le_of_ble_eq_true rfl) d_x_Rdr_unitIn_9 ⟨Nat.le_refl _, Nat.le_refl _⟩ (fun H locs hq => ?_)
    cases h
    exact hret_v X hq ⟨Nat.le_refl _, Nat.le_refl _⟩ d_x_Rdr_unitIn_12
theorem w_x_Rdr_unit_J208 {r : HS} {g_one : HS → Nat → Int32 → Option HS} {g_unitIn : HS → Nat → Int32 → Option HS} {st : HS} {l0 : Nat} {H : Heap} {locs : List Loc} {ls : Array Slot} (X : jx p s m args meth c b_x_Rdr_unit 5 none "NoteSheet$Reader") (hK : 7 ≤ K) (nm_one : ∀ {st : HS} {this : Nat} {a1 : Int32} {r : HS}, g_one st this a1 = some r → hke st r) (nm_unitIn : ∀ {st : HS} {this : Nat} {a1 : Int32} {r : HS}, g_unitIn st this a1 = some r → hke st r) (M_one : ∀ {st : HS} {this : Nat} {a1 : Int32} {r : HS}, g_one st this a1 = some r → Met l y_x_Rdr_one (Cond.code y_x_Rdr_one b_x_Rdr_one 2 none :: lw_g) (rmL Kg 0 0) (hPc G A [.ref this, .int a1] st) (hQc G A none r) 0 0 A) (M_unitIn : ∀ {st : HS} {this : Nat} {a1 : Int32} {r : HS}, g_unitIn st this a1 = some r → Met l y_x_Rdr_unitIn (Cond.code y_x_Rdr_unitIn b_x_Rdr_unitIn 2 none :: lw_g) (rmL Kg 0 0) (hPc G A [.ref this, .int a1] st) (hQc G A none r) 0 0 A) (hKg : Kg + 1 ≤ K) (hq : hC G A s st H locs) (hl : lv_has ls 5 [(0, .ref l0)]) (h : x_Rdr_unit_J208 g_one g_unitIn st l0 = some r) : W p l e (rmL K 0 0) s m args below meth c H locs 0 0 (MQ below (hQc G A none r) args s 0 0 A) (F0 m 208 ls []) := by
  obtain ⟨hx, hb, hr, hml, hown, hts, hlocks⟩ := id X
  unfold x_Rdr_unit_J208 at h
  refine lv_aload_n hx hb d_x_Rdr_unit_208 rfl (lv_at hl 0 rfl) ?_
  refine lv_iconst (v := 1) hx hb d_x_Rdr_unit_209 (by decide) ?_
  replace h := obi h; obtain ⟨st1, est1, h⟩ := h
  refine hp_v (ty := .boolean) X hq 4 3 rfl (by decide) rfl (by decide +kernel) (by decide) (by decide) est1 q_75 d_x_Rdr_unit_210 (fun H locs hq => ?_)
  cases h
  exact hret_v X hq ⟨Nat.le_refl _, Nat.le_refl _⟩ d_x_Rdr_unit_213
theorem w_x_Rdr_unit_J200 {r : HS} {g_one : HS → Nat → Int32 → Option HS} {g_unitIn : HS → Nat → Int32 → Option HS} {st : HS} {w0 : Nat} {w1 : Nat} {H : Heap} {locs : List Loc} {ls : Array Slot} (X : jx p s m args meth c b_x_Rdr_unit 5 none "NoteSheet$Reader") (hK : 7 ≤ K) (nm_one : ∀ {st : HS} {this : Nat} {a1 : Int32} {r : HS}, g_one st this a1 = some r → hke st r) (nm_unitIn : ∀ {st : HS} {this : Nat} {a1 : Int32} {r : HS}, g_unitIn st this a1 = some r → hke st r) (M_one : ∀ {st : HS} {this : Nat} {a1 : Int32} {r : HS}, g_one st this a1 = some r → Met l y_x_Rdr_one (Cond.code y_x_Rdr_one b_x_Rdr_one 2 none :: lw_g) (rmL Kg 0 0) (hPc G A [.ref this, .int a1] st) (hQc G A none r) 0 0 A) (M_unitIn : ∀ {st : HS} {this : Nat} {a1 : Int32} {r : HS}, g_unitIn st this a1 = some r → Met l y_x_Rdr_unitIn (Cond.code y_x_Rdr_unitIn b_x_Rdr_unitIn 2 none :: lw_g) (rmL Kg 0 0) (hPc G A [.ref this, .int a1] st) (hQc G A none r) 0 0 A) (hKg : Kg + 1 ≤ K) (hq : hC G A s st H locs) (hl : lv_has ls 5 []) (h : x_Rdr_unit_J200 g_one g_unitIn st w0 w1 = some r) : W p l e (rmL K 0 0) s m args below meth c H locs 0 0 (MQ below (hQc G A none r) args s 0 0 A) (F0 m 200 ls [.ref w0, .ref w1]) := by
  obtain ⟨hx, hb, hr, hml, hown, hts, hlocks⟩ := id X
  unfold x_Rdr_unit_J200 at h
  refine lv_iconst (v := 0) hx hb d_x_Rdr_unit_200 (by decide) ?_
  replace h := obi h; obtain ⟨u1, eu1, h⟩ := h
  replace h := obi h; obtain ⟨q2, eq2, h⟩ := h
  refine hcallV (n := 2) X hq (n_x_Rdr_put eq2).le (c_x_Rdr_put l 0 (Nat.le_refl _) G A eq2) (C := 4) rfl eu1 q_471 q_473 q_p8 q_6 q_474 ok_x_Rdr_put rfl (lvl (by omega) (by decide)) hl.1 rfl (Nat.le_of_ble_eq_true rfl) d_x_Rdr_unit_201 ⟨Nat.le_refl _, Nat.le_refl _⟩ (fun H locs hq => ?_)
  refine lv_pop hx hb d_x_Rdr_unit_204 rfl ?_
  refine lv_goto (tgt := 213) hx hb d_x_Rdr_unit_205 (by decide) ?_
  cases h
  exact hret_v X hq ⟨Nat.le_refl _, Nat.le_refl _⟩ d_x_Rdr_unit_213
theorem w_x_Rdr_unit_J177 {r : HS} {g_one : HS → Nat → Int32 → Option HS} {g_unitIn : HS → Nat → Int32 → Option HS} {st : HS} {l0 : Nat} {l1 : Int32} {l2 : Int32} {H : Heap} {locs : List Loc} {ls : Array Slot} (X : jx p s m args meth c b_x_Rdr_unit 5 none "NoteSheet$Reader") (hK : 7 ≤ K) (nm_one : ∀ {st : HS} {this : Nat} {a1 : Int32} {r : HS}, g_one st this a1 = some r → hke st r) (nm_unitIn : ∀ {st : HS} {this : Nat} {a1 : Int32} {r : HS}, g_unitIn st this a1 = some r → hke st r) (M_one : ∀ {st : HS} {this : Nat} {a1 : Int32} {r : HS}, g_one st this a1 = some r → Met l y_x_Rdr_one (Cond.code y_x_Rdr_one b_x_Rdr_one 2 none :: lw_g) (rmL Kg 0 0) (hPc G A [.ref this, .int a1] st) (hQc G A none r) 0 0 A) (M_unitIn : ∀ {st : HS} {this : Nat} {a1 : Int32} {r : HS}, g_unitIn st this a1 = some r → Met l y_x_Rdr_unitIn (Cond.code y_x_Rdr_unitIn b_x_Rdr_unitIn 2 none :: lw_g) (rmL Kg 0 0) (hPc G A [.ref this, .int a1] st) (hQc G A none r) 0 0 A) (hKg : Kg + 1 ≤ K) (hq : hC G A s st H locs) (hl : lv_has ls 5 [(0, .ref l0), (1, .int l1), (2, .int l2)]) (h : x_Rdr_unit_J177 g_one g_unitIn st l0 l1 l2 = some r) : W p l e (rmL K 0 0) s m args below meth c H locs 0 0 (MQ below (hQc G A none r) args s 0 0 A) (F0 m 177 ls []) := by
  obtain ⟨hx, hb, hr, hml, hown, hts, hlocks⟩ := id X
  unfold x_Rdr_unit_J177 at h
  refine lv_aload_n hx hb d_x_Rdr_unit_177 rfl (lv_at hl 0 rfl) ?_
  refine lv_iload_n hx hb d_x_Rdr_unit_178 rfl (lv_at hl 1 rfl) ?_
  refine lv_iconst (v := 1) hx hb d_x_Rdr_unit_179 (by decide) ?_
  refine lv_iadd hx hb d_x_Rdr_unit_180 ?_
  replace h := obi h; obtain ⟨u1, eu1, h⟩ := h
  replace h := obi h; obtain ⟨st2, est2, h⟩ := h
  refine hcallV (n := 1) X hq (nm_unitIn est2).le (M_unitIn est2) (C := 4) rfl eu1 q_445 q_447 q_p5 q_6 q_448 ok_x_Rdr_unitIn rfl (lvl (by omega) (by decide)) hl.1 rfl (Nat.le_of_ble_eq_true rfl) d_x_Rdr_unit_181 ⟨Nat.le_refl _, Nat.le_refl _⟩ (fun H locs hq => ?_)
  refine lv_aload_n hx hb d_x_Rdr_unit_184 rfl (lv_at hl 0 rfl) ?_
  refine lv_iload_n hx hb d_x_Rdr_unit_185 rfl (lv_at hl 2 rfl) ?_
  refine lv_bipush (v := 45) hx hb d_x_Rdr_unit_186 (by decide) ?_
  refine lv_icmp_ne (tgt := 197) hx hb d_x_Rdr_unit_188 (by decide) (fun c188 => ?_) (fun c188 => ?_)
  · replace h := ifn c188 h
    refine hs_op X hq 2 (by decide) rfl q_491 d_x_Rdr_unit_197 ?_
    exact w_x_Rdr_unit_J200 X hK nm_one nm_unitIn M_one M_unitIn hKg hq (lv_sub hl [] rfl) h
  · replace h := ifp c188 h
    refine hs_op X hq 6 (by decide) rfl q_489 d_x_Rdr_unit_191 ?_
    refine lv_goto (tgt := 200) hx hb d_x_Rdr_unit_194 (by decide) ?_
    exact w_x_Rdr_unit_J200 X hK nm_one nm_unitIn M_one M_unitIn hKg hq (lv_sub hl [] rfl) h
theorem w_x_Rdr_unit_J154 {r : HS} {g_one : HS → Nat → Int32 → Option HS} {g_unitIn : HS → Nat → Int32 → Option HS} {st : HS} {l0 : Nat} {l1 : Int32} {l2 : Int32} {H : Heap} {locs : List Loc} {ls : Array Slot} (X : jx p s m args meth c b_x_Rdr_unit 5 none "NoteSheet$Reader") (hK : 7 ≤ K) (nm_one : ∀ {st : HS} {this : Nat} {a1 : Int32} {r : HS}, g_one st this a1 = some r → hke st r) (nm_unitIn : ∀ {st : HS} {this : Nat} {a1 : Int32} {r : HS}, g_unitIn st this a1 = some r → hke st r) (M_one : ∀ {st : HS} {this : Nat} {a1 : Int32} {r : HS}, g_one st this a1 = some r → Met l y_x_Rdr_one (Cond.code y_x_Rdr_one b_x_Rdr_one 2 none :: lw_g) (rmL Kg 0 0) (hPc G A [.ref this, .int a1] st) (hQc G A none r) 0 0 A) (M_unitIn : ∀ {st : HS} {this : Nat} {a1 : Int32} {r : HS}, g_unitIn st this a1 = some r → Met l y_x_Rdr_unitIn (Cond.code y_x_Rdr_unitIn b_x_Rdr_unitIn 2 none :: lw_g) (rmL Kg 0 0) (hPc G A [.ref this, .int a1] st) (hQc G A none r) 0 0 A) (hKg : Kg + 1 ≤ K) (hq : hC G A s st H locs) (hl : lv_has ls 5 [(0, .ref l0), (1, .int l1), (2, .int l2)]) (h : x_Rdr_unit_J154 g_one g_unitIn st l0 l1 l2 = some r) : W p l e (rmL K 0 0) s m args below meth c H locs 0 0 (MQ below (hQc G A none r) args s 0 0 A) (F0 m 154 ls []) := by
  obtain ⟨hx, hb, hr, hml, hown, hts, hlocks⟩ := id X
  unfold x_Rdr_unit_J154 at h
  refine lv_iload_n hx hb d_x_Rdr_unit_154 rfl (lv_at hl 1 rfl) ?_
  refine lv_iconst (v := 5) hx hb d_x_Rdr_unit_155 (by decide) ?_
  refine lv_icmp_ge (tgt := 208) hx hb d_x_Rdr_unit_156 (by decide) (fun c156 => ?_) (fun c156 => ?_)
  · replace h := ifp c156 h
    exact w_x_Rdr_unit_J208 X hK nm_one nm_unitIn M_one M_unitIn hKg hq (lv_sub hl [0] rfl) h
  · replace h := ifn c156 h
    refine lv_aload_n hx hb d_x_Rdr_unit_159 rfl (lv_at hl 0 rfl) ?_
    refine lv_bipush (v := 45) hx hb d_x_Rdr_unit_160 (by decide) ?_
    replace h := obi h; obtain ⟨u1, eu1, h⟩ := h
    replace h := obi h; obtain ⟨q2, eq2, h⟩ := h
    refine hcallV (n := 1) X hq (n_x_Rdr_takes eq2).le (c_x_Rdr_takes l 5 (Nat.le_refl _) G A eq2) (C := 4) rfl eu1 q_477 q_479 q_p9 q_6 q_480 ok_x_Rdr_takes rfl (lvl (by omega) (by decide)) hl.1 rfl (Nat.le_of_ble_eq_true rfl) d_x_Rdr_unit_162 ⟨Nat.le_refl _, Nat.le_refl _⟩ (fun H locs hq => ?_)
    refine lv_if_ne (tgt := 177) hx hb d_x_Rdr_unit_165 (by decide) (fun c165 => ?_) (fun c165 => ?_)
    · replace h := ifn c165 h
      exact w_x_Rdr_unit_J177 X hK nm_one nm_unitIn M_one M_unitIn hKg hq (lv_sub hl [0, 1, 2] rfl) h
    · replace h := ifp c165 h
      refine lv_aload_n hx hb d_x_Rdr_unit_168 rfl (lv_at hl 0 rfl) ?_
      refine lv_bipush (v := 64) hx hb d_x_Rdr_unit_169 (by decide) ?_
      replace h := obi h; obtain ⟨u3, eu3, h⟩ := h
      replace h := obi h; obtain ⟨q4, eq4, h⟩ := h
      refine hcallV (n := 1) X hq (n_x_Rdr_takes eq4).le (c_x_Rdr_takes l 5 (Nat.le_refl _) G A eq4) (C := 4) rfl eu3 q_477 q_479 q_p9 q_6 q_480 ok_x_Rdr_takes rfl (lvl (by omega) (by decide)) hl.1 rfl (Nat.le_of_ble_eq_true rfl) d_x_Rdr_unit_171 ⟨Nat.le_refl _, Nat.le_refl _⟩ (fun H locs hq => ?_)
      refine lv_if_eq (tgt := 208) hx hb d_x_Rdr_unit_174 (by decide) (fun c174 => ?_) (fun c174 => ?_)
      · replace h := ifp c174 h
        exact w_x_Rdr_unit_J208 X hK nm_one nm_unitIn M_one M_unitIn hKg hq (lv_sub hl [0] rfl) h
      · replace h := ifn c174 h
        exact w_x_Rdr_unit_J177 X hK nm_one nm_unitIn M_one M_unitIn hKg hq (lv_sub hl [0, 1, 2] rfl) h
theorem w_x_Rdr_unit_J124 {r : HS} {g_one : HS → Nat → Int32 → Option HS} {g_unitIn : HS → Nat → Int32 → Option HS} {st : HS} {l0 : Nat} {l1 : Int32} {l2 : Int32} {H : Heap} {locs : List Loc} {ls : Array Slot} (X : jx p s m args meth c b_x_Rdr_unit 5 none "NoteSheet$Reader") (hK : 7 ≤ K) (nm_one : ∀ {st : HS} {this : Nat} {a1 : Int32} {r : HS}, g_one st this a1 = some r → hke st r) (nm_unitIn : ∀ {st : HS} {this : Nat} {a1 : Int32} {r : HS}, g_unitIn st this a1 = some r → hke st r) (M_one : ∀ {st : HS} {this : Nat} {a1 : Int32} {r : HS}, g_one st this a1 = some r → Met l y_x_Rdr_one (Cond.code y_x_Rdr_one b_x_Rdr_one 2 none :: lw_g) (rmL Kg 0 0) (hPc G A [.ref this, .int a1] st) (hQc G A none r) 0 0 A) (M_unitIn : ∀ {st : HS} {this : Nat} {a1 : Int32} {r : HS}, g_unitIn st this a1 = some r → Met l y_x_Rdr_unitIn (Cond.code y_x_Rdr_unitIn b_x_Rdr_unitIn 2 none :: lw_g) (rmL Kg 0 0) (hPc G A [.ref this, .int a1] st) (hQc G A none r) 0 0 A) (hKg : Kg + 1 ≤ K) (hq : hC G A s st H locs) (hl : lv_has ls 5 [(0, .ref l0), (1, .int l1), (2, .int l2)]) (h : x_Rdr_unit_J124 g_one g_unitIn st l0 l1 l2 = some r) : W p l e (rmL K 0 0) s m args below meth c H locs 0 0 (MQ below (hQc G A none r) args s 0 0 A) (F0 m 124 ls []) := by
  obtain ⟨hx, hb, hr, hml, hown, hts, hlocks⟩ := id X
  unfold x_Rdr_unit_J124 at h
  refine lv_iload_n hx hb d_x_Rdr_unit_124 rfl (lv_at hl 1 rfl) ?_
  refine lv_iconst (v := 5) hx hb d_x_Rdr_unit_125 (by decide) ?_
  refine lv_icmp_ge (tgt := 154) hx hb d_x_Rdr_unit_126 (by decide) (fun c126 => ?_) (fun c126 => ?_)
  · replace h := ifp c126 h
    exact w_x_Rdr_unit_J154 X hK nm_one nm_unitIn M_one M_unitIn hKg hq (lv_sub hl [0, 1, 2] rfl) h
  · replace h := ifn c126 h
    refine lv_aload_n hx hb d_x_Rdr_unit_129 rfl (lv_at hl 0 rfl) ?_
    refine lv_bipush (v := 40) hx hb d_x_Rdr_unit_130 (by decide) ?_
    replace h := obi h; obtain ⟨u1, eu1, h⟩ := h
    replace h := obi h; obtain ⟨q2, eq2, h⟩ := h
    refine hcallV (n := 1) X hq (n_x_Rdr_takes eq2).le (c_x_Rdr_takes l 5 (Nat.le_refl _) G A eq2) (C := 4) rfl eu1 q_477 q_479 q_p9 q_6 q_480 ok_x_Rdr_takes rfl (lvl (by omega) (by decide)) hl.1 rfl (Nat.le_of_ble_eq_true rfl) d_x_Rdr_unit_132 ⟨Nat.le_refl _, Nat.le_refl _⟩ (fun H locs hq => ?_)
    refine lv_if_eq (tgt := 154) hx hb d_x_Rdr_unit_135 (by decide) (fun c135 => ?_) (fun c135 => ?_)
    · replace h := ifp c135 h
      exact w_x_Rdr_unit_J154 X hK nm_one nm_unitIn M_one M_unitIn hKg hq (lv_sub hl [0, 1, 2] rfl) h
    · replace h := ifn c135 h
      refine lv_aload_n hx hb d_x_Rdr_unit_138 rfl (lv_at hl 0 rfl) ?_
      refine lv_iload_n hx hb d_x_Rdr_unit_139 rfl (lv_at hl 1 rfl) ?_
      refine lv_iconst (v := 1) hx hb d_x_Rdr_unit_140 (by decide) ?_
      refine lv_iadd hx hb d_x_Rdr_unit_141 ?_
      replace h := obi h; obtain ⟨u3, eu3, h⟩ := h
      replace h := obi h; obtain ⟨st4, est4, h⟩ := h
      refine hcallV (n := 1) X hq (nm_one est4).le (M_one est4) (C := 4) rfl eu3 q_481 q_483 q_p10 q_6 q_484 ok_x_Rdr_one rfl (lvl (by omega) (by decide)) hl.1 rfl (Nat.le_of_ble_eq_true rfl) d_x_Rdr_unit_142 ⟨Nat.le_refl _, Nat.le_refl _⟩ (fun H locs hq => ?_)
      refine lv_aload_n hx hb d_x_Rdr_unit_145 rfl (lv_at hl 0 rfl) ?_
      refine lv_bipush (v := 41) hx hb d_x_Rdr_unit_146 (by decide) ?_
      replace h := obi h; obtain ⟨u5, eu5, h⟩ := h
      replace h := obi h; obtain ⟨st6, est6, h⟩ := h
      refine hcallV (n := 1) X hq (n_x_Rdr_need est6).le (c_x_Rdr_need l 6 (Nat.le_refl _) G A est6) (C := 4) rfl eu5 q_485 q_487 q_p11 q_6 q_488 ok_x_Rdr_need rfl (lvl (by omega) (by decide)) hl.1 rfl (Nat.le_of_ble_eq_true rfl) d_x_Rdr_unit_148 ⟨Nat.le_refl _, Nat.le_refl _⟩ (fun H locs hq => ?_)
      refine lv_goto (tgt := 213) hx hb d_x_Rdr_unit_151 (by decide) ?_
      cases h
      exact hret_v X hq ⟨Nat.le_refl _, Nat.le_refl _⟩ d_x_Rdr_unit_213
theorem w_x_Rdr_unit_J112 {r : HS} {g_one : HS → Nat → Int32 → Option HS} {g_unitIn : HS → Nat → Int32 → Option HS} {st : HS} {l0 : Nat} {l3 : Int32} {H : Heap} {locs : List Loc} {ls : Array Slot} (X : jx p s m args meth c b_x_Rdr_unit 5 none "NoteSheet$Reader") (hK : 7 ≤ K) (nm_one : ∀ {st : HS} {this : Nat} {a1 : Int32} {r : HS}, g_one st this a1 = some r → hke st r) (nm_unitIn : ∀ {st : HS} {this : Nat} {a1 : Int32} {r : HS}, g_unitIn st this a1 = some r → hke st r) (M_one : ∀ {st : HS} {this : Nat} {a1 : Int32} {r : HS}, g_one st this a1 = some r → Met l y_x_Rdr_one (Cond.code y_x_Rdr_one b_x_Rdr_one 2 none :: lw_g) (rmL Kg 0 0) (hPc G A [.ref this, .int a1] st) (hQc G A none r) 0 0 A) (M_unitIn : ∀ {st : HS} {this : Nat} {a1 : Int32} {r : HS}, g_unitIn st this a1 = some r → Met l y_x_Rdr_unitIn (Cond.code y_x_Rdr_unitIn b_x_Rdr_unitIn 2 none :: lw_g) (rmL Kg 0 0) (hPc G A [.ref this, .int a1] st) (hQc G A none r) 0 0 A) (hKg : Kg + 1 ≤ K) (hq : hC G A s st H locs) (hl : lv_has ls 5 [(0, .ref l0), (3, .int l3)]) (h : x_Rdr_unit_J112 g_one g_unitIn st l0 l3 = some r) : W p l e (rmL K 0 0) s m args below meth c H locs 0 0 (MQ below (hQc G A none r) args s 0 0 A) (F0 m 112 ls []) := by
  obtain ⟨hx, hb, hr, hml, hown, hts, hlocks⟩ := id X
  unfold x_Rdr_unit_J112 at h
  refine lv_aload_n hx hb d_x_Rdr_unit_112 rfl (lv_at hl 0 rfl) ?_
  refine hs_op X hq 0 (by decide) rfl q_475 d_x_Rdr_unit_113 ?_
  refine lv_iload_n hx hb d_x_Rdr_unit_116 rfl (lv_at hl 1 rfl) ?_
  replace h := obi h; obtain ⟨u1, eu1, h⟩ := h
  replace h := obi h; obtain ⟨q2, eq2, h⟩ := h
  refine hcallV (n := 2) X hq (n_x_Rdr_put eq2).le (c_x_Rdr_put l 0 (Nat.le_refl _) G A eq2) (C := 4) rfl eu1 q_471 q_473 q_p8 q_6 q_474 ok_x_Rdr_put rfl (lvl (by omega) (by decide)) hl.1 rfl (Nat.le_of_ble_eq_true rfl) d_x_Rdr_unit_117 ⟨Nat.le_refl _, Nat.le_refl _⟩ (fun H locs hq => ?_)
  refine lv_pop hx hb d_x_Rdr_unit_120 rfl ?_
  refine lv_goto (tgt := 213) hx hb d_x_Rdr_unit_121 (by decide) ?_
  cases h
  exact hret_v X hq ⟨Nat.le_refl _, Nat.le_refl _⟩ d_x_Rdr_unit_213
theorem w_x_Rdr_unit_L59 {r : HS} {g_one : HS → Nat → Int32 → Option HS} {g_unitIn : HS → Nat → Int32 → Option HS} (X : jx p s m args meth c b_x_Rdr_unit 5 none "NoteSheet$Reader") (hK : 7 ≤ K) (nm_one : ∀ {st : HS} {this : Nat} {a1 : Int32} {r : HS}, g_one st this a1 = some r → hke st r) (nm_unitIn : ∀ {st : HS} {this : Nat} {a1 : Int32} {r : HS}, g_unitIn st this a1 = some r → hke st r) (M_one : ∀ {st : HS} {this : Nat} {a1 : Int32} {r : HS}, g_one st this a1 = some r → Met l y_x_Rdr_one (Cond.code y_x_Rdr_one b_x_Rdr_one 2 none :: lw_g) (rmL Kg 0 0) (hPc G A [.ref this, .int a1] st) (hQc G A none r) 0 0 A) (M_unitIn : ∀ {st : HS} {this : Nat} {a1 : Int32} {r : HS}, g_unitIn st this a1 = some r → Met l y_x_Rdr_unitIn (Cond.code y_x_Rdr_unitIn b_x_Rdr_unitIn 2 none :: lw_g) (rmL Kg 0 0) (hPc G A [.ref this, .int a1] st) (hQc G A none r) 0 0 A) (hKg : Kg + 1 ≤ K) : ∀ (n : Nat), ∀ (st : HS) (l0 : Nat) (l3 : Int32) (l4 : Int32) (H : Heap) (locs : List Loc) (ls : Array Slot), x_Rdr_unit_L59 g_one g_unitIn n st l0 l3 l4 = some r → hC G A s st H locs → lv_has ls 5 [(0, .ref l0), (3, .int l3), (4, .int l4)] → W p l e (rmL K 0 0) s m args below meth c H locs 0 0 (MQ below (hQc G A none r) args s 0 0 A) (F0 m 59 ls []) := by
  obtain ⟨hx, hb, hr, hml, hown, hts, hlocks⟩ := id X
  intro n
  induction n with
  | zero => intro st l0 l3 l4 H locs ls h hq hl; exact absurd h (by simp [x_Rdr_unit_L59])
  | succ n ih =>
    intro st l0 l3 l4 H locs ls h hq hl
    rw [x_Rdr_unit_L59] at h
    refine lv_iload hx hb d_x_Rdr_unit_59 (lv_at hl 2 rfl) ?_
    refine lv_iconst (v := 4) hx hb d_x_Rdr_unit_61 (by decide) ?_
    refine lv_icmp_ge (tgt := 112) hx hb d_x_Rdr_unit_62 (by decide) (fun c62 => ?_) (fun c62 => ?_)
    · replace h := ifp c62 h
      exact w_x_Rdr_unit_J112 X hK nm_one nm_unitIn M_one M_unitIn hKg hq (lv_sub hl [0, 1] rfl) h
    · replace h := ifn c62 h
      refine lv_aload_n hx hb d_x_Rdr_unit_65 rfl (lv_at hl 0 rfl) ?_
      replace h := obi h; obtain ⟨u1, eu1, h⟩ := h
      replace h := obi h; obtain ⟨x2, ex2, h⟩ := h
      refine hcallV (st' := st) (n := 0) X hq hle.rf (c_x_Rdr_peek l 4 (Nat.le_refl _) G A ex2) (C := 4) rfl eu1 q_453 q_455 q_p7 q_6 q_456 ok_x_Rdr_peek rfl (lvl (by omega) (by decide)) hl.1 rfl (Nat.le_of_ble_eq_true rfl) d_x_Rdr_unit_66 ⟨Nat.le_refl _, Nat.le_refl _⟩ (fun H locs hq => ?_)
      refine lv_bipush (v := 48) hx hb d_x_Rdr_unit_69 (by decide) ?_
      refine lv_icmp_lt (tgt := 112) hx hb d_x_Rdr_unit_71 (by decide) (fun c71 => ?_) (fun c71 => ?_)
      · replace h := ifp c71 h
        exact w_x_Rdr_unit_J112 X hK nm_one nm_unitIn M_one M_unitIn hKg hq (lv_sub hl [0, 1] rfl) h
      · replace h := ifn c71 h
        refine lv_aload_n hx hb d_x_Rdr_unit_74 rfl (lv_at hl 0 rfl) ?_
        replace h := obi h; obtain ⟨u3, eu3, h⟩ := h
        replace h := obi h; obtain ⟨x4, ex4, h⟩ := h
        refine hcallV (st' := st) (n := 0) X hq hle.rf (c_x_Rdr_peek l 4 (Nat.le_refl _) G A ex4) (C := 4) rfl eu3 q_453 q_455 q_p7 q_6 q_456 ok_x_Rdr_peek rfl (lvl (by omega) (by decide)) hl.1 rfl (Nat.le_of_ble_eq_true rfl) d_x_Rdr_unit_75 ⟨Nat.le_refl _, Nat.le_refl _⟩ (fun H locs hq => ?_)
        refine lv_bipush (v := 57) hx hb d_x_Rdr_unit_78 (by decide) ?_
        refine lv_icmp_gt (tgt := 112) hx hb d_x_Rdr_unit_80 (by decide) (fun c80 => ?_) (fun c80 => ?_)
        · replace h := ifp c80 h
          exact w_x_Rdr_unit_J112 X hK nm_one nm_unitIn M_one M_unitIn hKg hq (lv_sub hl [0, 1] rfl) h
        · replace h := ifn c80 h
          refine lv_bipush (v := 10) hx hb d_x_Rdr_unit_83 (by decide) ?_
          refine lv_iload_n hx hb d_x_Rdr_unit_85 rfl (lv_at hl 1 rfl) ?_
          refine lv_imul hx hb d_x_Rdr_unit_86 ?_
          refine lv_aload_n hx hb d_x_Rdr_unit_87 rfl (lv_at hl 0 rfl) ?_
          replace h := obi h; obtain ⟨u5, eu5, h⟩ := h
          replace h := obi h; obtain ⟨x6, ex6, h⟩ := h
          refine hcallV (st' := st) (n := 0) X hq hle.rf (c_x_Rdr_peek l 4 (Nat.le_refl _) G A ex6) (C := 4) rfl eu5 q_453 q_455 q_p7 q_6 q_456 ok_x_Rdr_peek rfl (lvl (by omega) (by decide)) hl.1 rfl (Nat.le_of_ble_eq_true rfl) d_x_Rdr_unit_88 ⟨Nat.le_refl _, Nat.le_refl _⟩ (fun H locs hq => ?_)
          refine lv_iadd hx hb d_x_Rdr_unit_91 ?_
          refine lv_bipush (v := 48) hx hb d_x_Rdr_unit_92 (by decide) ?_
          refine lv_isub hx hb d_x_Rdr_unit_94 ?_
          replace h := obi h; obtain ⟨x7, ex7, h⟩ := h
          refine lv_nm (Option.some.inj ex7) ?_
          refine lv_istore_n (lv' := [(3, .int x7), (0, .ref l0), (4, .int l4)]) hx hb d_x_Rdr_unit_95 rfl hl (by decide) rfl (fun ls hl => ?_)
          refine lv_aload_n hx hb d_x_Rdr_unit_96 rfl (lv_at hl 1 rfl) ?_
          refine lv_dup hx hb d_x_Rdr_unit_97 rfl ?_
          replace h := obi h; obtain ⟨x8, ex8, h⟩ := h
          refine hg_i X hq 4 1 rfl (by decide) ex8 q_72 d_x_Rdr_unit_98 ?_
          refine lv_iconst (v := 1) hx hb d_x_Rdr_unit_101 (by decide) ?_
          refine lv_iadd hx hb d_x_Rdr_unit_102 ?_
          replace h := obi h; obtain ⟨st9, est9, h⟩ := h
          refine hp_v (ty := .int) X hq 4 1 rfl (by decide) rfl (by decide +kernel) rfl rfl est9 q_72 d_x_Rdr_unit_103 (fun H locs hq => ?_)
          replace h := obi h; obtain ⟨x10, ex10, h⟩ := h
          refine lv_iinc (v := x10) (lv' := [(4, .int x10), (3, .int x7), (0, .ref l0)]) hx hb d_x_Rdr_unit_106 hl (k := 2) rfl (Option.some.inj ex10) (by decide) rfl (fun ls hl => ?_)
          refine lv_goto (tgt := 59) hx hb d_x_Rdr_unit_109 (by decide) ?_
          exact ih _ _ _ _ _ _ _ h hq (lv_sub hl [2, 1, 0] rfl)
theorem w_x_Rdr_unit_J42 {r : HS} {g_one : HS → Nat → Int32 → Option HS} {g_unitIn : HS → Nat → Int32 → Option HS} {st : HS} {l0 : Nat} {l1 : Int32} {l2 : Int32} {H : Heap} {locs : List Loc} {ls : Array Slot} (X : jx p s m args meth c b_x_Rdr_unit 5 none "NoteSheet$Reader") (hK : 7 ≤ K) (nm_one : ∀ {st : HS} {this : Nat} {a1 : Int32} {r : HS}, g_one st this a1 = some r → hke st r) (nm_unitIn : ∀ {st : HS} {this : Nat} {a1 : Int32} {r : HS}, g_unitIn st this a1 = some r → hke st r) (M_one : ∀ {st : HS} {this : Nat} {a1 : Int32} {r : HS}, g_one st this a1 = some r → Met l y_x_Rdr_one (Cond.code y_x_Rdr_one b_x_Rdr_one 2 none :: lw_g) (rmL Kg 0 0) (hPc G A [.ref this, .int a1] st) (hQc G A none r) 0 0 A) (M_unitIn : ∀ {st : HS} {this : Nat} {a1 : Int32} {r : HS}, g_unitIn st this a1 = some r → Met l y_x_Rdr_unitIn (Cond.code y_x_Rdr_unitIn b_x_Rdr_unitIn 2 none :: lw_g) (rmL Kg 0 0) (hPc G A [.ref this, .int a1] st) (hQc G A none r) 0 0 A) (hKg : Kg + 1 ≤ K) (hq : hC G A s st H locs) (hl : lv_has ls 5 [(0, .ref l0), (1, .int l1), (2, .int l2)]) (h : x_Rdr_unit_J42 g_one g_unitIn st l0 l1 l2 = some r) : W p l e (rmL K 0 0) s m args below meth c H locs 0 0 (MQ below (hQc G A none r) args s 0 0 A) (F0 m 42 ls []) := by
  obtain ⟨hx, hb, hr, hml, hown, hts, hlocks⟩ := id X
  unfold x_Rdr_unit_J42 at h
  refine lv_iload_n hx hb d_x_Rdr_unit_42 rfl (lv_at hl 2 rfl) ?_
  refine lv_bipush (v := 48) hx hb d_x_Rdr_unit_43 (by decide) ?_
  refine lv_icmp_lt (tgt := 124) hx hb d_x_Rdr_unit_45 (by decide) (fun c45 => ?_) (fun c45 => ?_)
  · replace h := ifp c45 h
    exact w_x_Rdr_unit_J124 X hK nm_one nm_unitIn M_one M_unitIn hKg hq (lv_sub hl [0, 1, 2] rfl) h
  · replace h := ifn c45 h
    refine lv_iload_n hx hb d_x_Rdr_unit_48 rfl (lv_at hl 2 rfl) ?_
    refine lv_bipush (v := 57) hx hb d_x_Rdr_unit_49 (by decide) ?_
    refine lv_icmp_gt (tgt := 124) hx hb d_x_Rdr_unit_51 (by decide) (fun c51 => ?_) (fun c51 => ?_)
    · replace h := ifp c51 h
      exact w_x_Rdr_unit_J124 X hK nm_one nm_unitIn M_one M_unitIn hKg hq (lv_sub hl [0, 1, 2] rfl) h
    · replace h := ifn c51 h
      refine lv_iconst (v := 0) hx hb d_x_Rdr_unit_54 (by decide) ?_
      refine lv_istore_n (lv' := [(3, .int 0), (0, .ref l0), (1, .int l1), (2, .int l2)]) hx hb d_x_Rdr_unit_55 rfl hl (by decide) rfl (fun ls hl => ?_)
      refine lv_iconst (v := 0) hx hb d_x_Rdr_unit_56 (by decide) ?_
      refine lv_istore (lv' := [(4, .int 0), (3, .int 0), (0, .ref l0), (1, .int l1), (2, .int l2)]) hx hb d_x_Rdr_unit_57 hl (by decide) rfl (fun ls hl => ?_)
      exact w_x_Rdr_unit_L59 X hK nm_one nm_unitIn M_one M_unitIn hKg 1000 _ _ _ _ _ _ _ h hq (lv_sub hl [2, 1, 0] rfl)
theorem c_x_Rdr_unit (l : Launch) (K : Nat) (hK : 7 ≤ K) (G : HG) (A : Nat → Prop) {g_one : HS → Nat → Int32 → Option HS} {g_unitIn : HS → Nat → Int32 → Option HS} {Kg : Nat} (nm_one : ∀ {st : HS} {this : Nat} {a1 : Int32} {r : HS}, g_one st this a1 = some r → hke st r) (nm_unitIn : ∀ {st : HS} {this : Nat} {a1 : Int32} {r : HS}, g_unitIn st this a1 = some r → hke st r) (M_one : ∀ {st : HS} {this : Nat} {a1 : Int32} {r : HS}, g_one st this a1 = some r → Met l y_x_Rdr_one (Cond.code y_x_Rdr_one b_x_Rdr_one 2 none :: lw_g) (rmL Kg 0 0) (hPc G A [.ref this, .int a1] st) (hQc G A none r) 0 0 A) (M_unitIn : ∀ {st : HS} {this : Nat} {a1 : Int32} {r : HS}, g_unitIn st this a1 = some r → Met l y_x_Rdr_unitIn (Cond.code y_x_Rdr_unitIn b_x_Rdr_unitIn 2 none :: lw_g) (rmL Kg 0 0) (hPc G A [.ref this, .int a1] st) (hQc G A none r) 0 0 A) (hKg : Kg + 1 ≤ K) {st : HS} {this : Nat} {a1 : Int32} {r : HS} (h : x_Rdr_unit g_one g_unitIn st this a1 = some r) : Met l y_x_Rdr_unit (Cond.code y_x_Rdr_unit b_x_Rdr_unit 5 none :: lw_g) (rmL K 0 0) (hPc G A [.ref this, .int a1] st) (hQc G A none r) 0 0 A := by
  refine Met.ofH (by decide +kernel) (Nat.le_of_ble_eq_true rfl) ?_
  intro p e s m below meth c ls X hmn hq hl
  have hl : lv_has ls 5 [(0, .ref this), (1, .int a1)] := hl
  generalize ([.ref this, .int a1] : List Value).toArray = args at X ⊢
  obtain ⟨hx, hb, hr, hml, hown, hts, hlocks⟩ := id X
  generalize hHH : s.heap = H at hq ⊢
  generalize ([] : List Loc) = locs at hq ⊢
  clear hHH
  unfold x_Rdr_unit at h
  refine lv_aload_n hx hb d_x_Rdr_unit_0 rfl (lv_at hl 0 rfl) ?_
  replace h := obi h; obtain ⟨u1, eu1, h⟩ := h
  replace h := obi h; obtain ⟨x2, ex2, h⟩ := h
  refine hcallV (st' := st) (n := 0) X hq hle.rf (c_x_Rdr_peek l 4 (Nat.le_refl _) G A ex2) (C := 4) rfl eu1 q_453 q_455 q_p7 q_6 q_456 ok_x_Rdr_peek rfl (lvl (by omega) (by decide)) hl.1 rfl (Nat.le_of_ble_eq_true rfl) d_x_Rdr_unit_1 ⟨Nat.le_refl _, Nat.le_refl _⟩ (fun H locs hq => ?_)
  refine lv_istore_n (lv' := [(2, .int x2), (0, .ref this), (1, .int a1)]) hx hb d_x_Rdr_unit_4 rfl hl (by decide) rfl (fun ls hl => ?_)
  refine lv_iload_n hx hb d_x_Rdr_unit_5 rfl (lv_at hl 0 rfl) ?_
  refine lv_bipush (v := 65) hx hb d_x_Rdr_unit_6 (by decide) ?_
  refine lv_icmp_lt (tgt := 42) hx hb d_x_Rdr_unit_8 (by decide) (fun c8 => ?_) (fun c8 => ?_)
  · replace h := ifp c8 h
    exact w_x_Rdr_unit_J42 X hK nm_one nm_unitIn M_one M_unitIn hKg hq (lv_sub hl [1, 2, 0] rfl) h
  · replace h := ifn c8 h
    refine lv_iload_n hx hb d_x_Rdr_unit_11 rfl (lv_at hl 0 rfl) ?_
    refine lv_bipush (v := 76) hx hb d_x_Rdr_unit_12 (by decide) ?_
    refine lv_icmp_gt (tgt := 42) hx hb d_x_Rdr_unit_14 (by decide) (fun c14 => ?_) (fun c14 => ?_)
    · replace h := ifp c14 h
      exact w_x_Rdr_unit_J42 X hK nm_one nm_unitIn M_one M_unitIn hKg hq (lv_sub hl [1, 2, 0] rfl) h
    · replace h := ifn c14 h
      refine lv_aload_n hx hb d_x_Rdr_unit_17 rfl (lv_at hl 1 rfl) ?_
      refine lv_dup hx hb d_x_Rdr_unit_18 rfl ?_
      replace h := obi h; obtain ⟨x3, ex3, h⟩ := h
      refine hg_i X hq 4 1 rfl (by decide) ex3 q_72 d_x_Rdr_unit_19 ?_
      refine lv_iconst (v := 1) hx hb d_x_Rdr_unit_22 (by decide) ?_
      refine lv_iadd hx hb d_x_Rdr_unit_23 ?_
      replace h := obi h; obtain ⟨st4, est4, h⟩ := h
      refine hp_v (ty := .int) X hq 4 1 rfl (by decide) rfl (by decide +kernel) rfl rfl est4 q_72 d_x_Rdr_unit_24 (fun H locs hq => ?_)
      refine lv_aload_n hx hb d_x_Rdr_unit_27 rfl (lv_at hl 1 rfl) ?_
      refine hs_op X hq 1 (by decide) rfl q_469 d_x_Rdr_unit_28 ?_
      refine lv_iload_n hx hb d_x_Rdr_unit_31 rfl (lv_at hl 0 rfl) ?_
      refine lv_bipush (v := 65) hx hb d_x_Rdr_unit_32 (by decide) ?_
      refine lv_isub hx hb d_x_Rdr_unit_34 ?_
      replace h := obi h; obtain ⟨u5, eu5, h⟩ := h
      replace h := obi h; obtain ⟨q6, eq6, h⟩ := h
      refine hcallV (n := 2) X hq (n_x_Rdr_put eq6).le (c_x_Rdr_put l 0 (Nat.le_refl _) G A eq6) (C := 4) rfl eu5 q_471 q_473 q_p8 q_6 q_474 ok_x_Rdr_put rfl (lvl (by omega) (by decide)) hl.1 rfl (Nat.le_of_ble_eq_true rfl) d_x_Rdr_unit_35 ⟨Nat.le_refl _, Nat.le_refl _⟩ (fun H locs hq => ?_)
      refine lv_pop hx hb d_x_Rdr_unit_38 rfl ?_
      refine lv_goto (tgt := 213) hx hb d_x_Rdr_unit_39 (by decide) ?_
      cases h
      exact hret_v X hq ⟨Nat.le_refl _, Nat.le_refl _⟩ d_x_Rdr_unit_213
theorem w_x_Mod_init_J323 {r : HS} {st : HS} {w0 : Int32} {w1 : Nat} {n0 s0 : Nat} {H : Heap} {locs : List Loc} {ce sl : Nat} {ls : Array Slot} (X : jx p s m args meth c b_x_Mod_init 2 none "NoteSheetModel") (hK : 1 ≤ K) (hmn : meth.name = "<init>") (hq : hC G A s st H locs) (hn : hN ce sl n0 s0 st) (hl : lv_has ls 2 []) (h : x_Mod_init_J323 st w0 w1 = some r) : W p l e (rmL K (hNx r - n0) (hNs r - s0)) s m args below meth c H locs ce sl (MQ below (hQc G A none r) args s (hNx r - n0) (hNs r - s0) A) (F0 m 323 ls [.int w0, .ref w1]) := by
  obtain ⟨hx, hb, hr, hml, hown, hts, hlocks⟩ := id X
  have hmr : hle st r := n_x_Mod_init_J323 h
  unfold x_Mod_init_J323 at h
  replace h := obi h; obtain ⟨st1, est1, h⟩ := h
  refine hpF_v (ty := .int) X hmn hq 7 0 rfl (by decide) rfl rfl (by decide +kernel) rfl rfl est1 q_673 d_x_Mod_init_323 (fun H locs hq => ?_)
  have hn := hn.ke (hP_ke est1)
  have hmr := hmr.ke (hP_ke est1)
  cases h
  exact hret_v X hq (hn.fit hle.rf) d_x_Mod_init_326
theorem w_x_Mod_init_J298 {r : HS} {st : HS} {l0 : Nat} {l1 : Int32} {w0 : Nat} {w1 : Nat} {n0 s0 : Nat} {H : Heap} {locs : List Loc} {ce sl : Nat} {ls : Array Slot} (X : jx p s m args meth c b_x_Mod_init 2 none "NoteSheetModel") (hK : 1 ≤ K) (hmn : meth.name = "<init>") (hq : hC G A s st H locs) (hn : hN ce sl n0 s0 st) (hl : lv_has ls 2 [(0, .ref l0), (1, .int l1)]) (h : x_Mod_init_J298 st l0 l1 w0 w1 = some r) : W p l e (rmL K (hNx r - n0) (hNs r - s0)) s m args below meth c H locs ce sl (MQ below (hQc G A none r) args s (hNx r - n0) (hNs r - s0) A) (F0 m 298 ls [.ref w0, .ref w1]) := by
  obtain ⟨hx, hb, hr, hml, hown, hts, hlocks⟩ := id X
  have hmr : hle st r := n_x_Mod_init_J298 h
  unfold x_Mod_init_J298 at h
  replace h := obi h; obtain ⟨st1, est1, h⟩ := h
  refine hpF_v (ty := (.array .int)) X hmn hq 7 42 rfl (by decide) rfl rfl (by decide +kernel) rfl rfl est1 q_715 d_x_Mod_init_298 (fun H locs hq => ?_)
  have hn := hn.ke (hP_ke est1)
  have hmr := hmr.ke (hP_ke est1)
  refine lv_aload_n hx hb d_x_Mod_init_301 rfl (lv_at hl 0 rfl) ?_
  refine lv_iload_n hx hb d_x_Mod_init_302 rfl (lv_at hl 1 rfl) ?_
  refine lv_iconst (v := 1) hx hb d_x_Mod_init_303 (by decide) ?_
  refine lv_icmp_ge (tgt := 311) hx hb d_x_Mod_init_304 (by decide) (fun c304 => ?_) (fun c304 => ?_)
  · replace h := ifp c304 h
    refine lv_iload_n hx hb d_x_Mod_init_311 rfl (lv_at hl 1 rfl) ?_
    refine lv_bipush (v := 12) hx hb d_x_Mod_init_312 (by decide) ?_
    refine lv_icmp_le (tgt := 322) hx hb d_x_Mod_init_314 (by decide) (fun c314 => ?_) (fun c314 => ?_)
    · replace h := ifp c314 h
      refine lv_iload_n hx hb d_x_Mod_init_322 rfl (lv_at hl 1 rfl) ?_
      exact w_x_Mod_init_J323 X hK hmn hq hn (lv_sub hl [] rfl) h
    · replace h := ifn c314 h
      refine lv_bipush (v := 12) hx hb d_x_Mod_init_317 (by decide) ?_
      refine lv_goto (tgt := 323) hx hb d_x_Mod_init_319 (by decide) ?_
      exact w_x_Mod_init_J323 X hK hmn hq hn (lv_sub hl [] rfl) h
  · replace h := ifn c304 h
    refine lv_iconst (v := 1) hx hb d_x_Mod_init_307 (by decide) ?_
    refine lv_goto (tgt := 323) hx hb d_x_Mod_init_308 (by decide) ?_
    exact w_x_Mod_init_J323 X hK hmn hq hn (lv_sub hl [] rfl) h
theorem w_x_Mod_init_J290 {r : HS} {st : HS} {l0 : Nat} {l1 : Int32} {w0 : Nat} {w1 : Nat} {n0 s0 : Nat} {H : Heap} {locs : List Loc} {ce sl : Nat} {ls : Array Slot} (X : jx p s m args meth c b_x_Mod_init 2 none "NoteSheetModel") (hK : 1 ≤ K) (hmn : meth.name = "<init>") (hq : hC G A s st H locs) (hn : hN ce sl n0 s0 st) (hl : lv_has ls 2 [(0, .ref l0), (1, .int l1)]) (h : x_Mod_init_J290 st l0 l1 w0 w1 = some r) : W p l e (rmL K (hNx r - n0) (hNs r - s0)) s m args below meth c H locs ce sl (MQ below (hQc G A none r) args s (hNx r - n0) (hNs r - s0) A) (F0 m 290 ls [.ref w0, .ref w1]) := by
  obtain ⟨hx, hb, hr, hml, hown, hts, hlocks⟩ := id X
  have hmr : hle st r := n_x_Mod_init_J290 h
  unfold x_Mod_init_J290 at h
  replace h := obi h; obtain ⟨st1, est1, h⟩ := h
  refine hpF_v (ty := (.array .int)) X hmn hq 7 41 rfl (by decide) rfl rfl (by decide +kernel) rfl rfl est1 q_714 d_x_Mod_init_290 (fun H locs hq => ?_)
  have hn := hn.ke (hP_ke est1)
  have hmr := hmr.ke (hP_ke est1)
  refine lv_aload_n hx hb d_x_Mod_init_293 rfl (lv_at hl 0 rfl) ?_
  refine lv_bipush (v := 40) hx hb d_x_Mod_init_294 (by decide) ?_
  replace h := obi h; obtain ⟨ad2, ead2, h⟩ := h
  replace h := obi h; obtain ⟨st3, est3, h⟩ := h
  have hn2 := hn.newa est3
  have hmr := n_x_Mod_init_J298 h
  refine h_newa X hq 0 (by decide) .int rfl est3 q_91 (by decide) (hn2.fit hmr) d_x_Mod_init_296 (fun H hq => ?_)
  have hn := hn2
  refine lv_nma (Option.some.inj ead2) ?_
  exact w_x_Mod_init_J298 X hK hmn hq hn (lv_sub hl [0, 1] rfl) h
theorem w_x_Mod_init_J282 {r : HS} {st : HS} {l0 : Nat} {l1 : Int32} {w0 : Nat} {w1 : Nat} {n0 s0 : Nat} {H : Heap} {locs : List Loc} {ce sl : Nat} {ls : Array Slot} (X : jx p s m args meth c b_x_Mod_init 2 none "NoteSheetModel") (hK : 1 ≤ K) (hmn : meth.name = "<init>") (hq : hC G A s st H locs) (hn : hN ce sl n0 s0 st) (hl : lv_has ls 2 [(0, .ref l0), (1, .int l1)]) (h : x_Mod_init_J282 st l0 l1 w0 w1 = some r) : W p l e (rmL K (hNx r - n0) (hNs r - s0)) s m args below meth c H locs ce sl (MQ below (hQc G A none r) args s (hNx r - n0) (hNs r - s0) A) (F0 m 282 ls [.ref w0, .ref w1]) := by
  obtain ⟨hx, hb, hr, hml, hown, hts, hlocks⟩ := id X
  have hmr : hle st r := n_x_Mod_init_J282 h
  unfold x_Mod_init_J282 at h
  replace h := obi h; obtain ⟨st1, est1, h⟩ := h
  refine hpF_v (ty := (.array .int)) X hmn hq 7 39 rfl (by decide) rfl rfl (by decide +kernel) rfl rfl est1 q_712 d_x_Mod_init_282 (fun H locs hq => ?_)
  have hn := hn.ke (hP_ke est1)
  have hmr := hmr.ke (hP_ke est1)
  refine lv_aload_n hx hb d_x_Mod_init_285 rfl (lv_at hl 0 rfl) ?_
  refine lv_bipush (v := 40) hx hb d_x_Mod_init_286 (by decide) ?_
  replace h := obi h; obtain ⟨ad2, ead2, h⟩ := h
  replace h := obi h; obtain ⟨st3, est3, h⟩ := h
  have hn2 := hn.newa est3
  have hmr := n_x_Mod_init_J290 h
  refine h_newa X hq 0 (by decide) .int rfl est3 q_91 (by decide) (hn2.fit hmr) d_x_Mod_init_288 (fun H hq => ?_)
  have hn := hn2
  refine lv_nma (Option.some.inj ead2) ?_
  exact w_x_Mod_init_J290 X hK hmn hq hn (lv_sub hl [0, 1] rfl) h
theorem w_x_Mod_init_J274 {r : HS} {st : HS} {l0 : Nat} {l1 : Int32} {w0 : Nat} {w1 : Nat} {n0 s0 : Nat} {H : Heap} {locs : List Loc} {ce sl : Nat} {ls : Array Slot} (X : jx p s m args meth c b_x_Mod_init 2 none "NoteSheetModel") (hK : 1 ≤ K) (hmn : meth.name = "<init>") (hq : hC G A s st H locs) (hn : hN ce sl n0 s0 st) (hl : lv_has ls 2 [(0, .ref l0), (1, .int l1)]) (h : x_Mod_init_J274 st l0 l1 w0 w1 = some r) : W p l e (rmL K (hNx r - n0) (hNs r - s0)) s m args below meth c H locs ce sl (MQ below (hQc G A none r) args s (hNx r - n0) (hNs r - s0) A) (F0 m 274 ls [.ref w0, .ref w1]) := by
  obtain ⟨hx, hb, hr, hml, hown, hts, hlocks⟩ := id X
  have hmr : hle st r := n_x_Mod_init_J274 h
  unfold x_Mod_init_J274 at h
  replace h := obi h; obtain ⟨st1, est1, h⟩ := h
  refine hpF_v (ty := (.array .int)) X hmn hq 7 38 rfl (by decide) rfl rfl (by decide +kernel) rfl rfl est1 q_711 d_x_Mod_init_274 (fun H locs hq => ?_)
  have hn := hn.ke (hP_ke est1)
  have hmr := hmr.ke (hP_ke est1)
  refine lv_aload_n hx hb d_x_Mod_init_277 rfl (lv_at hl 0 rfl) ?_
  refine lv_bipush (v := 64) hx hb d_x_Mod_init_278 (by decide) ?_
  replace h := obi h; obtain ⟨ad2, ead2, h⟩ := h
  replace h := obi h; obtain ⟨st3, est3, h⟩ := h
  have hn2 := hn.newa est3
  have hmr := n_x_Mod_init_J282 h
  refine h_newa X hq 0 (by decide) .int rfl est3 q_91 (by decide) (hn2.fit hmr) d_x_Mod_init_280 (fun H hq => ?_)
  have hn := hn2
  refine lv_nma (Option.some.inj ead2) ?_
  exact w_x_Mod_init_J282 X hK hmn hq hn (lv_sub hl [0, 1] rfl) h
theorem w_x_Mod_init_J266 {r : HS} {st : HS} {l0 : Nat} {l1 : Int32} {w0 : Nat} {w1 : Nat} {n0 s0 : Nat} {H : Heap} {locs : List Loc} {ce sl : Nat} {ls : Array Slot} (X : jx p s m args meth c b_x_Mod_init 2 none "NoteSheetModel") (hK : 1 ≤ K) (hmn : meth.name = "<init>") (hq : hC G A s st H locs) (hn : hN ce sl n0 s0 st) (hl : lv_has ls 2 [(0, .ref l0), (1, .int l1)]) (h : x_Mod_init_J266 st l0 l1 w0 w1 = some r) : W p l e (rmL K (hNx r - n0) (hNs r - s0)) s m args below meth c H locs ce sl (MQ below (hQc G A none r) args s (hNx r - n0) (hNs r - s0) A) (F0 m 266 ls [.ref w0, .ref w1]) := by
  obtain ⟨hx, hb, hr, hml, hown, hts, hlocks⟩ := id X
  have hmr : hle st r := n_x_Mod_init_J266 h
  unfold x_Mod_init_J266 at h
  replace h := obi h; obtain ⟨st1, est1, h⟩ := h
  refine hpF_v (ty := (.array .boolean)) X hmn hq 7 36 rfl (by decide) rfl rfl (by decide +kernel) rfl rfl est1 q_709 d_x_Mod_init_266 (fun H locs hq => ?_)
  have hn := hn.ke (hP_ke est1)
  have hmr := hmr.ke (hP_ke est1)
  refine lv_aload_n hx hb d_x_Mod_init_269 rfl (lv_at hl 0 rfl) ?_
  refine lv_bipush (v := 64) hx hb d_x_Mod_init_270 (by decide) ?_
  replace h := obi h; obtain ⟨ad2, ead2, h⟩ := h
  replace h := obi h; obtain ⟨st3, est3, h⟩ := h
  have hn2 := hn.newa est3
  have hmr := n_x_Mod_init_J274 h
  refine h_newa X hq 0 (by decide) .int rfl est3 q_91 (by decide) (hn2.fit hmr) d_x_Mod_init_272 (fun H hq => ?_)
  have hn := hn2
  refine lv_nma (Option.some.inj ead2) ?_
  exact w_x_Mod_init_J274 X hK hmn hq hn (lv_sub hl [0, 1] rfl) h
theorem w_x_Mod_init_J258 {r : HS} {st : HS} {l0 : Nat} {l1 : Int32} {w0 : Nat} {w1 : Nat} {n0 s0 : Nat} {H : Heap} {locs : List Loc} {ce sl : Nat} {ls : Array Slot} (X : jx p s m args meth c b_x_Mod_init 2 none "NoteSheetModel") (hK : 1 ≤ K) (hmn : meth.name = "<init>") (hq : hC G A s st H locs) (hn : hN ce sl n0 s0 st) (hl : lv_has ls 2 [(0, .ref l0), (1, .int l1)]) (h : x_Mod_init_J258 st l0 l1 w0 w1 = some r) : W p l e (rmL K (hNx r - n0) (hNs r - s0)) s m args below meth c H locs ce sl (MQ below (hQc G A none r) args s (hNx r - n0) (hNs r - s0) A) (F0 m 258 ls [.ref w0, .ref w1]) := by
  obtain ⟨hx, hb, hr, hml, hown, hts, hlocks⟩ := id X
  have hmr : hle st r := n_x_Mod_init_J258 h
  unfold x_Mod_init_J258 at h
  replace h := obi h; obtain ⟨st1, est1, h⟩ := h
  refine hpF_v (ty := (.array .boolean)) X hmn hq 7 35 rfl (by decide) rfl rfl (by decide +kernel) rfl rfl est1 q_708 d_x_Mod_init_258 (fun H locs hq => ?_)
  have hn := hn.ke (hP_ke est1)
  have hmr := hmr.ke (hP_ke est1)
  refine lv_aload_n hx hb d_x_Mod_init_261 rfl (lv_at hl 0 rfl) ?_
  refine lv_bipush (v := 12) hx hb d_x_Mod_init_262 (by decide) ?_
  replace h := obi h; obtain ⟨ad2, ead2, h⟩ := h
  replace h := obi h; obtain ⟨st3, est3, h⟩ := h
  have hn2 := hn.newa est3
  have hmr := n_x_Mod_init_J266 h
  refine h_newa X hq 2 (by decide) .boolean rfl est3 q_803 (by decide) (hn2.fit hmr) d_x_Mod_init_264 (fun H hq => ?_)
  have hn := hn2
  refine lv_nma (Option.some.inj ead2) ?_
  exact w_x_Mod_init_J266 X hK hmn hq hn (lv_sub hl [0, 1] rfl) h
theorem w_x_Mod_init_J250 {r : HS} {st : HS} {l0 : Nat} {l1 : Int32} {w0 : Nat} {w1 : Nat} {n0 s0 : Nat} {H : Heap} {locs : List Loc} {ce sl : Nat} {ls : Array Slot} (X : jx p s m args meth c b_x_Mod_init 2 none "NoteSheetModel") (hK : 1 ≤ K) (hmn : meth.name = "<init>") (hq : hC G A s st H locs) (hn : hN ce sl n0 s0 st) (hl : lv_has ls 2 [(0, .ref l0), (1, .int l1)]) (h : x_Mod_init_J250 st l0 l1 w0 w1 = some r) : W p l e (rmL K (hNx r - n0) (hNs r - s0)) s m args below meth c H locs ce sl (MQ below (hQc G A none r) args s (hNx r - n0) (hNs r - s0) A) (F0 m 250 ls [.ref w0, .ref w1]) := by
  obtain ⟨hx, hb, hr, hml, hown, hts, hlocks⟩ := id X
  have hmr : hle st r := n_x_Mod_init_J250 h
  unfold x_Mod_init_J250 at h
  replace h := obi h; obtain ⟨st1, est1, h⟩ := h
  refine hpF_v (ty := (.array .int)) X hmn hq 7 34 rfl (by decide) rfl rfl (by decide +kernel) rfl rfl est1 q_707 d_x_Mod_init_250 (fun H locs hq => ?_)
  have hn := hn.ke (hP_ke est1)
  have hmr := hmr.ke (hP_ke est1)
  refine lv_aload_n hx hb d_x_Mod_init_253 rfl (lv_at hl 0 rfl) ?_
  refine lv_bipush (v := 12) hx hb d_x_Mod_init_254 (by decide) ?_
  replace h := obi h; obtain ⟨ad2, ead2, h⟩ := h
  replace h := obi h; obtain ⟨st3, est3, h⟩ := h
  have hn2 := hn.newa est3
  have hmr := n_x_Mod_init_J258 h
  refine h_newa X hq 2 (by decide) .boolean rfl est3 q_803 (by decide) (hn2.fit hmr) d_x_Mod_init_256 (fun H hq => ?_)
  have hn := hn2
  refine lv_nma (Option.some.inj ead2) ?_
  exact w_x_Mod_init_J258 X hK hmn hq hn (lv_sub hl [0, 1] rfl) h
theorem w_x_Mod_init_J241 {r : HS} {st : HS} {l0 : Nat} {l1 : Int32} {w0 : Nat} {w1 : Nat} {n0 s0 : Nat} {H : Heap} {locs : List Loc} {ce sl : Nat} {ls : Array Slot} (X : jx p s m args meth c b_x_Mod_init 2 none "NoteSheetModel") (hK : 1 ≤ K) (hmn : meth.name = "<init>") (hq : hC G A s st H locs) (hn : hN ce sl n0 s0 st) (hl : lv_has ls 2 [(0, .ref l0), (1, .int l1)]) (h : x_Mod_init_J241 st l0 l1 w0 w1 = some r) : W p l e (rmL K (hNx r - n0) (hNs r - s0)) s m args below meth c H locs ce sl (MQ below (hQc G A none r) args s (hNx r - n0) (hNs r - s0) A) (F0 m 241 ls [.ref w0, .ref w1]) := by
  obtain ⟨hx, hb, hr, hml, hown, hts, hlocks⟩ := id X
  have hmr : hle st r := n_x_Mod_init_J241 h
  unfold x_Mod_init_J241 at h
  replace h := obi h; obtain ⟨st1, est1, h⟩ := h
  refine hpF_v (ty := (.array .int)) X hmn hq 7 33 rfl (by decide) rfl rfl (by decide +kernel) rfl rfl est1 q_706 d_x_Mod_init_241 (fun H locs hq => ?_)
  have hn := hn.ke (hP_ke est1)
  have hmr := hmr.ke (hP_ke est1)
  refine lv_aload_n hx hb d_x_Mod_init_244 rfl (lv_at hl 0 rfl) ?_
  refine lv_sipush (v := 144) hx hb d_x_Mod_init_245 (by decide) ?_
  replace h := obi h; obtain ⟨ad2, ead2, h⟩ := h
  replace h := obi h; obtain ⟨st3, est3, h⟩ := h
  have hn2 := hn.newa est3
  have hmr := n_x_Mod_init_J250 h
  refine h_newa X hq 0 (by decide) .int rfl est3 q_91 (by decide) (hn2.fit hmr) d_x_Mod_init_248 (fun H hq => ?_)
  have hn := hn2
  refine lv_nma (Option.some.inj ead2) ?_
  exact w_x_Mod_init_J250 X hK hmn hq hn (lv_sub hl [0, 1] rfl) h
theorem w_x_Mod_init_J233 {r : HS} {st : HS} {l0 : Nat} {l1 : Int32} {w0 : Nat} {w1 : Nat} {n0 s0 : Nat} {H : Heap} {locs : List Loc} {ce sl : Nat} {ls : Array Slot} (X : jx p s m args meth c b_x_Mod_init 2 none "NoteSheetModel") (hK : 1 ≤ K) (hmn : meth.name = "<init>") (hq : hC G A s st H locs) (hn : hN ce sl n0 s0 st) (hl : lv_has ls 2 [(0, .ref l0), (1, .int l1)]) (h : x_Mod_init_J233 st l0 l1 w0 w1 = some r) : W p l e (rmL K (hNx r - n0) (hNs r - s0)) s m args below meth c H locs ce sl (MQ below (hQc G A none r) args s (hNx r - n0) (hNs r - s0) A) (F0 m 233 ls [.ref w0, .ref w1]) := by
  obtain ⟨hx, hb, hr, hml, hown, hts, hlocks⟩ := id X
  have hmr : hle st r := n_x_Mod_init_J233 h
  unfold x_Mod_init_J233 at h
  replace h := obi h; obtain ⟨st1, est1, h⟩ := h
  refine hpF_v (ty := (.array .long)) X hmn hq 7 32 rfl (by decide) rfl rfl (by decide +kernel) rfl rfl est1 q_705 d_x_Mod_init_233 (fun H locs hq => ?_)
  have hn := hn.ke (hP_ke est1)
  have hmr := hmr.ke (hP_ke est1)
  refine lv_aload_n hx hb d_x_Mod_init_236 rfl (lv_at hl 0 rfl) ?_
  refine lv_bipush (v := 12) hx hb d_x_Mod_init_237 (by decide) ?_
  replace h := obi h; obtain ⟨ad2, ead2, h⟩ := h
  replace h := obi h; obtain ⟨st3, est3, h⟩ := h
  have hn2 := hn.newa est3
  have hmr := n_x_Mod_init_J241 h
  refine h_newa X hq 0 (by decide) .int rfl est3 q_91 (by decide) (hn2.fit hmr) d_x_Mod_init_239 (fun H hq => ?_)
  have hn := hn2
  refine lv_nma (Option.some.inj ead2) ?_
  exact w_x_Mod_init_J241 X hK hmn hq hn (lv_sub hl [0, 1] rfl) h
theorem w_x_Mod_init_J224 {r : HS} {st : HS} {l0 : Nat} {l1 : Int32} {w0 : Nat} {w1 : Nat} {n0 s0 : Nat} {H : Heap} {locs : List Loc} {ce sl : Nat} {ls : Array Slot} (X : jx p s m args meth c b_x_Mod_init 2 none "NoteSheetModel") (hK : 1 ≤ K) (hmn : meth.name = "<init>") (hq : hC G A s st H locs) (hn : hN ce sl n0 s0 st) (hl : lv_has ls 2 [(0, .ref l0), (1, .int l1)]) (h : x_Mod_init_J224 st l0 l1 w0 w1 = some r) : W p l e (rmL K (hNx r - n0) (hNs r - s0)) s m args below meth c H locs ce sl (MQ below (hQc G A none r) args s (hNx r - n0) (hNs r - s0) A) (F0 m 224 ls [.ref w0, .ref w1]) := by
  obtain ⟨hx, hb, hr, hml, hown, hts, hlocks⟩ := id X
  have hmr : hle st r := n_x_Mod_init_J224 h
  unfold x_Mod_init_J224 at h
  replace h := obi h; obtain ⟨st1, est1, h⟩ := h
  refine hpF_v (ty := (.array .int)) X hmn hq 7 31 rfl (by decide) rfl rfl (by decide +kernel) rfl rfl est1 q_704 d_x_Mod_init_224 (fun H locs hq => ?_)
  have hn := hn.ke (hP_ke est1)
  have hmr := hmr.ke (hP_ke est1)
  refine lv_aload_n hx hb d_x_Mod_init_227 rfl (lv_at hl 0 rfl) ?_
  refine lv_sipush (v := 192) hx hb d_x_Mod_init_228 (by decide) ?_
  replace h := obi h; obtain ⟨ad2, ead2, h⟩ := h
  replace h := obi h; obtain ⟨st3, est3, h⟩ := h
  have hn2 := hn.newa est3
  have hmr := n_x_Mod_init_J233 h
  refine h_newa X hq 3 (by decide) .long rfl est3 q_643 (by decide) (hn2.fit hmr) d_x_Mod_init_231 (fun H hq => ?_)
  have hn := hn2
  refine lv_nma (Option.some.inj ead2) ?_
  exact w_x_Mod_init_J233 X hK hmn hq hn (lv_sub hl [0, 1] rfl) h
theorem w_x_Mod_init_J216 {r : HS} {st : HS} {l0 : Nat} {l1 : Int32} {w0 : Nat} {w1 : Nat} {n0 s0 : Nat} {H : Heap} {locs : List Loc} {ce sl : Nat} {ls : Array Slot} (X : jx p s m args meth c b_x_Mod_init 2 none "NoteSheetModel") (hK : 1 ≤ K) (hmn : meth.name = "<init>") (hq : hC G A s st H locs) (hn : hN ce sl n0 s0 st) (hl : lv_has ls 2 [(0, .ref l0), (1, .int l1)]) (h : x_Mod_init_J216 st l0 l1 w0 w1 = some r) : W p l e (rmL K (hNx r - n0) (hNs r - s0)) s m args below meth c H locs ce sl (MQ below (hQc G A none r) args s (hNx r - n0) (hNs r - s0) A) (F0 m 216 ls [.ref w0, .ref w1]) := by
  obtain ⟨hx, hb, hr, hml, hown, hts, hlocks⟩ := id X
  have hmr : hle st r := n_x_Mod_init_J216 h
  unfold x_Mod_init_J216 at h
  replace h := obi h; obtain ⟨st1, est1, h⟩ := h
  refine hpF_v (ty := (.array .int)) X hmn hq 7 30 rfl (by decide) rfl rfl (by decide +kernel) rfl rfl est1 q_703 d_x_Mod_init_216 (fun H locs hq => ?_)
  have hn := hn.ke (hP_ke est1)
  have hmr := hmr.ke (hP_ke est1)
  refine lv_aload_n hx hb d_x_Mod_init_219 rfl (lv_at hl 0 rfl) ?_
  refine lv_bipush (v := 12) hx hb d_x_Mod_init_220 (by decide) ?_
  replace h := obi h; obtain ⟨ad2, ead2, h⟩ := h
  replace h := obi h; obtain ⟨st3, est3, h⟩ := h
  have hn2 := hn.newa est3
  have hmr := n_x_Mod_init_J224 h
  refine h_newa X hq 0 (by decide) .int rfl est3 q_91 (by decide) (hn2.fit hmr) d_x_Mod_init_222 (fun H hq => ?_)
  have hn := hn2
  refine lv_nma (Option.some.inj ead2) ?_
  exact w_x_Mod_init_J224 X hK hmn hq hn (lv_sub hl [0, 1] rfl) h
theorem w_x_Mod_init_J208 {r : HS} {st : HS} {l0 : Nat} {l1 : Int32} {w0 : Nat} {w1 : Nat} {n0 s0 : Nat} {H : Heap} {locs : List Loc} {ce sl : Nat} {ls : Array Slot} (X : jx p s m args meth c b_x_Mod_init 2 none "NoteSheetModel") (hK : 1 ≤ K) (hmn : meth.name = "<init>") (hq : hC G A s st H locs) (hn : hN ce sl n0 s0 st) (hl : lv_has ls 2 [(0, .ref l0), (1, .int l1)]) (h : x_Mod_init_J208 st l0 l1 w0 w1 = some r) : W p l e (rmL K (hNx r - n0) (hNs r - s0)) s m args below meth c H locs ce sl (MQ below (hQc G A none r) args s (hNx r - n0) (hNs r - s0) A) (F0 m 208 ls [.ref w0, .ref w1]) := by
  obtain ⟨hx, hb, hr, hml, hown, hts, hlocks⟩ := id X
  have hmr : hle st r := n_x_Mod_init_J208 h
  unfold x_Mod_init_J208 at h
  replace h := obi h; obtain ⟨st1, est1, h⟩ := h
  refine hpF_v (ty := (.array .int)) X hmn hq 7 29 rfl (by decide) rfl rfl (by decide +kernel) rfl rfl est1 q_702 d_x_Mod_init_208 (fun H locs hq => ?_)
  have hn := hn.ke (hP_ke est1)
  have hmr := hmr.ke (hP_ke est1)
  refine lv_aload_n hx hb d_x_Mod_init_211 rfl (lv_at hl 0 rfl) ?_
  refine lv_bipush (v := 12) hx hb d_x_Mod_init_212 (by decide) ?_
  replace h := obi h; obtain ⟨ad2, ead2, h⟩ := h
  replace h := obi h; obtain ⟨st3, est3, h⟩ := h
  have hn2 := hn.newa est3
  have hmr := n_x_Mod_init_J216 h
  refine h_newa X hq 0 (by decide) .int rfl est3 q_91 (by decide) (hn2.fit hmr) d_x_Mod_init_214 (fun H hq => ?_)
  have hn := hn2
  refine lv_nma (Option.some.inj ead2) ?_
  exact w_x_Mod_init_J216 X hK hmn hq hn (lv_sub hl [0, 1] rfl) h
theorem w_x_Mod_init_J200 {r : HS} {st : HS} {l0 : Nat} {l1 : Int32} {w0 : Nat} {w1 : Nat} {n0 s0 : Nat} {H : Heap} {locs : List Loc} {ce sl : Nat} {ls : Array Slot} (X : jx p s m args meth c b_x_Mod_init 2 none "NoteSheetModel") (hK : 1 ≤ K) (hmn : meth.name = "<init>") (hq : hC G A s st H locs) (hn : hN ce sl n0 s0 st) (hl : lv_has ls 2 [(0, .ref l0), (1, .int l1)]) (h : x_Mod_init_J200 st l0 l1 w0 w1 = some r) : W p l e (rmL K (hNx r - n0) (hNs r - s0)) s m args below meth c H locs ce sl (MQ below (hQc G A none r) args s (hNx r - n0) (hNs r - s0) A) (F0 m 200 ls [.ref w0, .ref w1]) := by
  obtain ⟨hx, hb, hr, hml, hown, hts, hlocks⟩ := id X
  have hmr : hle st r := n_x_Mod_init_J200 h
  unfold x_Mod_init_J200 at h
  replace h := obi h; obtain ⟨st1, est1, h⟩ := h
  refine hpF_v (ty := (.array .int)) X hmn hq 7 28 rfl (by decide) rfl rfl (by decide +kernel) rfl rfl est1 q_701 d_x_Mod_init_200 (fun H locs hq => ?_)
  have hn := hn.ke (hP_ke est1)
  have hmr := hmr.ke (hP_ke est1)
  refine lv_aload_n hx hb d_x_Mod_init_203 rfl (lv_at hl 0 rfl) ?_
  refine lv_bipush (v := 12) hx hb d_x_Mod_init_204 (by decide) ?_
  replace h := obi h; obtain ⟨ad2, ead2, h⟩ := h
  replace h := obi h; obtain ⟨st3, est3, h⟩ := h
  have hn2 := hn.newa est3
  have hmr := n_x_Mod_init_J208 h
  refine h_newa X hq 0 (by decide) .int rfl est3 q_91 (by decide) (hn2.fit hmr) d_x_Mod_init_206 (fun H hq => ?_)
  have hn := hn2
  refine lv_nma (Option.some.inj ead2) ?_
  exact w_x_Mod_init_J208 X hK hmn hq hn (lv_sub hl [0, 1] rfl) h
theorem w_x_Mod_init_J192 {r : HS} {st : HS} {l0 : Nat} {l1 : Int32} {w0 : Nat} {w1 : Nat} {n0 s0 : Nat} {H : Heap} {locs : List Loc} {ce sl : Nat} {ls : Array Slot} (X : jx p s m args meth c b_x_Mod_init 2 none "NoteSheetModel") (hK : 1 ≤ K) (hmn : meth.name = "<init>") (hq : hC G A s st H locs) (hn : hN ce sl n0 s0 st) (hl : lv_has ls 2 [(0, .ref l0), (1, .int l1)]) (h : x_Mod_init_J192 st l0 l1 w0 w1 = some r) : W p l e (rmL K (hNx r - n0) (hNs r - s0)) s m args below meth c H locs ce sl (MQ below (hQc G A none r) args s (hNx r - n0) (hNs r - s0) A) (F0 m 192 ls [.ref w0, .ref w1]) := by
  obtain ⟨hx, hb, hr, hml, hown, hts, hlocks⟩ := id X
  have hmr : hle st r := n_x_Mod_init_J192 h
  unfold x_Mod_init_J192 at h
  replace h := obi h; obtain ⟨st1, est1, h⟩ := h
  refine hpF_v (ty := (.array .int)) X hmn hq 7 26 rfl (by decide) rfl rfl (by decide +kernel) rfl rfl est1 q_699 d_x_Mod_init_192 (fun H locs hq => ?_)
  have hn := hn.ke (hP_ke est1)
  have hmr := hmr.ke (hP_ke est1)
  refine lv_aload_n hx hb d_x_Mod_init_195 rfl (lv_at hl 0 rfl) ?_
  refine lv_bipush (v := 12) hx hb d_x_Mod_init_196 (by decide) ?_
  replace h := obi h; obtain ⟨ad2, ead2, h⟩ := h
  replace h := obi h; obtain ⟨st3, est3, h⟩ := h
  have hn2 := hn.newa est3
  have hmr := n_x_Mod_init_J200 h
  refine h_newa X hq 0 (by decide) .int rfl est3 q_91 (by decide) (hn2.fit hmr) d_x_Mod_init_198 (fun H hq => ?_)
  have hn := hn2
  refine lv_nma (Option.some.inj ead2) ?_
  exact w_x_Mod_init_J200 X hK hmn hq hn (lv_sub hl [0, 1] rfl) h
theorem w_x_Mod_init_J185 {r : HS} {st : HS} {l0 : Nat} {l1 : Int32} {w0 : Nat} {w1 : Nat} {n0 s0 : Nat} {H : Heap} {locs : List Loc} {ce sl : Nat} {ls : Array Slot} (X : jx p s m args meth c b_x_Mod_init 2 none "NoteSheetModel") (hK : 1 ≤ K) (hmn : meth.name = "<init>") (hq : hC G A s st H locs) (hn : hN ce sl n0 s0 st) (hl : lv_has ls 2 [(0, .ref l0), (1, .int l1)]) (h : x_Mod_init_J185 st l0 l1 w0 w1 = some r) : W p l e (rmL K (hNx r - n0) (hNs r - s0)) s m args below meth c H locs ce sl (MQ below (hQc G A none r) args s (hNx r - n0) (hNs r - s0) A) (F0 m 185 ls [.ref w0, .ref w1]) := by
  obtain ⟨hx, hb, hr, hml, hown, hts, hlocks⟩ := id X
  have hmr : hle st r := n_x_Mod_init_J185 h
  unfold x_Mod_init_J185 at h
  replace h := obi h; obtain ⟨st1, est1, h⟩ := h
  refine hpF_v (ty := (.array .int)) X hmn hq 7 25 rfl (by decide) rfl rfl (by decide +kernel) rfl rfl est1 q_698 d_x_Mod_init_185 (fun H locs hq => ?_)
  have hn := hn.ke (hP_ke est1)
  have hmr := hmr.ke (hP_ke est1)
  refine lv_aload_n hx hb d_x_Mod_init_188 rfl (lv_at hl 0 rfl) ?_
  refine lv_iconst (v := 3) hx hb d_x_Mod_init_189 (by decide) ?_
  replace h := obi h; obtain ⟨ad2, ead2, h⟩ := h
  replace h := obi h; obtain ⟨st3, est3, h⟩ := h
  have hn2 := hn.newa est3
  have hmr := n_x_Mod_init_J192 h
  refine h_newa X hq 0 (by decide) .int rfl est3 q_91 (by decide) (hn2.fit hmr) d_x_Mod_init_190 (fun H hq => ?_)
  have hn := hn2
  refine lv_nma (Option.some.inj ead2) ?_
  exact w_x_Mod_init_J192 X hK hmn hq hn (lv_sub hl [0, 1] rfl) h
theorem w_x_Mod_init_J177 {r : HS} {st : HS} {l0 : Nat} {l1 : Int32} {w0 : Nat} {w1 : Nat} {n0 s0 : Nat} {H : Heap} {locs : List Loc} {ce sl : Nat} {ls : Array Slot} (X : jx p s m args meth c b_x_Mod_init 2 none "NoteSheetModel") (hK : 1 ≤ K) (hmn : meth.name = "<init>") (hq : hC G A s st H locs) (hn : hN ce sl n0 s0 st) (hl : lv_has ls 2 [(0, .ref l0), (1, .int l1)]) (h : x_Mod_init_J177 st l0 l1 w0 w1 = some r) : W p l e (rmL K (hNx r - n0) (hNs r - s0)) s m args below meth c H locs ce sl (MQ below (hQc G A none r) args s (hNx r - n0) (hNs r - s0) A) (F0 m 177 ls [.ref w0, .ref w1]) := by
  obtain ⟨hx, hb, hr, hml, hown, hts, hlocks⟩ := id X
  have hmr : hle st r := n_x_Mod_init_J177 h
  unfold x_Mod_init_J177 at h
  replace h := obi h; obtain ⟨st1, est1, h⟩ := h
  refine hpF_v (ty := (.array .int)) X hmn hq 7 23 rfl (by decide) rfl rfl (by decide +kernel) rfl rfl est1 q_696 d_x_Mod_init_177 (fun H locs hq => ?_)
  have hn := hn.ke (hP_ke est1)
  have hmr := hmr.ke (hP_ke est1)
  refine lv_aload_n hx hb d_x_Mod_init_180 rfl (lv_at hl 0 rfl) ?_
  refine lv_bipush (v := 36) hx hb d_x_Mod_init_181 (by decide) ?_
  replace h := obi h; obtain ⟨ad2, ead2, h⟩ := h
  replace h := obi h; obtain ⟨st3, est3, h⟩ := h
  have hn2 := hn.newa est3
  have hmr := n_x_Mod_init_J185 h
  refine h_newa X hq 0 (by decide) .int rfl est3 q_91 (by decide) (hn2.fit hmr) d_x_Mod_init_183 (fun H hq => ?_)
  have hn := hn2
  refine lv_nma (Option.some.inj ead2) ?_
  exact w_x_Mod_init_J185 X hK hmn hq hn (lv_sub hl [0, 1] rfl) h
theorem w_x_Mod_init_J169 {r : HS} {st : HS} {l0 : Nat} {l1 : Int32} {w0 : Nat} {w1 : Nat} {n0 s0 : Nat} {H : Heap} {locs : List Loc} {ce sl : Nat} {ls : Array Slot} (X : jx p s m args meth c b_x_Mod_init 2 none "NoteSheetModel") (hK : 1 ≤ K) (hmn : meth.name = "<init>") (hq : hC G A s st H locs) (hn : hN ce sl n0 s0 st) (hl : lv_has ls 2 [(0, .ref l0), (1, .int l1)]) (h : x_Mod_init_J169 st l0 l1 w0 w1 = some r) : W p l e (rmL K (hNx r - n0) (hNs r - s0)) s m args below meth c H locs ce sl (MQ below (hQc G A none r) args s (hNx r - n0) (hNs r - s0) A) (F0 m 169 ls [.ref w0, .ref w1]) := by
  obtain ⟨hx, hb, hr, hml, hown, hts, hlocks⟩ := id X
  have hmr : hle st r := n_x_Mod_init_J169 h
  unfold x_Mod_init_J169 at h
  replace h := obi h; obtain ⟨st1, est1, h⟩ := h
  refine hpF_v (ty := (.array .int)) X hmn hq 7 22 rfl (by decide) rfl rfl (by decide +kernel) rfl rfl est1 q_695 d_x_Mod_init_169 (fun H locs hq => ?_)
  have hn := hn.ke (hP_ke est1)
  have hmr := hmr.ke (hP_ke est1)
  refine lv_aload_n hx hb d_x_Mod_init_172 rfl (lv_at hl 0 rfl) ?_
  refine lv_bipush (v := 12) hx hb d_x_Mod_init_173 (by decide) ?_
  replace h := obi h; obtain ⟨ad2, ead2, h⟩ := h
  replace h := obi h; obtain ⟨st3, est3, h⟩ := h
  have hn2 := hn.newa est3
  have hmr := n_x_Mod_init_J177 h
  refine h_newa X hq 0 (by decide) .int rfl est3 q_91 (by decide) (hn2.fit hmr) d_x_Mod_init_175 (fun H hq => ?_)
  have hn := hn2
  refine lv_nma (Option.some.inj ead2) ?_
  exact w_x_Mod_init_J177 X hK hmn hq hn (lv_sub hl [0, 1] rfl) h
theorem w_x_Mod_init_J160 {r : HS} {st : HS} {l0 : Nat} {l1 : Int32} {w0 : Nat} {w1 : Nat} {n0 s0 : Nat} {H : Heap} {locs : List Loc} {ce sl : Nat} {ls : Array Slot} (X : jx p s m args meth c b_x_Mod_init 2 none "NoteSheetModel") (hK : 1 ≤ K) (hmn : meth.name = "<init>") (hq : hC G A s st H locs) (hn : hN ce sl n0 s0 st) (hl : lv_has ls 2 [(0, .ref l0), (1, .int l1)]) (h : x_Mod_init_J160 st l0 l1 w0 w1 = some r) : W p l e (rmL K (hNx r - n0) (hNs r - s0)) s m args below meth c H locs ce sl (MQ below (hQc G A none r) args s (hNx r - n0) (hNs r - s0) A) (F0 m 160 ls [.ref w0, .ref w1]) := by
  obtain ⟨hx, hb, hr, hml, hown, hts, hlocks⟩ := id X
  have hmr : hle st r := n_x_Mod_init_J160 h
  unfold x_Mod_init_J160 at h
  replace h := obi h; obtain ⟨st1, est1, h⟩ := h
  refine hpF_v (ty := (.array .int)) X hmn hq 7 21 rfl (by decide) rfl rfl (by decide +kernel) rfl rfl est1 q_694 d_x_Mod_init_160 (fun H locs hq => ?_)
  have hn := hn.ke (hP_ke est1)
  have hmr := hmr.ke (hP_ke est1)
  refine lv_aload_n hx hb d_x_Mod_init_163 rfl (lv_at hl 0 rfl) ?_
  refine lv_sipush (v := 144) hx hb d_x_Mod_init_164 (by decide) ?_
  replace h := obi h; obtain ⟨ad2, ead2, h⟩ := h
  replace h := obi h; obtain ⟨st3, est3, h⟩ := h
  have hn2 := hn.newa est3
  have hmr := n_x_Mod_init_J169 h
  refine h_newa X hq 0 (by decide) .int rfl est3 q_91 (by decide) (hn2.fit hmr) d_x_Mod_init_167 (fun H hq => ?_)
  have hn := hn2
  refine lv_nma (Option.some.inj ead2) ?_
  exact w_x_Mod_init_J169 X hK hmn hq hn (lv_sub hl [0, 1] rfl) h
theorem w_x_Mod_init_J152 {r : HS} {st : HS} {l0 : Nat} {l1 : Int32} {w0 : Nat} {w1 : Nat} {n0 s0 : Nat} {H : Heap} {locs : List Loc} {ce sl : Nat} {ls : Array Slot} (X : jx p s m args meth c b_x_Mod_init 2 none "NoteSheetModel") (hK : 1 ≤ K) (hmn : meth.name = "<init>") (hq : hC G A s st H locs) (hn : hN ce sl n0 s0 st) (hl : lv_has ls 2 [(0, .ref l0), (1, .int l1)]) (h : x_Mod_init_J152 st l0 l1 w0 w1 = some r) : W p l e (rmL K (hNx r - n0) (hNs r - s0)) s m args below meth c H locs ce sl (MQ below (hQc G A none r) args s (hNx r - n0) (hNs r - s0) A) (F0 m 152 ls [.ref w0, .ref w1]) := by
  obtain ⟨hx, hb, hr, hml, hown, hts, hlocks⟩ := id X
  have hmr : hle st r := n_x_Mod_init_J152 h
  unfold x_Mod_init_J152 at h
  replace h := obi h; obtain ⟨st1, est1, h⟩ := h
  refine hpF_v (ty := (.array .int)) X hmn hq 7 20 rfl (by decide) rfl rfl (by decide +kernel) rfl rfl est1 q_693 d_x_Mod_init_152 (fun H locs hq => ?_)
  have hn := hn.ke (hP_ke est1)
  have hmr := hmr.ke (hP_ke est1)
  refine lv_aload_n hx hb d_x_Mod_init_155 rfl (lv_at hl 0 rfl) ?_
  refine lv_bipush (v := 12) hx hb d_x_Mod_init_156 (by decide) ?_
  replace h := obi h; obtain ⟨ad2, ead2, h⟩ := h
  replace h := obi h; obtain ⟨st3, est3, h⟩ := h
  have hn2 := hn.newa est3
  have hmr := n_x_Mod_init_J160 h
  refine h_newa X hq 0 (by decide) .int rfl est3 q_91 (by decide) (hn2.fit hmr) d_x_Mod_init_158 (fun H hq => ?_)
  have hn := hn2
  refine lv_nma (Option.some.inj ead2) ?_
  exact w_x_Mod_init_J160 X hK hmn hq hn (lv_sub hl [0, 1] rfl) h
theorem w_x_Mod_init_J144 {r : HS} {st : HS} {l0 : Nat} {l1 : Int32} {w0 : Nat} {w1 : Nat} {n0 s0 : Nat} {H : Heap} {locs : List Loc} {ce sl : Nat} {ls : Array Slot} (X : jx p s m args meth c b_x_Mod_init 2 none "NoteSheetModel") (hK : 1 ≤ K) (hmn : meth.name = "<init>") (hq : hC G A s st H locs) (hn : hN ce sl n0 s0 st) (hl : lv_has ls 2 [(0, .ref l0), (1, .int l1)]) (h : x_Mod_init_J144 st l0 l1 w0 w1 = some r) : W p l e (rmL K (hNx r - n0) (hNs r - s0)) s m args below meth c H locs ce sl (MQ below (hQc G A none r) args s (hNx r - n0) (hNs r - s0) A) (F0 m 144 ls [.ref w0, .ref w1]) := by
  obtain ⟨hx, hb, hr, hml, hown, hts, hlocks⟩ := id X
  have hmr : hle st r := n_x_Mod_init_J144 h
  unfold x_Mod_init_J144 at h
  replace h := obi h; obtain ⟨st1, est1, h⟩ := h
  refine hpF_v (ty := (.array .int)) X hmn hq 7 19 rfl (by decide) rfl rfl (by decide +kernel) rfl rfl est1 q_692 d_x_Mod_init_144 (fun H locs hq => ?_)
  have hn := hn.ke (hP_ke est1)
  have hmr := hmr.ke (hP_ke est1)
  refine lv_aload_n hx hb d_x_Mod_init_147 rfl (lv_at hl 0 rfl) ?_
  refine lv_bipush (v := 12) hx hb d_x_Mod_init_148 (by decide) ?_
  replace h := obi h; obtain ⟨ad2, ead2, h⟩ := h
  replace h := obi h; obtain ⟨st3, est3, h⟩ := h
  have hn2 := hn.newa est3
  have hmr := n_x_Mod_init_J152 h
  refine h_newa X hq 0 (by decide) .int rfl est3 q_91 (by decide) (hn2.fit hmr) d_x_Mod_init_150 (fun H hq => ?_)
  have hn := hn2
  refine lv_nma (Option.some.inj ead2) ?_
  exact w_x_Mod_init_J152 X hK hmn hq hn (lv_sub hl [0, 1] rfl) h
theorem w_x_Mod_init_J136 {r : HS} {st : HS} {l0 : Nat} {l1 : Int32} {w0 : Nat} {w1 : Nat} {n0 s0 : Nat} {H : Heap} {locs : List Loc} {ce sl : Nat} {ls : Array Slot} (X : jx p s m args meth c b_x_Mod_init 2 none "NoteSheetModel") (hK : 1 ≤ K) (hmn : meth.name = "<init>") (hq : hC G A s st H locs) (hn : hN ce sl n0 s0 st) (hl : lv_has ls 2 [(0, .ref l0), (1, .int l1)]) (h : x_Mod_init_J136 st l0 l1 w0 w1 = some r) : W p l e (rmL K (hNx r - n0) (hNs r - s0)) s m args below meth c H locs ce sl (MQ below (hQc G A none r) args s (hNx r - n0) (hNs r - s0) A) (F0 m 136 ls [.ref w0, .ref w1]) := by
  obtain ⟨hx, hb, hr, hml, hown, hts, hlocks⟩ := id X
  have hmr : hle st r := n_x_Mod_init_J136 h
  unfold x_Mod_init_J136 at h
  replace h := obi h; obtain ⟨st1, est1, h⟩ := h
  refine hpF_v (ty := (.array .int)) X hmn hq 7 18 rfl (by decide) rfl rfl (by decide +kernel) rfl rfl est1 q_691 d_x_Mod_init_136 (fun H locs hq => ?_)
  have hn := hn.ke (hP_ke est1)
  have hmr := hmr.ke (hP_ke est1)
  refine lv_aload_n hx hb d_x_Mod_init_139 rfl (lv_at hl 0 rfl) ?_
  refine lv_bipush (v := 12) hx hb d_x_Mod_init_140 (by decide) ?_
  replace h := obi h; obtain ⟨ad2, ead2, h⟩ := h
  replace h := obi h; obtain ⟨st3, est3, h⟩ := h
  have hn2 := hn.newa est3
  have hmr := n_x_Mod_init_J144 h
  refine h_newa X hq 0 (by decide) .int rfl est3 q_91 (by decide) (hn2.fit hmr) d_x_Mod_init_142 (fun H hq => ?_)
  have hn := hn2
  refine lv_nma (Option.some.inj ead2) ?_
  exact w_x_Mod_init_J144 X hK hmn hq hn (lv_sub hl [0, 1] rfl) h
theorem w_x_Mod_init_J128 {r : HS} {st : HS} {l0 : Nat} {l1 : Int32} {w0 : Nat} {w1 : Nat} {n0 s0 : Nat} {H : Heap} {locs : List Loc} {ce sl : Nat} {ls : Array Slot} (X : jx p s m args meth c b_x_Mod_init 2 none "NoteSheetModel") (hK : 1 ≤ K) (hmn : meth.name = "<init>") (hq : hC G A s st H locs) (hn : hN ce sl n0 s0 st) (hl : lv_has ls 2 [(0, .ref l0), (1, .int l1)]) (h : x_Mod_init_J128 st l0 l1 w0 w1 = some r) : W p l e (rmL K (hNx r - n0) (hNs r - s0)) s m args below meth c H locs ce sl (MQ below (hQc G A none r) args s (hNx r - n0) (hNs r - s0) A) (F0 m 128 ls [.ref w0, .ref w1]) := by
  obtain ⟨hx, hb, hr, hml, hown, hts, hlocks⟩ := id X
  have hmr : hle st r := n_x_Mod_init_J128 h
  unfold x_Mod_init_J128 at h
  replace h := obi h; obtain ⟨st1, est1, h⟩ := h
  refine hpF_v (ty := (.array .long)) X hmn hq 7 17 rfl (by decide) rfl rfl (by decide +kernel) rfl rfl est1 q_690 d_x_Mod_init_128 (fun H locs hq => ?_)
  have hn := hn.ke (hP_ke est1)
  have hmr := hmr.ke (hP_ke est1)
  refine lv_aload_n hx hb d_x_Mod_init_131 rfl (lv_at hl 0 rfl) ?_
  refine lv_bipush (v := 12) hx hb d_x_Mod_init_132 (by decide) ?_
  replace h := obi h; obtain ⟨ad2, ead2, h⟩ := h
  replace h := obi h; obtain ⟨st3, est3, h⟩ := h
  have hn2 := hn.newa est3
  have hmr := n_x_Mod_init_J136 h
  refine h_newa X hq 0 (by decide) .int rfl est3 q_91 (by decide) (hn2.fit hmr) d_x_Mod_init_134 (fun H hq => ?_)
  have hn := hn2
  refine lv_nma (Option.some.inj ead2) ?_
  exact w_x_Mod_init_J136 X hK hmn hq hn (lv_sub hl [0, 1] rfl) h
theorem w_x_Mod_init_J120 {r : HS} {st : HS} {l0 : Nat} {l1 : Int32} {w0 : Nat} {w1 : Nat} {n0 s0 : Nat} {H : Heap} {locs : List Loc} {ce sl : Nat} {ls : Array Slot} (X : jx p s m args meth c b_x_Mod_init 2 none "NoteSheetModel") (hK : 1 ≤ K) (hmn : meth.name = "<init>") (hq : hC G A s st H locs) (hn : hN ce sl n0 s0 st) (hl : lv_has ls 2 [(0, .ref l0), (1, .int l1)]) (h : x_Mod_init_J120 st l0 l1 w0 w1 = some r) : W p l e (rmL K (hNx r - n0) (hNs r - s0)) s m args below meth c H locs ce sl (MQ below (hQc G A none r) args s (hNx r - n0) (hNs r - s0) A) (F0 m 120 ls [.ref w0, .ref w1]) := by
  obtain ⟨hx, hb, hr, hml, hown, hts, hlocks⟩ := id X
  have hmr : hle st r := n_x_Mod_init_J120 h
  unfold x_Mod_init_J120 at h
  replace h := obi h; obtain ⟨st1, est1, h⟩ := h
  refine hpF_v (ty := (.array .boolean)) X hmn hq 7 16 rfl (by decide) rfl rfl (by decide +kernel) rfl rfl est1 q_689 d_x_Mod_init_120 (fun H locs hq => ?_)
  have hn := hn.ke (hP_ke est1)
  have hmr := hmr.ke (hP_ke est1)
  refine lv_aload_n hx hb d_x_Mod_init_123 rfl (lv_at hl 0 rfl) ?_
  refine lv_bipush (v := 12) hx hb d_x_Mod_init_124 (by decide) ?_
  replace h := obi h; obtain ⟨ad2, ead2, h⟩ := h
  replace h := obi h; obtain ⟨st3, est3, h⟩ := h
  have hn2 := hn.newa est3
  have hmr := n_x_Mod_init_J128 h
  refine h_newa X hq 3 (by decide) .long rfl est3 q_643 (by decide) (hn2.fit hmr) d_x_Mod_init_126 (fun H hq => ?_)
  have hn := hn2
  refine lv_nma (Option.some.inj ead2) ?_
  exact w_x_Mod_init_J128 X hK hmn hq hn (lv_sub hl [0, 1] rfl) h
theorem w_x_Mod_init_J112 {r : HS} {st : HS} {l0 : Nat} {l1 : Int32} {w0 : Nat} {w1 : Nat} {n0 s0 : Nat} {H : Heap} {locs : List Loc} {ce sl : Nat} {ls : Array Slot} (X : jx p s m args meth c b_x_Mod_init 2 none "NoteSheetModel") (hK : 1 ≤ K) (hmn : meth.name = "<init>") (hq : hC G A s st H locs) (hn : hN ce sl n0 s0 st) (hl : lv_has ls 2 [(0, .ref l0), (1, .int l1)]) (h : x_Mod_init_J112 st l0 l1 w0 w1 = some r) : W p l e (rmL K (hNx r - n0) (hNs r - s0)) s m args below meth c H locs ce sl (MQ below (hQc G A none r) args s (hNx r - n0) (hNs r - s0) A) (F0 m 112 ls [.ref w0, .ref w1]) := by
  obtain ⟨hx, hb, hr, hml, hown, hts, hlocks⟩ := id X
  have hmr : hle st r := n_x_Mod_init_J112 h
  unfold x_Mod_init_J112 at h
  replace h := obi h; obtain ⟨st1, est1, h⟩ := h
  refine hpF_v (ty := (.array .boolean)) X hmn hq 7 15 rfl (by decide) rfl rfl (by decide +kernel) rfl rfl est1 q_688 d_x_Mod_init_112 (fun H locs hq => ?_)
  have hn := hn.ke (hP_ke est1)
  have hmr := hmr.ke (hP_ke est1)
  refine lv_aload_n hx hb d_x_Mod_init_115 rfl (lv_at hl 0 rfl) ?_
  refine lv_bipush (v := 12) hx hb d_x_Mod_init_116 (by decide) ?_
  replace h := obi h; obtain ⟨ad2, ead2, h⟩ := h
  replace h := obi h; obtain ⟨st3, est3, h⟩ := h
  have hn2 := hn.newa est3
  have hmr := n_x_Mod_init_J120 h
  refine h_newa X hq 2 (by decide) .boolean rfl est3 q_803 (by decide) (hn2.fit hmr) d_x_Mod_init_118 (fun H hq => ?_)
  have hn := hn2
  refine lv_nma (Option.some.inj ead2) ?_
  exact w_x_Mod_init_J120 X hK hmn hq hn (lv_sub hl [0, 1] rfl) h
theorem w_x_Mod_init_J104 {r : HS} {st : HS} {l0 : Nat} {l1 : Int32} {w0 : Nat} {w1 : Nat} {n0 s0 : Nat} {H : Heap} {locs : List Loc} {ce sl : Nat} {ls : Array Slot} (X : jx p s m args meth c b_x_Mod_init 2 none "NoteSheetModel") (hK : 1 ≤ K) (hmn : meth.name = "<init>") (hq : hC G A s st H locs) (hn : hN ce sl n0 s0 st) (hl : lv_has ls 2 [(0, .ref l0), (1, .int l1)]) (h : x_Mod_init_J104 st l0 l1 w0 w1 = some r) : W p l e (rmL K (hNx r - n0) (hNs r - s0)) s m args below meth c H locs ce sl (MQ below (hQc G A none r) args s (hNx r - n0) (hNs r - s0) A) (F0 m 104 ls [.ref w0, .ref w1]) := by
  obtain ⟨hx, hb, hr, hml, hown, hts, hlocks⟩ := id X
  have hmr : hle st r := n_x_Mod_init_J104 h
  unfold x_Mod_init_J104 at h
  replace h := obi h; obtain ⟨st1, est1, h⟩ := h
  refine hpF_v (ty := (.array .int)) X hmn hq 7 14 rfl (by decide) rfl rfl (by decide +kernel) rfl rfl est1 q_687 d_x_Mod_init_104 (fun H locs hq => ?_)
  have hn := hn.ke (hP_ke est1)
  have hmr := hmr.ke (hP_ke est1)
  refine lv_aload_n hx hb d_x_Mod_init_107 rfl (lv_at hl 0 rfl) ?_
  refine lv_bipush (v := 12) hx hb d_x_Mod_init_108 (by decide) ?_
  replace h := obi h; obtain ⟨ad2, ead2, h⟩ := h
  replace h := obi h; obtain ⟨st3, est3, h⟩ := h
  have hn2 := hn.newa est3
  have hmr := n_x_Mod_init_J112 h
  refine h_newa X hq 2 (by decide) .boolean rfl est3 q_803 (by decide) (hn2.fit hmr) d_x_Mod_init_110 (fun H hq => ?_)
  have hn := hn2
  refine lv_nma (Option.some.inj ead2) ?_
  exact w_x_Mod_init_J112 X hK hmn hq hn (lv_sub hl [0, 1] rfl) h
theorem w_x_Mod_init_J96 {r : HS} {st : HS} {l0 : Nat} {l1 : Int32} {w0 : Nat} {w1 : Nat} {n0 s0 : Nat} {H : Heap} {locs : List Loc} {ce sl : Nat} {ls : Array Slot} (X : jx p s m args meth c b_x_Mod_init 2 none "NoteSheetModel") (hK : 1 ≤ K) (hmn : meth.name = "<init>") (hq : hC G A s st H locs) (hn : hN ce sl n0 s0 st) (hl : lv_has ls 2 [(0, .ref l0), (1, .int l1)]) (h : x_Mod_init_J96 st l0 l1 w0 w1 = some r) : W p l e (rmL K (hNx r - n0) (hNs r - s0)) s m args below meth c H locs ce sl (MQ below (hQc G A none r) args s (hNx r - n0) (hNs r - s0) A) (F0 m 96 ls [.ref w0, .ref w1]) := by
  obtain ⟨hx, hb, hr, hml, hown, hts, hlocks⟩ := id X
  have hmr : hle st r := n_x_Mod_init_J96 h
  unfold x_Mod_init_J96 at h
  replace h := obi h; obtain ⟨st1, est1, h⟩ := h
  refine hpF_v (ty := (.array .int)) X hmn hq 7 13 rfl (by decide) rfl rfl (by decide +kernel) rfl rfl est1 q_686 d_x_Mod_init_96 (fun H locs hq => ?_)
  have hn := hn.ke (hP_ke est1)
  have hmr := hmr.ke (hP_ke est1)
  refine lv_aload_n hx hb d_x_Mod_init_99 rfl (lv_at hl 0 rfl) ?_
  refine lv_bipush (v := 12) hx hb d_x_Mod_init_100 (by decide) ?_
  replace h := obi h; obtain ⟨ad2, ead2, h⟩ := h
  replace h := obi h; obtain ⟨st3, est3, h⟩ := h
  have hn2 := hn.newa est3
  have hmr := n_x_Mod_init_J104 h
  refine h_newa X hq 0 (by decide) .int rfl est3 q_91 (by decide) (hn2.fit hmr) d_x_Mod_init_102 (fun H hq => ?_)
  have hn := hn2
  refine lv_nma (Option.some.inj ead2) ?_
  exact w_x_Mod_init_J104 X hK hmn hq hn (lv_sub hl [0, 1] rfl) h
theorem w_x_Mod_init_J88 {r : HS} {st : HS} {l0 : Nat} {l1 : Int32} {w0 : Nat} {w1 : Nat} {n0 s0 : Nat} {H : Heap} {locs : List Loc} {ce sl : Nat} {ls : Array Slot} (X : jx p s m args meth c b_x_Mod_init 2 none "NoteSheetModel") (hK : 1 ≤ K) (hmn : meth.name = "<init>") (hq : hC G A s st H locs) (hn : hN ce sl n0 s0 st) (hl : lv_has ls 2 [(0, .ref l0), (1, .int l1)]) (h : x_Mod_init_J88 st l0 l1 w0 w1 = some r) : W p l e (rmL K (hNx r - n0) (hNs r - s0)) s m args below meth c H locs ce sl (MQ below (hQc G A none r) args s (hNx r - n0) (hNs r - s0) A) (F0 m 88 ls [.ref w0, .ref w1]) := by
  obtain ⟨hx, hb, hr, hml, hown, hts, hlocks⟩ := id X
  have hmr : hle st r := n_x_Mod_init_J88 h
  unfold x_Mod_init_J88 at h
  replace h := obi h; obtain ⟨st1, est1, h⟩ := h
  refine hpF_v (ty := (.array .int)) X hmn hq 7 12 rfl (by decide) rfl rfl (by decide +kernel) rfl rfl est1 q_685 d_x_Mod_init_88 (fun H locs hq => ?_)
  have hn := hn.ke (hP_ke est1)
  have hmr := hmr.ke (hP_ke est1)
  refine lv_aload_n hx hb d_x_Mod_init_91 rfl (lv_at hl 0 rfl) ?_
  refine lv_bipush (v := 12) hx hb d_x_Mod_init_92 (by decide) ?_
  replace h := obi h; obtain ⟨ad2, ead2, h⟩ := h
  replace h := obi h; obtain ⟨st3, est3, h⟩ := h
  have hn2 := hn.newa est3
  have hmr := n_x_Mod_init_J96 h
  refine h_newa X hq 0 (by decide) .int rfl est3 q_91 (by decide) (hn2.fit hmr) d_x_Mod_init_94 (fun H hq => ?_)
  have hn := hn2
  refine lv_nma (Option.some.inj ead2) ?_
  exact w_x_Mod_init_J96 X hK hmn hq hn (lv_sub hl [0, 1] rfl) h
theorem w_x_Mod_init_J80 {r : HS} {st : HS} {l0 : Nat} {l1 : Int32} {w0 : Nat} {w1 : Nat} {n0 s0 : Nat} {H : Heap} {locs : List Loc} {ce sl : Nat} {ls : Array Slot} (X : jx p s m args meth c b_x_Mod_init 2 none "NoteSheetModel") (hK : 1 ≤ K) (hmn : meth.name = "<init>") (hq : hC G A s st H locs) (hn : hN ce sl n0 s0 st) (hl : lv_has ls 2 [(0, .ref l0), (1, .int l1)]) (h : x_Mod_init_J80 st l0 l1 w0 w1 = some r) : W p l e (rmL K (hNx r - n0) (hNs r - s0)) s m args below meth c H locs ce sl (MQ below (hQc G A none r) args s (hNx r - n0) (hNs r - s0) A) (F0 m 80 ls [.ref w0, .ref w1]) := by
  obtain ⟨hx, hb, hr, hml, hown, hts, hlocks⟩ := id X
  have hmr : hle st r := n_x_Mod_init_J80 h
  unfold x_Mod_init_J80 at h
  replace h := obi h; obtain ⟨st1, est1, h⟩ := h
  refine hpF_v (ty := (.array .int)) X hmn hq 7 11 rfl (by decide) rfl rfl (by decide +kernel) rfl rfl est1 q_684 d_x_Mod_init_80 (fun H locs hq => ?_)
  have hn := hn.ke (hP_ke est1)
  have hmr := hmr.ke (hP_ke est1)
  refine lv_aload_n hx hb d_x_Mod_init_83 rfl (lv_at hl 0 rfl) ?_
  refine lv_bipush (v := 12) hx hb d_x_Mod_init_84 (by decide) ?_
  replace h := obi h; obtain ⟨ad2, ead2, h⟩ := h
  replace h := obi h; obtain ⟨st3, est3, h⟩ := h
  have hn2 := hn.newa est3
  have hmr := n_x_Mod_init_J88 h
  refine h_newa X hq 0 (by decide) .int rfl est3 q_91 (by decide) (hn2.fit hmr) d_x_Mod_init_86 (fun H hq => ?_)
  have hn := hn2
  refine lv_nma (Option.some.inj ead2) ?_
  exact w_x_Mod_init_J88 X hK hmn hq hn (lv_sub hl [0, 1] rfl) h
theorem w_x_Mod_init_J72 {r : HS} {st : HS} {l0 : Nat} {l1 : Int32} {w0 : Nat} {w1 : Nat} {n0 s0 : Nat} {H : Heap} {locs : List Loc} {ce sl : Nat} {ls : Array Slot} (X : jx p s m args meth c b_x_Mod_init 2 none "NoteSheetModel") (hK : 1 ≤ K) (hmn : meth.name = "<init>") (hq : hC G A s st H locs) (hn : hN ce sl n0 s0 st) (hl : lv_has ls 2 [(0, .ref l0), (1, .int l1)]) (h : x_Mod_init_J72 st l0 l1 w0 w1 = some r) : W p l e (rmL K (hNx r - n0) (hNs r - s0)) s m args below meth c H locs ce sl (MQ below (hQc G A none r) args s (hNx r - n0) (hNs r - s0) A) (F0 m 72 ls [.ref w0, .ref w1]) := by
  obtain ⟨hx, hb, hr, hml, hown, hts, hlocks⟩ := id X
  have hmr : hle st r := n_x_Mod_init_J72 h
  unfold x_Mod_init_J72 at h
  replace h := obi h; obtain ⟨st1, est1, h⟩ := h
  refine hpF_v (ty := (.array .int)) X hmn hq 7 10 rfl (by decide) rfl rfl (by decide +kernel) rfl rfl est1 q_683 d_x_Mod_init_72 (fun H locs hq => ?_)
  have hn := hn.ke (hP_ke est1)
  have hmr := hmr.ke (hP_ke est1)
  refine lv_aload_n hx hb d_x_Mod_init_75 rfl (lv_at hl 0 rfl) ?_
  refine lv_bipush (v := 12) hx hb d_x_Mod_init_76 (by decide) ?_
  replace h := obi h; obtain ⟨ad2, ead2, h⟩ := h
  replace h := obi h; obtain ⟨st3, est3, h⟩ := h
  have hn2 := hn.newa est3
  have hmr := n_x_Mod_init_J80 h
  refine h_newa X hq 0 (by decide) .int rfl est3 q_91 (by decide) (hn2.fit hmr) d_x_Mod_init_78 (fun H hq => ?_)
  have hn := hn2
  refine lv_nma (Option.some.inj ead2) ?_
  exact w_x_Mod_init_J80 X hK hmn hq hn (lv_sub hl [0, 1] rfl) h
theorem w_x_Mod_init_J63 {r : HS} {st : HS} {l0 : Nat} {l1 : Int32} {w0 : Nat} {w1 : Nat} {n0 s0 : Nat} {H : Heap} {locs : List Loc} {ce sl : Nat} {ls : Array Slot} (X : jx p s m args meth c b_x_Mod_init 2 none "NoteSheetModel") (hK : 1 ≤ K) (hmn : meth.name = "<init>") (hq : hC G A s st H locs) (hn : hN ce sl n0 s0 st) (hl : lv_has ls 2 [(0, .ref l0), (1, .int l1)]) (h : x_Mod_init_J63 st l0 l1 w0 w1 = some r) : W p l e (rmL K (hNx r - n0) (hNs r - s0)) s m args below meth c H locs ce sl (MQ below (hQc G A none r) args s (hNx r - n0) (hNs r - s0) A) (F0 m 63 ls [.ref w0, .ref w1]) := by
  obtain ⟨hx, hb, hr, hml, hown, hts, hlocks⟩ := id X
  have hmr : hle st r := n_x_Mod_init_J63 h
  unfold x_Mod_init_J63 at h
  replace h := obi h; obtain ⟨st1, est1, h⟩ := h
  refine hpF_v (ty := (.array .int)) X hmn hq 7 9 rfl (by decide) rfl rfl (by decide +kernel) rfl rfl est1 q_682 d_x_Mod_init_63 (fun H locs hq => ?_)
  have hn := hn.ke (hP_ke est1)
  have hmr := hmr.ke (hP_ke est1)
  refine lv_aload_n hx hb d_x_Mod_init_66 rfl (lv_at hl 0 rfl) ?_
  refine lv_sipush (v := 480) hx hb d_x_Mod_init_67 (by decide) ?_
  replace h := obi h; obtain ⟨ad2, ead2, h⟩ := h
  replace h := obi h; obtain ⟨st3, est3, h⟩ := h
  have hn2 := hn.newa est3
  have hmr := n_x_Mod_init_J72 h
  refine h_newa X hq 0 (by decide) .int rfl est3 q_91 (by decide) (hn2.fit hmr) d_x_Mod_init_70 (fun H hq => ?_)
  have hn := hn2
  refine lv_nma (Option.some.inj ead2) ?_
  exact w_x_Mod_init_J72 X hK hmn hq hn (lv_sub hl [0, 1] rfl) h
theorem w_x_Mod_init_J54 {r : HS} {st : HS} {l0 : Nat} {l1 : Int32} {w0 : Nat} {w1 : Nat} {n0 s0 : Nat} {H : Heap} {locs : List Loc} {ce sl : Nat} {ls : Array Slot} (X : jx p s m args meth c b_x_Mod_init 2 none "NoteSheetModel") (hK : 1 ≤ K) (hmn : meth.name = "<init>") (hq : hC G A s st H locs) (hn : hN ce sl n0 s0 st) (hl : lv_has ls 2 [(0, .ref l0), (1, .int l1)]) (h : x_Mod_init_J54 st l0 l1 w0 w1 = some r) : W p l e (rmL K (hNx r - n0) (hNs r - s0)) s m args below meth c H locs ce sl (MQ below (hQc G A none r) args s (hNx r - n0) (hNs r - s0) A) (F0 m 54 ls [.ref w0, .ref w1]) := by
  obtain ⟨hx, hb, hr, hml, hown, hts, hlocks⟩ := id X
  have hmr : hle st r := n_x_Mod_init_J54 h
  unfold x_Mod_init_J54 at h
  replace h := obi h; obtain ⟨st1, est1, h⟩ := h
  refine hpF_v (ty := (.array .int)) X hmn hq 7 8 rfl (by decide) rfl rfl (by decide +kernel) rfl rfl est1 q_681 d_x_Mod_init_54 (fun H locs hq => ?_)
  have hn := hn.ke (hP_ke est1)
  have hmr := hmr.ke (hP_ke est1)
  refine lv_aload_n hx hb d_x_Mod_init_57 rfl (lv_at hl 0 rfl) ?_
  refine lv_sipush (v := 480) hx hb d_x_Mod_init_58 (by decide) ?_
  replace h := obi h; obtain ⟨ad2, ead2, h⟩ := h
  replace h := obi h; obtain ⟨st3, est3, h⟩ := h
  have hn2 := hn.newa est3
  have hmr := n_x_Mod_init_J63 h
  refine h_newa X hq 0 (by decide) .int rfl est3 q_91 (by decide) (hn2.fit hmr) d_x_Mod_init_61 (fun H hq => ?_)
  have hn := hn2
  refine lv_nma (Option.some.inj ead2) ?_
  exact w_x_Mod_init_J63 X hK hmn hq hn (lv_sub hl [0, 1] rfl) h
theorem w_x_Mod_init_J46 {r : HS} {st : HS} {l0 : Nat} {l1 : Int32} {w0 : Nat} {w1 : Nat} {n0 s0 : Nat} {H : Heap} {locs : List Loc} {ce sl : Nat} {ls : Array Slot} (X : jx p s m args meth c b_x_Mod_init 2 none "NoteSheetModel") (hK : 1 ≤ K) (hmn : meth.name = "<init>") (hq : hC G A s st H locs) (hn : hN ce sl n0 s0 st) (hl : lv_has ls 2 [(0, .ref l0), (1, .int l1)]) (h : x_Mod_init_J46 st l0 l1 w0 w1 = some r) : W p l e (rmL K (hNx r - n0) (hNs r - s0)) s m args below meth c H locs ce sl (MQ below (hQc G A none r) args s (hNx r - n0) (hNs r - s0) A) (F0 m 46 ls [.ref w0, .ref w1]) := by
  obtain ⟨hx, hb, hr, hml, hown, hts, hlocks⟩ := id X
  have hmr : hle st r := n_x_Mod_init_J46 h
  unfold x_Mod_init_J46 at h
  replace h := obi h; obtain ⟨st1, est1, h⟩ := h
  refine hpF_v (ty := (.array .int)) X hmn hq 7 7 rfl (by decide) rfl rfl (by decide +kernel) rfl rfl est1 q_680 d_x_Mod_init_46 (fun H locs hq => ?_)
  have hn := hn.ke (hP_ke est1)
  have hmr := hmr.ke (hP_ke est1)
  refine lv_aload_n hx hb d_x_Mod_init_49 rfl (lv_at hl 0 rfl) ?_
  refine lv_bipush (v := 12) hx hb d_x_Mod_init_50 (by decide) ?_
  replace h := obi h; obtain ⟨ad2, ead2, h⟩ := h
  replace h := obi h; obtain ⟨st3, est3, h⟩ := h
  have hn2 := hn.newa est3
  have hmr := n_x_Mod_init_J54 h
  refine h_newa X hq 0 (by decide) .int rfl est3 q_91 (by decide) (hn2.fit hmr) d_x_Mod_init_52 (fun H hq => ?_)
  have hn := hn2
  refine lv_nma (Option.some.inj ead2) ?_
  exact w_x_Mod_init_J54 X hK hmn hq hn (lv_sub hl [0, 1] rfl) h
theorem w_x_Mod_init_J38 {r : HS} {st : HS} {l0 : Nat} {l1 : Int32} {w0 : Nat} {w1 : Nat} {n0 s0 : Nat} {H : Heap} {locs : List Loc} {ce sl : Nat} {ls : Array Slot} (X : jx p s m args meth c b_x_Mod_init 2 none "NoteSheetModel") (hK : 1 ≤ K) (hmn : meth.name = "<init>") (hq : hC G A s st H locs) (hn : hN ce sl n0 s0 st) (hl : lv_has ls 2 [(0, .ref l0), (1, .int l1)]) (h : x_Mod_init_J38 st l0 l1 w0 w1 = some r) : W p l e (rmL K (hNx r - n0) (hNs r - s0)) s m args below meth c H locs ce sl (MQ below (hQc G A none r) args s (hNx r - n0) (hNs r - s0) A) (F0 m 38 ls [.ref w0, .ref w1]) := by
  obtain ⟨hx, hb, hr, hml, hown, hts, hlocks⟩ := id X
  have hmr : hle st r := n_x_Mod_init_J38 h
  unfold x_Mod_init_J38 at h
  replace h := obi h; obtain ⟨st1, est1, h⟩ := h
  refine hpF_v (ty := (.array .int)) X hmn hq 7 6 rfl (by decide) rfl rfl (by decide +kernel) rfl rfl est1 q_679 d_x_Mod_init_38 (fun H locs hq => ?_)
  have hn := hn.ke (hP_ke est1)
  have hmr := hmr.ke (hP_ke est1)
  refine lv_aload_n hx hb d_x_Mod_init_41 rfl (lv_at hl 0 rfl) ?_
  refine lv_bipush (v := 12) hx hb d_x_Mod_init_42 (by decide) ?_
  replace h := obi h; obtain ⟨ad2, ead2, h⟩ := h
  replace h := obi h; obtain ⟨st3, est3, h⟩ := h
  have hn2 := hn.newa est3
  have hmr := n_x_Mod_init_J46 h
  refine h_newa X hq 0 (by decide) .int rfl est3 q_91 (by decide) (hn2.fit hmr) d_x_Mod_init_44 (fun H hq => ?_)
  have hn := hn2
  refine lv_nma (Option.some.inj ead2) ?_
  exact w_x_Mod_init_J46 X hK hmn hq hn (lv_sub hl [0, 1] rfl) h
theorem w_x_Mod_init_J29 {r : HS} {st : HS} {l0 : Nat} {l1 : Int32} {w0 : Nat} {w1 : Nat} {n0 s0 : Nat} {H : Heap} {locs : List Loc} {ce sl : Nat} {ls : Array Slot} (X : jx p s m args meth c b_x_Mod_init 2 none "NoteSheetModel") (hK : 1 ≤ K) (hmn : meth.name = "<init>") (hq : hC G A s st H locs) (hn : hN ce sl n0 s0 st) (hl : lv_has ls 2 [(0, .ref l0), (1, .int l1)]) (h : x_Mod_init_J29 st l0 l1 w0 w1 = some r) : W p l e (rmL K (hNx r - n0) (hNs r - s0)) s m args below meth c H locs ce sl (MQ below (hQc G A none r) args s (hNx r - n0) (hNs r - s0) A) (F0 m 29 ls [.ref w0, .ref w1]) := by
  obtain ⟨hx, hb, hr, hml, hown, hts, hlocks⟩ := id X
  have hmr : hle st r := n_x_Mod_init_J29 h
  unfold x_Mod_init_J29 at h
  replace h := obi h; obtain ⟨st1, est1, h⟩ := h
  refine hpF_v (ty := (.array .boolean)) X hmn hq 7 5 rfl (by decide) rfl rfl (by decide +kernel) rfl rfl est1 q_678 d_x_Mod_init_29 (fun H locs hq => ?_)
  have hn := hn.ke (hP_ke est1)
  have hmr := hmr.ke (hP_ke est1)
  refine lv_aload_n hx hb d_x_Mod_init_32 rfl (lv_at hl 0 rfl) ?_
  refine lv_sipush (v := 360) hx hb d_x_Mod_init_33 (by decide) ?_
  replace h := obi h; obtain ⟨ad2, ead2, h⟩ := h
  replace h := obi h; obtain ⟨st3, est3, h⟩ := h
  have hn2 := hn.newa est3
  have hmr := n_x_Mod_init_J38 h
  refine h_newa X hq 0 (by decide) .int rfl est3 q_91 (by decide) (hn2.fit hmr) d_x_Mod_init_36 (fun H hq => ?_)
  have hn := hn2
  refine lv_nma (Option.some.inj ead2) ?_
  exact w_x_Mod_init_J38 X hK hmn hq hn (lv_sub hl [0, 1] rfl) h
theorem w_x_Mod_init_J21 {r : HS} {st : HS} {l0 : Nat} {l1 : Int32} {w0 : Nat} {w1 : Nat} {n0 s0 : Nat} {H : Heap} {locs : List Loc} {ce sl : Nat} {ls : Array Slot} (X : jx p s m args meth c b_x_Mod_init 2 none "NoteSheetModel") (hK : 1 ≤ K) (hmn : meth.name = "<init>") (hq : hC G A s st H locs) (hn : hN ce sl n0 s0 st) (hl : lv_has ls 2 [(0, .ref l0), (1, .int l1)]) (h : x_Mod_init_J21 st l0 l1 w0 w1 = some r) : W p l e (rmL K (hNx r - n0) (hNs r - s0)) s m args below meth c H locs ce sl (MQ below (hQc G A none r) args s (hNx r - n0) (hNs r - s0) A) (F0 m 21 ls [.ref w0, .ref w1]) := by
  obtain ⟨hx, hb, hr, hml, hown, hts, hlocks⟩ := id X
  have hmr : hle st r := n_x_Mod_init_J21 h
  unfold x_Mod_init_J21 at h
  replace h := obi h; obtain ⟨st1, est1, h⟩ := h
  refine hpF_v (ty := (.array .int)) X hmn hq 7 4 rfl (by decide) rfl rfl (by decide +kernel) rfl rfl est1 q_677 d_x_Mod_init_21 (fun H locs hq => ?_)
  have hn := hn.ke (hP_ke est1)
  have hmr := hmr.ke (hP_ke est1)
  refine lv_aload_n hx hb d_x_Mod_init_24 rfl (lv_at hl 0 rfl) ?_
  refine lv_bipush (v := 12) hx hb d_x_Mod_init_25 (by decide) ?_
  replace h := obi h; obtain ⟨ad2, ead2, h⟩ := h
  replace h := obi h; obtain ⟨st3, est3, h⟩ := h
  have hn2 := hn.newa est3
  have hmr := n_x_Mod_init_J29 h
  refine h_newa X hq 2 (by decide) .boolean rfl est3 q_803 (by decide) (hn2.fit hmr) d_x_Mod_init_27 (fun H hq => ?_)
  have hn := hn2
  refine lv_nma (Option.some.inj ead2) ?_
  exact w_x_Mod_init_J29 X hK hmn hq hn (lv_sub hl [0, 1] rfl) h
theorem w_x_Mod_init_J9 {r : HS} {st : HS} {l0 : Nat} {l1 : Int32} {w0 : Nat} {w1 : Nat} {n0 s0 : Nat} {H : Heap} {locs : List Loc} {ce sl : Nat} {ls : Array Slot} (X : jx p s m args meth c b_x_Mod_init 2 none "NoteSheetModel") (hK : 1 ≤ K) (hmn : meth.name = "<init>") (hq : hC G A s st H locs) (hn : hN ce sl n0 s0 st) (hl : lv_has ls 2 [(0, .ref l0), (1, .int l1)]) (h : x_Mod_init_J9 st l0 l1 w0 w1 = some r) : W p l e (rmL K (hNx r - n0) (hNs r - s0)) s m args below meth c H locs ce sl (MQ below (hQc G A none r) args s (hNx r - n0) (hNs r - s0) A) (F0 m 9 ls [.ref w0, .ref w1]) := by
  obtain ⟨hx, hb, hr, hml, hown, hts, hlocks⟩ := id X
  have hmr : hle st r := n_x_Mod_init_J9 h
  unfold x_Mod_init_J9 at h
  replace h := obi h; obtain ⟨st1, est1, h⟩ := h
  refine hpF_v (ty := (.array .int)) X hmn hq 7 1 rfl (by decide) rfl rfl (by decide +kernel) rfl rfl est1 q_674 d_x_Mod_init_9 (fun H locs hq => ?_)
  have hn := hn.ke (hP_ke est1)
  have hmr := hmr.ke (hP_ke est1)
  refine lv_aload_n hx hb d_x_Mod_init_12 rfl (lv_at hl 0 rfl) ?_
  refine lv_iconst (v := 1) hx hb d_x_Mod_init_13 (by decide) ?_
  replace h := obi h; obtain ⟨st2, est2, h⟩ := h
  refine hp_v (ty := .int) X hq 7 3 rfl (by decide) rfl (by decide +kernel) rfl rfl est2 q_676 d_x_Mod_init_14 (fun H locs hq => ?_)
  have hn := hn.ke (hP_ke est2)
  have hmr := hmr.ke (hP_ke est2)
  refine lv_aload_n hx hb d_x_Mod_init_17 rfl (lv_at hl 0 rfl) ?_
  refine lv_iconst (v := 3) hx hb d_x_Mod_init_18 (by decide) ?_
  replace h := obi h; obtain ⟨ad3, ead3, h⟩ := h
  replace h := obi h; obtain ⟨st4, est4, h⟩ := h
  have hn2 := hn.newa est4
  have hmr := n_x_Mod_init_J21 h
  refine h_newa X hq 0 (by decide) .int rfl est4 q_91 (by decide) (hn2.fit hmr) d_x_Mod_init_19 (fun H hq => ?_)
  have hn := hn2
  refine lv_nma (Option.some.inj ead3) ?_
  exact w_x_Mod_init_J21 X hK hmn hq hn (lv_sub hl [0, 1] rfl) h
theorem c_x_Mod_init (l : Launch) (K : Nat) (hK : 1 ≤ K) (G : HG) (A : Nat → Prop) {st : HS} {this : Nat} {a1 : Int32} {r : HS} (h : x_Mod_init st this a1 = some r) : Met l y_x_Mod_init (Cond.code y_x_Mod_init b_x_Mod_init 2 none :: lw_g) (rmL K (hNx r - hNx st) (hNs r - hNs st)) (hPc G A [.ref this, .int a1] st) (hQc G A none r) (hNx r - hNx st) (hNs r - hNs st) A := by
  refine Met.ofH (by decide +kernel) (Nat.le_of_ble_eq_true rfl) ?_
  intro p e s m below meth c ls X hmn hq hl
  have hl : lv_has ls 2 [(0, .ref this), (1, .int a1)] := hl
  generalize ([.ref this, .int a1] : List Value).toArray = args at X ⊢
  obtain ⟨hx, hb, hr, hml, hown, hts, hlocks⟩ := id X
  generalize hHH : s.heap = H at hq ⊢
  generalize ([] : List Loc) = locs at hq ⊢
  clear hHH
  have hmr : hle st r := n_x_Mod_init h
  have hn : hN 0 0 (hNx st) (hNs st) st := ⟨Nat.zero_add _, Nat.zero_add _⟩
  unfold x_Mod_init at h
  refine lv_aload_n hx hb d_x_Mod_init_0 rfl (lv_at hl 0 rfl) ?_
  refine h_obj X hl.1 q_672 q_26 q_27 (Nat.le_of_ble_eq_true rfl) (by omega) d_x_Mod_init_1 ?_
  refine lv_aload_n hx hb d_x_Mod_init_4 rfl (lv_at hl 0 rfl) ?_
  refine lv_bipush (v := 30) hx hb d_x_Mod_init_5 (by decide) ?_
  replace h := obi h; obtain ⟨ad1, ead1, h⟩ := h
  replace h := obi h; obtain ⟨st2, est2, h⟩ := h
  have hn2 := hn.newa est2
  have hmr := n_x_Mod_init_J9 h
  refine h_newa X hq 0 (by decide) .int rfl est2 q_91 (by decide) (hn2.fit hmr) d_x_Mod_init_7 (fun H hq => ?_)
  have hn := hn2
  refine lv_nma (Option.some.inj ead1) ?_
  exact w_x_Mod_init_J9 X hK hmn hq hn (lv_sub hl [0, 1] rfl) h
end
