section
variable {p : Program} {l : Launch} {e : Env} {s : State} {m : MethodId} {args : Array Value} {below : List Frame} {meth : Method} {c : Code} {G : HG} {A : Nat → Prop} {K Kg : Nat}
theorem w_x_NS_held_J43 {r : Int32} {st : HS} {l0 : Nat} {l2 : Int32} {w0 : Int32} {w1 : Int32} {k_4 : HS → Nat → Int32 → Int32 → Option Int32} {H : Heap} {locs : List Loc} {ls : Array Slot} (X : jx p s m args meth c b_x_NS_held 3 (some .int) "NoteSheet") (hK : 0 ≤ K) (hq : hC G A s st H locs) (hl : lv_has ls 3 [(0, .ref l0), (2, .int l2)]) (hk_4 : ∀ (st : HS) (l0 : Nat) (l1 : Int32) (l2 : Int32) (H : Heap) (locs : List Loc) (ls : Array Slot), k_4 st l0 l1 l2 = some r → hC G A s st H locs → lv_has ls 3 [(0, .ref l0), (1, .int l1), (2, .int l2)] → W p l e (rmL K 0 0) s m args below meth c H locs 0 0 (MQ below (hQc G A (some (.int r)) st) args s 0 0 A) (F0 m 4 ls [])) (h : x_NS_held_J43 k_4 st l0 l2 w0 w1 = some r) : W p l e (rmL K 0 0) s m args below meth c H locs 0 0 (MQ below (hQc G A (some (.int r)) st) args s 0 0 A) (F0 m 43 ls [.int w0, .int w1]) := by
  obtain ⟨hx, hb, hr, hml, hown, hts, hlocks⟩ := id X
  unfold x_NS_held_J43 at h
  refine lv_iadd hx hb d_x_NS_held_43 ?_
  replace h := obi h; obtain ⟨x1, ex1, h⟩ := h
  refine lv_nm (Option.some.inj ex1) ?_
  refine lv_istore_n (lv' := [(1, .int x1), (0, .ref l0), (2, .int l2)]) hx hb d_x_NS_held_44 rfl hl (by decide) rfl (fun ls hl => ?_)
  replace h := obi h; obtain ⟨x2, ex2, h⟩ := h
  refine lv_iinc (v := x2) (lv' := [(2, .int x2), (1, .int x1), (0, .ref l0)]) hx hb d_x_NS_held_45 hl (k := 2) rfl (Option.some.inj ex2) (by decide) rfl (fun ls hl => ?_)
  refine lv_goto (tgt := 4) hx hb d_x_NS_held_48 (by decide) ?_
  exact hk_4 _ _ _ _ _ _ _ h hq (lv_sub hl [2, 1, 0] rfl)
theorem w_x_NS_held_J42 {r : Int32} {st : HS} {l0 : Nat} {l2 : Int32} {w0 : Int32} {k_4 : HS → Nat → Int32 → Int32 → Option Int32} {H : Heap} {locs : List Loc} {ls : Array Slot} (X : jx p s m args meth c b_x_NS_held 3 (some .int) "NoteSheet") (hK : 0 ≤ K) (hq : hC G A s st H locs) (hl : lv_has ls 3 [(0, .ref l0), (2, .int l2)]) (hk_4 : ∀ (st : HS) (l0 : Nat) (l1 : Int32) (l2 : Int32) (H : Heap) (locs : List Loc) (ls : Array Slot), k_4 st l0 l1 l2 = some r → hC G A s st H locs → lv_has ls 3 [(0, .ref l0), (1, .int l1), (2, .int l2)] → W p l e (rmL K 0 0) s m args below meth c H locs 0 0 (MQ below (hQc G A (some (.int r)) st) args s 0 0 A) (F0 m 4 ls [])) (h : x_NS_held_J42 k_4 st l0 l2 w0 = some r) : W p l e (rmL K 0 0) s m args below meth c H locs 0 0 (MQ below (hQc G A (some (.int r)) st) args s 0 0 A) (F0 m 42 ls [.int w0]) := by
  obtain ⟨hx, hb, hr, hml, hown, hts, hlocks⟩ := id X
  unfold x_NS_held_J42 at h
  refine lv_iconst (v := 0) hx hb d_x_NS_held_42 (by decide) ?_
  exact w_x_NS_held_J43 X hK hq (lv_sub hl [0, 1] rfl) hk_4 h
theorem w_x_NS_held_L4 {r : Int32} (X : jx p s m args meth c b_x_NS_held 3 (some .int) "NoteSheet") (hK : 0 ≤ K) : ∀ (n : Nat), ∀ (st : HS) (l0 : Nat) (l1 : Int32) (l2 : Int32) (H : Heap) (locs : List Loc) (ls : Array Slot), x_NS_held_L4 n st l0 l1 l2 = some r → hC G A s st H locs → lv_has ls 3 [(0, .ref l0), (1, .int l1), (2, .int l2)] → W p l e (rmL K 0 0) s m args below meth c H locs 0 0 (MQ below (hQc G A (some (.int r)) st) args s 0 0 A) (F0 m 4 ls []) := by
  obtain ⟨hx, hb, hr, hml, hown, hts, hlocks⟩ := id X
  intro n
  induction n with
  | zero => intro st l0 l1 l2 H locs ls h hq hl; exact absurd h (by simp [x_NS_held_L4])
  | succ n ih =>
    intro st l0 l1 l2 H locs ls h hq hl
    rw [x_NS_held_L4] at h
    refine lv_iload_n hx hb d_x_NS_held_4 rfl (lv_at hl 2 rfl) ?_
    refine lv_bipush (v := 12) hx hb d_x_NS_held_5 (by decide) ?_
    refine lv_icmp_ge (tgt := 51) hx hb d_x_NS_held_7 (by decide) (fun c7 => ?_) (fun c7 => ?_)
    · replace h := ifp c7 h
      refine lv_iload_n hx hb d_x_NS_held_51 rfl (lv_at hl 1 rfl) ?_
      cases h
      exact hret_i X hq ⟨Nat.le_refl _, Nat.le_refl _⟩ d_x_NS_held_52
    · replace h := ifn c7 h
      refine lv_iload_n hx hb d_x_NS_held_10 rfl (lv_at hl 1 rfl) ?_
      refine lv_aload_n hx hb d_x_NS_held_11 rfl (lv_at hl 0 rfl) ?_
      replace h := obi h; obtain ⟨x1, ex1, h⟩ := h
      refine hg_r X hq 0 1 rfl (by decide) ex1 q_140 d_x_NS_held_12 ?_
      refine lv_iload_n hx hb d_x_NS_held_15 rfl (lv_at hl 2 rfl) ?_
      replace h := obi h; obtain ⟨ad2, rfl, h⟩ := h
      replace h := obi h; obtain ⟨x3, ex3, h⟩ := h
      refine ha_rld X hq 4 (by decide) ex3 d_x_NS_held_16 ?_
      replace h := obi h; obtain ⟨ad4, rfl, h⟩ := h
      replace h := obi h; obtain ⟨x5, ex5, h⟩ := h
      refine hgN_r X hq 1 8 rfl (by decide) ex5 qn_110 d_x_NS_held_17 ?_
      refine lv_ifnull_q (tgt := 42) hx hb d_x_NS_held_20 (by decide) (fun c20 => ?_) (fun c20 => ?_)
      · replace h := ifp c20 h
        exact w_x_NS_held_J42 X hK hq (lv_sub hl [0, 2] rfl) ih h
      · replace h := ifn c20 h
        refine lv_aload_n hx hb d_x_NS_held_23 rfl (lv_at hl 0 rfl) ?_
        replace h := obi h; obtain ⟨x6, ex6, h⟩ := h
        refine hg_r X hq 0 1 rfl (by decide) ex6 q_140 d_x_NS_held_24 ?_
        refine lv_iload_n hx hb d_x_NS_held_27 rfl (lv_at hl 2 rfl) ?_
        replace h := obi h; obtain ⟨ad7, rfl, h⟩ := h
        replace h := obi h; obtain ⟨x8, ex8, h⟩ := h
        refine ha_rld X hq 4 (by decide) ex8 d_x_NS_held_28 ?_
        replace h := obi h; obtain ⟨ad9, rfl, h⟩ := h
        replace h := obi h; obtain ⟨x10, ex10, h⟩ := h
        refine hgN_r X hq 1 8 rfl (by decide) ex10 qn_110 d_x_NS_held_29 ?_
        replace h := obi h; obtain ⟨ad11, rfl, h⟩ := h
        replace h := obi h; obtain ⟨x12, ex12, h⟩ := h
        refine hgN_i X hq 3 0 rfl (by decide) ex12 qn_580 d_x_NS_held_32 ?_
        refine lv_if_eq (tgt := 42) hx hb d_x_NS_held_35 (by decide) (fun c35 => ?_) (fun c35 => ?_)
        · replace h := ifp c35 h
          exact w_x_NS_held_J42 X hK hq (lv_sub hl [0, 2] rfl) ih h
        · replace h := ifn c35 h
          refine lv_iconst (v := 1) hx hb d_x_NS_held_38 (by decide) ?_
          refine lv_goto (tgt := 43) hx hb d_x_NS_held_39 (by decide) ?_
          exact w_x_NS_held_J43 X hK hq (lv_sub hl [0, 2] rfl) ih h
theorem c_x_NS_held (l : Launch) (K : Nat) (hK : 0 ≤ K) (G : HG) (A : Nat → Prop) {st : HS} {this : Nat} {r : Int32} (h : x_NS_held st this = some r) : Met l y_x_NS_held (Cond.code y_x_NS_held b_x_NS_held 3 (some .int) :: lw_g) (rmL K 0 0) (hPc G A [.ref this] st) (hQc G A (some (.int r)) st) 0 0 A := by
  refine Met.ofH (by decide +kernel) (Nat.le_of_ble_eq_true rfl) ?_
  intro p e s m below meth c ls X hmn hq hl
  have hl : lv_has ls 3 [(0, .ref this)] := hl
  generalize ([.ref this] : List Value).toArray = args at X ⊢
  obtain ⟨hx, hb, hr, hml, hown, hts, hlocks⟩ := id X
  generalize hHH : s.heap = H at hq ⊢
  generalize ([] : List Loc) = locs at hq ⊢
  clear hHH
  unfold x_NS_held at h
  refine lv_iconst (v := 0) hx hb d_x_NS_held_0 (by decide) ?_
  refine lv_istore_n (lv' := [(1, .int 0), (0, .ref this)]) hx hb d_x_NS_held_1 rfl hl (by decide) rfl (fun ls hl => ?_)
  refine lv_iconst (v := 0) hx hb d_x_NS_held_2 (by decide) ?_
  refine lv_istore_n (lv' := [(2, .int 0), (1, .int 0), (0, .ref this)]) hx hb d_x_NS_held_3 rfl hl (by decide) rfl (fun ls hl => ?_)
  exact w_x_NS_held_L4 X hK 1000 _ _ _ _ _ _ _ h hq (lv_sub hl [2, 1, 0] rfl)
theorem w_x_NS_dropOne_J48 {r : HS} {st : HS} {l0 : Nat} {l1 : Option Nat} {l2 : Int32} {k_4 : HS → Nat → Option Nat → Int32 → Option HS} {H : Heap} {locs : List Loc} {ls : Array Slot} (X : jx p s m args meth c b_x_NS_dropOne 4 none "NoteSheet") (hK : 0 ≤ K) (hq : hC G A s st H locs) (hl : lv_has ls 4 [(0, .ref l0), (1, va_rf l1), (2, .int l2)]) (hk_4 : ∀ (st : HS) (l0 : Nat) (l1 : Option Nat) (l2 : Int32) (H : Heap) (locs : List Loc) (ls : Array Slot), k_4 st l0 l1 l2 = some r → hC G A s st H locs → lv_has ls 4 [(0, .ref l0), (1, va_rf l1), (2, .int l2)] → W p l e (rmL K 0 0) s m args below meth c H locs 0 0 (MQ below (hQc G A none r) args s 0 0 A) (F0 m 4 ls [])) (hm_4 : ∀ (st : HS) (l0 : Nat) (l1 : Option Nat) (l2 : Int32), k_4 st l0 l1 l2 = some r → hke st r) (h : x_NS_dropOne_J48 k_4 st l0 l1 l2 = some r) : W p l e (rmL K 0 0) s m args below meth c H locs 0 0 (MQ below (hQc G A none r) args s 0 0 A) (F0 m 48 ls []) := by
  obtain ⟨hx, hb, hr, hml, hown, hts, hlocks⟩ := id X
  unfold x_NS_dropOne_J48 at h
  replace h := obi h; obtain ⟨x1, ex1, h⟩ := h
  refine lv_iinc (v := x1) (lv' := [(2, .int x1), (0, .ref l0), (1, va_rf l1)]) hx hb d_x_NS_dropOne_48 hl (k := 2) rfl (Option.some.inj ex1) (by decide) (by first | (simp only [List.filter, rf_cat]; rfl) | (simp [rf_cat, List.filter]; exact ⟨rfl, rfl⟩)) (fun ls hl => ?_)
  refine lv_goto (tgt := 4) hx hb d_x_NS_dropOne_51 (by decide) ?_
  exact hk_4 _ _ _ _ _ _ _ h hq (lv_sub hl [1, 2, 0] rfl)
theorem w_x_NS_dropOne_J46 {r : HS} {st : HS} {l0 : Nat} {l2 : Int32} {l3 : Nat} {k_4 : HS → Nat → Option Nat → Int32 → Option HS} {H : Heap} {locs : List Loc} {ls : Array Slot} (X : jx p s m args meth c b_x_NS_dropOne 4 none "NoteSheet") (hK : 0 ≤ K) (hq : hC G A s st H locs) (hl : lv_has ls 4 [(0, .ref l0), (2, .int l2), (3, .ref l3)]) (hk_4 : ∀ (st : HS) (l0 : Nat) (l1 : Option Nat) (l2 : Int32) (H : Heap) (locs : List Loc) (ls : Array Slot), k_4 st l0 l1 l2 = some r → hC G A s st H locs → lv_has ls 4 [(0, .ref l0), (1, va_rf l1), (2, .int l2)] → W p l e (rmL K 0 0) s m args below meth c H locs 0 0 (MQ below (hQc G A none r) args s 0 0 A) (F0 m 4 ls [])) (hm_4 : ∀ (st : HS) (l0 : Nat) (l1 : Option Nat) (l2 : Int32), k_4 st l0 l1 l2 = some r → hke st r) (h : x_NS_dropOne_J46 k_4 st l0 l2 l3 = some r) : W p l e (rmL K 0 0) s m args below meth c H locs 0 0 (MQ below (hQc G A none r) args s 0 0 A) (F0 m 46 ls []) := by
  obtain ⟨hx, hb, hr, hml, hown, hts, hlocks⟩ := id X
  unfold x_NS_dropOne_J46 at h
  refine lv_aload_n hx hb d_x_NS_dropOne_46 rfl (lv_at hl 2 rfl) ?_
  refine lv_astore_n (lv' := [(1, .ref l3), (0, .ref l0), (2, .int l2), (3, .ref l3)]) hx hb d_x_NS_dropOne_47 rfl hl (by decide) rfl (fun ls hl => ?_)
  exact w_x_NS_dropOne_J48 X hK hq (lv_sub hl [1, 0, 2] rfl) hk_4 hm_4 h
theorem w_x_NS_dropOne_L4 {r : HS} (X : jx p s m args meth c b_x_NS_dropOne 4 none "NoteSheet") (hK : 0 ≤ K) : ∀ (n : Nat), ∀ (st : HS) (l0 : Nat) (l1 : Option Nat) (l2 : Int32) (H : Heap) (locs : List Loc) (ls : Array Slot), x_NS_dropOne_L4 n st l0 l1 l2 = some r → hC G A s st H locs → lv_has ls 4 [(0, .ref l0), (1, va_rf l1), (2, .int l2)] → W p l e (rmL K 0 0) s m args below meth c H locs 0 0 (MQ below (hQc G A none r) args s 0 0 A) (F0 m 4 ls []) := by
  obtain ⟨hx, hb, hr, hml, hown, hts, hlocks⟩ := id X
  intro n
  induction n with
  | zero => intro st l0 l1 l2 H locs ls h hq hl; exact absurd h (by simp [x_NS_dropOne_L4])
  | succ n ih =>
    intro st l0 l1 l2 H locs ls h hq hl
    rw [x_NS_dropOne_L4] at h
    refine lv_iload_n hx hb d_x_NS_dropOne_4 rfl (lv_at hl 2 rfl) ?_
    refine lv_bipush (v := 12) hx hb d_x_NS_dropOne_5 (by decide) ?_
    refine lv_icmp_ge (tgt := 54) hx hb d_x_NS_dropOne_7 (by decide) (fun c7 => ?_) (fun c7 => ?_)
    · replace h := ifp c7 h
      refine lv_aload_nq hx hb d_x_NS_dropOne_54 rfl (lv_at hl 1 rfl) ?_
      refine lv_ifnull_q (tgt := 63) hx hb d_x_NS_dropOne_55 (by decide) (fun c55 => ?_) (fun c55 => ?_)
      · replace h := ifp c55 h
        cases h
        exact hret_v X hq ⟨Nat.le_refl _, Nat.le_refl _⟩ d_x_NS_dropOne_63
      · replace h := ifn c55 h
        refine lv_aload_nq hx hb d_x_NS_dropOne_58 rfl (lv_at hl 1 rfl) ?_
        refine lv_iconst (v := 0) hx hb d_x_NS_dropOne_59 (by decide) ?_
        replace h := obi h; obtain ⟨ad1, rfl, h⟩ := h
        replace h := obi h; obtain ⟨st2, est2, h⟩ := h
        refine hpN_v (ty := .boolean) X hq 3 0 rfl (by decide) rfl (by decide +kernel) (by decide) (by decide) est2 qn_580 d_x_NS_dropOne_60 (fun H locs hq => ?_)
        cases h
        exact hret_v X hq ⟨Nat.le_refl _, Nat.le_refl _⟩ d_x_NS_dropOne_63
    · replace h := ifn c7 h
      refine lv_aload_n hx hb d_x_NS_dropOne_10 rfl (lv_at hl 0 rfl) ?_
      replace h := obi h; obtain ⟨x3, ex3, h⟩ := h
      refine hg_r X hq 0 1 rfl (by decide) ex3 q_140 d_x_NS_dropOne_11 ?_
      refine lv_iload_n hx hb d_x_NS_dropOne_14 rfl (lv_at hl 2 rfl) ?_
      replace h := obi h; obtain ⟨ad4, rfl, h⟩ := h
      replace h := obi h; obtain ⟨x5, ex5, h⟩ := h
      refine ha_rld X hq 4 (by decide) ex5 d_x_NS_dropOne_15 ?_
      replace h := obi h; obtain ⟨ad6, rfl, h⟩ := h
      replace h := obi h; obtain ⟨x7, ex7, h⟩ := h
      refine hgN_r X hq 1 8 rfl (by decide) ex7 qn_110 d_x_NS_dropOne_16 ?_
      refine lv_astore_nq (lv' := [(3, va_rf x7), (0, .ref l0), (1, va_rf l1), (2, .int l2)]) hx hb d_x_NS_dropOne_19 rfl hl (by decide) rfl (fun ls hl => ?_)
      refine lv_aload_nq hx hb d_x_NS_dropOne_20 rfl (lv_at hl 0 rfl) ?_
      refine lv_ifnull_q (tgt := 48) hx hb d_x_NS_dropOne_21 (by decide) (fun c21 => ?_) (fun c21 => ?_)
      · replace h := ifp c21 h
        exact w_x_NS_dropOne_J48 X hK hq (lv_sub hl [1, 2, 3] rfl) ih (n_x_NS_dropOne_L4 n) h
      · replace h := ifn c21 h
        refine lv_aload_nq hx hb d_x_NS_dropOne_24 rfl (lv_at hl 0 rfl) ?_
        replace h := obi h; obtain ⟨ad8, rfl, h⟩ := h
        replace h := obi h; obtain ⟨x9, ex9, h⟩ := h
        refine hgN_i X hq 3 0 rfl (by decide) ex9 qn_580 d_x_NS_dropOne_25 ?_
        refine lv_if_eq (tgt := 48) hx hb d_x_NS_dropOne_28 (by decide) (fun c28 => ?_) (fun c28 => ?_)
        · replace h := ifp c28 h
          exact w_x_NS_dropOne_J48 X hK hq (lv_sub hl [1, 2, 3] rfl) ih (n_x_NS_dropOne_L4 n) h
        · replace h := ifn c28 h
          refine lv_aload_nq hx hb d_x_NS_dropOne_31 rfl (lv_at hl 2 rfl) ?_
          refine lv_ifnull_q (tgt := 46) hx hb d_x_NS_dropOne_32 (by decide) (fun c32 => ?_) (fun c32 => ?_)
          · replace h := ifp c32 h
            exact w_x_NS_dropOne_J46 X hK hq (lv_sub hl [1, 3, 0] rfl) ih (n_x_NS_dropOne_L4 n) h
          · replace h := ifn c32 h
            refine lv_aload_n hx hb d_x_NS_dropOne_35 rfl (lv_at hl 0 rfl) ?_
            replace h := obi h; obtain ⟨x10, ex10, h⟩ := h
            refine hgN_i X hq 3 5 rfl (by decide) ex10 qn_587 d_x_NS_dropOne_36 ?_
            refine lv_aload_nq hx hb d_x_NS_dropOne_39 rfl (lv_at hl 2 rfl) ?_
            replace h := obi h; obtain ⟨ad11, rfl, h⟩ := h
            replace h := obi h; obtain ⟨x12, ex12, h⟩ := h
            refine hgN_i X hq 3 5 rfl (by decide) ex12 qn_587 d_x_NS_dropOne_40 ?_
            refine lv_icmp_ge (tgt := 48) hx hb d_x_NS_dropOne_43 (by decide) (fun c43 => ?_) (fun c43 => ?_)
            · replace h := ifp c43 h
              exact w_x_NS_dropOne_J48 X hK hq (lv_sub hl [1, 2, 3] rfl) ih (n_x_NS_dropOne_L4 n) h
            · replace h := ifn c43 h
              exact w_x_NS_dropOne_J46 X hK hq (lv_sub hl [1, 3, 0] rfl) ih (n_x_NS_dropOne_L4 n) h
theorem c_x_NS_dropOne (l : Launch) (K : Nat) (hK : 0 ≤ K) (G : HG) (A : Nat → Prop) {st : HS} {this : Nat} {r : HS} (h : x_NS_dropOne st this = some r) : Met l y_x_NS_dropOne (Cond.code y_x_NS_dropOne b_x_NS_dropOne 4 none :: lw_g) (rmL K 0 0) (hPc G A [.ref this] st) (hQc G A none r) 0 0 A := by
  refine Met.ofH (by decide +kernel) (Nat.le_of_ble_eq_true rfl) ?_
  intro p e s m below meth c ls X hmn hq hl
  have hl : lv_has ls 4 [(0, .ref this)] := hl
  generalize ([.ref this] : List Value).toArray = args at X ⊢
  obtain ⟨hx, hb, hr, hml, hown, hts, hlocks⟩ := id X
  generalize hHH : s.heap = H at hq ⊢
  generalize ([] : List Loc) = locs at hq ⊢
  clear hHH
  unfold x_NS_dropOne at h
  refine lv_null hx hb d_x_NS_dropOne_0 ?_
  refine lv_astore_nN (lv' := [(1, .null), (0, .ref this)]) hx hb d_x_NS_dropOne_1 rfl hl (by decide) rfl (fun ls hl => ?_)
  refine lv_iconst (v := 0) hx hb d_x_NS_dropOne_2 (by decide) ?_
  refine lv_istore_n (lv' := [(2, .int 0), (1, .null), (0, .ref this)]) hx hb d_x_NS_dropOne_3 rfl hl (by decide) rfl (fun ls hl => ?_)
  exact w_x_NS_dropOne_L4 X hK 1000 _ _ _ _ _ _ _ h hq (lv_sub hl [2, 1, 0] rfl)
theorem c_x_NS_revision (l : Launch) (K : Nat) (hK : 0 ≤ K) (G : HG) (A : Nat → Prop) {st : HS} {this : Nat} {r : Int32} (h : x_NS_revision st this = some r) : Met l y_x_NS_revision (Cond.code y_x_NS_revision b_x_NS_revision 1 (some .int) :: lw_g) (rmL K 0 0) (hPc G A [.ref this] st) (hQc G A (some (.int r)) st) 0 0 A := by
  refine Met.ofH (by decide +kernel) (Nat.le_of_ble_eq_true rfl) ?_
  intro p e s m below meth c ls X hmn hq hl
  have hl : lv_has ls 1 [(0, .ref this)] := hl
  generalize ([.ref this] : List Value).toArray = args at X ⊢
  obtain ⟨hx, hb, hr, hml, hown, hts, hlocks⟩ := id X
  generalize hHH : s.heap = H at hq ⊢
  generalize ([] : List Loc) = locs at hq ⊢
  clear hHH
  unfold x_NS_revision at h
  refine lv_aload_n hx hb d_x_NS_revision_0 rfl (lv_at hl 0 rfl) ?_
  replace h := obi h; obtain ⟨x1, ex1, h⟩ := h
  refine hg_i X hq 0 4 rfl (by decide) ex1 q_143 d_x_NS_revision_1 ?_
  cases h
  exact hret_i X hq ⟨Nat.le_refl _, Nat.le_refl _⟩ d_x_NS_revision_4
theorem w_x_NS_changed_J9 {r : Int32} {st : HS} {H : Heap} {locs : List Loc} {ls : Array Slot} (X : jx p s m args meth c b_x_NS_changed 2 (some .int) "NoteSheet") (hK : 0 ≤ K) (hq : hC G A s st H locs) (hl : lv_has ls 2 []) (h : x_NS_changed_J9 st = some r) : W p l e (rmL K 0 0) s m args below meth c H locs 0 0 (MQ below (hQc G A (some (.int r)) st) args s 0 0 A) (F0 m 9 ls []) := by
  obtain ⟨hx, hb, hr, hml, hown, hts, hlocks⟩ := id X
  unfold x_NS_changed_J9 at h
  refine lv_iconst (v := -1) hx hb d_x_NS_changed_9 (by decide) ?_
  refine lv_goto (tgt := 19) hx hb d_x_NS_changed_10 (by decide) ?_
  cases h
  exact hret_i X hq ⟨Nat.le_refl _, Nat.le_refl _⟩ d_x_NS_changed_19
theorem c_x_NS_changed (l : Launch) (K : Nat) (hK : 0 ≤ K) (G : HG) (A : Nat → Prop) {st : HS} {this : Nat} {a1 : Int32} {r : Int32} (h : x_NS_changed st this a1 = some r) : Met l y_x_NS_changed (Cond.code y_x_NS_changed b_x_NS_changed 2 (some .int) :: lw_g) (rmL K 0 0) (hPc G A [.ref this, .int a1] st) (hQc G A (some (.int r)) st) 0 0 A := by
  refine Met.ofH (by decide +kernel) (Nat.le_of_ble_eq_true rfl) ?_
  intro p e s m below meth c ls X hmn hq hl
  have hl : lv_has ls 2 [(0, .ref this), (1, .int a1)] := hl
  generalize ([.ref this, .int a1] : List Value).toArray = args at X ⊢
  obtain ⟨hx, hb, hr, hml, hown, hts, hlocks⟩ := id X
  generalize hHH : s.heap = H at hq ⊢
  generalize ([] : List Loc) = locs at hq ⊢
  clear hHH
  unfold x_NS_changed at h
  refine lv_iload_n hx hb d_x_NS_changed_0 rfl (lv_at hl 1 rfl) ?_
  refine lv_if_lt (tgt := 9) hx hb d_x_NS_changed_1 (by decide) (fun c1 => ?_) (fun c1 => ?_)
  · replace h := ifp c1 h
    exact w_x_NS_changed_J9 X hK hq (lv_sub hl [] rfl) h
  · replace h := ifn c1 h
    refine lv_iload_n hx hb d_x_NS_changed_4 rfl (lv_at hl 1 rfl) ?_
    refine lv_iconst (v := 2) hx hb d_x_NS_changed_5 (by decide) ?_
    refine lv_icmp_le (tgt := 13) hx hb d_x_NS_changed_6 (by decide) (fun c6 => ?_) (fun c6 => ?_)
    · replace h := ifp c6 h
      refine lv_aload_n hx hb d_x_NS_changed_13 rfl (lv_at hl 0 rfl) ?_
      replace h := obi h; obtain ⟨x1, ex1, h⟩ := h
      refine hg_r X hq 0 9 rfl (by decide) ex1 q_148 d_x_NS_changed_14 ?_
      refine lv_iload_n hx hb d_x_NS_changed_17 rfl (lv_at hl 1 rfl) ?_
      replace h := obi h; obtain ⟨ad2, rfl, h⟩ := h
      replace h := obi h; obtain ⟨x3, ex3, h⟩ := h
      refine ha_ild X hq ex3 d_x_NS_changed_18 ?_
      cases h
      exact hret_i X hq ⟨Nat.le_refl _, Nat.le_refl _⟩ d_x_NS_changed_19
    · replace h := ifn c6 h
      exact w_x_NS_changed_J9 X hK hq (lv_sub hl [] rfl) h
theorem w_x_NS_note_J139 {r : Int32} {st : HS} {H : Heap} {locs : List Loc} {ls : Array Slot} (X : jx p s m args meth c b_x_NS_note 5 (some .int) "NoteSheet") (hK : 1 ≤ K) (hq : hC G A s st H locs) (hl : lv_has ls 5 []) (h : x_NS_note_J139 st = some r) : W p l e (rmL K 0 0) s m args below meth c H locs 0 0 (MQ below (hQc G A (some (.int r)) st) args s 0 0 A) (F0 m 139 ls []) := by
  obtain ⟨hx, hb, hr, hml, hown, hts, hlocks⟩ := id X
  unfold x_NS_note_J139 at h
  refine lv_iconst (v := 1) hx hb d_x_NS_note_139 (by decide) ?_
  refine lv_goto (tgt := 144) hx hb d_x_NS_note_140 (by decide) ?_
  cases h
  exact hret_i X hq ⟨Nat.le_refl _, Nat.le_refl _⟩ d_x_NS_note_144
theorem c_x_NS_note (l : Launch) (K : Nat) (hK : 1 ≤ K) (G : HG) (A : Nat → Prop) {st : HS} {this : Nat} {a1 : Int32} {a2 : Int32} {r : Int32} (h : x_NS_note st this a1 a2 = some r) : Met l y_x_NS_note (Cond.code y_x_NS_note b_x_NS_note 5 (some .int) :: lw_g) (rmL K 0 0) (hPc G A [.ref this, .int a1, .int a2] st) (hQc G A (some (.int r)) st) 0 0 A := by
  refine Met.ofH (by decide +kernel) (Nat.le_of_ble_eq_true rfl) ?_
  intro p e s m below meth c ls X hmn hq hl
  have hl : lv_has ls 5 [(0, .ref this), (1, .int a1), (2, .int a2)] := hl
  generalize ([.ref this, .int a1, .int a2] : List Value).toArray = args at X ⊢
  obtain ⟨hx, hb, hr, hml, hown, hts, hlocks⟩ := id X
  generalize hHH : s.heap = H at hq ⊢
  generalize ([] : List Loc) = locs at hq ⊢
  clear hHH
  unfold x_NS_note at h
  refine lv_aload_n hx hb d_x_NS_note_0 rfl (lv_at hl 0 rfl) ?_
  refine lv_iload_n hx hb d_x_NS_note_1 rfl (lv_at hl 1 rfl) ?_
  replace h := obi h; obtain ⟨u1, eu1, h⟩ := h
  replace h := obi h; obtain ⟨x2, ex2, h⟩ := h
  refine hcallV (st' := st) (n := 1) X hq hle.rf (c_x_NS_cell l 0 (Nat.le_refl _) G A ex2) (C := 0) rfl eu1 q_351 q_353 q_p0 q_1 q_354 ok_x_NS_cell rfl (lvl (by omega) (by decide)) hl.1 rfl (Nat.le_of_ble_eq_true rfl) d_x_NS_note_2 ⟨Nat.le_refl _, Nat.le_refl _⟩ (fun H locs hq => ?_)
  refine lv_astore_nq (lv' := [(3, va_rf x2), (0, .ref this), (1, .int a1), (2, .int a2)]) hx hb d_x_NS_note_5 rfl hl (by decide) rfl (fun ls hl => ?_)
  refine lv_aload_nq hx hb d_x_NS_note_6 rfl (lv_at hl 0 rfl) ?_
  refine lv_ifnonnull_q (tgt := 12) hx hb d_x_NS_note_7 (by decide) (fun c7 => ?_) (fun c7 => ?_)
  · replace h := ifn c7 h
    refine lv_aload_nq hx hb d_x_NS_note_12 rfl (lv_at hl 0 rfl) ?_
    replace h := obi h; obtain ⟨ad3, rfl, h⟩ := h
    replace h := obi h; obtain ⟨x4, ex4, h⟩ := h
    refine hgN_r X hq 1 8 rfl (by decide) ex4 qn_110 d_x_NS_note_13 ?_
    refine lv_astoreq (lv' := [(4, va_rf x4), (3, .ref ad3), (0, .ref this), (1, .int a1), (2, .int a2)]) hx hb d_x_NS_note_16 hl (by decide) rfl (fun ls hl => ?_)
    refine lv_iload_n hx hb d_x_NS_note_18 rfl (lv_at hl 4 rfl) ?_
    rcases Decidable.em (a2 = 0) with c19_0 | c19_0
    · replace h := ifp c19_0 h
      have hsw : a2.toInt = 0 := by rw [c19_0]; decide
      refine lv_tableIn (tgt := 64) hx hb d_x_NS_note_19 (by rw [hsw]; decide) (by rw [hsw]; decide) (by rw [hsw]; rfl) (by decide) ?_
      refine lv_aload_n hx hb d_x_NS_note_64 rfl (lv_at hl 1 rfl) ?_
      replace h := obi h; obtain ⟨x5, ex5, h⟩ := h
      refine hgN_i X hq 1 9 rfl (by decide) ex5 qn_111 d_x_NS_note_65 ?_
      cases h
      exact hret_i X hq ⟨Nat.le_refl _, Nat.le_refl _⟩ d_x_NS_note_68
    replace h := ifn c19_0 h
    have ec19_0 := i32_ne c19_0
    rcases Decidable.em (a2 = 1) with c19_1 | c19_1
    · replace h := ifp c19_1 h
      have hsw : a2.toInt = 1 := by rw [c19_1]; decide
      refine lv_tableIn (tgt := 69) hx hb d_x_NS_note_19 (by rw [hsw]; decide) (by rw [hsw]; decide) (by rw [hsw]; rfl) (by decide) ?_
      refine lv_aload_n hx hb d_x_NS_note_69 rfl (lv_at hl 1 rfl) ?_
      replace h := obi h; obtain ⟨x6, ex6, h⟩ := h
      refine hgN_i X hq 1 10 rfl (by decide) ex6 qn_112 d_x_NS_note_70 ?_
      cases h
      exact hret_i X hq ⟨Nat.le_refl _, Nat.le_refl _⟩ d_x_NS_note_73
    replace h := ifn c19_1 h
    have ec19_1 := i32_ne c19_1
    rcases Decidable.em (a2 = 2) with c19_2 | c19_2
    · replace h := ifp c19_2 h
      have hsw : a2.toInt = 2 := by rw [c19_2]; decide
      refine lv_tableIn (tgt := 74) hx hb d_x_NS_note_19 (by rw [hsw]; decide) (by rw [hsw]; decide) (by rw [hsw]; rfl) (by decide) ?_
      refine lv_aload_n hx hb d_x_NS_note_74 rfl (lv_at hl 1 rfl) ?_
      replace h := obi h; obtain ⟨x7, ex7, h⟩ := h
      refine hgN_i X hq 1 11 rfl (by decide) ex7 qn_113 d_x_NS_note_75 ?_
      cases h
      exact hret_i X hq ⟨Nat.le_refl _, Nat.le_refl _⟩ d_x_NS_note_78
    replace h := ifn c19_2 h
    have ec19_2 := i32_ne c19_2
    rcases Decidable.em (a2 = 3) with c19_3 | c19_3
    · replace h := ifp c19_3 h
      have hsw : a2.toInt = 3 := by rw [c19_3]; decide
      refine lv_tableIn (tgt := 79) hx hb d_x_NS_note_19 (by rw [hsw]; decide) (by rw [hsw]; decide) (by rw [hsw]; rfl) (by decide) ?_
      refine lv_aload_n hx hb d_x_NS_note_79 rfl (lv_at hl 1 rfl) ?_
      replace h := obi h; obtain ⟨u8, eu8, h⟩ := h
      replace h := obi h; obtain ⟨x9, ex9, h⟩ := h
      refine hcallV (st' := st) (n := 0) X hq hle.rf (c_x_Cell_sinceWhen l 0 (Nat.le_refl _) G A ex9) (C := 1) rfl eu8 q_560 q_561 q_562 q_7 q_563 ok_x_Cell_sinceWhen rfl (lvl (by omega) (by decide)) hl.1 rfl (Nat.le_of_ble_eq_true rfl) d_x_NS_note_80 ⟨Nat.le_refl _, Nat.le_refl _⟩ (fun H locs hq => ?_)
      cases h
      exact hret_i X hq ⟨Nat.le_refl _, Nat.le_refl _⟩ d_x_NS_note_83
    replace h := ifn c19_3 h
    have ec19_3 := i32_ne c19_3
    rcases Decidable.em (a2 = 4) with c19_4 | c19_4
    · replace h := ifp c19_4 h
      have hsw : a2.toInt = 4 := by rw [c19_4]; decide
      refine lv_tableIn (tgt := 84) hx hb d_x_NS_note_19 (by rw [hsw]; decide) (by rw [hsw]; decide) (by rw [hsw]; rfl) (by decide) ?_
      refine lv_aloadq hx hb d_x_NS_note_84 (lv_at hl 0 rfl) ?_
      refine lv_ifnonnull_q (tgt := 93) hx hb d_x_NS_note_86 (by decide) (fun c86 => ?_) (fun c86 => ?_)
      · replace h := ifn c86 h
        refine lv_aloadq hx hb d_x_NS_note_93 (lv_at hl 0 rfl) ?_
        replace h := obi h; obtain ⟨ad10, rfl, h⟩ := h
        replace h := obi h; obtain ⟨x11, ex11, h⟩ := h
        refine hgN_i X hq 3 2 rfl (by decide) ex11 qn_582 d_x_NS_note_95 ?_
        cases h
        exact hret_i X hq ⟨Nat.le_refl _, Nat.le_refl _⟩ d_x_NS_note_98
      · replace h := ifp c86 h
        refine lv_iconst (v := 0) hx hb d_x_NS_note_89 (by decide) ?_
        refine lv_goto (tgt := 98) hx hb d_x_NS_note_90 (by decide) ?_
        cases h
        exact hret_i X hq ⟨Nat.le_refl _, Nat.le_refl _⟩ d_x_NS_note_98
    replace h := ifn c19_4 h
    have ec19_4 := i32_ne c19_4
    rcases Decidable.em (a2 = 5) with c19_5 | c19_5
    · replace h := ifp c19_5 h
      have hsw : a2.toInt = 5 := by rw [c19_5]; decide
      refine lv_tableIn (tgt := 99) hx hb d_x_NS_note_19 (by rw [hsw]; decide) (by rw [hsw]; decide) (by rw [hsw]; rfl) (by decide) ?_
      refine lv_aload_n hx hb d_x_NS_note_99 rfl (lv_at hl 1 rfl) ?_
      replace h := obi h; obtain ⟨u12, eu12, h⟩ := h
      replace h := obi h; obtain ⟨x13, ex13, h⟩ := h
      refine hcallV (st' := st) (n := 0) X hq hle.rf (c_x_Cell_steady l 0 (Nat.le_refl _) G A ex13) (C := 1) rfl eu12 q_564 q_565 q_566 q_7 q_567 ok_x_Cell_steady rfl (lvl (by omega) (by decide)) hl.1 rfl (Nat.le_of_ble_eq_true rfl) d_x_NS_note_100 ⟨Nat.le_refl _, Nat.le_refl _⟩ (fun H locs hq => ?_)
      cases h
      exact hret_i X hq ⟨Nat.le_refl _, Nat.le_refl _⟩ d_x_NS_note_103
    replace h := ifn c19_5 h
    have ec19_5 := i32_ne c19_5
    rcases Decidable.em (a2 = 6) with c19_6 | c19_6
    · replace h := ifp c19_6 h
      have hsw : a2.toInt = 6 := by rw [c19_6]; decide
      refine lv_tableIn (tgt := 104) hx hb d_x_NS_note_19 (by rw [hsw]; decide) (by rw [hsw]; decide) (by rw [hsw]; rfl) (by decide) ?_
      refine lv_aloadq hx hb d_x_NS_note_104 (lv_at hl 0 rfl) ?_
      refine lv_ifnonnull_q (tgt := 113) hx hb d_x_NS_note_106 (by decide) (fun c106 => ?_) (fun c106 => ?_)
      · replace h := ifn c106 h
        refine lv_aloadq hx hb d_x_NS_note_113 (lv_at hl 0 rfl) ?_
        replace h := obi h; obtain ⟨ad14, rfl, h⟩ := h
        replace h := obi h; obtain ⟨x15, ex15, h⟩ := h
        refine hgN_i X hq 3 7 rfl (by decide) ex15 qn_591 d_x_NS_note_115 ?_
        cases h
        exact hret_i X hq ⟨Nat.le_refl _, Nat.le_refl _⟩ d_x_NS_note_118
      · replace h := ifp c106 h
        refine lv_iconst (v := 0) hx hb d_x_NS_note_109 (by decide) ?_
        refine lv_goto (tgt := 118) hx hb d_x_NS_note_110 (by decide) ?_
        cases h
        exact hret_i X hq ⟨Nat.le_refl _, Nat.le_refl _⟩ d_x_NS_note_118
    replace h := ifn c19_6 h
    have ec19_6 := i32_ne c19_6
    rcases Decidable.em (a2 = 7) with c19_7 | c19_7
    · replace h := ifp c19_7 h
      have hsw : a2.toInt = 7 := by rw [c19_7]; decide
      refine lv_tableIn (tgt := 119) hx hb d_x_NS_note_19 (by rw [hsw]; decide) (by rw [hsw]; decide) (by rw [hsw]; rfl) (by decide) ?_
      refine lv_aload_n hx hb d_x_NS_note_119 rfl (lv_at hl 1 rfl) ?_
      replace h := obi h; obtain ⟨x16, ex16, h⟩ := h
      refine hgN_i X hq 1 1 rfl (by decide) ex16 qn_100 d_x_NS_note_120 ?_
      refine lv_if_ne (tgt := 139) hx hb d_x_NS_note_123 (by decide) (fun c123 => ?_) (fun c123 => ?_)
      · replace h := ifn c123 h
        exact w_x_NS_note_J139 X hK hq (lv_sub hl [] rfl) h
      · replace h := ifp c123 h
        refine lv_aloadq hx hb d_x_NS_note_126 (lv_at hl 0 rfl) ?_
        refine lv_ifnull_q (tgt := 143) hx hb d_x_NS_note_128 (by decide) (fun c128 => ?_) (fun c128 => ?_)
        · replace h := ifp c128 h
          refine lv_iconst (v := 0) hx hb d_x_NS_note_143 (by decide) ?_
          cases h
          exact hret_i X hq ⟨Nat.le_refl _, Nat.le_refl _⟩ d_x_NS_note_144
        · replace h := ifn c128 h
          refine lv_aloadq hx hb d_x_NS_note_131 (lv_at hl 0 rfl) ?_
          replace h := obi h; obtain ⟨ad17, rfl, h⟩ := h
          replace h := obi h; obtain ⟨x18, ex18, h⟩ := h
          refine hgN_i X hq 3 0 rfl (by decide) ex18 qn_580 d_x_NS_note_133 ?_
          refine lv_if_eq (tgt := 143) hx hb d_x_NS_note_136 (by decide) (fun c136 => ?_) (fun c136 => ?_)
          · replace h := ifp c136 h
            refine lv_iconst (v := 0) hx hb d_x_NS_note_143 (by decide) ?_
            cases h
            exact hret_i X hq ⟨Nat.le_refl _, Nat.le_refl _⟩ d_x_NS_note_144
          · replace h := ifn c136 h
            exact w_x_NS_note_J139 X hK hq (lv_sub hl [] rfl) h
    replace h := ifn c19_7 h
    have ec19_7 := i32_ne c19_7
    rw [show (0 : Int32).toInt = 0 by decide] at ec19_0
    rw [show (1 : Int32).toInt = 1 by decide] at ec19_1
    rw [show (2 : Int32).toInt = 2 by decide] at ec19_2
    rw [show (3 : Int32).toInt = 3 by decide] at ec19_3
    rw [show (4 : Int32).toInt = 4 by decide] at ec19_4
    rw [show (5 : Int32).toInt = 5 by decide] at ec19_5
    rw [show (6 : Int32).toInt = 6 by decide] at ec19_6
    rw [show (7 : Int32).toInt = 7 by decide] at ec19_7
    refine lv_tableOut (tgt := 145) hx hb d_x_NS_note_19 (by omega) (by decide) ?_
    refine lv_iconst (v := -1) hx hb d_x_NS_note_145 (by decide) ?_
    cases h
    exact hret_i X hq ⟨Nat.le_refl _, Nat.le_refl _⟩ d_x_NS_note_146
  · replace h := ifp c7 h
    refine lv_iconst (v := -1) hx hb d_x_NS_note_10 (by decide) ?_
    cases h
    exact hret_i X hq ⟨Nat.le_refl _, Nat.le_refl _⟩ d_x_NS_note_11
theorem w_x_NS_read_J32 {r : Int32} {st : HS} {H : Heap} {locs : List Loc} {ls : Array Slot} (X : jx p s m args meth c b_x_NS_read 4 (some .int) "NoteSheet") (hK : 1 ≤ K) (hq : hC G A s st H locs) (hl : lv_has ls 4 []) (h : x_NS_read_J32 st = some r) : W p l e (rmL K 0 0) s m args below meth c H locs 0 0 (MQ below (hQc G A (some (.int r)) st) args s 0 0 A) (F0 m 32 ls []) := by
  obtain ⟨hx, hb, hr, hml, hown, hts, hlocks⟩ := id X
  unfold x_NS_read_J32 at h
  refine lv_iconst (v := -1) hx hb d_x_NS_read_32 (by decide) ?_
  refine lv_goto (tgt := 48) hx hb d_x_NS_read_33 (by decide) ?_
  cases h
  exact hret_i X hq ⟨Nat.le_refl _, Nat.le_refl _⟩ d_x_NS_read_48
theorem c_x_NS_read (l : Launch) (K : Nat) (hK : 1 ≤ K) (G : HG) (A : Nat → Prop) {st : HS} {this : Nat} {a1 : Int32} {a2 : Int32} {r : Int32} (h : x_NS_read st this a1 a2 = some r) : Met l y_x_NS_read (Cond.code y_x_NS_read b_x_NS_read 4 (some .int) :: lw_g) (rmL K 0 0) (hPc G A [.ref this, .int a1, .int a2] st) (hQc G A (some (.int r)) st) 0 0 A := by
  refine Met.ofH (by decide +kernel) (Nat.le_of_ble_eq_true rfl) ?_
  intro p e s m below meth c ls X hmn hq hl
  have hl : lv_has ls 4 [(0, .ref this), (1, .int a1), (2, .int a2)] := hl
  generalize ([.ref this, .int a1, .int a2] : List Value).toArray = args at X ⊢
  obtain ⟨hx, hb, hr, hml, hown, hts, hlocks⟩ := id X
  generalize hHH : s.heap = H at hq ⊢
  generalize ([] : List Loc) = locs at hq ⊢
  clear hHH
  unfold x_NS_read at h
  refine lv_aload_n hx hb d_x_NS_read_0 rfl (lv_at hl 0 rfl) ?_
  refine lv_iload_n hx hb d_x_NS_read_1 rfl (lv_at hl 1 rfl) ?_
  replace h := obi h; obtain ⟨u1, eu1, h⟩ := h
  replace h := obi h; obtain ⟨x2, ex2, h⟩ := h
  refine hcallV (st' := st) (n := 1) X hq hle.rf (c_x_NS_cell l 0 (Nat.le_refl _) G A ex2) (C := 0) rfl eu1 q_351 q_353 q_p0 q_1 q_354 ok_x_NS_cell rfl (lvl (by omega) (by decide)) hl.1 rfl (Nat.le_of_ble_eq_true rfl) d_x_NS_read_2 ⟨Nat.le_refl _, Nat.le_refl _⟩ (fun H locs hq => ?_)
  refine lv_astore_nq (lv' := [(3, va_rf x2), (0, .ref this), (1, .int a1), (2, .int a2)]) hx hb d_x_NS_read_5 rfl hl (by decide) rfl (fun ls hl => ?_)
  refine lv_aload_nq hx hb d_x_NS_read_6 rfl (lv_at hl 0 rfl) ?_
  refine lv_ifnull_q (tgt := 32) hx hb d_x_NS_read_7 (by decide) (fun c7 => ?_) (fun c7 => ?_)
  · replace h := ifp c7 h
    exact w_x_NS_read_J32 X hK hq (lv_sub hl [] rfl) h
  · replace h := ifn c7 h
    refine lv_aload_nq hx hb d_x_NS_read_10 rfl (lv_at hl 0 rfl) ?_
    replace h := obi h; obtain ⟨ad3, rfl, h⟩ := h
    replace h := obi h; obtain ⟨x4, ex4, h⟩ := h
    refine hgN_r X hq 1 8 rfl (by decide) ex4 qn_110 d_x_NS_read_11 ?_
    refine lv_ifnull_q (tgt := 32) hx hb d_x_NS_read_14 (by decide) (fun c14 => ?_) (fun c14 => ?_)
    · replace h := ifp c14 h
      exact w_x_NS_read_J32 X hK hq (lv_sub hl [] rfl) h
    · replace h := ifn c14 h
      refine lv_iload_n hx hb d_x_NS_read_17 rfl (lv_at hl 3 rfl) ?_
      refine lv_if_lt (tgt := 32) hx hb d_x_NS_read_18 (by decide) (fun c18 => ?_) (fun c18 => ?_)
      · replace h := ifp c18 h
        exact w_x_NS_read_J32 X hK hq (lv_sub hl [] rfl) h
      · replace h := ifn c18 h
        refine lv_iload_n hx hb d_x_NS_read_21 rfl (lv_at hl 3 rfl) ?_
        refine lv_aload_n hx hb d_x_NS_read_22 rfl (lv_at hl 0 rfl) ?_
        replace h := obi h; obtain ⟨x5, ex5, h⟩ := h
        refine hgN_r X hq 1 8 rfl (by decide) ex5 qn_110 d_x_NS_read_23 ?_
        replace h := obi h; obtain ⟨ad6, rfl, h⟩ := h
        replace h := obi h; obtain ⟨x7, ex7, h⟩ := h
        refine hgN_i X hq 3 7 rfl (by decide) ex7 qn_591 d_x_NS_read_26 ?_
        refine lv_icmp_lt (tgt := 36) hx hb d_x_NS_read_29 (by decide) (fun c29 => ?_) (fun c29 => ?_)
        · replace h := ifp c29 h
          refine lv_aload_n hx hb d_x_NS_read_36 rfl (lv_at hl 0 rfl) ?_
          replace h := obi h; obtain ⟨x8, ex8, h⟩ := h
          refine hgN_r X hq 1 8 rfl (by decide) ex8 qn_110 d_x_NS_read_37 ?_
          replace h := obi h; obtain ⟨ad9, rfl, h⟩ := h
          replace h := obi h; obtain ⟨x10, ex10, h⟩ := h
          refine hgN_r X hq 3 6 rfl (by decide) ex10 qn_589 d_x_NS_read_40 ?_
          refine lv_iload_n hx hb d_x_NS_read_43 rfl (lv_at hl 3 rfl) ?_
          replace h := obi h; obtain ⟨ad11, rfl, h⟩ := h
          replace h := obi h; obtain ⟨x12, ex12, h⟩ := h
          refine ha_rld X hq 4 (by decide) ex12 d_x_NS_read_44 ?_
          replace h := obi h; obtain ⟨ad13, rfl, h⟩ := h
          replace h := obi h; obtain ⟨x14, ex14, h⟩ := h
          refine hgN_i X hq 1 0 rfl (by decide) ex14 qn_98 d_x_NS_read_45 ?_
          cases h
          exact hret_i X hq ⟨Nat.le_refl _, Nat.le_refl _⟩ d_x_NS_read_48
        · replace h := ifn c29 h
          exact w_x_NS_read_J32 X hK hq (lv_sub hl [] rfl) h
theorem c_x_NS_count (l : Launch) (K : Nat) (hK : 1 ≤ K) (G : HG) (A : Nat → Prop) {st : HS} {this : Nat} {a1 : Int32} {r : Int32} (h : x_NS_count st this a1 = some r) : Met l y_x_NS_count (Cond.code y_x_NS_count b_x_NS_count 2 (some .int) :: lw_g) (rmL K 0 0) (hPc G A [.ref this, .int a1] st) (hQc G A (some (.int r)) st) 0 0 A := by
  refine Met.ofH (by decide +kernel) (Nat.le_of_ble_eq_true rfl) ?_
  intro p e s m below meth c ls X hmn hq hl
  have hl : lv_has ls 2 [(0, .ref this), (1, .int a1)] := hl
  generalize ([.ref this, .int a1] : List Value).toArray = args at X ⊢
  obtain ⟨hx, hb, hr, hml, hown, hts, hlocks⟩ := id X
  generalize hHH : s.heap = H at hq ⊢
  generalize ([] : List Loc) = locs at hq ⊢
  clear hHH
  unfold x_NS_count at h
  refine lv_iload_n hx hb d_x_NS_count_0 rfl (lv_at hl 1 rfl) ?_
  rcases Decidable.em (a1 = 0) with c1_0 | c1_0
  · replace h := ifp c1_0 h
    have hsw : a1.toInt = 0 := by rw [c1_0]; decide
    refine lv_tableIn (tgt := 32) hx hb d_x_NS_count_1 (by rw [hsw]; decide) (by rw [hsw]; decide) (by rw [hsw]; rfl) (by decide) ?_
    refine lv_aload_n hx hb d_x_NS_count_32 rfl (lv_at hl 0 rfl) ?_
    replace h := obi h; obtain ⟨x1, ex1, h⟩ := h
    refine hg_i X hq 0 6 rfl (by decide) ex1 q_145 d_x_NS_count_33 ?_
    cases h
    exact hret_i X hq ⟨Nat.le_refl _, Nat.le_refl _⟩ d_x_NS_count_36
  replace h := ifn c1_0 h
  have ec1_0 := i32_ne c1_0
  rcases Decidable.em (a1 = 1) with c1_1 | c1_1
  · replace h := ifp c1_1 h
    have hsw : a1.toInt = 1 := by rw [c1_1]; decide
    refine lv_tableIn (tgt := 37) hx hb d_x_NS_count_1 (by rw [hsw]; decide) (by rw [hsw]; decide) (by rw [hsw]; rfl) (by decide) ?_
    refine lv_aload_n hx hb d_x_NS_count_37 rfl (lv_at hl 0 rfl) ?_
    replace h := obi h; obtain ⟨x2, ex2, h⟩ := h
    refine hg_i X hq 0 7 rfl (by decide) ex2 q_146 d_x_NS_count_38 ?_
    cases h
    exact hret_i X hq ⟨Nat.le_refl _, Nat.le_refl _⟩ d_x_NS_count_41
  replace h := ifn c1_1 h
  have ec1_1 := i32_ne c1_1
  rcases Decidable.em (a1 = 2) with c1_2 | c1_2
  · replace h := ifp c1_2 h
    have hsw : a1.toInt = 2 := by rw [c1_2]; decide
    refine lv_tableIn (tgt := 42) hx hb d_x_NS_count_1 (by rw [hsw]; decide) (by rw [hsw]; decide) (by rw [hsw]; rfl) (by decide) ?_
    refine lv_aload_n hx hb d_x_NS_count_42 rfl (lv_at hl 0 rfl) ?_
    replace h := obi h; obtain ⟨x3, ex3, h⟩ := h
    refine hg_i X hq 0 8 rfl (by decide) ex3 q_147 d_x_NS_count_43 ?_
    cases h
    exact hret_i X hq ⟨Nat.le_refl _, Nat.le_refl _⟩ d_x_NS_count_46
  replace h := ifn c1_2 h
  have ec1_2 := i32_ne c1_2
  rcases Decidable.em (a1 = 3) with c1_3 | c1_3
  · replace h := ifp c1_3 h
    have hsw : a1.toInt = 3 := by rw [c1_3]; decide
    refine lv_tableIn (tgt := 47) hx hb d_x_NS_count_1 (by rw [hsw]; decide) (by rw [hsw]; decide) (by rw [hsw]; rfl) (by decide) ?_
    refine lv_aload_n hx hb d_x_NS_count_47 rfl (lv_at hl 0 rfl) ?_
    replace h := obi h; obtain ⟨u4, eu4, h⟩ := h
    replace h := obi h; obtain ⟨x5, ex5, h⟩ := h
    refine hcallV (st' := st) (n := 0) X hq hle.rf (c_x_NS_held l 0 (Nat.le_refl _) G A ex5) (C := 0) rfl eu4 q_635 q_637 q_p19 q_1 q_638 ok_x_NS_held rfl (lvl (by omega) (by decide)) hl.1 rfl (Nat.le_of_ble_eq_true rfl) d_x_NS_count_48 ⟨Nat.le_refl _, Nat.le_refl _⟩ (fun H locs hq => ?_)
    cases h
    exact hret_i X hq ⟨Nat.le_refl _, Nat.le_refl _⟩ d_x_NS_count_51
  replace h := ifn c1_3 h
  have ec1_3 := i32_ne c1_3
  rw [show (0 : Int32).toInt = 0 by decide] at ec1_0
  rw [show (1 : Int32).toInt = 1 by decide] at ec1_1
  rw [show (2 : Int32).toInt = 2 by decide] at ec1_2
  rw [show (3 : Int32).toInt = 3 by decide] at ec1_3
  refine lv_tableOut (tgt := 52) hx hb d_x_NS_count_1 (by omega) (by decide) ?_
  refine lv_iconst (v := -1) hx hb d_x_NS_count_52 (by decide) ?_
  cases h
  exact hret_i X hq ⟨Nat.le_refl _, Nat.le_refl _⟩ d_x_NS_count_53
theorem c_x_Rdr_one (l : Launch) (K : Nat) (hK : 0 ≤ K) (G : HG) (A : Nat → Prop) {g_formula : HS → Nat → Int32 → Option HS} {Kg : Nat} (nm_formula : ∀ {st : HS} {this : Nat} {a1 : Int32} {r : HS}, g_formula st this a1 = some r → hke st r) (M_formula : ∀ {st : HS} {this : Nat} {a1 : Int32} {r : HS}, g_formula st this a1 = some r → Met l y_x_Rdr_formula (Cond.code y_x_Rdr_formula b_x_Rdr_formula 4 none :: lw_g) (rmL Kg 0 0) (hPc G A [.ref this, .int a1] st) (hQc G A none r) 0 0 A) (hKg : Kg + 1 ≤ K) {st : HS} {this : Nat} {a1 : Int32} {r : HS} (h : x_Rdr_one g_formula st this a1 = some r) : Met l y_x_Rdr_one (Cond.code y_x_Rdr_one b_x_Rdr_one 2 none :: lw_g) (rmL K 0 0) (hPc G A [.ref this, .int a1] st) (hQc G A none r) 0 0 A := by
  refine Met.ofH (by decide +kernel) (Nat.le_of_ble_eq_true rfl) ?_
  intro p e s m below meth c ls X hmn hq hl
  have hl : lv_has ls 2 [(0, .ref this), (1, .int a1)] := hl
  generalize ([.ref this, .int a1] : List Value).toArray = args at X ⊢
  obtain ⟨hx, hb, hr, hml, hown, hts, hlocks⟩ := id X
  generalize hHH : s.heap = H at hq ⊢
  generalize ([] : List Loc) = locs at hq ⊢
  clear hHH
  unfold x_Rdr_one at h
  refine lv_aload_n hx hb d_x_Rdr_one_0 rfl (lv_at hl 0 rfl) ?_
  replace h := obi h; obtain ⟨x1, ex1, h⟩ := h
  refine hg_i X hq 4 3 rfl (by decide) ex1 q_75 d_x_Rdr_one_1 ?_
  refine lv_if_ne (tgt := 12) hx hb d_x_Rdr_one_4 (by decide) (fun c4 => ?_) (fun c4 => ?_)
  · replace h := ifn c4 h
    cases h
    exact hret_v X hq ⟨Nat.le_refl _, Nat.le_refl _⟩ d_x_Rdr_one_12
  · replace h := ifp c4 h
    refine lv_aload_n hx hb d_x_Rdr_one_7 rfl (lv_at hl 0 rfl) ?_
    refine lv_iload_n hx hb d_x_Rdr_one_8 rfl (lv_at hl 1 rfl) ?_
    replace h := obi h; obtain ⟨u2, eu2, h⟩ := h
    replace h := obi h; obtain ⟨st3, est3, h⟩ := h
    refine hcallV (n := 1) X hq (nm_formula est3).le (M_formula est3) (C := 4) rfl eu2 q_429 q_431 q_p1 q_6 q_432 ok_x_Rdr_formula rfl (lvl (by omega) (by decide)) hl.1 rfl (Nat.le_of_ble_eq_true rfl) d_x_Rdr_one_9 ⟨Nat.le_refl _, Nat.le_refl _⟩ (fun H locs hq => ?_)
    cases h
    exact hret_v X hq ⟨Nat.le_refl _, Nat.le_refl _⟩ d_x_Rdr_one_12
theorem w_x_Rdr_comparison_J42 {r : HS} {g_sum : HS → Nat → Int32 → Option HS} {st : HS} {l0 : Nat} {l1 : Int32} {l2 : Nat} {H : Heap} {locs : List Loc} {ls : Array Slot} (X : jx p s m args meth c b_x_Rdr_comparison 3 none "NoteSheet$Reader") (hK : 6 ≤ K) (nm_sum : ∀ {st : HS} {this : Nat} {a1 : Int32} {r : HS}, g_sum st this a1 = some r → hke st r) (M_sum : ∀ {st : HS} {this : Nat} {a1 : Int32} {r : HS}, g_sum st this a1 = some r → Met l y_x_Rdr_sum (Cond.code y_x_Rdr_sum b_x_Rdr_sum 3 none :: lw_g) (rmL Kg 0 0) (hPc G A [.ref this, .int a1] st) (hQc G A none r) 0 0 A) (hKg : Kg + 1 ≤ K) (hq : hC G A s st H locs) (hl : lv_has ls 3 [(0, .ref l0), (1, .int l1), (2, .ref l2)]) (h : x_Rdr_comparison_J42 g_sum st l0 l1 l2 = some r) : W p l e (rmL K 0 0) s m args below meth c H locs 0 0 (MQ below (hQc G A none r) args s 0 0 A) (F0 m 42 ls []) := by
  obtain ⟨hx, hb, hr, hml, hown, hts, hlocks⟩ := id X
  unfold x_Rdr_comparison_J42 at h
  refine lv_aload_n hx hb d_x_Rdr_comparison_42 rfl (lv_at hl 0 rfl) ?_
  refine lv_iload_n hx hb d_x_Rdr_comparison_43 rfl (lv_at hl 1 rfl) ?_
  replace h := obi h; obtain ⟨u1, eu1, h⟩ := h
  replace h := obi h; obtain ⟨st2, est2, h⟩ := h
  refine hcallV (n := 1) X hq (nm_sum est2).le (M_sum est2) (C := 4) rfl eu1 q_437 q_439 q_p3 q_6 q_440 ok_x_Rdr_sum rfl (lvl (by omega) (by decide)) hl.1 rfl (Nat.le_of_ble_eq_true rfl) d_x_Rdr_comparison_44 ⟨Nat.le_refl _, Nat.le_refl _⟩ (fun H locs hq => ?_)
  refine lv_aload_n hx hb d_x_Rdr_comparison_47 rfl (lv_at hl 0 rfl) ?_
  refine lv_aload_n hx hb d_x_Rdr_comparison_48 rfl (lv_at hl 2 rfl) ?_
  refine lv_iconst (v := 0) hx hb d_x_Rdr_comparison_49 (by decide) ?_
  replace h := obi h; obtain ⟨u3, eu3, h⟩ := h
  replace h := obi h; obtain ⟨q4, eq4, h⟩ := h
  refine hcallV (n := 2) X hq (n_x_Rdr_put eq4).le (c_x_Rdr_put l 0 (Nat.le_refl _) G A eq4) (C := 4) rfl eu3 q_471 q_473 q_p8 q_6 q_474 ok_x_Rdr_put rfl (lvl (by omega) (by decide)) hl.1 rfl (Nat.le_of_ble_eq_true rfl) d_x_Rdr_comparison_50 ⟨Nat.le_refl _, Nat.le_refl _⟩ (fun H locs hq => ?_)
  refine lv_pop hx hb d_x_Rdr_comparison_53 rfl ?_
  cases h
  exact hret_v X hq ⟨Nat.le_refl _, Nat.le_refl _⟩ d_x_Rdr_comparison_54
theorem w_x_Rdr_comparison_J23 {r : HS} {g_sum : HS → Nat → Int32 → Option HS} {st : HS} {l0 : Nat} {l1 : Int32} {w0 : Nat} {H : Heap} {locs : List Loc} {ls : Array Slot} (X : jx p s m args meth c b_x_Rdr_comparison 3 none "NoteSheet$Reader") (hK : 6 ≤ K) (nm_sum : ∀ {st : HS} {this : Nat} {a1 : Int32} {r : HS}, g_sum st this a1 = some r → hke st r) (M_sum : ∀ {st : HS} {this : Nat} {a1 : Int32} {r : HS}, g_sum st this a1 = some r → Met l y_x_Rdr_sum (Cond.code y_x_Rdr_sum b_x_Rdr_sum 3 none :: lw_g) (rmL Kg 0 0) (hPc G A [.ref this, .int a1] st) (hQc G A none r) 0 0 A) (hKg : Kg + 1 ≤ K) (hq : hC G A s st H locs) (hl : lv_has ls 3 [(0, .ref l0), (1, .int l1)]) (h : x_Rdr_comparison_J23 g_sum st l0 l1 w0 = some r) : W p l e (rmL K 0 0) s m args below meth c H locs 0 0 (MQ below (hQc G A none r) args s 0 0 A) (F0 m 23 ls [.ref w0]) := by
  obtain ⟨hx, hb, hr, hml, hown, hts, hlocks⟩ := id X
  unfold x_Rdr_comparison_J23 at h
  refine lv_astore_n (lv' := [(2, .ref w0), (0, .ref l0), (1, .int l1)]) hx hb d_x_Rdr_comparison_23 rfl hl (by decide) rfl (fun ls hl => ?_)
  refine lv_aload_n hx hb d_x_Rdr_comparison_24 rfl (lv_at hl 1 rfl) ?_
  refine lv_bipush (v := 60) hx hb d_x_Rdr_comparison_25 (by decide) ?_
  replace h := obi h; obtain ⟨u1, eu1, h⟩ := h
  replace h := obi h; obtain ⟨q2, eq2, h⟩ := h
  refine hcallV (n := 1) X hq (n_x_Rdr_takes eq2).le (c_x_Rdr_takes l 5 (Nat.le_refl _) G A eq2) (C := 4) rfl eu1 q_477 q_479 q_p9 q_6 q_480 ok_x_Rdr_takes rfl (lvl (by omega) (by decide)) hl.1 rfl (Nat.le_of_ble_eq_true rfl) d_x_Rdr_comparison_27 ⟨Nat.le_refl _, Nat.le_refl _⟩ (fun H locs hq => ?_)
  refine lv_if_ne (tgt := 42) hx hb d_x_Rdr_comparison_30 (by decide) (fun c30 => ?_) (fun c30 => ?_)
  · replace h := ifn c30 h
    exact w_x_Rdr_comparison_J42 X hK nm_sum M_sum hKg hq (lv_sub hl [1, 2, 0] rfl) h
  · replace h := ifp c30 h
    refine lv_aload_n hx hb d_x_Rdr_comparison_33 rfl (lv_at hl 1 rfl) ?_
    refine lv_bipush (v := 61) hx hb d_x_Rdr_comparison_34 (by decide) ?_
    replace h := obi h; obtain ⟨u3, eu3, h⟩ := h
    replace h := obi h; obtain ⟨q4, eq4, h⟩ := h
    refine hcallV (n := 1) X hq (n_x_Rdr_takes eq4).le (c_x_Rdr_takes l 5 (Nat.le_refl _) G A eq4) (C := 4) rfl eu3 q_477 q_479 q_p9 q_6 q_480 ok_x_Rdr_takes rfl (lvl (by omega) (by decide)) hl.1 rfl (Nat.le_of_ble_eq_true rfl) d_x_Rdr_comparison_36 ⟨Nat.le_refl _, Nat.le_refl _⟩ (fun H locs hq => ?_)
    refine lv_if_eq (tgt := 54) hx hb d_x_Rdr_comparison_39 (by decide) (fun c39 => ?_) (fun c39 => ?_)
    · replace h := ifp c39 h
      cases h
      exact hret_v X hq ⟨Nat.le_refl _, Nat.le_refl _⟩ d_x_Rdr_comparison_54
    · replace h := ifn c39 h
      exact w_x_Rdr_comparison_J42 X hK nm_sum M_sum hKg hq (lv_sub hl [1, 2, 0] rfl) h
theorem c_x_Rdr_comparison (l : Launch) (K : Nat) (hK : 6 ≤ K) (G : HG) (A : Nat → Prop) {g_sum : HS → Nat → Int32 → Option HS} {Kg : Nat} (nm_sum : ∀ {st : HS} {this : Nat} {a1 : Int32} {r : HS}, g_sum st this a1 = some r → hke st r) (M_sum : ∀ {st : HS} {this : Nat} {a1 : Int32} {r : HS}, g_sum st this a1 = some r → Met l y_x_Rdr_sum (Cond.code y_x_Rdr_sum b_x_Rdr_sum 3 none :: lw_g) (rmL Kg 0 0) (hPc G A [.ref this, .int a1] st) (hQc G A none r) 0 0 A) (hKg : Kg + 1 ≤ K) {st : HS} {this : Nat} {a1 : Int32} {r : HS} (h : x_Rdr_comparison g_sum st this a1 = some r) : Met l y_x_Rdr_comparison (Cond.code y_x_Rdr_comparison b_x_Rdr_comparison 3 none :: lw_g) (rmL K 0 0) (hPc G A [.ref this, .int a1] st) (hQc G A none r) 0 0 A := by
  refine Met.ofH (by decide +kernel) (Nat.le_of_ble_eq_true rfl) ?_
  intro p e s m below meth c ls X hmn hq hl
  have hl : lv_has ls 3 [(0, .ref this), (1, .int a1)] := hl
  generalize ([.ref this, .int a1] : List Value).toArray = args at X ⊢
  obtain ⟨hx, hb, hr, hml, hown, hts, hlocks⟩ := id X
  generalize hHH : s.heap = H at hq ⊢
  generalize ([] : List Loc) = locs at hq ⊢
  clear hHH
  unfold x_Rdr_comparison at h
  refine lv_aload_n hx hb d_x_Rdr_comparison_0 rfl (lv_at hl 0 rfl) ?_
  refine lv_iload_n hx hb d_x_Rdr_comparison_1 rfl (lv_at hl 1 rfl) ?_
  replace h := obi h; obtain ⟨u1, eu1, h⟩ := h
  replace h := obi h; obtain ⟨st2, est2, h⟩ := h
  refine hcallV (n := 1) X hq (nm_sum est2).le (M_sum est2) (C := 4) rfl eu1 q_437 q_439 q_p3 q_6 q_440 ok_x_Rdr_sum rfl (lvl (by omega) (by decide)) hl.1 rfl (Nat.le_of_ble_eq_true rfl) d_x_Rdr_comparison_2 ⟨Nat.le_refl _, Nat.le_refl _⟩ (fun H locs hq => ?_)
  refine lv_aload_n hx hb d_x_Rdr_comparison_5 rfl (lv_at hl 0 rfl) ?_
  replace h := obi h; obtain ⟨u3, eu3, h⟩ := h
  replace h := obi h; obtain ⟨x4, ex4, h⟩ := h
  refine hcallV (st' := st2) (n := 0) X hq hle.rf (c_x_Rdr_peek l 4 (Nat.le_refl _) G A ex4) (C := 4) rfl eu3 q_453 q_455 q_p7 q_6 q_456 ok_x_Rdr_peek rfl (lvl (by omega) (by decide)) hl.1 rfl (Nat.le_of_ble_eq_true rfl) d_x_Rdr_comparison_6 ⟨Nat.le_refl _, Nat.le_refl _⟩ (fun H locs hq => ?_)
  refine lv_bipush (v := 60) hx hb d_x_Rdr_comparison_9 (by decide) ?_
  refine lv_icmp_ne (tgt := 20) hx hb d_x_Rdr_comparison_11 (by decide) (fun c11 => ?_) (fun c11 => ?_)
  · replace h := ifn c11 h
    refine hs_op X hq 8 (by decide) rfl q_501 d_x_Rdr_comparison_20 ?_
    exact w_x_Rdr_comparison_J23 X hK nm_sum M_sum hKg hq (lv_sub hl [0, 1] rfl) h
  · replace h := ifp c11 h
    refine hs_op X hq 7 (by decide) rfl q_499 d_x_Rdr_comparison_14 ?_
    refine lv_goto (tgt := 23) hx hb d_x_Rdr_comparison_17 (by decide) ?_
    exact w_x_Rdr_comparison_J23 X hK nm_sum M_sum hKg hq (lv_sub hl [0, 1] rfl) h
theorem w_x_Rdr_sum_J59 {r : HS} {g_product : HS → Nat → Int32 → Option HS} {st : HS} {l0 : Nat} {l1 : Int32} {l2 : Nat} {k_5 : HS → Nat → Int32 → Option HS} {H : Heap} {locs : List Loc} {ls : Array Slot} (X : jx p s m args meth c b_x_Rdr_sum 3 none "NoteSheet$Reader") (hK : 6 ≤ K) (nm_product : ∀ {st : HS} {this : Nat} {a1 : Int32} {r : HS}, g_product st this a1 = some r → hke st r) (M_product : ∀ {st : HS} {this : Nat} {a1 : Int32} {r : HS}, g_product st this a1 = some r → Met l y_x_Rdr_product (Cond.code y_x_Rdr_product b_x_Rdr_product 2 none :: lw_g) (rmL Kg 0 0) (hPc G A [.ref this, .int a1] st) (hQc G A none r) 0 0 A) (hKg : Kg + 1 ≤ K) (hq : hC G A s st H locs) (hl : lv_has ls 3 [(0, .ref l0), (1, .int l1), (2, .ref l2)]) (hk_5 : ∀ (st : HS) (l0 : Nat) (l1 : Int32) (H : Heap) (locs : List Loc) (ls : Array Slot), k_5 st l0 l1 = some r → hC G A s st H locs → lv_has ls 3 [(0, .ref l0), (1, .int l1)] → W p l e (rmL K 0 0) s m args below meth c H locs 0 0 (MQ below (hQc G A none r) args s 0 0 A) (F0 m 5 ls [])) (hm_5 : ∀ (st : HS) (l0 : Nat) (l1 : Int32), k_5 st l0 l1 = some r → hke st r) (h : x_Rdr_sum_J59 g_product k_5 st l0 l1 l2 = some r) : W p l e (rmL K 0 0) s m args below meth c H locs 0 0 (MQ below (hQc G A none r) args s 0 0 A) (F0 m 59 ls []) := by
  obtain ⟨hx, hb, hr, hml, hown, hts, hlocks⟩ := id X
  unfold x_Rdr_sum_J59 at h
  refine lv_aload_n hx hb d_x_Rdr_sum_59 rfl (lv_at hl 0 rfl) ?_
  refine lv_iload_n hx hb d_x_Rdr_sum_60 rfl (lv_at hl 1 rfl) ?_
  replace h := obi h; obtain ⟨u1, eu1, h⟩ := h
  replace h := obi h; obtain ⟨st2, est2, h⟩ := h
  refine hcallV (n := 1) X hq (nm_product est2).le (M_product est2) (C := 4) rfl eu1 q_441 q_443 q_p4 q_6 q_444 ok_x_Rdr_product rfl (lvl (by omega) (by decide)) hl.1 rfl (Nat.le_of_ble_eq_true rfl) d_x_Rdr_sum_61 ⟨Nat.le_refl _, Nat.le_refl _⟩ (fun H locs hq => ?_)
  refine lv_aload_n hx hb d_x_Rdr_sum_64 rfl (lv_at hl 0 rfl) ?_
  refine lv_aload_n hx hb d_x_Rdr_sum_65 rfl (lv_at hl 2 rfl) ?_
  refine lv_iconst (v := 0) hx hb d_x_Rdr_sum_66 (by decide) ?_
  replace h := obi h; obtain ⟨u3, eu3, h⟩ := h
  replace h := obi h; obtain ⟨q4, eq4, h⟩ := h
  refine hcallV (n := 2) X hq (n_x_Rdr_put eq4).le (c_x_Rdr_put l 0 (Nat.le_refl _) G A eq4) (C := 4) rfl eu3 q_471 q_473 q_p8 q_6 q_474 ok_x_Rdr_put rfl (lvl (by omega) (by decide)) hl.1 rfl (Nat.le_of_ble_eq_true rfl) d_x_Rdr_sum_67 ⟨Nat.le_refl _, Nat.le_refl _⟩ (fun H locs hq => ?_)
  refine lv_pop hx hb d_x_Rdr_sum_70 rfl ?_
  refine lv_goto (tgt := 5) hx hb d_x_Rdr_sum_71 (by decide) ?_
  exact hk_5 _ _ _ _ _ _ h hq (lv_sub hl [0, 1] rfl)
theorem w_x_Rdr_sum_J41 {r : HS} {g_product : HS → Nat → Int32 → Option HS} {st : HS} {l0 : Nat} {l1 : Int32} {w0 : Nat} {k_5 : HS → Nat → Int32 → Option HS} {H : Heap} {locs : List Loc} {ls : Array Slot} (X : jx p s m args meth c b_x_Rdr_sum 3 none "NoteSheet$Reader") (hK : 6 ≤ K) (nm_product : ∀ {st : HS} {this : Nat} {a1 : Int32} {r : HS}, g_product st this a1 = some r → hke st r) (M_product : ∀ {st : HS} {this : Nat} {a1 : Int32} {r : HS}, g_product st this a1 = some r → Met l y_x_Rdr_product (Cond.code y_x_Rdr_product b_x_Rdr_product 2 none :: lw_g) (rmL Kg 0 0) (hPc G A [.ref this, .int a1] st) (hQc G A none r) 0 0 A) (hKg : Kg + 1 ≤ K) (hq : hC G A s st H locs) (hl : lv_has ls 3 [(0, .ref l0), (1, .int l1)]) (hk_5 : ∀ (st : HS) (l0 : Nat) (l1 : Int32) (H : Heap) (locs : List Loc) (ls : Array Slot), k_5 st l0 l1 = some r → hC G A s st H locs → lv_has ls 3 [(0, .ref l0), (1, .int l1)] → W p l e (rmL K 0 0) s m args below meth c H locs 0 0 (MQ below (hQc G A none r) args s 0 0 A) (F0 m 5 ls [])) (hm_5 : ∀ (st : HS) (l0 : Nat) (l1 : Int32), k_5 st l0 l1 = some r → hke st r) (h : x_Rdr_sum_J41 g_product k_5 st l0 l1 w0 = some r) : W p l e (rmL K 0 0) s m args below meth c H locs 0 0 (MQ below (hQc G A none r) args s 0 0 A) (F0 m 41 ls [.ref w0]) := by
  obtain ⟨hx, hb, hr, hml, hown, hts, hlocks⟩ := id X
  unfold x_Rdr_sum_J41 at h
  refine lv_astore_n (lv' := [(2, .ref w0), (0, .ref l0), (1, .int l1)]) hx hb d_x_Rdr_sum_41 rfl hl (by decide) rfl (fun ls hl => ?_)
  refine lv_aload_n hx hb d_x_Rdr_sum_42 rfl (lv_at hl 0 rfl) ?_
  refine hs_op X hq 4 (by decide) rfl q_497 d_x_Rdr_sum_43 ?_
  refine lv_acmp_ne (rx := (some w0)) (ry := (some (hKc st 4))) (tgt := 59) hx hb d_x_Rdr_sum_46 (by decide) (fun c46 => ?_) (fun c46 => ?_)
  · replace h := ifn c46 h
    exact w_x_Rdr_sum_J59 X hK nm_product M_product hKg hq (lv_sub hl [1, 2, 0] rfl) hk_5 hm_5 h
  · replace h := ifp c46 h
    refine lv_aload_n hx hb d_x_Rdr_sum_49 rfl (lv_at hl 1 rfl) ?_
    refine lv_dup hx hb d_x_Rdr_sum_50 rfl ?_
    replace h := obi h; obtain ⟨x1, ex1, h⟩ := h
    refine hg_i X hq 4 1 rfl (by decide) ex1 q_72 d_x_Rdr_sum_51 ?_
    refine lv_iconst (v := 1) hx hb d_x_Rdr_sum_54 (by decide) ?_
    refine lv_iadd hx hb d_x_Rdr_sum_55 ?_
    replace h := obi h; obtain ⟨st2, est2, h⟩ := h
    refine hp_v (ty := .int) X hq 4 1 rfl (by decide) rfl (by decide +kernel) rfl rfl est2 q_72 d_x_Rdr_sum_56 (fun H locs hq => ?_)
    exact w_x_Rdr_sum_J59 X hK nm_product M_product hKg hq (lv_sub hl [1, 2, 0] rfl) hk_5 hm_5 h
theorem w_x_Rdr_sum_J23 {r : HS} {g_product : HS → Nat → Int32 → Option HS} {st : HS} {l0 : Nat} {l1 : Int32} {k_5 : HS → Nat → Int32 → Option HS} {H : Heap} {locs : List Loc} {ls : Array Slot} (X : jx p s m args meth c b_x_Rdr_sum 3 none "NoteSheet$Reader") (hK : 6 ≤ K) (nm_product : ∀ {st : HS} {this : Nat} {a1 : Int32} {r : HS}, g_product st this a1 = some r → hke st r) (M_product : ∀ {st : HS} {this : Nat} {a1 : Int32} {r : HS}, g_product st this a1 = some r → Met l y_x_Rdr_product (Cond.code y_x_Rdr_product b_x_Rdr_product 2 none :: lw_g) (rmL Kg 0 0) (hPc G A [.ref this, .int a1] st) (hQc G A none r) 0 0 A) (hKg : Kg + 1 ≤ K) (hq : hC G A s st H locs) (hl : lv_has ls 3 [(0, .ref l0), (1, .int l1)]) (hk_5 : ∀ (st : HS) (l0 : Nat) (l1 : Int32) (H : Heap) (locs : List Loc) (ls : Array Slot), k_5 st l0 l1 = some r → hC G A s st H locs → lv_has ls 3 [(0, .ref l0), (1, .int l1)] → W p l e (rmL K 0 0) s m args below meth c H locs 0 0 (MQ below (hQc G A none r) args s 0 0 A) (F0 m 5 ls [])) (hm_5 : ∀ (st : HS) (l0 : Nat) (l1 : Int32), k_5 st l0 l1 = some r → hke st r) (h : x_Rdr_sum_J23 g_product k_5 st l0 l1 = some r) : W p l e (rmL K 0 0) s m args below meth c H locs 0 0 (MQ below (hQc G A none r) args s 0 0 A) (F0 m 23 ls []) := by
  obtain ⟨hx, hb, hr, hml, hown, hts, hlocks⟩ := id X
  unfold x_Rdr_sum_J23 at h
  refine lv_aload_n hx hb d_x_Rdr_sum_23 rfl (lv_at hl 0 rfl) ?_
  refine lv_bipush (v := 43) hx hb d_x_Rdr_sum_24 (by decide) ?_
  replace h := obi h; obtain ⟨u1, eu1, h⟩ := h
  replace h := obi h; obtain ⟨q2, eq2, h⟩ := h
  refine hcallV (n := 1) X hq (n_x_Rdr_takes eq2).le (c_x_Rdr_takes l 5 (Nat.le_refl _) G A eq2) (C := 4) rfl eu1 q_477 q_479 q_p9 q_6 q_480 ok_x_Rdr_takes rfl (lvl (by omega) (by decide)) hl.1 rfl (Nat.le_of_ble_eq_true rfl) d_x_Rdr_sum_26 ⟨Nat.le_refl _, Nat.le_refl _⟩ (fun H locs hq => ?_)
  refine lv_if_eq (tgt := 38) hx hb d_x_Rdr_sum_29 (by decide) (fun c29 => ?_) (fun c29 => ?_)
  · replace h := ifp c29 h
    refine hs_op X hq 4 (by decide) rfl q_497 d_x_Rdr_sum_38 ?_
    exact w_x_Rdr_sum_J41 X hK nm_product M_product hKg hq (lv_sub hl [0, 1] rfl) hk_5 hm_5 h
  · replace h := ifn c29 h
    refine hs_op X hq 3 (by decide) rfl q_495 d_x_Rdr_sum_32 ?_
    refine lv_goto (tgt := 41) hx hb d_x_Rdr_sum_35 (by decide) ?_
    exact w_x_Rdr_sum_J41 X hK nm_product M_product hKg hq (lv_sub hl [0, 1] rfl) hk_5 hm_5 h
theorem w_x_Rdr_sum_L5 {r : HS} {g_product : HS → Nat → Int32 → Option HS} (X : jx p s m args meth c b_x_Rdr_sum 3 none "NoteSheet$Reader") (hK : 6 ≤ K) (nm_product : ∀ {st : HS} {this : Nat} {a1 : Int32} {r : HS}, g_product st this a1 = some r → hke st r) (M_product : ∀ {st : HS} {this : Nat} {a1 : Int32} {r : HS}, g_product st this a1 = some r → Met l y_x_Rdr_product (Cond.code y_x_Rdr_product b_x_Rdr_product 2 none :: lw_g) (rmL Kg 0 0) (hPc G A [.ref this, .int a1] st) (hQc G A none r) 0 0 A) (hKg : Kg + 1 ≤ K) : ∀ (n : Nat), ∀ (st : HS) (l0 : Nat) (l1 : Int32) (H : Heap) (locs : List Loc) (ls : Array Slot), x_Rdr_sum_L5 g_product n st l0 l1 = some r → hC G A s st H locs → lv_has ls 3 [(0, .ref l0), (1, .int l1)] → W p l e (rmL K 0 0) s m args below meth c H locs 0 0 (MQ below (hQc G A none r) args s 0 0 A) (F0 m 5 ls []) := by
  obtain ⟨hx, hb, hr, hml, hown, hts, hlocks⟩ := id X
  intro n
  induction n with
  | zero => intro st l0 l1 H locs ls h hq hl; exact absurd h (by simp [x_Rdr_sum_L5])
  | succ n ih =>
    intro st l0 l1 H locs ls h hq hl
    rw [x_Rdr_sum_L5] at h
    refine lv_aload_n hx hb d_x_Rdr_sum_5 rfl (lv_at hl 0 rfl) ?_
    replace h := obi h; obtain ⟨u1, eu1, h⟩ := h
    replace h := obi h; obtain ⟨x2, ex2, h⟩ := h
    refine hcallV (st' := st) (n := 0) X hq hle.rf (c_x_Rdr_peek l 4 (Nat.le_refl _) G A ex2) (C := 4) rfl eu1 q_453 q_455 q_p7 q_6 q_456 ok_x_Rdr_peek rfl (lvl (by omega) (by decide)) hl.1 rfl (Nat.le_of_ble_eq_true rfl) d_x_Rdr_sum_6 ⟨Nat.le_refl _, Nat.le_refl _⟩ (fun H locs hq => ?_)
    refine lv_bipush (v := 43) hx hb d_x_Rdr_sum_9 (by decide) ?_
    refine lv_icmp_eq (tgt := 23) hx hb d_x_Rdr_sum_11 (by decide) (fun c11 => ?_) (fun c11 => ?_)
    · replace h := ifp c11 h
      exact w_x_Rdr_sum_J23 X hK nm_product M_product hKg hq (lv_sub hl [0, 1] rfl) ih (n_x_Rdr_sum_L5 nm_product n) h
    · replace h := ifn c11 h
      refine lv_aload_n hx hb d_x_Rdr_sum_14 rfl (lv_at hl 0 rfl) ?_
      replace h := obi h; obtain ⟨u3, eu3, h⟩ := h
      replace h := obi h; obtain ⟨x4, ex4, h⟩ := h
      refine hcallV (st' := st) (n := 0) X hq hle.rf (c_x_Rdr_peek l 4 (Nat.le_refl _) G A ex4) (C := 4) rfl eu3 q_453 q_455 q_p7 q_6 q_456 ok_x_Rdr_peek rfl (lvl (by omega) (by decide)) hl.1 rfl (Nat.le_of_ble_eq_true rfl) d_x_Rdr_sum_15 ⟨Nat.le_refl _, Nat.le_refl _⟩ (fun H locs hq => ?_)
      refine lv_bipush (v := 45) hx hb d_x_Rdr_sum_18 (by decide) ?_
      refine lv_icmp_ne (tgt := 74) hx hb d_x_Rdr_sum_20 (by decide) (fun c20 => ?_) (fun c20 => ?_)
      · replace h := ifn c20 h
        cases h
        exact hret_v X hq ⟨Nat.le_refl _, Nat.le_refl _⟩ d_x_Rdr_sum_74
      · replace h := ifp c20 h
        exact w_x_Rdr_sum_J23 X hK nm_product M_product hKg hq (lv_sub hl [0, 1] rfl) ih (n_x_Rdr_sum_L5 nm_product n) h
theorem c_x_Rdr_sum (l : Launch) (K : Nat) (hK : 6 ≤ K) (G : HG) (A : Nat → Prop) {g_product : HS → Nat → Int32 → Option HS} {Kg : Nat} (nm_product : ∀ {st : HS} {this : Nat} {a1 : Int32} {r : HS}, g_product st this a1 = some r → hke st r) (M_product : ∀ {st : HS} {this : Nat} {a1 : Int32} {r : HS}, g_product st this a1 = some r → Met l y_x_Rdr_product (Cond.code y_x_Rdr_product b_x_Rdr_product 2 none :: lw_g) (rmL Kg 0 0) (hPc G A [.ref this, .int a1] st) (hQc G A none r) 0 0 A) (hKg : Kg + 1 ≤ K) {st : HS} {this : Nat} {a1 : Int32} {r : HS} (h : x_Rdr_sum g_product st this a1 = some r) : Met l y_x_Rdr_sum (Cond.code y_x_Rdr_sum b_x_Rdr_sum 3 none :: lw_g) (rmL K 0 0) (hPc G A [.ref this, .int a1] st) (hQc G A none r) 0 0 A := by
  refine Met.ofH (by decide +kernel) (Nat.le_of_ble_eq_true rfl) ?_
  intro p e s m below meth c ls X hmn hq hl
  have hl : lv_has ls 3 [(0, .ref this), (1, .int a1)] := hl
  generalize ([.ref this, .int a1] : List Value).toArray = args at X ⊢
  obtain ⟨hx, hb, hr, hml, hown, hts, hlocks⟩ := id X
  generalize hHH : s.heap = H at hq ⊢
  generalize ([] : List Loc) = locs at hq ⊢
  clear hHH
  unfold x_Rdr_sum at h
  refine lv_aload_n hx hb d_x_Rdr_sum_0 rfl (lv_at hl 0 rfl) ?_
  refine lv_iload_n hx hb d_x_Rdr_sum_1 rfl (lv_at hl 1 rfl) ?_
  replace h := obi h; obtain ⟨u1, eu1, h⟩ := h
  replace h := obi h; obtain ⟨st2, est2, h⟩ := h
  refine hcallV (n := 1) X hq (nm_product est2).le (M_product est2) (C := 4) rfl eu1 q_441 q_443 q_p4 q_6 q_444 ok_x_Rdr_product rfl (lvl (by omega) (by decide)) hl.1 rfl (Nat.le_of_ble_eq_true rfl) d_x_Rdr_sum_2 ⟨Nat.le_refl _, Nat.le_refl _⟩ (fun H locs hq => ?_)
  exact w_x_Rdr_sum_L5 X hK nm_product M_product hKg 1000 _ _ _ _ _ _ h hq (lv_sub hl [0, 1] rfl)
end
