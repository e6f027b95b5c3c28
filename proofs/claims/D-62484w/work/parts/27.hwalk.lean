section
variable {p : Program} {l : Launch} {e : Env} {s : State} {m : MethodId} {args : Array Value} {below : List Frame} {meth : Method} {c : Code} {G : HG} {A : Nat → Prop} {K Kg : Nat}
theorem w_x_NS_set_J98 {r : Int32 × HS} {st : HS} {l2 : Int32} {l3 : Int32} {l4 : Nat} {H : Heap} {locs : List Loc} {ls : Array Slot} (X : jx p s m args meth c b_x_NS_set 5 (some .boolean) "NoteSheet") (hK : 1 ≤ K) (hq : hC G A s st H locs) (hl : lv_has ls 5 [(2, .int l2), (3, .int l3), (4, .ref l4)]) (h : x_NS_set_J98 st l2 l3 l4 = some r) : W p l e (rmL K 0 0) s m args below meth c H locs 0 0 (MQ below (hQc G A (some (.int r.1)) r.2) args s 0 0 A) (F0 m 98 ls []) := by
  obtain ⟨hx, hb, hr, hml, hown, hts, hlocks⟩ := id X
  unfold x_NS_set_J98 at h
  refine lv_aload hx hb d_x_NS_set_98 (lv_at hl 2 rfl) ?_
  refine lv_iconst (v := 1) hx hb d_x_NS_set_100 (by decide) ?_
  replace h := obi h; obtain ⟨st1, est1, h⟩ := h
  refine hpN_v (ty := .boolean) X hq 1 1 rfl (by decide) rfl (by decide +kernel) (by decide) (by decide) est1 qn_100 d_x_NS_set_101 (fun H locs hq => ?_)
  refine lv_aload hx hb d_x_NS_set_104 (lv_at hl 2 rfl) ?_
  refine lv_iload_n hx hb d_x_NS_set_106 rfl (lv_at hl 0 rfl) ?_
  replace h := obi h; obtain ⟨st2, est2, h⟩ := h
  refine hpN_v (ty := .int) X hq 1 3 rfl (by decide) rfl (by decide +kernel) rfl rfl est2 qn_102 d_x_NS_set_107 (fun H locs hq => ?_)
  refine lv_aload hx hb d_x_NS_set_110 (lv_at hl 2 rfl) ?_
  refine lv_iload_n hx hb d_x_NS_set_112 rfl (lv_at hl 1 rfl) ?_
  replace h := obi h; obtain ⟨st3, est3, h⟩ := h
  refine hpN_v (ty := .int) X hq 1 4 rfl (by decide) rfl (by decide +kernel) rfl rfl est3 qn_104 d_x_NS_set_113 (fun H locs hq => ?_)
  refine lv_aload hx hb d_x_NS_set_116 (lv_at hl 2 rfl) ?_
  refine lv_null hx hb d_x_NS_set_118 ?_
  replace h := obi h; obtain ⟨st4, est4, h⟩ := h
  refine hpN_v (ty := (.object "NoteSheet$Note")) X hq 1 8 rfl (by decide) rfl (by decide +kernel) rfl rfl est4 qn_110 d_x_NS_set_119 (fun H locs hq => ?_)
  refine lv_iconst (v := 1) hx hb d_x_NS_set_122 (by decide) ?_
  cases h
  exact hret_z (v := 1) (by decide) X hq ⟨Nat.le_refl _, Nat.le_refl _⟩ d_x_NS_set_123
theorem w_x_NS_set_J89 {r : Int32 × HS} {st : HS} {l0 : Nat} {l2 : Int32} {l3 : Int32} {l4 : Nat} {H : Heap} {locs : List Loc} {ls : Array Slot} (X : jx p s m args meth c b_x_NS_set 5 (some .boolean) "NoteSheet") (hK : 1 ≤ K) (hq : hC G A s st H locs) (hl : lv_has ls 5 [(0, .ref l0), (2, .int l2), (3, .int l3), (4, .ref l4)]) (h : x_NS_set_J89 st l0 l2 l3 l4 = some r) : W p l e (rmL K 0 0) s m args below meth c H locs 0 0 (MQ below (hQc G A (some (.int r.1)) r.2) args s 0 0 A) (F0 m 89 ls []) := by
  obtain ⟨hx, hb, hr, hml, hown, hts, hlocks⟩ := id X
  unfold x_NS_set_J89 at h
  refine lv_aload hx hb d_x_NS_set_89 (lv_at hl 3 rfl) ?_
  refine lv_aload_n hx hb d_x_NS_set_91 rfl (lv_at hl 0 rfl) ?_
  replace h := obi h; obtain ⟨x1, ex1, h⟩ := h
  refine hg_i X hq 0 4 rfl (by decide) ex1 q_143 d_x_NS_set_92 ?_
  replace h := obi h; obtain ⟨st2, est2, h⟩ := h
  refine hpN_v (ty := .int) X hq 1 5 rfl (by decide) rfl (by decide +kernel) rfl rfl est2 qn_106 d_x_NS_set_95 (fun H locs hq => ?_)
  exact w_x_NS_set_J98 X hK hq (lv_sub hl [1, 2, 3] rfl) h
theorem w_x_NS_set_J69 {r : Int32 × HS} {st : HS} {l0 : Nat} {l2 : Int32} {l3 : Int32} {l4 : Nat} {w0 : Int32} {w1 : Nat} {H : Heap} {locs : List Loc} {ls : Array Slot} (X : jx p s m args meth c b_x_NS_set 5 (some .boolean) "NoteSheet") (hK : 1 ≤ K) (hq : hC G A s st H locs) (hl : lv_has ls 5 [(0, .ref l0), (2, .int l2), (3, .int l3), (4, .ref l4)]) (h : x_NS_set_J69 st l0 l2 l3 l4 w0 w1 = some r) : W p l e (rmL K 0 0) s m args below meth c H locs 0 0 (MQ below (hQc G A (some (.int r.1)) r.2) args s 0 0 A) (F0 m 69 ls [.int w0, .ref w1]) := by
  obtain ⟨hx, hb, hr, hml, hown, hts, hlocks⟩ := id X
  unfold x_NS_set_J69 at h
  replace h := obi h; obtain ⟨u1, eu1, h⟩ := h
  replace h := obi h; obtain ⟨st2, est2, h⟩ := h
  refine hcallV (n := 1) X hq (n_x_NS_change est2).le (c_x_NS_change l 0 (Nat.le_refl _) G A est2) (C := 0) rfl eu1 q_535 q_537 q_p12 q_1 q_538 ok_x_NS_change rfl (lvl (by omega) (by decide)) hl.1 rfl (Nat.le_of_ble_eq_true rfl) d_x_NS_set_69 ⟨Nat.le_refl _, Nat.le_refl _⟩ (fun H locs hq => ?_)
  refine lv_aload hx hb d_x_NS_set_72 (lv_at hl 3 rfl) ?_
  replace h := obi h; obtain ⟨x3, ex3, h⟩ := h
  refine hgN_i X hq 1 1 rfl (by decide) ex3 qn_100 d_x_NS_set_74 ?_
  refine lv_if_eq (tgt := 89) hx hb d_x_NS_set_77 (by decide) (fun c77 => ?_) (fun c77 => ?_)
  · replace h := ifp c77 h
    exact w_x_NS_set_J89 X hK hq (lv_sub hl [0, 1, 2, 3] rfl) h
  · replace h := ifn c77 h
    refine lv_aload hx hb d_x_NS_set_80 (lv_at hl 3 rfl) ?_
    replace h := obi h; obtain ⟨x4, ex4, h⟩ := h
    refine hgN_i X hq 1 3 rfl (by decide) ex4 qn_102 d_x_NS_set_82 ?_
    refine lv_iload_n hx hb d_x_NS_set_85 rfl (lv_at hl 1 rfl) ?_
    refine lv_icmp_eq (tgt := 98) hx hb d_x_NS_set_86 (by decide) (fun c86 => ?_) (fun c86 => ?_)
    · replace h := ifp c86 h
      exact w_x_NS_set_J98 X hK hq (lv_sub hl [1, 2, 3] rfl) h
    · replace h := ifn c86 h
      exact w_x_NS_set_J89 X hK hq (lv_sub hl [0, 1, 2, 3] rfl) h
theorem w_x_NS_set_J51 {r : Int32 × HS} {st : HS} {l0 : Nat} {l2 : Int32} {l3 : Int32} {l4 : Nat} {H : Heap} {locs : List Loc} {ls : Array Slot} (X : jx p s m args meth c b_x_NS_set 5 (some .boolean) "NoteSheet") (hK : 1 ≤ K) (hq : hC G A s st H locs) (hl : lv_has ls 5 [(0, .ref l0), (2, .int l2), (3, .int l3), (4, .ref l4)]) (h : x_NS_set_J51 st l0 l2 l3 l4 = some r) : W p l e (rmL K 0 0) s m args below meth c H locs 0 0 (MQ below (hQc G A (some (.int r.1)) r.2) args s 0 0 A) (F0 m 51 ls []) := by
  obtain ⟨hx, hb, hr, hml, hown, hts, hlocks⟩ := id X
  unfold x_NS_set_J51 at h
  refine lv_aload_n hx hb d_x_NS_set_51 rfl (lv_at hl 0 rfl) ?_
  refine lv_aload hx hb d_x_NS_set_52 (lv_at hl 3 rfl) ?_
  replace h := obi h; obtain ⟨x1, ex1, h⟩ := h
  refine hgN_i X hq 1 1 rfl (by decide) ex1 qn_100 d_x_NS_set_54 ?_
  refine lv_if_eq (tgt := 68) hx hb d_x_NS_set_57 (by decide) (fun c57 => ?_) (fun c57 => ?_)
  · replace h := ifp c57 h
    refine lv_iconst (v := 2) hx hb d_x_NS_set_68 (by decide) ?_
    exact w_x_NS_set_J69 X hK hq (lv_sub hl [0, 1, 2, 3] rfl) h
  · replace h := ifn c57 h
    refine lv_aload hx hb d_x_NS_set_60 (lv_at hl 3 rfl) ?_
    replace h := obi h; obtain ⟨x2, ex2, h⟩ := h
    refine hgN_i X hq 1 4 rfl (by decide) ex2 qn_104 d_x_NS_set_62 ?_
    refine lv_goto (tgt := 69) hx hb d_x_NS_set_65 (by decide) ?_
    exact w_x_NS_set_J69 X hK hq (lv_sub hl [0, 1, 2, 3] rfl) h
theorem c_x_NS_set (l : Launch) (K : Nat) (hK : 1 ≤ K) (G : HG) (A : Nat → Prop) {st : HS} {this : Nat} {a1 : Int32} {a2 : Int32} {a3 : Int32} {r : Int32 × HS} (h : x_NS_set st this a1 a2 a3 = some r) : Met l y_x_NS_set (Cond.code y_x_NS_set b_x_NS_set 5 (some .boolean) :: lw_g) (rmL K 0 0) (hPc G A [.ref this, .int a1, .int a2, .int a3] st) (hQc G A (some (.int r.1)) r.2) 0 0 A := by
  refine Met.ofH (by decide +kernel) (Nat.le_of_ble_eq_true rfl) ?_
  intro p e s m below meth c ls X hmn hq hl
  have hl : lv_has ls 5 [(0, .ref this), (1, .int a1), (2, .int a2), (3, .int a3)] := hl
  generalize ([.ref this, .int a1, .int a2, .int a3] : List Value).toArray = args at X ⊢
  obtain ⟨hx, hb, hr, hml, hown, hts, hlocks⟩ := id X
  generalize hHH : s.heap = H at hq ⊢
  generalize ([] : List Loc) = locs at hq ⊢
  clear hHH
  unfold x_NS_set at h
  refine lv_aload_n hx hb d_x_NS_set_0 rfl (lv_at hl 0 rfl) ?_
  refine lv_iload_n hx hb d_x_NS_set_1 rfl (lv_at hl 1 rfl) ?_
  replace h := obi h; obtain ⟨u1, eu1, h⟩ := h
  replace h := obi h; obtain ⟨x2, ex2, h⟩ := h
  refine hcallV (st' := st) (n := 1) X hq hle.rf (c_x_NS_cell l 0 (Nat.le_refl _) G A ex2) (C := 0) rfl eu1 q_351 q_353 q_p0 q_1 q_354 ok_x_NS_cell rfl (lvl (by omega) (by decide)) hl.1 rfl (Nat.le_of_ble_eq_true rfl) d_x_NS_set_2 ⟨Nat.le_refl _, Nat.le_refl _⟩ (fun H locs hq => ?_)
  refine lv_astoreq (lv' := [(4, va_rf x2), (0, .ref this), (1, .int a1), (2, .int a2), (3, .int a3)]) hx hb d_x_NS_set_5 hl (by decide) rfl (fun ls hl => ?_)
  refine lv_aloadq hx hb d_x_NS_set_7 (lv_at hl 0 rfl) ?_
  refine lv_ifnull_q (tgt := 21) hx hb d_x_NS_set_9 (by decide) (fun c9 => ?_) (fun c9 => ?_)
  · replace h := ifp c9 h
    refine lv_iconst (v := 0) hx hb d_x_NS_set_21 (by decide) ?_
    cases h
    exact hret_z (v := 0) (by decide) X hq ⟨Nat.le_refl _, Nat.le_refl _⟩ d_x_NS_set_22
  · replace h := ifn c9 h
    refine lv_iload_n hx hb d_x_NS_set_12 rfl (lv_at hl 4 rfl) ?_
    refine lv_if_lt (tgt := 21) hx hb d_x_NS_set_13 (by decide) (fun c13 => ?_) (fun c13 => ?_)
    · replace h := ifp c13 h
      refine lv_iconst (v := 0) hx hb d_x_NS_set_21 (by decide) ?_
      cases h
      exact hret_z (v := 0) (by decide) X hq ⟨Nat.le_refl _, Nat.le_refl _⟩ d_x_NS_set_22
    · replace h := ifn c13 h
      refine lv_iload_n hx hb d_x_NS_set_16 rfl (lv_at hl 4 rfl) ?_
      refine lv_iconst (v := 2) hx hb d_x_NS_set_17 (by decide) ?_
      refine lv_icmp_le (tgt := 23) hx hb d_x_NS_set_18 (by decide) (fun c18 => ?_) (fun c18 => ?_)
      · replace h := ifp c18 h
        refine lv_aloadq hx hb d_x_NS_set_23 (lv_at hl 0 rfl) ?_
        replace h := obi h; obtain ⟨ad3, rfl, h⟩ := h
        replace h := obi h; obtain ⟨x4, ex4, h⟩ := h
        refine hgN_i X hq 1 1 rfl (by decide) ex4 qn_100 d_x_NS_set_25 ?_
        refine lv_if_eq (tgt := 51) hx hb d_x_NS_set_28 (by decide) (fun c28 => ?_) (fun c28 => ?_)
        · replace h := ifp c28 h
          exact w_x_NS_set_J51 X hK hq (lv_sub hl [1, 3, 4, 0] rfl) h
        · replace h := ifn c28 h
          refine lv_aload hx hb d_x_NS_set_31 (lv_at hl 0 rfl) ?_
          replace h := obi h; obtain ⟨x5, ex5, h⟩ := h
          refine hgN_i X hq 1 3 rfl (by decide) ex5 qn_102 d_x_NS_set_33 ?_
          refine lv_iload_n hx hb d_x_NS_set_36 rfl (lv_at hl 3 rfl) ?_
          refine lv_icmp_ne (tgt := 51) hx hb d_x_NS_set_37 (by decide) (fun c37 => ?_) (fun c37 => ?_)
          · replace h := ifn c37 h
            exact w_x_NS_set_J51 X hK hq (lv_sub hl [1, 3, 4, 0] rfl) h
          · replace h := ifp c37 h
            refine lv_aload hx hb d_x_NS_set_40 (lv_at hl 0 rfl) ?_
            replace h := obi h; obtain ⟨x6, ex6, h⟩ := h
            refine hgN_i X hq 1 4 rfl (by decide) ex6 qn_104 d_x_NS_set_42 ?_
            refine lv_iload_n hx hb d_x_NS_set_45 rfl (lv_at hl 4 rfl) ?_
            refine lv_icmp_ne (tgt := 51) hx hb d_x_NS_set_46 (by decide) (fun c46 => ?_) (fun c46 => ?_)
            · replace h := ifn c46 h
              exact w_x_NS_set_J51 X hK hq (lv_sub hl [1, 3, 4, 0] rfl) h
            · replace h := ifp c46 h
              refine lv_iconst (v := 1) hx hb d_x_NS_set_49 (by decide) ?_
              cases h
              exact hret_z (v := 1) (by decide) X hq ⟨Nat.le_refl _, Nat.le_refl _⟩ d_x_NS_set_50
      · replace h := ifn c18 h
        refine lv_iconst (v := 0) hx hb d_x_NS_set_21 (by decide) ?_
        cases h
        exact hret_z (v := 0) (by decide) X hq ⟨Nat.le_refl _, Nat.le_refl _⟩ d_x_NS_set_22
theorem w_x_NS_bring_J175 {r : HS} {g_unchanged : HS → Nat → Nat → Option (Int32 × HS)} {g_workOut : HS → Nat → Nat → Option HS} {st : HS} {l1 : Nat} {n0 s0 : Nat} {H : Heap} {locs : List Loc} {ce sl : Nat} {ls : Array Slot} (X : jx p s m args meth c b_x_NS_bring 2 none "NoteSheet") (hK : 0 ≤ K) (nm_unchanged : ∀ {st : HS} {this : Nat} {a1 : Nat} {r : Int32 × HS}, g_unchanged st this a1 = some r → hle st r.2) (nm_workOut : ∀ {st : HS} {this : Nat} {a1 : Nat} {r : HS}, g_workOut st this a1 = some r → hle st r) (M_unchanged : ∀ {st : HS} {this : Nat} {a1 : Nat} {r : Int32 × HS}, g_unchanged st this a1 = some r → Met l y_x_NS_unchanged (Cond.code y_x_NS_unchanged b_x_NS_unchanged 5 (some .boolean) :: lw_g) (rmL Kg (hNx r.2 - hNx st) (hNs r.2 - hNs st)) (hPc G A [.ref this, .ref a1] st) (hQc G A (some (.int r.1)) r.2) (hNx r.2 - hNx st) (hNs r.2 - hNs st) A) (M_workOut : ∀ {st : HS} {this : Nat} {a1 : Nat} {r : HS}, g_workOut st this a1 = some r → Met l y_x_NS_workOut (Cond.code y_x_NS_workOut b_x_NS_workOut 6 none :: lw_g) (rmL Kg (hNx r - hNx st) (hNs r - hNs st)) (hPc G A [.ref this, .ref a1] st) (hQc G A none r) (hNx r - hNx st) (hNs r - hNs st) A) (hKg : Kg + 1 ≤ K) (hq : hC G A s st H locs) (hn : hN ce sl n0 s0 st) (hl : lv_has ls 2 [(1, .ref l1)]) (h : x_NS_bring_J175 g_unchanged g_workOut st l1 = some r) : W p l e (rmL K (hNx r - n0) (hNs r - s0)) s m args below meth c H locs ce sl (MQ below (hQc G A none r) args s (hNx r - n0) (hNs r - s0) A) (F0 m 175 ls []) := by
  obtain ⟨hx, hb, hr, hml, hown, hts, hlocks⟩ := id X
  have hmr : hle st r := n_x_NS_bring_J175 nm_unchanged nm_workOut h
  unfold x_NS_bring_J175 at h
  refine lv_aload_n hx hb d_x_NS_bring_175 rfl (lv_at hl 0 rfl) ?_
  refine lv_iconst (v := 0) hx hb d_x_NS_bring_176 (by decide) ?_
  replace h := obi h; obtain ⟨st1, est1, h⟩ := h
  refine hpN_v (ty := .boolean) X hq 1 2 rfl (by decide) rfl (by decide +kernel) (by decide) (by decide) est1 qn_101 d_x_NS_bring_177 (fun H locs hq => ?_)
  have hn := hn.ke (hP_ke est1)
  have hmr := hmr.ke (hP_ke est1)
  cases h
  exact hret_v X hq (hn.fit hle.rf) d_x_NS_bring_180
theorem w_x_NS_bring_J170 {r : HS} {g_unchanged : HS → Nat → Nat → Option (Int32 × HS)} {g_workOut : HS → Nat → Nat → Option HS} {st : HS} {l0 : Nat} {l1 : Nat} {n0 s0 : Nat} {H : Heap} {locs : List Loc} {ce sl : Nat} {ls : Array Slot} (X : jx p s m args meth c b_x_NS_bring 2 none "NoteSheet") (hK : 0 ≤ K) (nm_unchanged : ∀ {st : HS} {this : Nat} {a1 : Nat} {r : Int32 × HS}, g_unchanged st this a1 = some r → hle st r.2) (nm_workOut : ∀ {st : HS} {this : Nat} {a1 : Nat} {r : HS}, g_workOut st this a1 = some r → hle st r) (M_unchanged : ∀ {st : HS} {this : Nat} {a1 : Nat} {r : Int32 × HS}, g_unchanged st this a1 = some r → Met l y_x_NS_unchanged (Cond.code y_x_NS_unchanged b_x_NS_unchanged 5 (some .boolean) :: lw_g) (rmL Kg (hNx r.2 - hNx st) (hNs r.2 - hNs st)) (hPc G A [.ref this, .ref a1] st) (hQc G A (some (.int r.1)) r.2) (hNx r.2 - hNx st) (hNs r.2 - hNs st) A) (M_workOut : ∀ {st : HS} {this : Nat} {a1 : Nat} {r : HS}, g_workOut st this a1 = some r → Met l y_x_NS_workOut (Cond.code y_x_NS_workOut b_x_NS_workOut 6 none :: lw_g) (rmL Kg (hNx r - hNx st) (hNs r - hNs st)) (hPc G A [.ref this, .ref a1] st) (hQc G A none r) (hNx r - hNx st) (hNs r - hNs st) A) (hKg : Kg + 1 ≤ K) (hq : hC G A s st H locs) (hn : hN ce sl n0 s0 st) (hl : lv_has ls 2 [(0, .ref l0), (1, .ref l1)]) (h : x_NS_bring_J170 g_unchanged g_workOut st l0 l1 = some r) : W p l e (rmL K (hNx r - n0) (hNs r - s0)) s m args below meth c H locs ce sl (MQ below (hQc G A none r) args s (hNx r - n0) (hNs r - s0) A) (F0 m 170 ls []) := by
  obtain ⟨hx, hb, hr, hml, hown, hts, hlocks⟩ := id X
  have hmr : hle st r := n_x_NS_bring_J170 nm_unchanged nm_workOut h
  unfold x_NS_bring_J170 at h
  refine lv_aload_n hx hb d_x_NS_bring_170 rfl (lv_at hl 0 rfl) ?_
  refine lv_aload_n hx hb d_x_NS_bring_171 rfl (lv_at hl 1 rfl) ?_
  replace h := obi h; obtain ⟨u1, eu1, h⟩ := h
  replace h := obi h; obtain ⟨st2, est2, h⟩ := h
  have hn2 := hn.call (nm_workOut est2)
  have hmr := n_x_NS_bring_J175 nm_unchanged nm_workOut h
  refine hcallV (n := 1) X hq (nm_workOut est2) (M_workOut est2) (C := 0) rfl eu1 q_569 q_571 q_p16 q_1 q_572 ok_x_NS_workOut rfl (lvl (by omega) (by decide)) hl.1 rfl (Nat.le_of_ble_eq_true rfl) d_x_NS_bring_172 (hn2.fit hmr) (fun H locs hq => ?_)
  have hn := hn2
  exact w_x_NS_bring_J175 X hK nm_unchanged nm_workOut M_unchanged M_workOut hKg hq hn (lv_sub hl [1] rfl) h
theorem w_x_NS_bring_J133 {r : HS} {g_unchanged : HS → Nat → Nat → Option (Int32 × HS)} {g_workOut : HS → Nat → Nat → Option HS} {st : HS} {l0 : Nat} {l1 : Nat} {w0 : Int32} {n0 s0 : Nat} {H : Heap} {locs : List Loc} {ce sl : Nat} {ls : Array Slot} (X : jx p s m args meth c b_x_NS_bring 2 none "NoteSheet") (hK : 0 ≤ K) (nm_unchanged : ∀ {st : HS} {this : Nat} {a1 : Nat} {r : Int32 × HS}, g_unchanged st this a1 = some r → hle st r.2) (nm_workOut : ∀ {st : HS} {this : Nat} {a1 : Nat} {r : HS}, g_workOut st this a1 = some r → hle st r) (M_unchanged : ∀ {st : HS} {this : Nat} {a1 : Nat} {r : Int32 × HS}, g_unchanged st this a1 = some r → Met l y_x_NS_unchanged (Cond.code y_x_NS_unchanged b_x_NS_unchanged 5 (some .boolean) :: lw_g) (rmL Kg (hNx r.2 - hNx st) (hNs r.2 - hNs st)) (hPc G A [.ref this, .ref a1] st) (hQc G A (some (.int r.1)) r.2) (hNx r.2 - hNx st) (hNs r.2 - hNs st) A) (M_workOut : ∀ {st : HS} {this : Nat} {a1 : Nat} {r : HS}, g_workOut st this a1 = some r → Met l y_x_NS_workOut (Cond.code y_x_NS_workOut b_x_NS_workOut 6 none :: lw_g) (rmL Kg (hNx r - hNx st) (hNs r - hNs st)) (hPc G A [.ref this, .ref a1] st) (hQc G A none r) (hNx r - hNx st) (hNs r - hNs st) A) (hKg : Kg + 1 ≤ K) (hq : hC G A s st H locs) (hn : hN ce sl n0 s0 st) (hl : lv_has ls 2 [(0, .ref l0), (1, .ref l1)]) (h : x_NS_bring_J133 g_unchanged g_workOut st l0 l1 w0 = some r) : W p l e (rmL K (hNx r - n0) (hNs r - s0)) s m args below meth c H locs ce sl (MQ below (hQc G A none r) args s (hNx r - n0) (hNs r - s0) A) (F0 m 133 ls [.int w0]) := by
  obtain ⟨hx, hb, hr, hml, hown, hts, hlocks⟩ := id X
  have hmr : hle st r := n_x_NS_bring_J133 nm_unchanged nm_workOut h
  unfold x_NS_bring_J133 at h
  refine lv_if_eq (tgt := 170) hx hb d_x_NS_bring_133 (by decide) (fun c133 => ?_) (fun c133 => ?_)
  · replace h := ifp c133 h
    exact w_x_NS_bring_J170 X hK nm_unchanged nm_workOut M_unchanged M_workOut hKg hq hn (lv_sub hl [0, 1] rfl) h
  · replace h := ifn c133 h
    refine lv_aload_n hx hb d_x_NS_bring_136 rfl (lv_at hl 1 rfl) ?_
    refine lv_dup hx hb d_x_NS_bring_137 rfl ?_
    replace h := obi h; obtain ⟨x1, ex1, h⟩ := h
    refine hgN_i X hq 1 10 rfl (by decide) ex1 qn_112 d_x_NS_bring_138 ?_
    refine lv_iconst (v := 1) hx hb d_x_NS_bring_141 (by decide) ?_
    refine lv_iadd hx hb d_x_NS_bring_142 ?_
    replace h := obi h; obtain ⟨st2, est2, h⟩ := h
    refine hpN_v (ty := .int) X hq 1 10 rfl (by decide) rfl (by decide +kernel) rfl rfl est2 qn_112 d_x_NS_bring_143 (fun H locs hq => ?_)
    have hn := hn.ke (hP_ke est2)
    have hmr := hmr.ke (hP_ke est2)
    refine lv_aload_n hx hb d_x_NS_bring_146 rfl (lv_at hl 0 rfl) ?_
    refine lv_dup hx hb d_x_NS_bring_147 rfl ?_
    replace h := obi h; obtain ⟨x3, ex3, h⟩ := h
    refine hg_i X hq 0 7 rfl (by decide) ex3 q_146 d_x_NS_bring_148 ?_
    refine lv_iconst (v := 1) hx hb d_x_NS_bring_151 (by decide) ?_
    refine lv_iadd hx hb d_x_NS_bring_152 ?_
    replace h := obi h; obtain ⟨st4, est4, h⟩ := h
    refine hp_v (ty := .int) X hq 0 7 rfl (by decide) rfl (by decide +kernel) rfl rfl est4 q_146 d_x_NS_bring_153 (fun H locs hq => ?_)
    have hn := hn.ke (hP_ke est4)
    have hmr := hmr.ke (hP_ke est4)
    refine lv_aload_n hx hb d_x_NS_bring_156 rfl (lv_at hl 1 rfl) ?_
    replace h := obi h; obtain ⟨x5, ex5, h⟩ := h
    refine hgN_r X hq 1 8 rfl (by decide) ex5 qn_110 d_x_NS_bring_157 ?_
    refine lv_aload_n hx hb d_x_NS_bring_160 rfl (lv_at hl 0 rfl) ?_
    replace h := obi h; obtain ⟨x6, ex6, h⟩ := h
    refine hg_i X hq 0 4 rfl (by decide) ex6 q_143 d_x_NS_bring_161 ?_
    replace h := obi h; obtain ⟨ad7, rfl, h⟩ := h
    replace h := obi h; obtain ⟨st8, est8, h⟩ := h
    refine hpN_v (ty := .int) X hq 3 2 rfl (by decide) rfl (by decide +kernel) rfl rfl est8 qn_582 d_x_NS_bring_164 (fun H locs hq => ?_)
    have hn := hn.ke (hP_ke est8)
    have hmr := hmr.ke (hP_ke est8)
    refine lv_goto (tgt := 175) hx hb d_x_NS_bring_167 (by decide) ?_
    exact w_x_NS_bring_J175 X hK nm_unchanged nm_workOut M_unchanged M_workOut hKg hq hn (lv_sub hl [1] rfl) h
theorem w_x_NS_bring_J104 {r : HS} {g_unchanged : HS → Nat → Nat → Option (Int32 × HS)} {g_workOut : HS → Nat → Nat → Option HS} {st : HS} {l0 : Nat} {l1 : Nat} {n0 s0 : Nat} {H : Heap} {locs : List Loc} {ce sl : Nat} {ls : Array Slot} (X : jx p s m args meth c b_x_NS_bring 2 none "NoteSheet") (hK : 0 ≤ K) (nm_unchanged : ∀ {st : HS} {this : Nat} {a1 : Nat} {r : Int32 × HS}, g_unchanged st this a1 = some r → hle st r.2) (nm_workOut : ∀ {st : HS} {this : Nat} {a1 : Nat} {r : HS}, g_workOut st this a1 = some r → hle st r) (M_unchanged : ∀ {st : HS} {this : Nat} {a1 : Nat} {r : Int32 × HS}, g_unchanged st this a1 = some r → Met l y_x_NS_unchanged (Cond.code y_x_NS_unchanged b_x_NS_unchanged 5 (some .boolean) :: lw_g) (rmL Kg (hNx r.2 - hNx st) (hNs r.2 - hNs st)) (hPc G A [.ref this, .ref a1] st) (hQc G A (some (.int r.1)) r.2) (hNx r.2 - hNx st) (hNs r.2 - hNs st) A) (M_workOut : ∀ {st : HS} {this : Nat} {a1 : Nat} {r : HS}, g_workOut st this a1 = some r → Met l y_x_NS_workOut (Cond.code y_x_NS_workOut b_x_NS_workOut 6 none :: lw_g) (rmL Kg (hNx r - hNx st) (hNs r - hNs st)) (hPc G A [.ref this, .ref a1] st) (hQc G A none r) (hNx r - hNx st) (hNs r - hNs st) A) (hKg : Kg + 1 ≤ K) (hq : hC G A s st H locs) (hn : hN ce sl n0 s0 st) (hl : lv_has ls 2 [(0, .ref l0), (1, .ref l1)]) (h : x_NS_bring_J104 g_unchanged g_workOut st l0 l1 = some r) : W p l e (rmL K (hNx r - n0) (hNs r - s0)) s m args below meth c H locs ce sl (MQ below (hQc G A none r) args s (hNx r - n0) (hNs r - s0) A) (F0 m 104 ls []) := by
  obtain ⟨hx, hb, hr, hml, hown, hts, hlocks⟩ := id X
  have hmr : hle st r := n_x_NS_bring_J104 nm_unchanged nm_workOut h
  unfold x_NS_bring_J104 at h
  refine lv_aload_n hx hb d_x_NS_bring_104 rfl (lv_at hl 1 rfl) ?_
  replace h := obi h; obtain ⟨x1, ex1, h⟩ := h
  refine hgN_r X hq 1 8 rfl (by decide) ex1 qn_110 d_x_NS_bring_105 ?_
  refine lv_ifnull_q (tgt := 170) hx hb d_x_NS_bring_108 (by decide) (fun c108 => ?_) (fun c108 => ?_)
  · replace h := ifp c108 h
    exact w_x_NS_bring_J170 X hK nm_unchanged nm_workOut M_unchanged M_workOut hKg hq hn (lv_sub hl [0, 1] rfl) h
  · replace h := ifn c108 h
    refine lv_aload_n hx hb d_x_NS_bring_111 rfl (lv_at hl 1 rfl) ?_
    replace h := obi h; obtain ⟨x2, ex2, h⟩ := h
    refine hgN_i X hq 1 6 rfl (by decide) ex2 qn_107 d_x_NS_bring_112 ?_
    refine lv_aload_n hx hb d_x_NS_bring_115 rfl (lv_at hl 1 rfl) ?_
    replace h := obi h; obtain ⟨x3, ex3, h⟩ := h
    refine hgN_r X hq 1 8 rfl (by decide) ex3 qn_110 d_x_NS_bring_116 ?_
    replace h := obi h; obtain ⟨ad4, rfl, h⟩ := h
    replace h := obi h; obtain ⟨x5, ex5, h⟩ := h
    refine hgN_i X hq 3 2 rfl (by decide) ex5 qn_582 d_x_NS_bring_119 ?_
    refine lv_icmp_gt (tgt := 170) hx hb d_x_NS_bring_122 (by decide) (fun c122 => ?_) (fun c122 => ?_)
    · replace h := ifp c122 h
      exact w_x_NS_bring_J170 X hK nm_unchanged nm_workOut M_unchanged M_workOut hKg hq hn (lv_sub hl [0, 1] rfl) h
    · replace h := ifn c122 h
      refine lv_aload_n hx hb d_x_NS_bring_125 rfl (lv_at hl 0 rfl) ?_
      refine lv_aload_n hx hb d_x_NS_bring_126 rfl (lv_at hl 1 rfl) ?_
      replace h := obi h; obtain ⟨x6, ex6, h⟩ := h
      refine hgN_r X hq 1 8 rfl (by decide) ex6 qn_110 d_x_NS_bring_127 ?_
      replace h := obi h; obtain ⟨ad7, rfl, h⟩ := h
      replace h := obi h; obtain ⟨u8, eu8, h⟩ := h
      replace h := obi h; obtain ⟨q9, eq9, h⟩ := h
      have hn2 := hn.call (nm_unchanged eq9)
      have hmr := n_x_NS_bring_J133 nm_unchanged nm_workOut h
      refine hcallV (n := 1) X hq (nm_unchanged eq9) (M_unchanged eq9) (C := 0) rfl eu8 q_556 q_558 q_p15 q_1 q_559 ok_x_NS_unchanged rfl (lvl (by omega) (by decide)) hl.1 rfl (Nat.le_of_ble_eq_true rfl) d_x_NS_bring_130 (hn2.fit hmr) (fun H locs hq => ?_)
      have hn := hn2
      exact w_x_NS_bring_J133 X hK nm_unchanged nm_workOut M_unchanged M_workOut hKg hq hn (lv_sub hl [0, 1] rfl) h
theorem w_x_NS_bring_J36 {r : HS} {g_unchanged : HS → Nat → Nat → Option (Int32 × HS)} {g_workOut : HS → Nat → Nat → Option HS} {st : HS} {l0 : Nat} {l1 : Nat} {n0 s0 : Nat} {H : Heap} {locs : List Loc} {ce sl : Nat} {ls : Array Slot} (X : jx p s m args meth c b_x_NS_bring 2 none "NoteSheet") (hK : 0 ≤ K) (nm_unchanged : ∀ {st : HS} {this : Nat} {a1 : Nat} {r : Int32 × HS}, g_unchanged st this a1 = some r → hle st r.2) (nm_workOut : ∀ {st : HS} {this : Nat} {a1 : Nat} {r : HS}, g_workOut st this a1 = some r → hle st r) (M_unchanged : ∀ {st : HS} {this : Nat} {a1 : Nat} {r : Int32 × HS}, g_unchanged st this a1 = some r → Met l y_x_NS_unchanged (Cond.code y_x_NS_unchanged b_x_NS_unchanged 5 (some .boolean) :: lw_g) (rmL Kg (hNx r.2 - hNx st) (hNs r.2 - hNs st)) (hPc G A [.ref this, .ref a1] st) (hQc G A (some (.int r.1)) r.2) (hNx r.2 - hNx st) (hNs r.2 - hNs st) A) (M_workOut : ∀ {st : HS} {this : Nat} {a1 : Nat} {r : HS}, g_workOut st this a1 = some r → Met l y_x_NS_workOut (Cond.code y_x_NS_workOut b_x_NS_workOut 6 none :: lw_g) (rmL Kg (hNx r - hNx st) (hNs r - hNs st)) (hPc G A [.ref this, .ref a1] st) (hQc G A none r) (hNx r - hNx st) (hNs r - hNs st) A) (hKg : Kg + 1 ≤ K) (hq : hC G A s st H locs) (hn : hN ce sl n0 s0 st) (hl : lv_has ls 2 [(0, .ref l0), (1, .ref l1)]) (h : x_NS_bring_J36 g_unchanged g_workOut st l0 l1 = some r) : W p l e (rmL K (hNx r - n0) (hNs r - s0)) s m args below meth c H locs ce sl (MQ below (hQc G A none r) args s (hNx r - n0) (hNs r - s0) A) (F0 m 36 ls []) := by
  obtain ⟨hx, hb, hr, hml, hown, hts, hlocks⟩ := id X
  have hmr : hle st r := n_x_NS_bring_J36 nm_unchanged nm_workOut h
  unfold x_NS_bring_J36 at h
  refine lv_aload_n hx hb d_x_NS_bring_36 rfl (lv_at hl 1 rfl) ?_
  refine lv_iconst (v := 1) hx hb d_x_NS_bring_37 (by decide) ?_
  replace h := obi h; obtain ⟨st1, est1, h⟩ := h
  refine hpN_v (ty := .boolean) X hq 1 2 rfl (by decide) rfl (by decide +kernel) (by decide) (by decide) est1 qn_101 d_x_NS_bring_38 (fun H locs hq => ?_)
  have hn := hn.ke (hP_ke est1)
  have hmr := hmr.ke (hP_ke est1)
  refine lv_aload_n hx hb d_x_NS_bring_41 rfl (lv_at hl 1 rfl) ?_
  replace h := obi h; obtain ⟨x2, ex2, h⟩ := h
  refine hgN_r X hq 1 8 rfl (by decide) ex2 qn_110 d_x_NS_bring_42 ?_
  refine lv_ifnull_q (tgt := 104) hx hb d_x_NS_bring_45 (by decide) (fun c45 => ?_) (fun c45 => ?_)
  · replace h := ifp c45 h
    exact w_x_NS_bring_J104 X hK nm_unchanged nm_workOut M_unchanged M_workOut hKg hq hn (lv_sub hl [0, 1] rfl) h
  · replace h := ifn c45 h
    refine lv_aload_n hx hb d_x_NS_bring_48 rfl (lv_at hl 0 rfl) ?_
    replace h := obi h; obtain ⟨x3, ex3, h⟩ := h
    refine hg_r X hq 0 9 rfl (by decide) ex3 q_148 d_x_NS_bring_49 ?_
    refine lv_aload_n hx hb d_x_NS_bring_52 rfl (lv_at hl 1 rfl) ?_
    replace h := obi h; obtain ⟨x4, ex4, h⟩ := h
    refine hgN_r X hq 1 8 rfl (by decide) ex4 qn_110 d_x_NS_bring_53 ?_
    replace h := obi h; obtain ⟨ad5, rfl, h⟩ := h
    replace h := obi h; obtain ⟨x6, ex6, h⟩ := h
    refine hgN_i X hq 3 4 rfl (by decide) ex6 qn_586 d_x_NS_bring_56 ?_
    replace h := obi h; obtain ⟨ad7, rfl, h⟩ := h
    replace h := obi h; obtain ⟨x8, ex8, h⟩ := h
    refine ha_ild X hq ex8 d_x_NS_bring_59 ?_
    refine lv_aload_n hx hb d_x_NS_bring_60 rfl (lv_at hl 1 rfl) ?_
    replace h := obi h; obtain ⟨x9, ex9, h⟩ := h
    refine hgN_r X hq 1 8 rfl (by decide) ex9 qn_110 d_x_NS_bring_61 ?_
    replace h := obi h; obtain ⟨ad10, rfl, h⟩ := h
    replace h := obi h; obtain ⟨x11, ex11, h⟩ := h
    refine hgN_i X hq 3 2 rfl (by decide) ex11 qn_582 d_x_NS_bring_64 ?_
    refine lv_icmp_gt (tgt := 104) hx hb d_x_NS_bring_67 (by decide) (fun c67 => ?_) (fun c67 => ?_)
    · replace h := ifp c67 h
      exact w_x_NS_bring_J104 X hK nm_unchanged nm_workOut M_unchanged M_workOut hKg hq hn (lv_sub hl [0, 1] rfl) h
    · replace h := ifn c67 h
      refine lv_aload_n hx hb d_x_NS_bring_70 rfl (lv_at hl 1 rfl) ?_
      refine lv_dup hx hb d_x_NS_bring_71 rfl ?_
      replace h := obi h; obtain ⟨x12, ex12, h⟩ := h
      refine hgN_i X hq 1 11 rfl (by decide) ex12 qn_113 d_x_NS_bring_72 ?_
      refine lv_iconst (v := 1) hx hb d_x_NS_bring_75 (by decide) ?_
      refine lv_iadd hx hb d_x_NS_bring_76 ?_
      replace h := obi h; obtain ⟨st13, est13, h⟩ := h
      refine hpN_v (ty := .int) X hq 1 11 rfl (by decide) rfl (by decide +kernel) rfl rfl est13 qn_113 d_x_NS_bring_77 (fun H locs hq => ?_)
      have hn := hn.ke (hP_ke est13)
      have hmr := hmr.ke (hP_ke est13)
      refine lv_aload_n hx hb d_x_NS_bring_80 rfl (lv_at hl 0 rfl) ?_
      refine lv_dup hx hb d_x_NS_bring_81 rfl ?_
      replace h := obi h; obtain ⟨x14, ex14, h⟩ := h
      refine hg_i X hq 0 8 rfl (by decide) ex14 q_147 d_x_NS_bring_82 ?_
      refine lv_iconst (v := 1) hx hb d_x_NS_bring_85 (by decide) ?_
      refine lv_iadd hx hb d_x_NS_bring_86 ?_
      replace h := obi h; obtain ⟨st15, est15, h⟩ := h
      refine hp_v (ty := .int) X hq 0 8 rfl (by decide) rfl (by decide +kernel) rfl rfl est15 q_147 d_x_NS_bring_87 (fun H locs hq => ?_)
      have hn := hn.ke (hP_ke est15)
      have hmr := hmr.ke (hP_ke est15)
      refine lv_aload_n hx hb d_x_NS_bring_90 rfl (lv_at hl 1 rfl) ?_
      replace h := obi h; obtain ⟨x16, ex16, h⟩ := h
      refine hgN_r X hq 1 8 rfl (by decide) ex16 qn_110 d_x_NS_bring_91 ?_
      refine lv_aload_n hx hb d_x_NS_bring_94 rfl (lv_at hl 0 rfl) ?_
      replace h := obi h; obtain ⟨x17, ex17, h⟩ := h
      refine hg_i X hq 0 4 rfl (by decide) ex17 q_143 d_x_NS_bring_95 ?_
      replace h := obi h; obtain ⟨ad18, rfl, h⟩ := h
      replace h := obi h; obtain ⟨st19, est19, h⟩ := h
      refine hpN_v (ty := .int) X hq 3 2 rfl (by decide) rfl (by decide +kernel) rfl rfl est19 qn_582 d_x_NS_bring_98 (fun H locs hq => ?_)
      have hn := hn.ke (hP_ke est19)
      have hmr := hmr.ke (hP_ke est19)
      refine lv_goto (tgt := 175) hx hb d_x_NS_bring_101 (by decide) ?_
      exact w_x_NS_bring_J175 X hK nm_unchanged nm_workOut M_unchanged M_workOut hKg hq hn (lv_sub hl [1] rfl) h
theorem c_x_NS_bring (l : Launch) (K : Nat) (hK : 0 ≤ K) (G : HG) (A : Nat → Prop) {g_unchanged : HS → Nat → Nat → Option (Int32 × HS)} {g_workOut : HS → Nat → Nat → Option HS} {Kg : Nat} (nm_unchanged : ∀ {st : HS} {this : Nat} {a1 : Nat} {r : Int32 × HS}, g_unchanged st this a1 = some r → hle st r.2) (nm_workOut : ∀ {st : HS} {this : Nat} {a1 : Nat} {r : HS}, g_workOut st this a1 = some r → hle st r) (M_unchanged : ∀ {st : HS} {this : Nat} {a1 : Nat} {r : Int32 × HS}, g_unchanged st this a1 = some r → Met l y_x_NS_unchanged (Cond.code y_x_NS_unchanged b_x_NS_unchanged 5 (some .boolean) :: lw_g) (rmL Kg (hNx r.2 - hNx st) (hNs r.2 - hNs st)) (hPc G A [.ref this, .ref a1] st) (hQc G A (some (.int r.1)) r.2) (hNx r.2 - hNx st) (hNs r.2 - hNs st) A) (M_workOut : ∀ {st : HS} {this : Nat} {a1 : Nat} {r : HS}, g_workOut st this a1 = some r → Met l y_x_NS_workOut (Cond.code y_x_NS_workOut b_x_NS_workOut 6 none :: lw_g) (rmL Kg (hNx r - hNx st) (hNs r - hNs st)) (hPc G A [.ref this, .ref a1] st) (hQc G A none r) (hNx r - hNx st) (hNs r - hNs st) A) (hKg : Kg + 1 ≤ K) {st : HS} {this : Nat} {a1 : Nat} {r : HS} (h : x_NS_bring g_unchanged g_workOut st this a1 = some r) : Met l y_x_NS_bring (Cond.code y_x_NS_bring b_x_NS_bring 2 none :: lw_g) (rmL K (hNx r - hNx st) (hNs r - hNs st)) (hPc G A [.ref this, .ref a1] st) (hQc G A none r) (hNx r - hNx st) (hNs r - hNs st) A := by
  refine Met.ofH (by decide +kernel) (Nat.le_of_ble_eq_true rfl) ?_
  intro p e s m below meth c ls X hmn hq hl
  have hl : lv_has ls 2 [(0, .ref this), (1, .ref a1)] := hl
  generalize ([.ref this, .ref a1] : List Value).toArray = args at X ⊢
  obtain ⟨hx, hb, hr, hml, hown, hts, hlocks⟩ := id X
  generalize hHH : s.heap = H at hq ⊢
  generalize ([] : List Loc) = locs at hq ⊢
  clear hHH
  have hmr : hle st r := n_x_NS_bring nm_unchanged nm_workOut h
  have hn : hN 0 0 (hNx st) (hNs st) st := ⟨Nat.zero_add _, Nat.zero_add _⟩
  unfold x_NS_bring at h
  refine lv_aload_n hx hb d_x_NS_bring_0 rfl (lv_at hl 1 rfl) ?_
  replace h := obi h; obtain ⟨x1, ex1, h⟩ := h
  refine hgN_i X hq 1 1 rfl (by decide) ex1 qn_100 d_x_NS_bring_1 ?_
  refine lv_if_ne (tgt := 35) hx hb d_x_NS_bring_4 (by decide) (fun c4 => ?_) (fun c4 => ?_)
  · replace h := ifn c4 h
    cases h
    exact hret_v X hq (hn.fit hle.rf) d_x_NS_bring_35
  · replace h := ifp c4 h
    refine lv_aload_n hx hb d_x_NS_bring_7 rfl (lv_at hl 1 rfl) ?_
    replace h := obi h; obtain ⟨x2, ex2, h⟩ := h
    refine hgN_i X hq 1 2 rfl (by decide) ex2 qn_101 d_x_NS_bring_8 ?_
    refine lv_if_ne (tgt := 35) hx hb d_x_NS_bring_11 (by decide) (fun c11 => ?_) (fun c11 => ?_)
    · replace h := ifn c11 h
      cases h
      exact hret_v X hq (hn.fit hle.rf) d_x_NS_bring_35
    · replace h := ifp c11 h
      refine lv_aload_n hx hb d_x_NS_bring_14 rfl (lv_at hl 1 rfl) ?_
      replace h := obi h; obtain ⟨x3, ex3, h⟩ := h
      refine hgN_r X hq 1 8 rfl (by decide) ex3 qn_110 d_x_NS_bring_15 ?_
      refine lv_ifnull_q (tgt := 36) hx hb d_x_NS_bring_18 (by decide) (fun c18 => ?_) (fun c18 => ?_)
      · replace h := ifp c18 h
        exact w_x_NS_bring_J36 X hK nm_unchanged nm_workOut M_unchanged M_workOut hKg hq hn (lv_sub hl [0, 1] rfl) h
      · replace h := ifn c18 h
        refine lv_aload_n hx hb d_x_NS_bring_21 rfl (lv_at hl 1 rfl) ?_
        replace h := obi h; obtain ⟨x4, ex4, h⟩ := h
        refine hgN_r X hq 1 8 rfl (by decide) ex4 qn_110 d_x_NS_bring_22 ?_
        replace h := obi h; obtain ⟨ad5, rfl, h⟩ := h
        replace h := obi h; obtain ⟨x6, ex6, h⟩ := h
        refine hgN_i X hq 3 2 rfl (by decide) ex6 qn_582 d_x_NS_bring_25 ?_
        refine lv_aload_n hx hb d_x_NS_bring_28 rfl (lv_at hl 0 rfl) ?_
        replace h := obi h; obtain ⟨x7, ex7, h⟩ := h
        refine hg_i X hq 0 4 rfl (by decide) ex7 q_143 d_x_NS_bring_29 ?_
        refine lv_icmp_ne (tgt := 36) hx hb d_x_NS_bring_32 (by decide) (fun c32 => ?_) (fun c32 => ?_)
        · replace h := ifn c32 h
          exact w_x_NS_bring_J36 X hK nm_unchanged nm_workOut M_unchanged M_workOut hKg hq hn (lv_sub hl [0, 1] rfl) h
        · replace h := ifp c32 h
          cases h
          exact hret_v X hq (hn.fit hle.rf) d_x_NS_bring_35
theorem c_x_Cell_sinceWhen (l : Launch) (K : Nat) (hK : 0 ≤ K) (G : HG) (A : Nat → Prop) {st : HS} {this : Nat} {r : Int32} (h : x_Cell_sinceWhen st this = some r) : Met l y_x_Cell_sinceWhen (Cond.code y_x_Cell_sinceWhen b_x_Cell_sinceWhen 1 (some .int) :: lw_g) (rmL K 0 0) (hPc G A [.ref this] st) (hQc G A (some (.int r)) st) 0 0 A := by
  refine Met.ofH (by decide +kernel) (Nat.le_of_ble_eq_true rfl) ?_
  intro p e s m below meth c ls X hmn hq hl
  have hl : lv_has ls 1 [(0, .ref this)] := hl
  generalize ([.ref this] : List Value).toArray = args at X ⊢
  obtain ⟨hx, hb, hr, hml, hown, hts, hlocks⟩ := id X
  generalize hHH : s.heap = H at hq ⊢
  generalize ([] : List Loc) = locs at hq ⊢
  clear hHH
  unfold x_Cell_sinceWhen at h
  refine lv_aload_n hx hb d_x_Cell_sinceWhen_0 rfl (lv_at hl 0 rfl) ?_
  replace h := obi h; obtain ⟨x1, ex1, h⟩ := h
  refine hg_i X hq 1 1 rfl (by decide) ex1 q_99 d_x_Cell_sinceWhen_1 ?_
  refine lv_if_eq (tgt := 14) hx hb d_x_Cell_sinceWhen_4 (by decide) (fun c4 => ?_) (fun c4 => ?_)
  · replace h := ifp c4 h
    refine lv_aload_n hx hb d_x_Cell_sinceWhen_14 rfl (lv_at hl 0 rfl) ?_
    replace h := obi h; obtain ⟨x2, ex2, h⟩ := h
    refine hg_r X hq 1 8 rfl (by decide) ex2 q_109 d_x_Cell_sinceWhen_15 ?_
    refine lv_ifnonnull_q (tgt := 25) hx hb d_x_Cell_sinceWhen_18 (by decide) (fun c18 => ?_) (fun c18 => ?_)
    · replace h := ifn c18 h
      refine lv_aload_n hx hb d_x_Cell_sinceWhen_25 rfl (lv_at hl 0 rfl) ?_
      replace h := obi h; obtain ⟨x3, ex3, h⟩ := h
      refine hg_r X hq 1 8 rfl (by decide) ex3 q_109 d_x_Cell_sinceWhen_26 ?_
      replace h := obi h; obtain ⟨ad4, rfl, h⟩ := h
      replace h := obi h; obtain ⟨x5, ex5, h⟩ := h
      refine hgN_i X hq 3 3 rfl (by decide) ex5 qn_583 d_x_Cell_sinceWhen_29 ?_
      cases h
      exact hret_i X hq ⟨Nat.le_refl _, Nat.le_refl _⟩ d_x_Cell_sinceWhen_32
    · replace h := ifp c18 h
      refine lv_iconst (v := 0) hx hb d_x_Cell_sinceWhen_21 (by decide) ?_
      refine lv_goto (tgt := 32) hx hb d_x_Cell_sinceWhen_22 (by decide) ?_
      cases h
      exact hret_i X hq ⟨Nat.le_refl _, Nat.le_refl _⟩ d_x_Cell_sinceWhen_32
  · replace h := ifn c4 h
    refine lv_aload_n hx hb d_x_Cell_sinceWhen_7 rfl (lv_at hl 0 rfl) ?_
    replace h := obi h; obtain ⟨x6, ex6, h⟩ := h
    refine hg_i X hq 1 5 rfl (by decide) ex6 q_105 d_x_Cell_sinceWhen_8 ?_
    refine lv_goto (tgt := 32) hx hb d_x_Cell_sinceWhen_11 (by decide) ?_
    cases h
    exact hret_i X hq ⟨Nat.le_refl _, Nat.le_refl _⟩ d_x_Cell_sinceWhen_32
theorem c_x_Cell_steady (l : Launch) (K : Nat) (hK : 0 ≤ K) (G : HG) (A : Nat → Prop) {st : HS} {this : Nat} {r : Int32} (h : x_Cell_steady st this = some r) : Met l y_x_Cell_steady (Cond.code y_x_Cell_steady b_x_Cell_steady 1 (some .int) :: lw_g) (rmL K 0 0) (hPc G A [.ref this] st) (hQc G A (some (.int r)) st) 0 0 A := by
  refine Met.ofH (by decide +kernel) (Nat.le_of_ble_eq_true rfl) ?_
  intro p e s m below meth c ls X hmn hq hl
  have hl : lv_has ls 1 [(0, .ref this)] := hl
  generalize ([.ref this] : List Value).toArray = args at X ⊢
  obtain ⟨hx, hb, hr, hml, hown, hts, hlocks⟩ := id X
  generalize hHH : s.heap = H at hq ⊢
  generalize ([] : List Loc) = locs at hq ⊢
  clear hHH
  unfold x_Cell_steady at h
  refine lv_aload_n hx hb d_x_Cell_steady_0 rfl (lv_at hl 0 rfl) ?_
  replace h := obi h; obtain ⟨x1, ex1, h⟩ := h
  refine hg_i X hq 1 1 rfl (by decide) ex1 q_99 d_x_Cell_steady_1 ?_
  refine lv_if_eq (tgt := 14) hx hb d_x_Cell_steady_4 (by decide) (fun c4 => ?_) (fun c4 => ?_)
  · replace h := ifp c4 h
    refine lv_aload_n hx hb d_x_Cell_steady_14 rfl (lv_at hl 0 rfl) ?_
    replace h := obi h; obtain ⟨x2, ex2, h⟩ := h
    refine hg_r X hq 1 8 rfl (by decide) ex2 q_109 d_x_Cell_steady_15 ?_
    refine lv_ifnonnull_q (tgt := 25) hx hb d_x_Cell_steady_18 (by decide) (fun c18 => ?_) (fun c18 => ?_)
    · replace h := ifn c18 h
      refine lv_aload_n hx hb d_x_Cell_steady_25 rfl (lv_at hl 0 rfl) ?_
      replace h := obi h; obtain ⟨x3, ex3, h⟩ := h
      refine hg_r X hq 1 8 rfl (by decide) ex3 q_109 d_x_Cell_steady_26 ?_
      replace h := obi h; obtain ⟨ad4, rfl, h⟩ := h
      replace h := obi h; obtain ⟨x5, ex5, h⟩ := h
      refine hgN_i X hq 3 4 rfl (by decide) ex5 qn_585 d_x_Cell_steady_29 ?_
      cases h
      exact hret_i X hq ⟨Nat.le_refl _, Nat.le_refl _⟩ d_x_Cell_steady_32
    · replace h := ifp c18 h
      refine lv_iconst (v := 0) hx hb d_x_Cell_steady_21 (by decide) ?_
      refine lv_goto (tgt := 32) hx hb d_x_Cell_steady_22 (by decide) ?_
      cases h
      exact hret_i X hq ⟨Nat.le_refl _, Nat.le_refl _⟩ d_x_Cell_steady_32
  · replace h := ifn c4 h
    refine lv_aload_n hx hb d_x_Cell_steady_7 rfl (lv_at hl 0 rfl) ?_
    replace h := obi h; obtain ⟨x6, ex6, h⟩ := h
    refine hg_i X hq 1 4 rfl (by decide) ex6 q_103 d_x_Cell_steady_8 ?_
    refine lv_goto (tgt := 32) hx hb d_x_Cell_steady_11 (by decide) ?_
    cases h
    exact hret_i X hq ⟨Nat.le_refl _, Nat.le_refl _⟩ d_x_Cell_steady_32
theorem w_x_NS_unchanged_J26 {r : Int32 × HS} {g_bring : HS → Nat → Nat → Option HS} {st : HS} {l0 : Nat} {l1 : Nat} {l2 : Int32} {l3 : Int32} {l4 : Nat} {k_4 : HS → Nat → Nat → Int32 → Int32 → Option (Int32 × HS)} {n0 s0 : Nat} {H : Heap} {locs : List Loc} {ce sl : Nat} {ls : Array Slot} (X : jx p s m args meth c b_x_NS_unchanged 5 (some .boolean) "NoteSheet") (hK : 1 ≤ K) (nm_bring : ∀ {st : HS} {this : Nat} {a1 : Nat} {r : HS}, g_bring st this a1 = some r → hle st r) (M_bring : ∀ {st : HS} {this : Nat} {a1 : Nat} {r : HS}, g_bring st this a1 = some r → Met l y_x_NS_bring (Cond.code y_x_NS_bring b_x_NS_bring 2 none :: lw_g) (rmL Kg (hNx r - hNx st) (hNs r - hNs st)) (hPc G A [.ref this, .ref a1] st) (hQc G A none r) (hNx r - hNx st) (hNs r - hNs st) A) (hKg : Kg + 1 ≤ K) (hq : hC G A s st H locs) (hn : hN ce sl n0 s0 st) (hl : lv_has ls 5 [(0, .ref l0), (1, .ref l1), (2, .int l2), (3, .int l3), (4, .ref l4)]) (hk_4 : ∀ (st : HS) (l0 : Nat) (l1 : Nat) (l2 : Int32) (l3 : Int32) (H : Heap) (locs : List Loc) (ce sl : Nat) (ls : Array Slot), k_4 st l0 l1 l2 l3 = some r → hC G A s st H locs → hN ce sl n0 s0 st → lv_has ls 5 [(0, .ref l0), (1, .ref l1), (2, .int l2), (3, .int l3)] → W p l e (rmL K (hNx r.2 - n0) (hNs r.2 - s0)) s m args below meth c H locs ce sl (MQ below (hQc G A (some (.int r.1)) r.2) args s (hNx r.2 - n0) (hNs r.2 - s0) A) (F0 m 4 ls [])) (hm_4 : ∀ (st : HS) (l0 : Nat) (l1 : Nat) (l2 : Int32) (l3 : Int32), k_4 st l0 l1 l2 l3 = some r → hle st r.2) (h : x_NS_unchanged_J26 g_bring k_4 st l0 l1 l2 l3 l4 = some r) : W p l e (rmL K (hNx r.2 - n0) (hNs r.2 - s0)) s m args below meth c H locs ce sl (MQ below (hQc G A (some (.int r.1)) r.2) args s (hNx r.2 - n0) (hNs r.2 - s0) A) (F0 m 26 ls []) := by
  obtain ⟨hx, hb, hr, hml, hown, hts, hlocks⟩ := id X
  have hmr : hle st r.2 := n_x_NS_unchanged_J26 nm_bring hm_4 h
  unfold x_NS_unchanged_J26 at h
  refine lv_aload hx hb d_x_NS_unchanged_26 (lv_at hl 4 rfl) ?_
  replace h := obi h; obtain ⟨x1, ex1, h⟩ := h
  refine hgN_i X hq 1 2 rfl (by decide) ex1 qn_101 d_x_NS_unchanged_28 ?_
  refine lv_if_ne (tgt := 46) hx hb d_x_NS_unchanged_31 (by decide) (fun c31 => ?_) (fun c31 => ?_)
  · replace h := ifn c31 h
    refine lv_iconst (v := 0) hx hb d_x_NS_unchanged_46 (by decide) ?_
    cases h
    exact hret_z (v := 0) (by decide) X hq (hn.fit hle.rf) d_x_NS_unchanged_47
  · replace h := ifp c31 h
    refine lv_aload hx hb d_x_NS_unchanged_34 (lv_at hl 4 rfl) ?_
    replace h := obi h; obtain ⟨u2, eu2, h⟩ := h
    replace h := obi h; obtain ⟨x3, ex3, h⟩ := h
    refine hcallV (st' := st) (n := 0) X hq hle.rf (c_x_Cell_sinceWhen l 0 (Nat.le_refl _) G A ex3) (C := 1) rfl eu2 q_560 q_561 q_562 q_7 q_563 ok_x_Cell_sinceWhen rfl (lvl (by omega) (by decide)) hl.1 rfl (Nat.le_of_ble_eq_true rfl) d_x_NS_unchanged_36 (hn.fit hmr) (fun H locs hq => ?_)
    refine lv_aload_n hx hb d_x_NS_unchanged_39 rfl (lv_at hl 1 rfl) ?_
    replace h := obi h; obtain ⟨x4, ex4, h⟩ := h
    refine hgN_i X hq 3 2 rfl (by decide) ex4 qn_582 d_x_NS_unchanged_40 ?_
    refine lv_icmp_le (tgt := 48) hx hb d_x_NS_unchanged_43 (by decide) (fun c43 => ?_) (fun c43 => ?_)
    · replace h := ifp c43 h
      refine lv_iload_n hx hb d_x_NS_unchanged_48 rfl (lv_at hl 2 rfl) ?_
      refine lv_aload hx hb d_x_NS_unchanged_49 (lv_at hl 4 rfl) ?_
      replace h := obi h; obtain ⟨u5, eu5, h⟩ := h
      replace h := obi h; obtain ⟨x6, ex6, h⟩ := h
      refine hcallV (st' := st) (n := 0) X hq hle.rf (c_x_Cell_steady l 0 (Nat.le_refl _) G A ex6) (C := 1) rfl eu5 q_564 q_565 q_566 q_7 q_567 ok_x_Cell_steady rfl (lvl (by omega) (by decide)) hl.1 rfl (Nat.le_of_ble_eq_true rfl) d_x_NS_unchanged_51 (hn.fit hmr) (fun H locs hq => ?_)
      replace h := obi h; obtain ⟨x7, ex7, h⟩ := h
      refine hcallS (st' := st) (n := 2) X hq hle.rf (c_x_Math_min l 0 (Nat.le_refl _) G A ex7) q_568 q_206 q_10 q_207 ok_x_Math_min rfl (lvl (by omega) (by decide)) hl.1 rfl (Nat.le_of_ble_eq_true rfl) d_x_NS_unchanged_54 (hn.fit hmr) (fun H locs hq => ?_)
      refine lv_istore_n (lv' := [(2, .int x7), (0, .ref l0), (1, .ref l1), (3, .int l3), (4, .ref l4)]) hx hb d_x_NS_unchanged_57 rfl hl (by decide) rfl (fun ls hl => ?_)
      replace h := obi h; obtain ⟨x8, ex8, h⟩ := h
      refine lv_iinc (v := x8) (lv' := [(3, .int x8), (2, .int x7), (0, .ref l0), (1, .ref l1), (4, .ref l4)]) hx hb d_x_NS_unchanged_58 hl (k := 3) rfl (Option.some.inj ex8) (by decide) rfl (fun ls hl => ?_)
      refine lv_goto (tgt := 4) hx hb d_x_NS_unchanged_61 (by decide) ?_
      exact hk_4 _ _ _ _ _ _ _ _ _ _ h hq hn (lv_sub hl [2, 3, 1, 0] rfl)
    · replace h := ifn c43 h
      refine lv_iconst (v := 0) hx hb d_x_NS_unchanged_46 (by decide) ?_
      cases h
      exact hret_z (v := 0) (by decide) X hq (hn.fit hle.rf) d_x_NS_unchanged_47
theorem w_x_NS_unchanged_L4 {r : Int32 × HS} {g_bring : HS → Nat → Nat → Option HS} {n0 s0 : Nat} (X : jx p s m args meth c b_x_NS_unchanged 5 (some .boolean) "NoteSheet") (hK : 1 ≤ K) (nm_bring : ∀ {st : HS} {this : Nat} {a1 : Nat} {r : HS}, g_bring st this a1 = some r → hle st r) (M_bring : ∀ {st : HS} {this : Nat} {a1 : Nat} {r : HS}, g_bring st this a1 = some r → Met l y_x_NS_bring (Cond.code y_x_NS_bring b_x_NS_bring 2 none :: lw_g) (rmL Kg (hNx r - hNx st) (hNs r - hNs st)) (hPc G A [.ref this, .ref a1] st) (hQc G A none r) (hNx r - hNx st) (hNs r - hNs st) A) (hKg : Kg + 1 ≤ K) : ∀ (n : Nat), ∀ (st : HS) (l0 : Nat) (l1 : Nat) (l2 : Int32) (l3 : Int32) (H : Heap) (locs : List Loc) (ce sl : Nat) (ls : Array Slot), x_NS_unchanged_L4 g_bring n st l0 l1 l2 l3 = some r → hC G A s st H locs → hN ce sl n0 s0 st → lv_has ls 5 [(0, .ref l0), (1, .ref l1), (2, .int l2), (3, .int l3)] → W p l e (rmL K (hNx r.2 - n0) (hNs r.2 - s0)) s m args below meth c H locs ce sl (MQ below (hQc G A (some (.int r.1)) r.2) args s (hNx r.2 - n0) (hNs r.2 - s0) A) (F0 m 4 ls []) := by
  obtain ⟨hx, hb, hr, hml, hown, hts, hlocks⟩ := id X
  intro n
  induction n with
  | zero => intro st l0 l1 l2 l3 H locs ce sl ls h hq hn hl; exact absurd h (by simp [x_NS_unchanged_L4])
  | succ n ih =>
    intro st l0 l1 l2 l3 H locs ce sl ls h hq hn hl
    have hmr : hle st r.2 := n_x_NS_unchanged_L4 nm_bring (n + 1) _ _ _ _ _ h
    rw [x_NS_unchanged_L4] at h
    refine lv_iload_n hx hb d_x_NS_unchanged_4 rfl (lv_at hl 3 rfl) ?_
    refine lv_aload_n hx hb d_x_NS_unchanged_5 rfl (lv_at hl 1 rfl) ?_
    replace h := obi h; obtain ⟨x1, ex1, h⟩ := h
    refine hgN_i X hq 3 7 rfl (by decide) ex1 qn_591 d_x_NS_unchanged_6 ?_
    refine lv_icmp_ge (tgt := 64) hx hb d_x_NS_unchanged_9 (by decide) (fun c9 => ?_) (fun c9 => ?_)
    · replace h := ifp c9 h
      refine lv_aload_n hx hb d_x_NS_unchanged_64 rfl (lv_at hl 1 rfl) ?_
      refine lv_iload_n hx hb d_x_NS_unchanged_65 rfl (lv_at hl 2 rfl) ?_
      replace h := obi h; obtain ⟨st2, est2, h⟩ := h
      refine hpN_v (ty := .int) X hq 3 4 rfl (by decide) rfl (by decide +kernel) rfl rfl est2 qn_586 d_x_NS_unchanged_66 (fun H locs hq => ?_)
      have hn := hn.ke (hP_ke est2)
      have hmr := hmr.ke (hP_ke est2)
      refine lv_iconst (v := 1) hx hb d_x_NS_unchanged_69 (by decide) ?_
      cases h
      exact hret_z (v := 1) (by decide) X hq (hn.fit hle.rf) d_x_NS_unchanged_70
    · replace h := ifn c9 h
      refine lv_aload_n hx hb d_x_NS_unchanged_12 rfl (lv_at hl 1 rfl) ?_
      replace h := obi h; obtain ⟨x3, ex3, h⟩ := h
      refine hgN_r X hq 3 6 rfl (by decide) ex3 qn_589 d_x_NS_unchanged_13 ?_
      refine lv_iload_n hx hb d_x_NS_unchanged_16 rfl (lv_at hl 3 rfl) ?_
      replace h := obi h; obtain ⟨ad4, rfl, h⟩ := h
      replace h := obi h; obtain ⟨x5, ex5, h⟩ := h
      refine ha_rld X hq 4 (by decide) ex5 d_x_NS_unchanged_17 ?_
      refine lv_astoreq (lv' := [(4, va_rf x5), (0, .ref l0), (1, .ref l1), (2, .int l2), (3, .int l3)]) hx hb d_x_NS_unchanged_18 hl (by decide) rfl (fun ls hl => ?_)
      refine lv_aload_n hx hb d_x_NS_unchanged_20 rfl (lv_at hl 1 rfl) ?_
      refine lv_aloadq hx hb d_x_NS_unchanged_21 (lv_at hl 0 rfl) ?_
      replace h := obi h; obtain ⟨ad6, rfl, h⟩ := h
      replace h := obi h; obtain ⟨u7, eu7, h⟩ := h
      replace h := obi h; obtain ⟨st8, est8, h⟩ := h
      have hn2 := hn.call (nm_bring est8)
      have hmr := n_x_NS_unchanged_J26 nm_bring (n_x_NS_unchanged_L4 nm_bring n) h
      refine hcallV (n := 1) X hq (nm_bring est8) (M_bring est8) (C := 0) rfl eu7 q_552 q_554 q_p14 q_1 q_555 ok_x_NS_bring rfl (lvl (by omega) (by decide)) hl.1 rfl (Nat.le_of_ble_eq_true rfl) d_x_NS_unchanged_23 (hn2.fit hmr) (fun H locs hq => ?_)
      have hn := hn2
      exact w_x_NS_unchanged_J26 X hK nm_bring M_bring hKg hq hn (lv_sub hl [1, 2, 3, 4, 0] rfl) ih (n_x_NS_unchanged_L4 nm_bring n) h
theorem c_x_NS_unchanged (l : Launch) (K : Nat) (hK : 1 ≤ K) (G : HG) (A : Nat → Prop) {g_bring : HS → Nat → Nat → Option HS} {Kg : Nat} (nm_bring : ∀ {st : HS} {this : Nat} {a1 : Nat} {r : HS}, g_bring st this a1 = some r → hle st r) (M_bring : ∀ {st : HS} {this : Nat} {a1 : Nat} {r : HS}, g_bring st this a1 = some r → Met l y_x_NS_bring (Cond.code y_x_NS_bring b_x_NS_bring 2 none :: lw_g) (rmL Kg (hNx r - hNx st) (hNs r - hNs st)) (hPc G A [.ref this, .ref a1] st) (hQc G A none r) (hNx r - hNx st) (hNs r - hNs st) A) (hKg : Kg + 1 ≤ K) {st : HS} {this : Nat} {a1 : Nat} {r : Int32 × HS} (h : x_NS_unchanged g_bring st this a1 = some r) : Met l y_x_NS_unchanged (Cond.code y_x_NS_unchanged b_x_NS_unchanged 5 (some .boolean) :: lw_g) (rmL K (hNx r.2 - hNx st) (hNs r.2 - hNs st)) (hPc G A [.ref this, .ref a1] st) (hQc G A (some (.int r.1)) r.2) (hNx r.2 - hNx st) (hNs r.2 - hNs st) A := by
  refine Met.ofH (by decide +kernel) (Nat.le_of_ble_eq_true rfl) ?_
  intro p e s m below meth c ls X hmn hq hl
  have hl : lv_has ls 5 [(0, .ref this), (1, .ref a1)] := hl
  generalize ([.ref this, .ref a1] : List Value).toArray = args at X ⊢
  obtain ⟨hx, hb, hr, hml, hown, hts, hlocks⟩ := id X
  generalize hHH : s.heap = H at hq ⊢
  generalize ([] : List Loc) = locs at hq ⊢
  clear hHH
  have hmr : hle st r.2 := n_x_NS_unchanged nm_bring h
  have hn : hN 0 0 (hNx st) (hNs st) st := ⟨Nat.zero_add _, Nat.zero_add _⟩
  unfold x_NS_unchanged at h
  refine lv_iconst (v := 2) hx hb d_x_NS_unchanged_0 (by decide) ?_
  refine lv_istore_n (lv' := [(2, .int 2), (0, .ref this), (1, .ref a1)]) hx hb d_x_NS_unchanged_1 rfl hl (by decide) rfl (fun ls hl => ?_)
  refine lv_iconst (v := 0) hx hb d_x_NS_unchanged_2 (by decide) ?_
  refine lv_istore_n (lv' := [(3, .int 0), (2, .int 2), (0, .ref this), (1, .ref a1)]) hx hb d_x_NS_unchanged_3 rfl hl (by decide) rfl (fun ls hl => ?_)
  exact w_x_NS_unchanged_L4 X hK nm_bring M_bring hKg 1000 _ _ _ _ _ _ _ _ _ _ h hq hn (lv_sub hl [2, 3, 1, 0] rfl)
theorem w_x_Note_init_J10 {r : HS} {st : HS} {w0 : Nat} {w1 : Nat} {n0 s0 : Nat} {H : Heap} {locs : List Loc} {ce sl : Nat} {ls : Array Slot} (X : jx p s m args meth c b_x_Note_init 1 none "NoteSheet$Note") (hK : 1 ≤ K) (hmn : meth.name = "<init>") (hq : hC G A s st H locs) (hn : hN ce sl n0 s0 st) (hl : lv_has ls 1 []) (h : x_Note_init_J10 st w0 w1 = some r) : W p l e (rmL K (hNx r - n0) (hNs r - s0)) s m args below meth c H locs ce sl (MQ below (hQc G A none r) args s (hNx r - n0) (hNs r - s0) A) (F0 m 10 ls [.ref w0, .ref w1]) := by
  obtain ⟨hx, hb, hr, hml, hown, hts, hlocks⟩ := id X
  have hmr : hle st r := n_x_Note_init_J10 h
  unfold x_Note_init_J10 at h
  replace h := obi h; obtain ⟨st1, est1, h⟩ := h
  refine hpF_v (ty := (.array (.object "NoteSheet$Cell"))) X hmn hq 3 6 rfl (by decide) rfl rfl (by decide +kernel) rfl rfl est1 q_588 d_x_Note_init_10 (fun H locs hq => ?_)
  have hn := hn.ke (hP_ke est1)
  have hmr := hmr.ke (hP_ke est1)
  cases h
  exact hret_v X hq (hn.fit hle.rf) d_x_Note_init_13
theorem c_x_Note_init (l : Launch) (K : Nat) (hK : 1 ≤ K) (G : HG) (A : Nat → Prop) {st : HS} {this : Nat} {r : HS} (h : x_Note_init st this = some r) : Met l y_x_Note_init (Cond.code y_x_Note_init b_x_Note_init 1 none :: lw_g) (rmL K (hNx r - hNx st) (hNs r - hNs st)) (hPc G A [.ref this] st) (hQc G A none r) (hNx r - hNx st) (hNs r - hNs st) A := by
  refine Met.ofH (by decide +kernel) (Nat.le_of_ble_eq_true rfl) ?_
  intro p e s m below meth c ls X hmn hq hl
  have hl : lv_has ls 1 [(0, .ref this)] := hl
  generalize ([.ref this] : List Value).toArray = args at X ⊢
  obtain ⟨hx, hb, hr, hml, hown, hts, hlocks⟩ := id X
  generalize hHH : s.heap = H at hq ⊢
  generalize ([] : List Loc) = locs at hq ⊢
  clear hHH
  have hmr : hle st r := n_x_Note_init h
  have hn : hN 0 0 (hNx st) (hNs st) st := ⟨Nat.zero_add _, Nat.zero_add _⟩
  unfold x_Note_init at h
  refine lv_aload_n hx hb d_x_Note_init_0 rfl (lv_at hl 0 rfl) ?_
  refine h_obj X hl.1 q_578 q_26 q_27 (Nat.le_of_ble_eq_true rfl) (by omega) d_x_Note_init_1 ?_
  refine lv_aload_n hx hb d_x_Note_init_4 rfl (lv_at hl 0 rfl) ?_
  refine lv_bipush (v := 12) hx hb d_x_Note_init_5 (by decide) ?_
  replace h := obi h; obtain ⟨ad1, ead1, h⟩ := h
  replace h := obi h; obtain ⟨st2, est2, h⟩ := h
  have hn2 := hn.newa est2
  have hmr := n_x_Note_init_J10 h
  refine h_newr X hq 4 (by decide) (by decide) rfl est2 q_579 qn_29 (hn2.fit hmr) d_x_Note_init_7 (fun H hq => ?_)
  have hn := hn2
  refine lv_nma (Option.some.inj ead1) ?_
  exact w_x_Note_init_J10 X hK hmn hq hn (lv_sub hl [] rfl) h
theorem w_x_NS_workOut_J131 {r : HS} {g_result : HS → Nat → Nat → Nat → Option (Int64 × HS)} {st : HS} {l0 : Nat} {l1 : Nat} {l2 : Int32} {l4 : Nat} {w0 : Int32} {w1 : Nat} {n0 s0 : Nat} {H : Heap} {locs : List Loc} {ce sl : Nat} {ls : Array Slot} (X : jx p s m args meth c b_x_NS_workOut 6 none "NoteSheet") (hK : 2 ≤ K) (nm_result : ∀ {st : HS} {this : Nat} {a1 : Nat} {a2 : Nat} {r : Int64 × HS}, g_result st this a1 a2 = some r → hle st r.2) (M_result : ∀ {st : HS} {this : Nat} {a1 : Nat} {a2 : Nat} {r : Int64 × HS}, g_result st this a1 a2 = some r → Met l y_x_NS_result (Cond.code y_x_NS_result b_x_NS_result 10 (some .long) :: lw_g) (rmL Kg (hNx r.2 - hNx st) (hNs r.2 - hNs st)) (hPc G A [.ref this, .ref a1, .ref a2] st) (hQc G A (some (.long r.1)) r.2) (hNx r.2 - hNx st) (hNs r.2 - hNs st) A) (hKg : Kg + 1 ≤ K) (hq : hC G A s st H locs) (hn : hN ce sl n0 s0 st) (hl : lv_has ls 6 [(0, .ref l0), (1, .ref l1), (2, .int l2), (4, .ref l4)]) (h : x_NS_workOut_J131 g_result st l0 l1 l2 l4 w0 w1 = some r) : W p l e (rmL K (hNx r - n0) (hNs r - s0)) s m args below meth c H locs ce sl (MQ below (hQc G A none r) args s (hNx r - n0) (hNs r - s0) A) (F0 m 131 ls [.int w0, .ref w1]) := by
  obtain ⟨hx, hb, hr, hml, hown, hts, hlocks⟩ := id X
  have hmr : hle st r := n_x_NS_workOut_J131 nm_result h
  unfold x_NS_workOut_J131 at h
  replace h := obi h; obtain ⟨st1, est1, h⟩ := h
  refine hpN_v (ty := .int) X hq 3 3 rfl (by decide) rfl (by decide +kernel) rfl rfl est1 qn_584 d_x_NS_workOut_131 (fun H locs hq => ?_)
  have hn := hn.ke (hP_ke est1)
  have hmr := hmr.ke (hP_ke est1)
  refine lv_aload hx hb d_x_NS_workOut_134 (lv_at hl 3 rfl) ?_
  refine lv_aload_n hx hb d_x_NS_workOut_136 rfl (lv_at hl 0 rfl) ?_
  replace h := obi h; obtain ⟨x2, ex2, h⟩ := h
  refine hg_i X hq 0 4 rfl (by decide) ex2 q_143 d_x_NS_workOut_137 ?_
  replace h := obi h; obtain ⟨st3, est3, h⟩ := h
  refine hpN_v (ty := .int) X hq 3 2 rfl (by decide) rfl (by decide +kernel) rfl rfl est3 qn_582 d_x_NS_workOut_140 (fun H locs hq => ?_)
  have hn := hn.ke (hP_ke est3)
  have hmr := hmr.ke (hP_ke est3)
  refine lv_aload_n hx hb d_x_NS_workOut_143 rfl (lv_at hl 0 rfl) ?_
  refine lv_dup hx hb d_x_NS_workOut_144 rfl ?_
  replace h := obi h; obtain ⟨x4, ex4, h⟩ := h
  refine hg_i X hq 0 5 rfl (by decide) ex4 q_144 d_x_NS_workOut_145 ?_
  refine lv_iconst (v := 1) hx hb d_x_NS_workOut_148 (by decide) ?_
  refine lv_iadd hx hb d_x_NS_workOut_149 ?_
  replace h := obi h; obtain ⟨st5, est5, h⟩ := h
  refine hp_v (ty := .int) X hq 0 5 rfl (by decide) rfl (by decide +kernel) rfl rfl est5 q_144 d_x_NS_workOut_150 (fun H locs hq => ?_)
  have hn := hn.ke (hP_ke est5)
  have hmr := hmr.ke (hP_ke est5)
  refine lv_aload hx hb d_x_NS_workOut_153 (lv_at hl 3 rfl) ?_
  refine lv_aload_n hx hb d_x_NS_workOut_155 rfl (lv_at hl 0 rfl) ?_
  replace h := obi h; obtain ⟨x6, ex6, h⟩ := h
  refine hg_i X hq 0 5 rfl (by decide) ex6 q_144 d_x_NS_workOut_156 ?_
  replace h := obi h; obtain ⟨st7, est7, h⟩ := h
  refine hpN_v (ty := .int) X hq 3 5 rfl (by decide) rfl (by decide +kernel) rfl rfl est7 qn_587 d_x_NS_workOut_159 (fun H locs hq => ?_)
  have hn := hn.ke (hP_ke est7)
  have hmr := hmr.ke (hP_ke est7)
  refine lv_aload_n hx hb d_x_NS_workOut_162 rfl (lv_at hl 1 rfl) ?_
  refine lv_aload hx hb d_x_NS_workOut_163 (lv_at hl 3 rfl) ?_
  replace h := obi h; obtain ⟨st8, est8, h⟩ := h
  refine hpN_v (ty := (.object "NoteSheet$Note")) X hq 1 8 rfl (by decide) rfl (by decide +kernel) rfl rfl est8 qn_110 d_x_NS_workOut_165 (fun H locs hq => ?_)
  have hn := hn.ke (hP_ke est8)
  have hmr := hmr.ke (hP_ke est8)
  refine lv_aload_n hx hb d_x_NS_workOut_168 rfl (lv_at hl 1 rfl) ?_
  refine lv_iload_n hx hb d_x_NS_workOut_169 rfl (lv_at hl 2 rfl) ?_
  replace h := obi h; obtain ⟨x9, ex9, h⟩ := h
  obtain ⟨ezx9, hzx9⟩ := bchk_spec ex9
  subst ezx9
  replace h := obi h; obtain ⟨st10, est10, h⟩ := h
  refine hpN_v (ty := .boolean) X hq 1 2 rfl (by decide) rfl (by decide +kernel) (bchk_nar hzx9).1 (bchk_nar hzx9).2 est10 qn_101 d_x_NS_workOut_170 (fun H locs hq => ?_)
  have hn := hn.ke (hP_ke est10)
  have hmr := hmr.ke (hP_ke est10)
  cases h
  exact hret_v X hq (hn.fit hle.rf) d_x_NS_workOut_173
theorem w_x_NS_workOut_J111 {r : HS} {g_result : HS → Nat → Nat → Nat → Option (Int64 × HS)} {st : HS} {l0 : Nat} {l1 : Nat} {l2 : Int32} {l3 : Option Nat} {l4 : Nat} {w0 : Int32} {n0 s0 : Nat} {H : Heap} {locs : List Loc} {ce sl : Nat} {ls : Array Slot} (X : jx p s m args meth c b_x_NS_workOut 6 none "NoteSheet") (hK : 2 ≤ K) (nm_result : ∀ {st : HS} {this : Nat} {a1 : Nat} {a2 : Nat} {r : Int64 × HS}, g_result st this a1 a2 = some r → hle st r.2) (M_result : ∀ {st : HS} {this : Nat} {a1 : Nat} {a2 : Nat} {r : Int64 × HS}, g_result st this a1 a2 = some r → Met l y_x_NS_result (Cond.code y_x_NS_result b_x_NS_result 10 (some .long) :: lw_g) (rmL Kg (hNx r.2 - hNx st) (hNs r.2 - hNs st)) (hPc G A [.ref this, .ref a1, .ref a2] st) (hQc G A (some (.long r.1)) r.2) (hNx r.2 - hNx st) (hNs r.2 - hNs st) A) (hKg : Kg + 1 ≤ K) (hq : hC G A s st H locs) (hn : hN ce sl n0 s0 st) (hl : lv_has ls 6 [(0, .ref l0), (1, .ref l1), (2, .int l2), (3, va_rf l3), (4, .ref l4)]) (h : x_NS_workOut_J111 g_result st l0 l1 l2 l3 l4 w0 = some r) : W p l e (rmL K (hNx r - n0) (hNs r - s0)) s m args below meth c H locs ce sl (MQ below (hQc G A none r) args s (hNx r - n0) (hNs r - s0) A) (F0 m 111 ls [.int w0]) := by
  obtain ⟨hx, hb, hr, hml, hown, hts, hlocks⟩ := id X
  have hmr : hle st r := n_x_NS_workOut_J111 nm_result h
  unfold x_NS_workOut_J111 at h
  refine lv_istore (lv' := [(5, .int w0), (0, .ref l0), (1, .ref l1), (2, .int l2), (3, va_rf l3), (4, .ref l4)]) hx hb d_x_NS_workOut_111 hl (by decide) rfl (fun ls hl => ?_)
  refine lv_aload hx hb d_x_NS_workOut_113 (lv_at hl 5 rfl) ?_
  refine lv_iload hx hb d_x_NS_workOut_115 (lv_at hl 0 rfl) ?_
  refine lv_if_eq (tgt := 127) hx hb d_x_NS_workOut_117 (by decide) (fun c117 => ?_) (fun c117 => ?_)
  · replace h := ifp c117 h
    refine lv_aload_n hx hb d_x_NS_workOut_127 rfl (lv_at hl 1 rfl) ?_
    replace h := obi h; obtain ⟨x1, ex1, h⟩ := h
    refine hg_i X hq 0 4 rfl (by decide) ex1 q_143 d_x_NS_workOut_128 ?_
    exact w_x_NS_workOut_J131 X hK nm_result M_result hKg hq hn (lv_sub hl [1, 2, 3, 5] rfl) h
  · replace h := ifn c117 h
    refine lv_aload_nq hx hb d_x_NS_workOut_120 rfl (lv_at hl 4 rfl) ?_
    replace h := obi h; obtain ⟨ad2, rfl, h⟩ := h
    replace h := obi h; obtain ⟨x3, ex3, h⟩ := h
    refine hgN_i X hq 3 3 rfl (by decide) ex3 qn_584 d_x_NS_workOut_121 ?_
    refine lv_goto (tgt := 131) hx hb d_x_NS_workOut_124 (by decide) ?_
    exact w_x_NS_workOut_J131 X hK nm_result M_result hKg hq hn (lv_sub hl [1, 2, 3, 5] rfl) h
theorem w_x_NS_workOut_J110 {r : HS} {g_result : HS → Nat → Nat → Nat → Option (Int64 × HS)} {st : HS} {l0 : Nat} {l1 : Nat} {l2 : Int32} {l3 : Option Nat} {l4 : Nat} {n0 s0 : Nat} {H : Heap} {locs : List Loc} {ce sl : Nat} {ls : Array Slot} (X : jx p s m args meth c b_x_NS_workOut 6 none "NoteSheet") (hK : 2 ≤ K) (nm_result : ∀ {st : HS} {this : Nat} {a1 : Nat} {a2 : Nat} {r : Int64 × HS}, g_result st this a1 a2 = some r → hle st r.2) (M_result : ∀ {st : HS} {this : Nat} {a1 : Nat} {a2 : Nat} {r : Int64 × HS}, g_result st this a1 a2 = some r → Met l y_x_NS_result (Cond.code y_x_NS_result b_x_NS_result 10 (some .long) :: lw_g) (rmL Kg (hNx r.2 - hNx st) (hNs r.2 - hNs st)) (hPc G A [.ref this, .ref a1, .ref a2] st) (hQc G A (some (.long r.1)) r.2) (hNx r.2 - hNx st) (hNs r.2 - hNs st) A) (hKg : Kg + 1 ≤ K) (hq : hC G A s st H locs) (hn : hN ce sl n0 s0 st) (hl : lv_has ls 6 [(0, .ref l0), (1, .ref l1), (2, .int l2), (3, va_rf l3), (4, .ref l4)]) (h : x_NS_workOut_J110 g_result st l0 l1 l2 l3 l4 = some r) : W p l e (rmL K (hNx r - n0) (hNs r - s0)) s m args below meth c H locs ce sl (MQ below (hQc G A none r) args s (hNx r - n0) (hNs r - s0) A) (F0 m 110 ls []) := by
  obtain ⟨hx, hb, hr, hml, hown, hts, hlocks⟩ := id X
  have hmr : hle st r := n_x_NS_workOut_J110 nm_result h
  unfold x_NS_workOut_J110 at h
  refine lv_iconst (v := 0) hx hb d_x_NS_workOut_110 (by decide) ?_
  exact w_x_NS_workOut_J111 X hK nm_result M_result hKg hq hn (lv_sub hl [0, 1, 2, 3, 4] rfl) h
theorem w_x_NS_workOut_J106 {r : HS} {g_result : HS → Nat → Nat → Nat → Option (Int64 × HS)} {st : HS} {l0 : Nat} {l1 : Nat} {l2 : Int32} {l3 : Nat} {l4 : Nat} {n0 s0 : Nat} {H : Heap} {locs : List Loc} {ce sl : Nat} {ls : Array Slot} (X : jx p s m args meth c b_x_NS_workOut 6 none "NoteSheet") (hK : 2 ≤ K) (nm_result : ∀ {st : HS} {this : Nat} {a1 : Nat} {a2 : Nat} {r : Int64 × HS}, g_result st this a1 a2 = some r → hle st r.2) (M_result : ∀ {st : HS} {this : Nat} {a1 : Nat} {a2 : Nat} {r : Int64 × HS}, g_result st this a1 a2 = some r → Met l y_x_NS_result (Cond.code y_x_NS_result b_x_NS_result 10 (some .long) :: lw_g) (rmL Kg (hNx r.2 - hNx st) (hNs r.2 - hNs st)) (hPc G A [.ref this, .ref a1, .ref a2] st) (hQc G A (some (.long r.1)) r.2) (hNx r.2 - hNx st) (hNs r.2 - hNs st) A) (hKg : Kg + 1 ≤ K) (hq : hC G A s st H locs) (hn : hN ce sl n0 s0 st) (hl : lv_has ls 6 [(0, .ref l0), (1, .ref l1), (2, .int l2), (3, .ref l3), (4, .ref l4)]) (h : x_NS_workOut_J106 g_result st l0 l1 l2 l3 l4 = some r) : W p l e (rmL K (hNx r - n0) (hNs r - s0)) s m args below meth c H locs ce sl (MQ below (hQc G A none r) args s (hNx r - n0) (hNs r - s0) A) (F0 m 106 ls []) := by
  obtain ⟨hx, hb, hr, hml, hown, hts, hlocks⟩ := id X
  have hmr : hle st r := n_x_NS_workOut_J106 nm_result h
  unfold x_NS_workOut_J106 at h
  refine lv_iconst (v := 1) hx hb d_x_NS_workOut_106 (by decide) ?_
  refine lv_goto (tgt := 111) hx hb d_x_NS_workOut_107 (by decide) ?_
  exact w_x_NS_workOut_J111 X hK nm_result M_result hKg hq hn (lv_sub hl [0, 1, 2, 3, 4] rfl) h
theorem w_x_NS_workOut_J62 {r : HS} {g_result : HS → Nat → Nat → Nat → Option (Int64 × HS)} {st : HS} {l0 : Nat} {l1 : Nat} {l2 : Int32} {l3 : Option Nat} {l4 : Nat} {w0 : Int64} {w1 : Nat} {n0 s0 : Nat} {H : Heap} {locs : List Loc} {ce sl : Nat} {ls : Array Slot} (X : jx p s m args meth c b_x_NS_workOut 6 none "NoteSheet") (hK : 2 ≤ K) (nm_result : ∀ {st : HS} {this : Nat} {a1 : Nat} {a2 : Nat} {r : Int64 × HS}, g_result st this a1 a2 = some r → hle st r.2) (M_result : ∀ {st : HS} {this : Nat} {a1 : Nat} {a2 : Nat} {r : Int64 × HS}, g_result st this a1 a2 = some r → Met l y_x_NS_result (Cond.code y_x_NS_result b_x_NS_result 10 (some .long) :: lw_g) (rmL Kg (hNx r.2 - hNx st) (hNs r.2 - hNs st)) (hPc G A [.ref this, .ref a1, .ref a2] st) (hQc G A (some (.long r.1)) r.2) (hNx r.2 - hNx st) (hNs r.2 - hNs st) A) (hKg : Kg + 1 ≤ K) (hq : hC G A s st H locs) (hn : hN ce sl n0 s0 st) (hl : lv_has ls 6 [(0, .ref l0), (1, .ref l1), (2, .int l2), (3, va_rf l3), (4, .ref l4)]) (h : x_NS_workOut_J62 g_result st l0 l1 l2 l3 l4 w0 w1 = some r) : W p l e (rmL K (hNx r - n0) (hNs r - s0)) s m args below meth c H locs ce sl (MQ below (hQc G A none r) args s (hNx r - n0) (hNs r - s0) A) (F0 m 62 ls [.long w0, .ref w1]) := by
  obtain ⟨hx, hb, hr, hml, hown, hts, hlocks⟩ := id X
  have hmr : hle st r := n_x_NS_workOut_J62 nm_result h
  unfold x_NS_workOut_J62 at h
  replace h := obi h; obtain ⟨st1, est1, h⟩ := h
  refine hpN_v (ty := .long) X hq 3 1 rfl (by decide) rfl (by decide +kernel) rfl rfl est1 qn_581 d_x_NS_workOut_62 (fun H locs hq => ?_)
  have hn := hn.ke (hP_ke est1)
  have hmr := hmr.ke (hP_ke est1)
  refine lv_aload hx hb d_x_NS_workOut_65 (lv_at hl 4 rfl) ?_
  refine lv_iconst (v := 1) hx hb d_x_NS_workOut_67 (by decide) ?_
  replace h := obi h; obtain ⟨st2, est2, h⟩ := h
  refine hpN_v (ty := .boolean) X hq 3 0 rfl (by decide) rfl (by decide +kernel) (by decide) (by decide) est2 qn_580 d_x_NS_workOut_68 (fun H locs hq => ?_)
  have hn := hn.ke (hP_ke est2)
  have hmr := hmr.ke (hP_ke est2)
  refine lv_aload_nq hx hb d_x_NS_workOut_71 rfl (lv_at hl 3 rfl) ?_
  refine lv_ifnull_q (tgt := 110) hx hb d_x_NS_workOut_72 (by decide) (fun c72 => ?_) (fun c72 => ?_)
  · replace h := ifp c72 h
    exact w_x_NS_workOut_J110 X hK nm_result M_result hKg hq hn (lv_sub hl [0, 1, 2, 3, 4] rfl) h
  · replace h := ifn c72 h
    refine lv_aload_nq hx hb d_x_NS_workOut_75 rfl (lv_at hl 3 rfl) ?_
    replace h := obi h; obtain ⟨ad3, rfl, h⟩ := h
    replace h := obi h; obtain ⟨x4, ex4, h⟩ := h
    refine hgN_i X hq 3 2 rfl (by decide) ex4 qn_582 d_x_NS_workOut_76 ?_
    refine lv_aload_n hx hb d_x_NS_workOut_79 rfl (lv_at hl 0 rfl) ?_
    replace h := obi h; obtain ⟨x5, ex5, h⟩ := h
    refine hg_i X hq 0 4 rfl (by decide) ex5 q_143 d_x_NS_workOut_80 ?_
    refine lv_icmp_eq (tgt := 106) hx hb d_x_NS_workOut_83 (by decide) (fun c83 => ?_) (fun c83 => ?_)
    · replace h := ifp c83 h
      exact w_x_NS_workOut_J106 X hK nm_result M_result hKg hq hn (lv_sub hl [0, 1, 2, 3, 4] rfl) h
    · replace h := ifn c83 h
      refine lv_aload_n hx hb d_x_NS_workOut_86 rfl (lv_at hl 3 rfl) ?_
      replace h := obi h; obtain ⟨x6, ex6, h⟩ := h
      refine hgN_i X hq 3 0 rfl (by decide) ex6 qn_580 d_x_NS_workOut_87 ?_
      refine lv_if_eq (tgt := 110) hx hb d_x_NS_workOut_90 (by decide) (fun c90 => ?_) (fun c90 => ?_)
      · replace h := ifp c90 h
        exact w_x_NS_workOut_J110 X hK nm_result M_result hKg hq hn (lv_sub hl [0, 1, 2, 3, 4] rfl) h
      · replace h := ifn c90 h
        refine lv_aload_n hx hb d_x_NS_workOut_93 rfl (lv_at hl 3 rfl) ?_
        replace h := obi h; obtain ⟨x7, ex7, h⟩ := h
        refine hgN_j X hq 3 1 rfl (by decide) ex7 qn_581 d_x_NS_workOut_94 ?_
        refine lv_aload hx hb d_x_NS_workOut_97 (lv_at hl 4 rfl) ?_
        replace h := obi h; obtain ⟨x8, ex8, h⟩ := h
        refine hgN_j X hq 3 1 rfl (by decide) ex8 qn_581 d_x_NS_workOut_99 ?_
        refine W.lcmp hx hb d_x_NS_workOut_102 ?_
        refine lv_if_ne (tgt := 110) hx hb d_x_NS_workOut_103 (by decide) (fun c103 => ?_) (fun c103 => ?_)
        · replace h := ifn c103 h
          exact w_x_NS_workOut_J110 X hK nm_result M_result hKg hq hn (lv_sub hl [0, 1, 2, 3, 4] rfl) h
        · replace h := ifp c103 h
          exact w_x_NS_workOut_J106 X hK nm_result M_result hKg hq hn (lv_sub hl [0, 1, 2, 3, 4] rfl) h
theorem w_x_NS_workOut_J42 {r : HS} {g_result : HS → Nat → Nat → Nat → Option (Int64 × HS)} {st : HS} {l0 : Nat} {l1 : Nat} {l2 : Int32} {l3 : Option Nat} {w0 : Nat} {n0 s0 : Nat} {H : Heap} {locs : List Loc} {ce sl : Nat} {ls : Array Slot} (X : jx p s m args meth c b_x_NS_workOut 6 none "NoteSheet") (hK : 2 ≤ K) (nm_result : ∀ {st : HS} {this : Nat} {a1 : Nat} {a2 : Nat} {r : Int64 × HS}, g_result st this a1 a2 = some r → hle st r.2) (M_result : ∀ {st : HS} {this : Nat} {a1 : Nat} {a2 : Nat} {r : Int64 × HS}, g_result st this a1 a2 = some r → Met l y_x_NS_result (Cond.code y_x_NS_result b_x_NS_result 10 (some .long) :: lw_g) (rmL Kg (hNx r.2 - hNx st) (hNs r.2 - hNs st)) (hPc G A [.ref this, .ref a1, .ref a2] st) (hQc G A (some (.long r.1)) r.2) (hNx r.2 - hNx st) (hNs r.2 - hNs st) A) (hKg : Kg + 1 ≤ K) (hq : hC G A s st H locs) (hn : hN ce sl n0 s0 st) (hl : lv_has ls 6 [(0, .ref l0), (1, .ref l1), (2, .int l2), (3, va_rf l3)]) (h : x_NS_workOut_J42 g_result st l0 l1 l2 l3 w0 = some r) : W p l e (rmL K (hNx r - n0) (hNs r - s0)) s m args below meth c H locs ce sl (MQ below (hQc G A none r) args s (hNx r - n0) (hNs r - s0) A) (F0 m 42 ls [.ref w0]) := by
  obtain ⟨hx, hb, hr, hml, hown, hts, hlocks⟩ := id X
  have hmr : hle st r := n_x_NS_workOut_J42 nm_result h
  unfold x_NS_workOut_J42 at h
  refine lv_astore (lv' := [(4, .ref w0), (0, .ref l0), (1, .ref l1), (2, .int l2), (3, va_rf l3)]) hx hb d_x_NS_workOut_42 hl (by decide) (by first | (simp only [List.filter, rf_cat]; rfl) | (simp [rf_cat, List.filter]; exact ⟨rfl, rfl⟩)) (fun ls hl => ?_)
  refine lv_aload hx hb d_x_NS_workOut_44 (lv_at hl 0 rfl) ?_
  refine lv_iconst (v := 2) hx hb d_x_NS_workOut_46 (by decide) ?_
  replace h := obi h; obtain ⟨st1, est1, h⟩ := h
  refine hpN_v (ty := .int) X hq 3 4 rfl (by decide) rfl (by decide +kernel) rfl rfl est1 qn_586 d_x_NS_workOut_47 (fun H locs hq => ?_)
  have hn := hn.ke (hP_ke est1)
  have hmr := hmr.ke (hP_ke est1)
  refine lv_aload hx hb d_x_NS_workOut_50 (lv_at hl 0 rfl) ?_
  refine lv_aload_n hx hb d_x_NS_workOut_52 rfl (lv_at hl 1 rfl) ?_
  refine lv_aload_n hx hb d_x_NS_workOut_53 rfl (lv_at hl 2 rfl) ?_
  replace h := obi h; obtain ⟨x2, ex2, h⟩ := h
  refine hgN_r X hq 1 7 rfl (by decide) ex2 qn_108 d_x_NS_workOut_54 ?_
  refine lv_aload hx hb d_x_NS_workOut_57 (lv_at hl 0 rfl) ?_
  replace h := obi h; obtain ⟨ad3, rfl, h⟩ := h
  replace h := obi h; obtain ⟨u4, eu4, h⟩ := h
  replace h := obi h; obtain ⟨q5, eq5, h⟩ := h
  have hn2 := hn.call (nm_result eq5)
  have hmr := n_x_NS_workOut_J62 nm_result h
  refine hcallV (n := 2) X hq (nm_result eq5) (M_result eq5) (C := 0) rfl eu4 q_609 q_611 q_p17 q_1 q_612 ok_x_NS_result rfl (lvl (by omega) (by decide)) hl.1 rfl (Nat.le_of_ble_eq_true rfl) d_x_NS_workOut_59 (hn2.fit hmr) (fun H locs hq => ?_)
  have hn := hn2
  exact w_x_NS_workOut_J62 X hK nm_result M_result hKg hq hn (lv_sub hl [1, 2, 3, 4, 0] rfl) h
theorem w_x_NS_workOut_J38 {r : HS} {g_result : HS → Nat → Nat → Nat → Option (Int64 × HS)} {st : HS} {l0 : Nat} {l1 : Nat} {l2 : Int32} {l3 : Option Nat} {w0 : Nat} {n0 s0 : Nat} {H : Heap} {locs : List Loc} {ce sl : Nat} {ls : Array Slot} (X : jx p s m args meth c b_x_NS_workOut 6 none "NoteSheet") (hK : 2 ≤ K) (nm_result : ∀ {st : HS} {this : Nat} {a1 : Nat} {a2 : Nat} {r : Int64 × HS}, g_result st this a1 a2 = some r → hle st r.2) (M_result : ∀ {st : HS} {this : Nat} {a1 : Nat} {a2 : Nat} {r : Int64 × HS}, g_result st this a1 a2 = some r → Met l y_x_NS_result (Cond.code y_x_NS_result b_x_NS_result 10 (some .long) :: lw_g) (rmL Kg (hNx r.2 - hNx st) (hNs r.2 - hNs st)) (hPc G A [.ref this, .ref a1, .ref a2] st) (hQc G A (some (.long r.1)) r.2) (hNx r.2 - hNx st) (hNs r.2 - hNs st) A) (hKg : Kg + 1 ≤ K) (hq : hC G A s st H locs) (hn : hN ce sl n0 s0 st) (hl : lv_has ls 6 [(0, .ref l0), (1, .ref l1), (2, .int l2), (3, va_rf l3)]) (h : x_NS_workOut_J38 g_result st l0 l1 l2 l3 w0 = some r) : W p l e (rmL K (hNx r - n0) (hNs r - s0)) s m args below meth c H locs ce sl (MQ below (hQc G A none r) args s (hNx r - n0) (hNs r - s0) A) (F0 m 38 ls [.ref w0]) := by
  obtain ⟨hx, hb, hr, hml, hown, hts, hlocks⟩ := id X
  have hmr : hle st r := n_x_NS_workOut_J38 nm_result h
  unfold x_NS_workOut_J38 at h
  refine lv_dup hx hb d_x_NS_workOut_38 rfl ?_
  replace h := obi h; obtain ⟨st1, est1, h⟩ := h
  have hn2 := hn.call (n_x_Note_init est1)
  have hmr := n_x_NS_workOut_J42 nm_result h
  refine hcallIN (n := 0) X hq (n_x_Note_init est1) (c_x_Note_init l 1 (Nat.le_refl _) G A est1) qn_575 q_576 q_19 q_577 ok_x_Note_init rfl rfl (lvl (by omega) (by decide)) hl.1 rfl (Nat.le_of_ble_eq_true rfl) d_x_NS_workOut_39 (hn2.fit hmr) (fun H locs hq => ?_)
  have hn := hn2
  exact w_x_NS_workOut_J42 X hK nm_result M_result hKg hq hn (lv_sub hl [0, 1, 2, 3] rfl) h
theorem c_x_NS_workOut (l : Launch) (K : Nat) (hK : 2 ≤ K) (G : HG) (A : Nat → Prop) {g_result : HS → Nat → Nat → Nat → Option (Int64 × HS)} {Kg : Nat} (nm_result : ∀ {st : HS} {this : Nat} {a1 : Nat} {a2 : Nat} {r : Int64 × HS}, g_result st this a1 a2 = some r → hle st r.2) (M_result : ∀ {st : HS} {this : Nat} {a1 : Nat} {a2 : Nat} {r : Int64 × HS}, g_result st this a1 a2 = some r → Met l y_x_NS_result (Cond.code y_x_NS_result b_x_NS_result 10 (some .long) :: lw_g) (rmL Kg (hNx r.2 - hNx st) (hNs r.2 - hNs st)) (hPc G A [.ref this, .ref a1, .ref a2] st) (hQc G A (some (.long r.1)) r.2) (hNx r.2 - hNx st) (hNs r.2 - hNs st) A) (hKg : Kg + 1 ≤ K) {st : HS} {this : Nat} {a1 : Nat} {r : HS} (h : x_NS_workOut g_result st this a1 = some r) : Met l y_x_NS_workOut (Cond.code y_x_NS_workOut b_x_NS_workOut 6 none :: lw_g) (rmL K (hNx r - hNx st) (hNs r - hNs st)) (hPc G A [.ref this, .ref a1] st) (hQc G A none r) (hNx r - hNx st) (hNs r - hNs st) A := by
  refine Met.ofH (by decide +kernel) (Nat.le_of_ble_eq_true rfl) ?_
  intro p e s m below meth c ls X hmn hq hl
  have hl : lv_has ls 6 [(0, .ref this), (1, .ref a1)] := hl
  generalize ([.ref this, .ref a1] : List Value).toArray = args at X ⊢
  obtain ⟨hx, hb, hr, hml, hown, hts, hlocks⟩ := id X
  generalize hHH : s.heap = H at hq ⊢
  generalize ([] : List Loc) = locs at hq ⊢
  clear hHH
  have hmr : hle st r := n_x_NS_workOut nm_result h
  have hn : hN 0 0 (hNx st) (hNs st) st := ⟨Nat.zero_add _, Nat.zero_add _⟩
  unfold x_NS_workOut at h
  refine lv_aload_n hx hb d_x_NS_workOut_0 rfl (lv_at hl 1 rfl) ?_
  replace h := obi h; obtain ⟨x1, ex1, h⟩ := h
  refine hgN_i X hq 1 2 rfl (by decide) ex1 qn_101 d_x_NS_workOut_1 ?_
  refine lv_istore_n (lv' := [(2, .int x1), (0, .ref this), (1, .ref a1)]) hx hb d_x_NS_workOut_4 rfl hl (by decide) rfl (fun ls hl => ?_)
  refine lv_aload_n hx hb d_x_NS_workOut_5 rfl (lv_at hl 2 rfl) ?_
  refine lv_iconst (v := 1) hx hb d_x_NS_workOut_6 (by decide) ?_
  replace h := obi h; obtain ⟨st2, est2, h⟩ := h
  refine hpN_v (ty := .boolean) X hq 1 2 rfl (by decide) rfl (by decide +kernel) (by decide) (by decide) est2 qn_101 d_x_NS_workOut_7 (fun H locs hq => ?_)
  have hn := hn.ke (hP_ke est2)
  have hmr := hmr.ke (hP_ke est2)
  refine lv_aload_n hx hb d_x_NS_workOut_10 rfl (lv_at hl 2 rfl) ?_
  refine lv_dup hx hb d_x_NS_workOut_11 rfl ?_
  replace h := obi h; obtain ⟨x3, ex3, h⟩ := h
  refine hgN_i X hq 1 9 rfl (by decide) ex3 qn_111 d_x_NS_workOut_12 ?_
  refine lv_iconst (v := 1) hx hb d_x_NS_workOut_15 (by decide) ?_
  refine lv_iadd hx hb d_x_NS_workOut_16 ?_
  replace h := obi h; obtain ⟨st4, est4, h⟩ := h
  refine hpN_v (ty := .int) X hq 1 9 rfl (by decide) rfl (by decide +kernel) rfl rfl est4 qn_111 d_x_NS_workOut_17 (fun H locs hq => ?_)
  have hn := hn.ke (hP_ke est4)
  have hmr := hmr.ke (hP_ke est4)
  refine lv_aload_n hx hb d_x_NS_workOut_20 rfl (lv_at hl 1 rfl) ?_
  refine lv_dup hx hb d_x_NS_workOut_21 rfl ?_
  replace h := obi h; obtain ⟨x5, ex5, h⟩ := h
  refine hg_i X hq 0 6 rfl (by decide) ex5 q_145 d_x_NS_workOut_22 ?_
  refine lv_iconst (v := 1) hx hb d_x_NS_workOut_25 (by decide) ?_
  refine lv_iadd hx hb d_x_NS_workOut_26 ?_
  replace h := obi h; obtain ⟨st6, est6, h⟩ := h
  refine hp_v (ty := .int) X hq 0 6 rfl (by decide) rfl (by decide +kernel) rfl rfl est6 q_145 d_x_NS_workOut_27 (fun H locs hq => ?_)
  have hn := hn.ke (hP_ke est6)
  have hmr := hmr.ke (hP_ke est6)
  refine lv_aload_n hx hb d_x_NS_workOut_30 rfl (lv_at hl 2 rfl) ?_
  replace h := obi h; obtain ⟨x7, ex7, h⟩ := h
  refine hgN_r X hq 1 8 rfl (by decide) ex7 qn_110 d_x_NS_workOut_31 ?_
  refine lv_astore_nq (lv' := [(3, va_rf x7), (2, .int x1), (0, .ref this), (1, .ref a1)]) hx hb d_x_NS_workOut_34 rfl hl (by decide) rfl (fun ls hl => ?_)
  replace h := obi h; obtain ⟨ad8, ead8, h⟩ := h
  replace h := obi h; obtain ⟨st9, est9, h⟩ := h
  have hn2 := hn.new est9
  have hmr := n_x_NS_workOut_J38 nm_result h
  refine h_new X hq 3 rfl est9 q_573 q_574 q_19 (hn2.fit hmr) d_x_NS_workOut_35 (fun H hq => ?_)
  have hn := hn2
  refine lv_nma (Option.some.inj ead8) ?_
  exact w_x_NS_workOut_J38 X hK nm_result M_result hKg hq hn (lv_sub hl [2, 3, 1, 0] rfl) h
end
