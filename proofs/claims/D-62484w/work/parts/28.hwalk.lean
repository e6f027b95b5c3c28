section
variable {p : Program} {l : Launch} {e : Env} {s : State} {m : MethodId} {args : Array Value} {below : List Frame} {meth : Method} {c : Code} {G : HG} {A : Nat → Prop} {K Kg : Nat}
theorem w_x_Note_add_L2 {r : HS} (X : jx p s m args meth c b_x_Note_add 3 none "NoteSheet$Note") (hK : 0 ≤ K) : ∀ (n : Nat), ∀ (st : HS) (l0 : Nat) (l1 : Nat) (l2 : Int32) (H : Heap) (locs : List Loc) (ls : Array Slot), x_Note_add_L2 n st l0 l1 l2 = some r → hC G A s st H locs → lv_has ls 3 [(0, .ref l0), (1, .ref l1), (2, .int l2)] → W p l e (rmL K 0 0) s m args below meth c H locs 0 0 (MQ below (hQc G A none r) args s 0 0 A) (F0 m 2 ls []) := by
  obtain ⟨hx, hb, hr, hml, hown, hts, hlocks⟩ := id X
  intro n
  induction n with
  | zero => intro st l0 l1 l2 H locs ls h hq hl; exact absurd h (by simp [x_Note_add_L2])
  | succ n ih =>
    intro st l0 l1 l2 H locs ls h hq hl
    rw [x_Note_add_L2] at h
    refine lv_iload_n hx hb d_x_Note_add_2 rfl (lv_at hl 2 rfl) ?_
    refine lv_aload_n hx hb d_x_Note_add_3 rfl (lv_at hl 0 rfl) ?_
    replace h := obi h; obtain ⟨x1, ex1, h⟩ := h
    refine hg_i X hq 3 7 rfl (by decide) ex1 q_590 d_x_Note_add_4 ?_
    refine lv_icmp_ge (tgt := 27) hx hb d_x_Note_add_7 (by decide) (fun c7 => ?_) (fun c7 => ?_)
    · replace h := ifp c7 h
      refine lv_aload_n hx hb d_x_Note_add_27 rfl (lv_at hl 0 rfl) ?_
      replace h := obi h; obtain ⟨x2, ex2, h⟩ := h
      refine hg_r X hq 3 6 rfl (by decide) ex2 q_588 d_x_Note_add_28 ?_
      refine lv_aload_n hx hb d_x_Note_add_31 rfl (lv_at hl 0 rfl) ?_
      replace h := obi h; obtain ⟨x3, ex3, h⟩ := h
      refine hg_i X hq 3 7 rfl (by decide) ex3 q_590 d_x_Note_add_32 ?_
      refine lv_aload_n hx hb d_x_Note_add_35 rfl (lv_at hl 1 rfl) ?_
      replace h := obi h; obtain ⟨ad4, rfl, h⟩ := h
      replace h := obi h; obtain ⟨st5, est5, h⟩ := h
      refine ha_rst X hq 4 est5 d_x_Note_add_36 (fun H locs hq => ?_)
      refine lv_aload_n hx hb d_x_Note_add_37 rfl (lv_at hl 0 rfl) ?_
      refine lv_dup hx hb d_x_Note_add_38 rfl ?_
      replace h := obi h; obtain ⟨x6, ex6, h⟩ := h
      refine hg_i X hq 3 7 rfl (by decide) ex6 q_590 d_x_Note_add_39 ?_
      refine lv_iconst (v := 1) hx hb d_x_Note_add_42 (by decide) ?_
      refine lv_iadd hx hb d_x_Note_add_43 ?_
      replace h := obi h; obtain ⟨st7, est7, h⟩ := h
      refine hp_v (ty := .int) X hq 3 7 rfl (by decide) rfl (by decide +kernel) rfl rfl est7 q_590 d_x_Note_add_44 (fun H locs hq => ?_)
      cases h
      exact hret_v X hq ⟨Nat.le_refl _, Nat.le_refl _⟩ d_x_Note_add_47
    · replace h := ifn c7 h
      refine lv_aload_n hx hb d_x_Note_add_10 rfl (lv_at hl 0 rfl) ?_
      replace h := obi h; obtain ⟨x8, ex8, h⟩ := h
      refine hg_r X hq 3 6 rfl (by decide) ex8 q_588 d_x_Note_add_11 ?_
      refine lv_iload_n hx hb d_x_Note_add_14 rfl (lv_at hl 2 rfl) ?_
      replace h := obi h; obtain ⟨ad9, rfl, h⟩ := h
      replace h := obi h; obtain ⟨x10, ex10, h⟩ := h
      refine ha_rld X hq 4 (by decide) ex10 d_x_Note_add_15 ?_
      refine lv_aload_n hx hb d_x_Note_add_16 rfl (lv_at hl 1 rfl) ?_
      refine lv_acmp_ne (rx := x10) (ry := (some l1)) (tgt := 21) hx hb d_x_Note_add_17 (by decide) (fun c17 => ?_) (fun c17 => ?_)
      · replace h := ifn c17 h
        replace h := obi h; obtain ⟨x11, ex11, h⟩ := h
        refine lv_iinc (v := x11) (lv' := [(2, .int x11), (0, .ref l0), (1, .ref l1)]) hx hb d_x_Note_add_21 hl (k := 2) rfl (Option.some.inj ex11) (by decide) rfl (fun ls hl => ?_)
        refine lv_goto (tgt := 2) hx hb d_x_Note_add_24 (by decide) ?_
        exact ih _ _ _ _ _ _ _ h hq (lv_sub hl [1, 2, 0] rfl)
      · replace h := ifp c17 h
        cases h
        exact hret_v X hq ⟨Nat.le_refl _, Nat.le_refl _⟩ d_x_Note_add_20
theorem c_x_Note_add (l : Launch) (K : Nat) (hK : 0 ≤ K) (G : HG) (A : Nat → Prop) {st : HS} {this : Nat} {a1 : Nat} {r : HS} (h : x_Note_add st this a1 = some r) : Met l y_x_Note_add (Cond.code y_x_Note_add b_x_Note_add 3 none :: lw_g) (rmL K 0 0) (hPc G A [.ref this, .ref a1] st) (hQc G A none r) 0 0 A := by
  refine Met.ofH (by decide +kernel) (Nat.le_of_ble_eq_true rfl) ?_
  intro p e s m below meth c ls X hmn hq hl
  have hl : lv_has ls 3 [(0, .ref this), (1, .ref a1)] := hl
  generalize ([.ref this, .ref a1] : List Value).toArray = args at X ⊢
  obtain ⟨hx, hb, hr, hml, hown, hts, hlocks⟩ := id X
  generalize hHH : s.heap = H at hq ⊢
  generalize ([] : List Loc) = locs at hq ⊢
  clear hHH
  unfold x_Note_add at h
  refine lv_iconst (v := 0) hx hb d_x_Note_add_0 (by decide) ?_
  refine lv_istore_n (lv' := [(2, .int 0), (0, .ref this), (1, .ref a1)]) hx hb d_x_Note_add_1 rfl hl (by decide) rfl (fun ls hl => ?_)
  exact w_x_Note_add_L2 X hK 1000 _ _ _ _ _ _ _ h hq (lv_sub hl [1, 2, 0] rfl)
theorem w_x_NS_given_J26 {r : Int64 × HS} {g_value : HS → Nat → Nat → Option (Int64 × HS)} {st : HS} {l1 : Nat} {l2 : Nat} {w0 : Int64} {n0 s0 : Nat} {H : Heap} {locs : List Loc} {ce sl : Nat} {ls : Array Slot} (X : jx p s m args meth c b_x_NS_given 5 (some .long) "NoteSheet") (hK : 1 ≤ K) (nm_value : ∀ {st : HS} {this : Nat} {a1 : Nat} {r : Int64 × HS}, g_value st this a1 = some r → hle st r.2) (M_value : ∀ {st : HS} {this : Nat} {a1 : Nat} {r : Int64 × HS}, g_value st this a1 = some r → Met l y_x_NS_value (Cond.code y_x_NS_value b_x_NS_value 2 (some .long) :: lw_g) (rmL Kg (hNx r.2 - hNx st) (hNs r.2 - hNs st)) (hPc G A [.ref this, .ref a1] st) (hQc G A (some (.long r.1)) r.2) (hNx r.2 - hNx st) (hNs r.2 - hNs st) A) (hKg : Kg + 1 ≤ K) (hq : hC G A s st H locs) (hn : hN ce sl n0 s0 st) (hl : lv_has ls 5 [(1, .ref l1), (2, .ref l2)]) (h : x_NS_given_J26 g_value st l1 l2 w0 = some r) : W p l e (rmL K (hNx r.2 - n0) (hNs r.2 - s0)) s m args below meth c H locs ce sl (MQ below (hQc G A (some (.long r.1)) r.2) args s (hNx r.2 - n0) (hNs r.2 - s0) A) (F0 m 26 ls [.long w0]) := by
  obtain ⟨hx, hb, hr, hml, hown, hts, hlocks⟩ := id X
  have hmr : hle st r.2 := n_x_NS_given_J26 nm_value h
  unfold x_NS_given_J26 at h
  refine lv_lstore_n (lv' := [(3, .long w0), (1, .ref l1), (2, .ref l2)]) hx hb d_x_NS_given_26 rfl hl (by decide) rfl (fun ls hl => ?_)
  refine lv_aload_n hx hb d_x_NS_given_27 rfl (lv_at hl 2 rfl) ?_
  refine lv_aload_n hx hb d_x_NS_given_28 rfl (lv_at hl 2 rfl) ?_
  replace h := obi h; obtain ⟨x1, ex1, h⟩ := h
  refine hgN_i X hq 3 4 rfl (by decide) ex1 qn_586 d_x_NS_given_29 ?_
  refine lv_aload_n hx hb d_x_NS_given_32 rfl (lv_at hl 1 rfl) ?_
  replace h := obi h; obtain ⟨u2, eu2, h⟩ := h
  replace h := obi h; obtain ⟨x3, ex3, h⟩ := h
  refine hcallV (st' := st) (n := 0) X hq hle.rf (c_x_Cell_steady l 0 (Nat.le_refl _) G A ex3) (C := 1) rfl eu2 q_564 q_565 q_566 q_7 q_567 ok_x_Cell_steady rfl (lvl (by omega) (by decide)) hl.1 rfl (Nat.le_of_ble_eq_true rfl) d_x_NS_given_33 (hn.fit hmr) (fun H locs hq => ?_)
  replace h := obi h; obtain ⟨x4, ex4, h⟩ := h
  refine hcallS (st' := st) (n := 2) X hq hle.rf (c_x_Math_min l 0 (Nat.le_refl _) G A ex4) q_568 q_206 q_10 q_207 ok_x_Math_min rfl (lvl (by omega) (by decide)) hl.1 rfl (Nat.le_of_ble_eq_true rfl) d_x_NS_given_36 (hn.fit hmr) (fun H locs hq => ?_)
  replace h := obi h; obtain ⟨st5, est5, h⟩ := h
  refine hpN_v (ty := .int) X hq 3 4 rfl (by decide) rfl (by decide +kernel) rfl rfl est5 qn_586 d_x_NS_given_39 (fun H locs hq => ?_)
  have hn := hn.ke (hP_ke est5)
  have hmr := hmr.ke (hP_ke est5)
  refine lv_lload_n hx hb d_x_NS_given_42 rfl (lv_at hl 0 rfl) ?_
  cases h
  exact hret_l X hq (hn.fit hle.rf) d_x_NS_given_43
theorem c_x_NS_given (l : Launch) (K : Nat) (hK : 1 ≤ K) (G : HG) (A : Nat → Prop) {g_value : HS → Nat → Nat → Option (Int64 × HS)} {Kg : Nat} (nm_value : ∀ {st : HS} {this : Nat} {a1 : Nat} {r : Int64 × HS}, g_value st this a1 = some r → hle st r.2) (M_value : ∀ {st : HS} {this : Nat} {a1 : Nat} {r : Int64 × HS}, g_value st this a1 = some r → Met l y_x_NS_value (Cond.code y_x_NS_value b_x_NS_value 2 (some .long) :: lw_g) (rmL Kg (hNx r.2 - hNx st) (hNs r.2 - hNs st)) (hPc G A [.ref this, .ref a1] st) (hQc G A (some (.long r.1)) r.2) (hNx r.2 - hNx st) (hNs r.2 - hNs st) A) (hKg : Kg + 1 ≤ K) {st : HS} {this : Nat} {a1 : Nat} {a2 : Nat} {r : Int64 × HS} (h : x_NS_given g_value st this a1 a2 = some r) : Met l y_x_NS_given (Cond.code y_x_NS_given b_x_NS_given 5 (some .long) :: lw_g) (rmL K (hNx r.2 - hNx st) (hNs r.2 - hNs st)) (hPc G A [.ref this, .ref a1, .ref a2] st) (hQc G A (some (.long r.1)) r.2) (hNx r.2 - hNx st) (hNs r.2 - hNs st) A := by
  refine Met.ofH (by decide +kernel) (Nat.le_of_ble_eq_true rfl) ?_
  intro p e s m below meth c ls X hmn hq hl
  have hl : lv_has ls 5 [(0, .ref this), (1, .ref a1), (2, .ref a2)] := hl
  generalize ([.ref this, .ref a1, .ref a2] : List Value).toArray = args at X ⊢
  obtain ⟨hx, hb, hr, hml, hown, hts, hlocks⟩ := id X
  generalize hHH : s.heap = H at hq ⊢
  generalize ([] : List Loc) = locs at hq ⊢
  clear hHH
  have hmr : hle st r.2 := n_x_NS_given nm_value h
  have hn : hN 0 0 (hNx st) (hNs st) st := ⟨Nat.zero_add _, Nat.zero_add _⟩
  unfold x_NS_given at h
  refine lv_aload_n hx hb d_x_NS_given_0 rfl (lv_at hl 2 rfl) ?_
  refine lv_aload_n hx hb d_x_NS_given_1 rfl (lv_at hl 1 rfl) ?_
  replace h := obi h; obtain ⟨u1, eu1, h⟩ := h
  replace h := obi h; obtain ⟨st2, est2, h⟩ := h
  refine hcallV (n := 1) X hq (n_x_Note_add est2).le (c_x_Note_add l 0 (Nat.le_refl _) G A est2) (C := 3) rfl eu1 q_624 q_625 q_626 q_19 q_627 ok_x_Note_add rfl (lvl (by omega) (by decide)) hl.1 rfl (Nat.le_of_ble_eq_true rfl) d_x_NS_given_2 (hn.fit hmr) (fun H locs hq => ?_)
  have hn := hn.ke (n_x_Note_add est2)
  have hmr := hmr.ke (n_x_Note_add est2)
  refine lv_aload_n hx hb d_x_NS_given_5 rfl (lv_at hl 1 rfl) ?_
  replace h := obi h; obtain ⟨x3, ex3, h⟩ := h
  refine hgN_i X hq 1 2 rfl (by decide) ex3 qn_101 d_x_NS_given_6 ?_
  refine lv_if_eq (tgt := 21) hx hb d_x_NS_given_9 (by decide) (fun c9 => ?_) (fun c9 => ?_)
  · replace h := ifp c9 h
    refine lv_aload_n hx hb d_x_NS_given_21 rfl (lv_at hl 0 rfl) ?_
    refine lv_aload_n hx hb d_x_NS_given_22 rfl (lv_at hl 1 rfl) ?_
    replace h := obi h; obtain ⟨u4, eu4, h⟩ := h
    replace h := obi h; obtain ⟨q5, eq5, h⟩ := h
    have hn2 := hn.call (nm_value eq5)
    have hmr := n_x_NS_given_J26 nm_value h
    refine hcallV (n := 1) X hq (nm_value eq5) (M_value eq5) (C := 0) rfl eu4 q_548 q_550 q_p13 q_1 q_551 ok_x_NS_value rfl (lvl (by omega) (by decide)) hl.1 rfl (Nat.le_of_ble_eq_true rfl) d_x_NS_given_23 (hn2.fit hmr) (fun H locs hq => ?_)
    have hn := hn2
    exact w_x_NS_given_J26 X hK nm_value M_value hKg hq hn (lv_sub hl [1, 2] rfl) h
  · replace h := ifn c9 h
    refine lv_aload_n hx hb d_x_NS_given_12 rfl (lv_at hl 2 rfl) ?_
    refine lv_iconst (v := 0) hx hb d_x_NS_given_13 (by decide) ?_
    replace h := obi h; obtain ⟨st6, est6, h⟩ := h
    refine hpN_v (ty := .int) X hq 3 4 rfl (by decide) rfl (by decide +kernel) rfl rfl est6 qn_586 d_x_NS_given_14 (fun H locs hq => ?_)
    have hn := hn.ke (hP_ke est6)
    have hmr := hmr.ke (hP_ke est6)
    refine lv_ldc2 (v := 1099511627776) hx hb hown (hts _ q_628) d_x_NS_given_17 ?_
    cases h
    exact hret_l X hq (hn.fit hle.rf) d_x_NS_given_20
theorem w_x_NS_value_J33 {r : Int64 × HS} {g_bring : HS → Nat → Nat → Option HS} {g_workOut : HS → Nat → Nat → Option HS} {st : HS} {l0 : Nat} {l1 : Nat} {n0 s0 : Nat} {H : Heap} {locs : List Loc} {ce sl : Nat} {ls : Array Slot} (X : jx p s m args meth c b_x_NS_value 2 (some .long) "NoteSheet") (hK : 0 ≤ K) (nm_bring : ∀ {st : HS} {this : Nat} {a1 : Nat} {r : HS}, g_bring st this a1 = some r → hle st r) (nm_workOut : ∀ {st : HS} {this : Nat} {a1 : Nat} {r : HS}, g_workOut st this a1 = some r → hle st r) (M_bring : ∀ {st : HS} {this : Nat} {a1 : Nat} {r : HS}, g_bring st this a1 = some r → Met l y_x_NS_bring (Cond.code y_x_NS_bring b_x_NS_bring 2 none :: lw_g) (rmL Kg (hNx r - hNx st) (hNs r - hNs st)) (hPc G A [.ref this, .ref a1] st) (hQc G A none r) (hNx r - hNx st) (hNs r - hNs st) A) (M_workOut : ∀ {st : HS} {this : Nat} {a1 : Nat} {r : HS}, g_workOut st this a1 = some r → Met l y_x_NS_workOut (Cond.code y_x_NS_workOut b_x_NS_workOut 6 none :: lw_g) (rmL Kg (hNx r - hNx st) (hNs r - hNs st)) (hPc G A [.ref this, .ref a1] st) (hQc G A none r) (hNx r - hNx st) (hNs r - hNs st) A) (hKg : Kg + 1 ≤ K) (hq : hC G A s st H locs) (hn : hN ce sl n0 s0 st) (hl : lv_has ls 2 [(0, .ref l0), (1, .ref l1)]) (h : x_NS_value_J33 g_bring g_workOut st l0 l1 = some r) : W p l e (rmL K (hNx r.2 - n0) (hNs r.2 - s0)) s m args below meth c H locs ce sl (MQ below (hQc G A (some (.long r.1)) r.2) args s (hNx r.2 - n0) (hNs r.2 - s0) A) (F0 m 33 ls []) := by
  obtain ⟨hx, hb, hr, hml, hown, hts, hlocks⟩ := id X
  have hmr : hle st r.2 := n_x_NS_value_J33 nm_bring nm_workOut h
  unfold x_NS_value_J33 at h
  refine lv_aload_n hx hb d_x_NS_value_33 rfl (lv_at hl 0 rfl) ?_
  refine lv_dup hx hb d_x_NS_value_34 rfl ?_
  replace h := obi h; obtain ⟨x1, ex1, h⟩ := h
  refine hg_i X hq 0 5 rfl (by decide) ex1 q_144 d_x_NS_value_35 ?_
  refine lv_iconst (v := 1) hx hb d_x_NS_value_38 (by decide) ?_
  refine lv_iadd hx hb d_x_NS_value_39 ?_
  replace h := obi h; obtain ⟨st2, est2, h⟩ := h
  refine hp_v (ty := .int) X hq 0 5 rfl (by decide) rfl (by decide +kernel) rfl rfl est2 q_144 d_x_NS_value_40 (fun H locs hq => ?_)
  have hn := hn.ke (hP_ke est2)
  have hmr := hmr.ke (hP_ke est2)
  refine lv_aload_n hx hb d_x_NS_value_43 rfl (lv_at hl 1 rfl) ?_
  replace h := obi h; obtain ⟨x3, ex3, h⟩ := h
  refine hgN_r X hq 1 8 rfl (by decide) ex3 qn_110 d_x_NS_value_44 ?_
  refine lv_aload_n hx hb d_x_NS_value_47 rfl (lv_at hl 0 rfl) ?_
  replace h := obi h; obtain ⟨x4, ex4, h⟩ := h
  refine hg_i X hq 0 5 rfl (by decide) ex4 q_144 d_x_NS_value_48 ?_
  replace h := obi h; obtain ⟨ad5, rfl, h⟩ := h
  replace h := obi h; obtain ⟨st6, est6, h⟩ := h
  refine hpN_v (ty := .int) X hq 3 5 rfl (by decide) rfl (by decide +kernel) rfl rfl est6 qn_587 d_x_NS_value_51 (fun H locs hq => ?_)
  have hn := hn.ke (hP_ke est6)
  have hmr := hmr.ke (hP_ke est6)
  refine lv_aload_n hx hb d_x_NS_value_54 rfl (lv_at hl 1 rfl) ?_
  replace h := obi h; obtain ⟨x7, ex7, h⟩ := h
  refine hgN_r X hq 1 8 rfl (by decide) ex7 qn_110 d_x_NS_value_55 ?_
  replace h := obi h; obtain ⟨ad8, rfl, h⟩ := h
  replace h := obi h; obtain ⟨x9, ex9, h⟩ := h
  refine hgN_j X hq 3 1 rfl (by decide) ex9 qn_581 d_x_NS_value_58 ?_
  cases h
  exact hret_l X hq (hn.fit hle.rf) d_x_NS_value_61
theorem w_x_NS_value_J18 {r : Int64 × HS} {g_bring : HS → Nat → Nat → Option HS} {g_workOut : HS → Nat → Nat → Option HS} {st : HS} {l0 : Nat} {l1 : Nat} {n0 s0 : Nat} {H : Heap} {locs : List Loc} {ce sl : Nat} {ls : Array Slot} (X : jx p s m args meth c b_x_NS_value 2 (some .long) "NoteSheet") (hK : 0 ≤ K) (nm_bring : ∀ {st : HS} {this : Nat} {a1 : Nat} {r : HS}, g_bring st this a1 = some r → hle st r) (nm_workOut : ∀ {st : HS} {this : Nat} {a1 : Nat} {r : HS}, g_workOut st this a1 = some r → hle st r) (M_bring : ∀ {st : HS} {this : Nat} {a1 : Nat} {r : HS}, g_bring st this a1 = some r → Met l y_x_NS_bring (Cond.code y_x_NS_bring b_x_NS_bring 2 none :: lw_g) (rmL Kg (hNx r - hNx st) (hNs r - hNs st)) (hPc G A [.ref this, .ref a1] st) (hQc G A none r) (hNx r - hNx st) (hNs r - hNs st) A) (M_workOut : ∀ {st : HS} {this : Nat} {a1 : Nat} {r : HS}, g_workOut st this a1 = some r → Met l y_x_NS_workOut (Cond.code y_x_NS_workOut b_x_NS_workOut 6 none :: lw_g) (rmL Kg (hNx r - hNx st) (hNs r - hNs st)) (hPc G A [.ref this, .ref a1] st) (hQc G A none r) (hNx r - hNx st) (hNs r - hNs st) A) (hKg : Kg + 1 ≤ K) (hq : hC G A s st H locs) (hn : hN ce sl n0 s0 st) (hl : lv_has ls 2 [(0, .ref l0), (1, .ref l1)]) (h : x_NS_value_J18 g_bring g_workOut st l0 l1 = some r) : W p l e (rmL K (hNx r.2 - n0) (hNs r.2 - s0)) s m args below meth c H locs ce sl (MQ below (hQc G A (some (.long r.1)) r.2) args s (hNx r.2 - n0) (hNs r.2 - s0) A) (F0 m 18 ls []) := by
  obtain ⟨hx, hb, hr, hml, hown, hts, hlocks⟩ := id X
  have hmr : hle st r.2 := n_x_NS_value_J18 nm_bring nm_workOut h
  unfold x_NS_value_J18 at h
  refine lv_aload_n hx hb d_x_NS_value_18 rfl (lv_at hl 1 rfl) ?_
  replace h := obi h; obtain ⟨x1, ex1, h⟩ := h
  refine hgN_r X hq 1 8 rfl (by decide) ex1 qn_110 d_x_NS_value_19 ?_
  replace h := obi h; obtain ⟨ad2, rfl, h⟩ := h
  replace h := obi h; obtain ⟨x3, ex3, h⟩ := h
  refine hgN_i X hq 3 0 rfl (by decide) ex3 qn_580 d_x_NS_value_22 ?_
  refine lv_if_ne (tgt := 33) hx hb d_x_NS_value_25 (by decide) (fun c25 => ?_) (fun c25 => ?_)
  · replace h := ifn c25 h
    exact w_x_NS_value_J33 X hK nm_bring nm_workOut M_bring M_workOut hKg hq hn (lv_sub hl [0, 1] rfl) h
  · replace h := ifp c25 h
    refine lv_aload_n hx hb d_x_NS_value_28 rfl (lv_at hl 0 rfl) ?_
    refine lv_aload_n hx hb d_x_NS_value_29 rfl (lv_at hl 1 rfl) ?_
    replace h := obi h; obtain ⟨u4, eu4, h⟩ := h
    replace h := obi h; obtain ⟨st5, est5, h⟩ := h
    have hn2 := hn.call (nm_workOut est5)
    have hmr := n_x_NS_value_J33 nm_bring nm_workOut h
    refine hcallV (n := 1) X hq (nm_workOut est5) (M_workOut est5) (C := 0) rfl eu4 q_569 q_571 q_p16 q_1 q_572 ok_x_NS_workOut rfl (lvl (by omega) (by decide)) hl.1 rfl (Nat.le_of_ble_eq_true rfl) d_x_NS_value_30 (hn2.fit hmr) (fun H locs hq => ?_)
    have hn := hn2
    exact w_x_NS_value_J33 X hK nm_bring nm_workOut M_bring M_workOut hKg hq hn (lv_sub hl [0, 1] rfl) h
theorem c_x_NS_value (l : Launch) (K : Nat) (hK : 0 ≤ K) (G : HG) (A : Nat → Prop) {g_bring : HS → Nat → Nat → Option HS} {g_workOut : HS → Nat → Nat → Option HS} {Kg : Nat} (nm_bring : ∀ {st : HS} {this : Nat} {a1 : Nat} {r : HS}, g_bring st this a1 = some r → hle st r) (nm_workOut : ∀ {st : HS} {this : Nat} {a1 : Nat} {r : HS}, g_workOut st this a1 = some r → hle st r) (M_bring : ∀ {st : HS} {this : Nat} {a1 : Nat} {r : HS}, g_bring st this a1 = some r → Met l y_x_NS_bring (Cond.code y_x_NS_bring b_x_NS_bring 2 none :: lw_g) (rmL Kg (hNx r - hNx st) (hNs r - hNs st)) (hPc G A [.ref this, .ref a1] st) (hQc G A none r) (hNx r - hNx st) (hNs r - hNs st) A) (M_workOut : ∀ {st : HS} {this : Nat} {a1 : Nat} {r : HS}, g_workOut st this a1 = some r → Met l y_x_NS_workOut (Cond.code y_x_NS_workOut b_x_NS_workOut 6 none :: lw_g) (rmL Kg (hNx r - hNx st) (hNs r - hNs st)) (hPc G A [.ref this, .ref a1] st) (hQc G A none r) (hNx r - hNx st) (hNs r - hNs st) A) (hKg : Kg + 1 ≤ K) {st : HS} {this : Nat} {a1 : Nat} {r : Int64 × HS} (h : x_NS_value g_bring g_workOut st this a1 = some r) : Met l y_x_NS_value (Cond.code y_x_NS_value b_x_NS_value 2 (some .long) :: lw_g) (rmL K (hNx r.2 - hNx st) (hNs r.2 - hNs st)) (hPc G A [.ref this, .ref a1] st) (hQc G A (some (.long r.1)) r.2) (hNx r.2 - hNx st) (hNs r.2 - hNs st) A := by
  refine Met.ofH (by decide +kernel) (Nat.le_of_ble_eq_true rfl) ?_
  intro p e s m below meth c ls X hmn hq hl
  have hl : lv_has ls 2 [(0, .ref this), (1, .ref a1)] := hl
  generalize ([.ref this, .ref a1] : List Value).toArray = args at X ⊢
  obtain ⟨hx, hb, hr, hml, hown, hts, hlocks⟩ := id X
  generalize hHH : s.heap = H at hq ⊢
  generalize ([] : List Loc) = locs at hq ⊢
  clear hHH
  have hmr : hle st r.2 := n_x_NS_value nm_bring nm_workOut h
  have hn : hN 0 0 (hNx st) (hNs st) st := ⟨Nat.zero_add _, Nat.zero_add _⟩
  unfold x_NS_value at h
  refine lv_aload_n hx hb d_x_NS_value_0 rfl (lv_at hl 1 rfl) ?_
  replace h := obi h; obtain ⟨x1, ex1, h⟩ := h
  refine hgN_i X hq 1 1 rfl (by decide) ex1 qn_100 d_x_NS_value_1 ?_
  refine lv_if_eq (tgt := 13) hx hb d_x_NS_value_4 (by decide) (fun c4 => ?_) (fun c4 => ?_)
  · replace h := ifp c4 h
    refine lv_aload_n hx hb d_x_NS_value_13 rfl (lv_at hl 0 rfl) ?_
    refine lv_aload_n hx hb d_x_NS_value_14 rfl (lv_at hl 1 rfl) ?_
    replace h := obi h; obtain ⟨u2, eu2, h⟩ := h
    replace h := obi h; obtain ⟨st3, est3, h⟩ := h
    have hn2 := hn.call (nm_bring est3)
    have hmr := n_x_NS_value_J18 nm_bring nm_workOut h
    refine hcallV (n := 1) X hq (nm_bring est3) (M_bring est3) (C := 0) rfl eu2 q_552 q_554 q_p14 q_1 q_555 ok_x_NS_bring rfl (lvl (by omega) (by decide)) hl.1 rfl (Nat.le_of_ble_eq_true rfl) d_x_NS_value_15 (hn2.fit hmr) (fun H locs hq => ?_)
    have hn := hn2
    exact w_x_NS_value_J18 X hK nm_bring nm_workOut M_bring M_workOut hKg hq hn (lv_sub hl [0, 1] rfl) h
  · replace h := ifn c4 h
    refine lv_aload_n hx hb d_x_NS_value_7 rfl (lv_at hl 1 rfl) ?_
    replace h := obi h; obtain ⟨x4, ex4, h⟩ := h
    refine hgN_i X hq 1 3 rfl (by decide) ex4 qn_102 d_x_NS_value_8 ?_
    refine lv_i2l (v := _) hx hb d_x_NS_value_11 rfl ?_
    cases h
    exact hret_l X hq (hn.fit hle.rf) d_x_NS_value_12
theorem c_x_NS_both (l : Launch) (K : Nat) (hK : 1 ≤ K) (G : HG) (A : Nat → Prop) {st : HS} {a0 : Nat} {a1 : Int64} {a2 : Int64} {r : Int64} (h : x_NS_both st a0 a1 a2 = some r) : Met l y_x_NS_both (Cond.code y_x_NS_both b_x_NS_both 5 (some .long) :: lw_g) (rmL K 0 0) (hPc G A [.ref a0, .long a1, .long a2] st) (hQc G A (some (.long r)) st) 0 0 A := by
  refine Met.ofH (by decide +kernel) (Nat.le_of_ble_eq_true rfl) ?_
  intro p e s m below meth c ls X hmn hq hl
  have hl : lv_has ls 5 [(0, .ref a0), (1, .long a1), (3, .long a2)] := hl
  generalize ([.ref a0, .long a1, .long a2] : List Value).toArray = args at X ⊢
  obtain ⟨hx, hb, hr, hml, hown, hts, hlocks⟩ := id X
  generalize hHH : s.heap = H at hq ⊢
  generalize ([] : List Loc) = locs at hq ⊢
  clear hHH
  unfold x_NS_both at h
  refine lv_aload_n hx hb d_x_NS_both_0 rfl (lv_at hl 0 rfl) ?_
  replace h := obi h; obtain ⟨u1, eu1, h⟩ := h
  replace h := obi h; obtain ⟨x2, ex2, h⟩ := h
  refine hcallU (st' := st) (n := 0) X hq hle.rf (c_x_Enum_ordinal l 0 (Nat.le_refl _) G A ex2) (C := 8) rfl eu1 q_613 q_614 q_617 q_616 q_16 q_618 rfl ⟨by decide +kernel, by decide +kernel, by decide +kernel⟩ rfl (lvl (by omega) (by decide)) hl.1 rfl (Nat.le_of_ble_eq_true rfl) d_x_NS_both_1 ⟨Nat.le_refl _, Nat.le_refl _⟩ (fun H locs hq => ?_)
  rcases Decidable.em (x2 = 3) with c4_3 | c4_3
  · replace h := ifp c4_3 h
    have hsw : x2.toInt = 3 := by rw [c4_3]; decide
    refine lv_tableIn (tgt := 40) hx hb d_x_NS_both_4 (by rw [hsw]; decide) (by rw [hsw]; decide) (by rw [hsw]; rfl) (by decide) ?_
    refine lv_lload_n hx hb d_x_NS_both_40 rfl (lv_at hl 1 rfl) ?_
    refine lv_lload_n hx hb d_x_NS_both_41 rfl (lv_at hl 2 rfl) ?_
    refine lv_ladd hx hb d_x_NS_both_42 ?_
    refine lv_l2i (v := _) hx hb d_x_NS_both_43 rfl ?_
    refine lv_i2l (v := _) hx hb d_x_NS_both_44 rfl ?_
    cases h
    exact hret_l X hq ⟨Nat.le_refl _, Nat.le_refl _⟩ d_x_NS_both_45
  replace h := ifn c4_3 h
  have ec4_3 := i32_ne c4_3
  rcases Decidable.em (x2 = 4) with c4_4 | c4_4
  · replace h := ifp c4_4 h
    have hsw : x2.toInt = 4 := by rw [c4_4]; decide
    refine lv_tableIn (tgt := 46) hx hb d_x_NS_both_4 (by rw [hsw]; decide) (by rw [hsw]; decide) (by rw [hsw]; rfl) (by decide) ?_
    refine lv_lload_n hx hb d_x_NS_both_46 rfl (lv_at hl 1 rfl) ?_
    refine lv_lload_n hx hb d_x_NS_both_47 rfl (lv_at hl 2 rfl) ?_
    refine lv_lsub hx hb d_x_NS_both_48 ?_
    refine lv_l2i (v := _) hx hb d_x_NS_both_49 rfl ?_
    refine lv_i2l (v := _) hx hb d_x_NS_both_50 rfl ?_
    cases h
    exact hret_l X hq ⟨Nat.le_refl _, Nat.le_refl _⟩ d_x_NS_both_51
  replace h := ifn c4_4 h
  have ec4_4 := i32_ne c4_4
  rcases Decidable.em (x2 = 5) with c4_5 | c4_5
  · replace h := ifp c4_5 h
    have hsw : x2.toInt = 5 := by rw [c4_5]; decide
    refine lv_tableIn (tgt := 52) hx hb d_x_NS_both_4 (by rw [hsw]; decide) (by rw [hsw]; decide) (by rw [hsw]; rfl) (by decide) ?_
    refine lv_lload_n hx hb d_x_NS_both_52 rfl (lv_at hl 1 rfl) ?_
    refine lv_lload_n hx hb d_x_NS_both_53 rfl (lv_at hl 2 rfl) ?_
    refine lv_lmul hx hb d_x_NS_both_54 ?_
    refine lv_l2i (v := _) hx hb d_x_NS_both_55 rfl ?_
    refine lv_i2l (v := _) hx hb d_x_NS_both_56 rfl ?_
    cases h
    exact hret_l X hq ⟨Nat.le_refl _, Nat.le_refl _⟩ d_x_NS_both_57
  replace h := ifn c4_5 h
  have ec4_5 := i32_ne c4_5
  rcases Decidable.em (x2 = 6) with c4_6 | c4_6
  · replace h := ifp c4_6 h
    have hsw : x2.toInt = 6 := by rw [c4_6]; decide
    refine lv_tableIn (tgt := 70) hx hb d_x_NS_both_4 (by rw [hsw]; decide) (by rw [hsw]; decide) (by rw [hsw]; rfl) (by decide) ?_
    refine lv_lload_n hx hb d_x_NS_both_70 rfl (lv_at hl 1 rfl) ?_
    refine lv_lload_n hx hb d_x_NS_both_71 rfl (lv_at hl 2 rfl) ?_
    refine W.lcmp hx hb d_x_NS_both_72 ?_
    refine lv_if_ne (tgt := 80) hx hb d_x_NS_both_73 (by decide) (fun c73 => ?_) (fun c73 => ?_)
    · replace h := ifn c73 h
      refine lv_lconst (v := 0) hx hb d_x_NS_both_80 (by decide) ?_
      cases h
      exact hret_l X hq ⟨Nat.le_refl _, Nat.le_refl _⟩ d_x_NS_both_81
    · replace h := ifp c73 h
      refine lv_lconst (v := 1) hx hb d_x_NS_both_76 (by decide) ?_
      refine lv_goto (tgt := 81) hx hb d_x_NS_both_77 (by decide) ?_
      cases h
      exact hret_l X hq ⟨Nat.le_refl _, Nat.le_refl _⟩ d_x_NS_both_81
  replace h := ifn c4_6 h
  have ec4_6 := i32_ne c4_6
  rcases Decidable.em (x2 = 7) with c4_7 | c4_7
  · replace h := ifp c4_7 h
    have hsw : x2.toInt = 7 := by rw [c4_7]; decide
    refine lv_tableIn (tgt := 58) hx hb d_x_NS_both_4 (by rw [hsw]; decide) (by rw [hsw]; decide) (by rw [hsw]; rfl) (by decide) ?_
    refine lv_lload_n hx hb d_x_NS_both_58 rfl (lv_at hl 1 rfl) ?_
    refine lv_lload_n hx hb d_x_NS_both_59 rfl (lv_at hl 2 rfl) ?_
    refine W.lcmp hx hb d_x_NS_both_60 ?_
    refine lv_if_ge (tgt := 68) hx hb d_x_NS_both_61 (by decide) (fun c61 => ?_) (fun c61 => ?_)
    · replace h := ifp c61 h
      refine lv_lconst (v := 0) hx hb d_x_NS_both_68 (by decide) ?_
      cases h
      exact hret_l X hq ⟨Nat.le_refl _, Nat.le_refl _⟩ d_x_NS_both_69
    · replace h := ifn c61 h
      refine lv_lconst (v := 1) hx hb d_x_NS_both_64 (by decide) ?_
      refine lv_goto (tgt := 69) hx hb d_x_NS_both_65 (by decide) ?_
      cases h
      exact hret_l X hq ⟨Nat.le_refl _, Nat.le_refl _⟩ d_x_NS_both_69
  replace h := ifn c4_7 h
  have ec4_7 := i32_ne c4_7
  rw [show (3 : Int32).toInt = 3 by decide] at ec4_3
  rw [show (4 : Int32).toInt = 4 by decide] at ec4_4
  rw [show (5 : Int32).toInt = 5 by decide] at ec4_5
  rw [show (6 : Int32).toInt = 6 by decide] at ec4_6
  rw [show (7 : Int32).toInt = 7 by decide] at ec4_7
  refine lv_tableOut (tgt := 70) hx hb d_x_NS_both_4 (by omega) (by decide) ?_
  refine lv_lload_n hx hb d_x_NS_both_70 rfl (lv_at hl 1 rfl) ?_
  refine lv_lload_n hx hb d_x_NS_both_71 rfl (lv_at hl 2 rfl) ?_
  refine W.lcmp hx hb d_x_NS_both_72 ?_
  refine lv_if_ne (tgt := 80) hx hb d_x_NS_both_73 (by decide) (fun c73 => ?_) (fun c73 => ?_)
  · replace h := ifn c73 h
    refine lv_lconst (v := 0) hx hb d_x_NS_both_80 (by decide) ?_
    cases h
    exact hret_l X hq ⟨Nat.le_refl _, Nat.le_refl _⟩ d_x_NS_both_81
  · replace h := ifp c73 h
    refine lv_lconst (v := 1) hx hb d_x_NS_both_76 (by decide) ?_
    refine lv_goto (tgt := 81) hx hb d_x_NS_both_77 (by decide) ?_
    cases h
    exact hret_l X hq ⟨Nat.le_refl _, Nat.le_refl _⟩ d_x_NS_both_81
theorem w_x_NS_result_J263 {r : Int64 × HS} {g_given : HS → Nat → Nat → Nat → Option (Int64 × HS)} {st : HS} {l0 : Nat} {l1 : Nat} {l2 : Nat} {l3 : Nat} {l4 : Int32} {l5 : Int32} {k_11 : HS → Nat → Nat → Nat → Nat → Int32 → Int32 → Option (Int64 × HS)} {n0 s0 : Nat} {H : Heap} {locs : List Loc} {ce sl : Nat} {ls : Array Slot} (X : jx p s m args meth c b_x_NS_result 10 (some .long) "NoteSheet") (hK : 2 ≤ K) (nm_given : ∀ {st : HS} {this : Nat} {a1 : Nat} {a2 : Nat} {r : Int64 × HS}, g_given st this a1 a2 = some r → hle st r.2) (M_given : ∀ {st : HS} {this : Nat} {a1 : Nat} {a2 : Nat} {r : Int64 × HS}, g_given st this a1 a2 = some r → Met l y_x_NS_given (Cond.code y_x_NS_given b_x_NS_given 5 (some .long) :: lw_g) (rmL Kg (hNx r.2 - hNx st) (hNs r.2 - hNs st)) (hPc G A [.ref this, .ref a1, .ref a2] st) (hQc G A (some (.long r.1)) r.2) (hNx r.2 - hNx st) (hNs r.2 - hNs st) A) (hKg : Kg + 1 ≤ K) (hq : hC G A s st H locs) (hn : hN ce sl n0 s0 st) (hl : lv_has ls 10 [(0, .ref l0), (1, .ref l1), (2, .ref l2), (3, .ref l3), (4, .int l4), (5, .int l5)]) (hk_11 : ∀ (st : HS) (l0 : Nat) (l1 : Nat) (l2 : Nat) (l3 : Nat) (l4 : Int32) (l5 : Int32) (H : Heap) (locs : List Loc) (ce sl : Nat) (ls : Array Slot), k_11 st l0 l1 l2 l3 l4 l5 = some r → hC G A s st H locs → hN ce sl n0 s0 st → lv_has ls 10 [(0, .ref l0), (1, .ref l1), (2, .ref l2), (3, .ref l3), (4, .int l4), (5, .int l5)] → W p l e (rmL K (hNx r.2 - n0) (hNs r.2 - s0)) s m args below meth c H locs ce sl (MQ below (hQc G A (some (.long r.1)) r.2) args s (hNx r.2 - n0) (hNs r.2 - s0) A) (F0 m 11 ls [])) (hm_11 : ∀ (st : HS) (l0 : Nat) (l1 : Nat) (l2 : Nat) (l3 : Nat) (l4 : Int32) (l5 : Int32), k_11 st l0 l1 l2 l3 l4 l5 = some r → hle st r.2) (h : x_NS_result_J263 g_given k_11 st l0 l1 l2 l3 l4 l5 = some r) : W p l e (rmL K (hNx r.2 - n0) (hNs r.2 - s0)) s m args below meth c H locs ce sl (MQ below (hQc G A (some (.long r.1)) r.2) args s (hNx r.2 - n0) (hNs r.2 - s0) A) (F0 m 263 ls []) := by
  obtain ⟨hx, hb, hr, hml, hown, hts, hlocks⟩ := id X
  have hmr : hle st r.2 := n_x_NS_result_J263 nm_given hm_11 h
  unfold x_NS_result_J263 at h
  refine lv_goto (tgt := 11) hx hb d_x_NS_result_263 (by decide) ?_
  exact hk_11 _ _ _ _ _ _ _ _ _ _ _ _ h hq hn (lv_sub hl [0, 1, 2, 3, 4, 5] rfl)
theorem w_x_NS_result_J227 {r : Int64 × HS} {g_given : HS → Nat → Nat → Nat → Option (Int64 × HS)} {st : HS} {l0 : Nat} {l1 : Nat} {l2 : Nat} {l3 : Nat} {l4 : Int32} {w0 : Int32} {k_11 : HS → Nat → Nat → Nat → Nat → Int32 → Int32 → Option (Int64 × HS)} {n0 s0 : Nat} {H : Heap} {locs : List Loc} {ce sl : Nat} {ls : Array Slot} (X : jx p s m args meth c b_x_NS_result 10 (some .long) "NoteSheet") (hK : 2 ≤ K) (nm_given : ∀ {st : HS} {this : Nat} {a1 : Nat} {a2 : Nat} {r : Int64 × HS}, g_given st this a1 a2 = some r → hle st r.2) (M_given : ∀ {st : HS} {this : Nat} {a1 : Nat} {a2 : Nat} {r : Int64 × HS}, g_given st this a1 a2 = some r → Met l y_x_NS_given (Cond.code y_x_NS_given b_x_NS_given 5 (some .long) :: lw_g) (rmL Kg (hNx r.2 - hNx st) (hNs r.2 - hNs st)) (hPc G A [.ref this, .ref a1, .ref a2] st) (hQc G A (some (.long r.1)) r.2) (hNx r.2 - hNx st) (hNs r.2 - hNs st) A) (hKg : Kg + 1 ≤ K) (hq : hC G A s st H locs) (hn : hN ce sl n0 s0 st) (hl : lv_has ls 10 [(0, .ref l0), (1, .ref l1), (2, .ref l2), (3, .ref l3), (4, .int l4)]) (hk_11 : ∀ (st : HS) (l0 : Nat) (l1 : Nat) (l2 : Nat) (l3 : Nat) (l4 : Int32) (l5 : Int32) (H : Heap) (locs : List Loc) (ce sl : Nat) (ls : Array Slot), k_11 st l0 l1 l2 l3 l4 l5 = some r → hC G A s st H locs → hN ce sl n0 s0 st → lv_has ls 10 [(0, .ref l0), (1, .ref l1), (2, .ref l2), (3, .ref l3), (4, .int l4), (5, .int l5)] → W p l e (rmL K (hNx r.2 - n0) (hNs r.2 - s0)) s m args below meth c H locs ce sl (MQ below (hQc G A (some (.long r.1)) r.2) args s (hNx r.2 - n0) (hNs r.2 - s0) A) (F0 m 11 ls [])) (hm_11 : ∀ (st : HS) (l0 : Nat) (l1 : Nat) (l2 : Nat) (l3 : Nat) (l4 : Int32) (l5 : Int32), k_11 st l0 l1 l2 l3 l4 l5 = some r → hle st r.2) (h : x_NS_result_J227 g_given k_11 st l0 l1 l2 l3 l4 w0 = some r) : W p l e (rmL K (hNx r.2 - n0) (hNs r.2 - s0)) s m args below meth c H locs ce sl (MQ below (hQc G A (some (.long r.1)) r.2) args s (hNx r.2 - n0) (hNs r.2 - s0) A) (F0 m 227 ls [.int w0]) := by
  obtain ⟨hx, hb, hr, hml, hown, hts, hlocks⟩ := id X
  have hmr : hle st r.2 := n_x_NS_result_J227 nm_given hm_11 h
  unfold x_NS_result_J227 at h
  refine lv_istore (lv' := [(5, .int w0), (0, .ref l0), (1, .ref l1), (2, .ref l2), (3, .ref l3), (4, .int l4)]) hx hb d_x_NS_result_227 hl (by decide) rfl (fun ls hl => ?_)
  refine lv_goto (tgt := 263) hx hb d_x_NS_result_229 (by decide) ?_
  exact w_x_NS_result_J263 X hK nm_given M_given hKg hq hn (lv_sub hl [1, 2, 3, 4, 5, 0] rfl) hk_11 hm_11 h
theorem w_x_NS_result_J163 {r : Int64 × HS} {g_given : HS → Nat → Nat → Nat → Option (Int64 × HS)} {st : HS} {l0 : Nat} {l1 : Nat} {l2 : Nat} {l3 : Nat} {l4 : Int32} {l5 : Int32} {w0 : Int64} {k_11 : HS → Nat → Nat → Nat → Nat → Int32 → Int32 → Option (Int64 × HS)} {n0 s0 : Nat} {H : Heap} {locs : List Loc} {ce sl : Nat} {ls : Array Slot} (X : jx p s m args meth c b_x_NS_result 10 (some .long) "NoteSheet") (hK : 2 ≤ K) (nm_given : ∀ {st : HS} {this : Nat} {a1 : Nat} {a2 : Nat} {r : Int64 × HS}, g_given st this a1 a2 = some r → hle st r.2) (M_given : ∀ {st : HS} {this : Nat} {a1 : Nat} {a2 : Nat} {r : Int64 × HS}, g_given st this a1 a2 = some r → Met l y_x_NS_given (Cond.code y_x_NS_given b_x_NS_given 5 (some .long) :: lw_g) (rmL Kg (hNx r.2 - hNx st) (hNs r.2 - hNs st)) (hPc G A [.ref this, .ref a1, .ref a2] st) (hQc G A (some (.long r.1)) r.2) (hNx r.2 - hNx st) (hNs r.2 - hNs st) A) (hKg : Kg + 1 ≤ K) (hq : hC G A s st H locs) (hn : hN ce sl n0 s0 st) (hl : lv_has ls 10 [(0, .ref l0), (1, .ref l1), (2, .ref l2), (3, .ref l3), (4, .int l4), (5, .int l5)]) (hk_11 : ∀ (st : HS) (l0 : Nat) (l1 : Nat) (l2 : Nat) (l3 : Nat) (l4 : Int32) (l5 : Int32) (H : Heap) (locs : List Loc) (ce sl : Nat) (ls : Array Slot), k_11 st l0 l1 l2 l3 l4 l5 = some r → hC G A s st H locs → hN ce sl n0 s0 st → lv_has ls 10 [(0, .ref l0), (1, .ref l1), (2, .ref l2), (3, .ref l3), (4, .int l4), (5, .int l5)] → W p l e (rmL K (hNx r.2 - n0) (hNs r.2 - s0)) s m args below meth c H locs ce sl (MQ below (hQc G A (some (.long r.1)) r.2) args s (hNx r.2 - n0) (hNs r.2 - s0) A) (F0 m 11 ls [])) (hm_11 : ∀ (st : HS) (l0 : Nat) (l1 : Nat) (l2 : Nat) (l3 : Nat) (l4 : Int32) (l5 : Int32), k_11 st l0 l1 l2 l3 l4 l5 = some r → hle st r.2) (h : x_NS_result_J163 g_given k_11 st l0 l1 l2 l3 l4 l5 w0 = some r) : W p l e (rmL K (hNx r.2 - n0) (hNs r.2 - s0)) s m args below meth c H locs ce sl (MQ below (hQc G A (some (.long r.1)) r.2) args s (hNx r.2 - n0) (hNs r.2 - s0) A) (F0 m 163 ls [.long w0]) := by
  obtain ⟨hx, hb, hr, hml, hown, hts, hlocks⟩ := id X
  have hmr : hle st r.2 := n_x_NS_result_J163 nm_given hm_11 h
  unfold x_NS_result_J163 at h
  refine lv_lstore (lv' := [(8, .long w0), (0, .ref l0), (1, .ref l1), (2, .ref l2), (3, .ref l3), (4, .int l4), (5, .int l5)]) hx hb d_x_NS_result_163 hl (by decide) rfl (fun ls hl => ?_)
  refine lv_lload hx hb d_x_NS_result_165 (lv_at hl 0 rfl) ?_
  refine lv_ldc2 (v := 1099511627776) hx hb hown (hts _ q_628) d_x_NS_result_167 ?_
  refine W.lcmp hx hb d_x_NS_result_170 ?_
  refine lv_if_ne (tgt := 178) hx hb d_x_NS_result_171 (by decide) (fun c171 => ?_) (fun c171 => ?_)
  · replace h := ifn c171 h
    refine lv_aload_n hx hb d_x_NS_result_178 rfl (lv_at hl 4 rfl) ?_
    refine lv_iload hx hb d_x_NS_result_179 (lv_at hl 5 rfl) ?_
    replace h := obi h; obtain ⟨x1, ex1, h⟩ := h
    refine lv_iinc (v := x1) (lv' := [(4, .int x1), (8, .long w0), (0, .ref l0), (1, .ref l1), (2, .ref l2), (3, .ref l3), (5, .int l5)]) hx hb d_x_NS_result_181 hl (k := 5) rfl (Option.some.inj ex1) (by decide) rfl (fun ls hl => ?_)
    refine lv_lload hx hb d_x_NS_result_184 (lv_at hl 1 rfl) ?_
    replace h := obi h; obtain ⟨st2, est2, h⟩ := h
    refine ha_lst X hq est2 d_x_NS_result_186 (fun H locs hq => ?_)
    have hn := hn.ke (hWl_ke est2)
    have hmr := hmr.ke (hWl_ke est2)
    refine lv_goto (tgt := 263) hx hb d_x_NS_result_187 (by decide) ?_
    exact w_x_NS_result_J263 X hK nm_given M_given hKg hq hn (lv_sub hl [2, 3, 4, 5, 0, 6] rfl) hk_11 hm_11 h
  · replace h := ifp c171 h
    refine lv_ldc2 (v := 1099511627776) hx hb hown (hts _ q_628) d_x_NS_result_174 ?_
    cases h
    exact hret_l X hq (hn.fit hle.rf) d_x_NS_result_177
theorem w_x_NS_result_J137 {r : Int64 × HS} {g_given : HS → Nat → Nat → Nat → Option (Int64 × HS)} {st : HS} {l0 : Nat} {l1 : Nat} {l2 : Nat} {l3 : Nat} {l4 : Int32} {l5 : Int32} {w0 : Int64} {k_11 : HS → Nat → Nat → Nat → Nat → Int32 → Int32 → Option (Int64 × HS)} {n0 s0 : Nat} {H : Heap} {locs : List Loc} {ce sl : Nat} {ls : Array Slot} (X : jx p s m args meth c b_x_NS_result 10 (some .long) "NoteSheet") (hK : 2 ≤ K) (nm_given : ∀ {st : HS} {this : Nat} {a1 : Nat} {a2 : Nat} {r : Int64 × HS}, g_given st this a1 a2 = some r → hle st r.2) (M_given : ∀ {st : HS} {this : Nat} {a1 : Nat} {a2 : Nat} {r : Int64 × HS}, g_given st this a1 a2 = some r → Met l y_x_NS_given (Cond.code y_x_NS_given b_x_NS_given 5 (some .long) :: lw_g) (rmL Kg (hNx r.2 - hNx st) (hNs r.2 - hNs st)) (hPc G A [.ref this, .ref a1, .ref a2] st) (hQc G A (some (.long r.1)) r.2) (hNx r.2 - hNx st) (hNs r.2 - hNs st) A) (hKg : Kg + 1 ≤ K) (hq : hC G A s st H locs) (hn : hN ce sl n0 s0 st) (hl : lv_has ls 10 [(0, .ref l0), (1, .ref l1), (2, .ref l2), (3, .ref l3), (4, .int l4), (5, .int l5)]) (hk_11 : ∀ (st : HS) (l0 : Nat) (l1 : Nat) (l2 : Nat) (l3 : Nat) (l4 : Int32) (l5 : Int32) (H : Heap) (locs : List Loc) (ce sl : Nat) (ls : Array Slot), k_11 st l0 l1 l2 l3 l4 l5 = some r → hC G A s st H locs → hN ce sl n0 s0 st → lv_has ls 10 [(0, .ref l0), (1, .ref l1), (2, .ref l2), (3, .ref l3), (4, .int l4), (5, .int l5)] → W p l e (rmL K (hNx r.2 - n0) (hNs r.2 - s0)) s m args below meth c H locs ce sl (MQ below (hQc G A (some (.long r.1)) r.2) args s (hNx r.2 - n0) (hNs r.2 - s0) A) (F0 m 11 ls [])) (hm_11 : ∀ (st : HS) (l0 : Nat) (l1 : Nat) (l2 : Nat) (l3 : Nat) (l4 : Int32) (l5 : Int32), k_11 st l0 l1 l2 l3 l4 l5 = some r → hle st r.2) (h : x_NS_result_J137 g_given k_11 st l0 l1 l2 l3 l4 l5 w0 = some r) : W p l e (rmL K (hNx r.2 - n0) (hNs r.2 - s0)) s m args below meth c H locs ce sl (MQ below (hQc G A (some (.long r.1)) r.2) args s (hNx r.2 - n0) (hNs r.2 - s0) A) (F0 m 137 ls [.long w0]) := by
  obtain ⟨hx, hb, hr, hml, hown, hts, hlocks⟩ := id X
  have hmr : hle st r.2 := n_x_NS_result_J137 nm_given hm_11 h
  unfold x_NS_result_J137 at h
  refine lv_goto (tgt := 163) hx hb d_x_NS_result_137 (by decide) ?_
  exact w_x_NS_result_J163 X hK nm_given M_given hKg hq hn (lv_sub hl [0, 1, 2, 3, 4, 5] rfl) hk_11 hm_11 h
theorem w_x_NS_result_L11 {r : Int64 × HS} {g_given : HS → Nat → Nat → Nat → Option (Int64 × HS)} {n0 s0 : Nat} (X : jx p s m args meth c b_x_NS_result 10 (some .long) "NoteSheet") (hK : 2 ≤ K) (nm_given : ∀ {st : HS} {this : Nat} {a1 : Nat} {a2 : Nat} {r : Int64 × HS}, g_given st this a1 a2 = some r → hle st r.2) (M_given : ∀ {st : HS} {this : Nat} {a1 : Nat} {a2 : Nat} {r : Int64 × HS}, g_given st this a1 a2 = some r → Met l y_x_NS_given (Cond.code y_x_NS_given b_x_NS_given 5 (some .long) :: lw_g) (rmL Kg (hNx r.2 - hNx st) (hNs r.2 - hNs st)) (hPc G A [.ref this, .ref a1, .ref a2] st) (hQc G A (some (.long r.1)) r.2) (hNx r.2 - hNx st) (hNs r.2 - hNs st) A) (hKg : Kg + 1 ≤ K) : ∀ (n : Nat), ∀ (st : HS) (l0 : Nat) (l1 : Nat) (l2 : Nat) (l3 : Nat) (l4 : Int32) (l5 : Int32) (H : Heap) (locs : List Loc) (ce sl : Nat) (ls : Array Slot), x_NS_result_L11 g_given n st l0 l1 l2 l3 l4 l5 = some r → hC G A s st H locs → hN ce sl n0 s0 st → lv_has ls 10 [(0, .ref l0), (1, .ref l1), (2, .ref l2), (3, .ref l3), (4, .int l4), (5, .int l5)] → W p l e (rmL K (hNx r.2 - n0) (hNs r.2 - s0)) s m args below meth c H locs ce sl (MQ below (hQc G A (some (.long r.1)) r.2) args s (hNx r.2 - n0) (hNs r.2 - s0) A) (F0 m 11 ls []) := by
  obtain ⟨hx, hb, hr, hml, hown, hts, hlocks⟩ := id X
  intro n
  induction n with
  | zero => intro st l0 l1 l2 l3 l4 l5 H locs ce sl ls h hq hn hl; exact absurd h (by simp [x_NS_result_L11])
  | succ n ih =>
    intro st l0 l1 l2 l3 l4 l5 H locs ce sl ls h hq hn hl
    have hmr : hle st r.2 := n_x_NS_result_L11 nm_given (n + 1) _ _ _ _ _ _ _ h
    rw [x_NS_result_L11] at h
    refine lv_iload hx hb d_x_NS_result_11 (lv_at hl 5 rfl) ?_
    refine lv_aload_n hx hb d_x_NS_result_13 rfl (lv_at hl 1 rfl) ?_
    replace h := obi h; obtain ⟨x1, ex1, h⟩ := h
    refine hgN_r X hq 2 1 rfl (by decide) ex1 qn_517 d_x_NS_result_14 ?_
    replace h := obi h; obtain ⟨ad2, rfl, h⟩ := h
    replace h := obi h; obtain ⟨x3, ex3, h⟩ := h
    refine ha_len X hq ex3 d_x_NS_result_17 ?_
    refine lv_icmp_ge (tgt := 266) hx hb d_x_NS_result_18 (by decide) (fun c18 => ?_) (fun c18 => ?_)
    · replace h := ifp c18 h
      refine lv_aload_n hx hb d_x_NS_result_266 rfl (lv_at hl 3 rfl) ?_
      refine lv_iconst (v := 0) hx hb d_x_NS_result_267 (by decide) ?_
      replace h := obi h; obtain ⟨x4, ex4, h⟩ := h
      refine ha_lld X hq ex4 d_x_NS_result_268 ?_
      cases h
      exact hret_l X hq (hn.fit hle.rf) d_x_NS_result_269
    · replace h := ifn c18 h
      refine lv_aload_n hx hb d_x_NS_result_21 rfl (lv_at hl 1 rfl) ?_
      replace h := obi h; obtain ⟨x5, ex5, h⟩ := h
      refine hgN_r X hq 2 2 rfl (by decide) ex5 qn_519 d_x_NS_result_22 ?_
      refine lv_iload hx hb d_x_NS_result_25 (lv_at hl 5 rfl) ?_
      replace h := obi h; obtain ⟨ad6, rfl, h⟩ := h
      replace h := obi h; obtain ⟨x7, ex7, h⟩ := h
      refine ha_ild X hq ex7 d_x_NS_result_27 ?_
      refine lv_istore (lv' := [(6, .int x7), (0, .ref l0), (1, .ref l1), (2, .ref l2), (3, .ref l3), (4, .int l4), (5, .int l5)]) hx hb d_x_NS_result_28 hl (by decide) rfl (fun ls hl => ?_)
      refine lv_aload_n hx hb d_x_NS_result_30 rfl (lv_at hl 2 rfl) ?_
      replace h := obi h; obtain ⟨x8, ex8, h⟩ := h
      refine hgN_r X hq 2 1 rfl (by decide) ex8 qn_517 d_x_NS_result_31 ?_
      refine lv_iload hx hb d_x_NS_result_34 (lv_at hl 6 rfl) ?_
      replace h := obi h; obtain ⟨ad9, rfl, h⟩ := h
      replace h := obi h; obtain ⟨x10, ex10, h⟩ := h
      refine ha_rld X hq 5 (by decide) ex10 d_x_NS_result_36 ?_
      refine lv_astoreq (lv' := [(7, va_rf x10), (6, .int x7), (0, .ref l0), (1, .ref l1), (2, .ref l2), (3, .ref l3), (4, .int l4), (5, .int l5)]) hx hb d_x_NS_result_37 hl (by decide) rfl (fun ls hl => ?_)
      replace h := obi h; obtain ⟨x11, ex11, h⟩ := h
      refine lv_iinc (v := x11) (lv' := [(5, .int x11), (7, va_rf x10), (6, .int x7), (0, .ref l0), (1, .ref l1), (2, .ref l2), (3, .ref l3), (4, .int l4)]) hx hb d_x_NS_result_39 hl (k := 7) rfl (Option.some.inj ex11) (by decide) rfl (fun ls hl => ?_)
      refine lv_aloadq hx hb d_x_NS_result_42 (lv_at hl 1 rfl) ?_
      replace h := obi h; obtain ⟨ad12, rfl, h⟩ := h
      replace h := obi h; obtain ⟨u13, eu13, h⟩ := h
      replace h := obi h; obtain ⟨x14, ex14, h⟩ := h
      refine hcallU (st' := st) (n := 0) X hq hle.rf (c_x_Enum_ordinal l 0 (Nat.le_refl _) G A ex14) (C := 8) rfl eu13 q_613 q_614 q_617 q_616 q_16 q_618 rfl ⟨by decide +kernel, by decide +kernel, by decide +kernel⟩ rfl (lvl (by omega) (by decide)) hl.1 rfl (Nat.le_of_ble_eq_true rfl) d_x_NS_result_44 (hn.fit hmr) (fun H locs hq => ?_)
      rcases Decidable.em (x14 = 0) with c47_0 | c47_0
      · replace h := ifp c47_0 h
        have hsw : x14.toInt = 0 := by rw [c47_0]; decide
        refine lv_tableIn (tgt := 104) hx hb d_x_NS_result_47 (by rw [hsw]; decide) (by rw [hsw]; decide) (by rw [hsw]; rfl) (by decide) ?_
        refine lv_aload_n hx hb d_x_NS_result_104 rfl (lv_at hl 6 rfl) ?_
        refine lv_iload hx hb d_x_NS_result_105 (lv_at hl 7 rfl) ?_
        replace h := obi h; obtain ⟨x15, ex15, h⟩ := h
        refine lv_iinc (v := x15) (lv' := [(4, .int x15), (5, .int x11), (7, .ref ad12), (6, .int x7), (0, .ref l0), (1, .ref l1), (2, .ref l2), (3, .ref l3)]) hx hb d_x_NS_result_107 hl (k := 7) rfl (Option.some.inj ex15) (by decide) rfl (fun ls hl => ?_)
        refine lv_iload hx hb d_x_NS_result_110 (lv_at hl 3 rfl) ?_
        refine lv_i2l (v := _) hx hb d_x_NS_result_112 rfl ?_
        replace h := obi h; obtain ⟨st16, est16, h⟩ := h
        refine ha_lst X hq est16 d_x_NS_result_113 (fun H locs hq => ?_)
        have hn := hn.ke (hWl_ke est16)
        have hmr := hmr.ke (hWl_ke est16)
        refine lv_goto (tgt := 263) hx hb d_x_NS_result_114 (by decide) ?_
        exact w_x_NS_result_J263 X hK nm_given M_given hKg hq hn (lv_sub hl [4, 5, 6, 7, 0, 1] rfl) ih (n_x_NS_result_L11 nm_given n) h
      replace h := ifn c47_0 h
      have ec47_0 := i32_ne c47_0
      rcases Decidable.em (x14 = 1) with c47_1 | c47_1
      · replace h := ifp c47_1 h
        have hsw : x14.toInt = 1 := by rw [c47_1]; decide
        refine lv_tableIn (tgt := 117) hx hb d_x_NS_result_47 (by rw [hsw]; decide) (by rw [hsw]; decide) (by rw [hsw]; rfl) (by decide) ?_
        refine lv_aload hx hb d_x_NS_result_117 (lv_at hl 1 rfl) ?_
        refine hs_op X hq 1 (by decide) rfl q_619 d_x_NS_result_119 ?_
        refine lv_acmp_ne (rx := (some ad12)) (ry := (some (hKc st 1))) (tgt := 140) hx hb d_x_NS_result_122 (by decide) (fun c122 => ?_) (fun c122 => ?_)
        · replace h := ifn c122 h
          refine lv_aload_n hx hb d_x_NS_result_140 rfl (lv_at hl 3 rfl) ?_
          refine lv_aload_n hx hb d_x_NS_result_141 rfl (lv_at hl 3 rfl) ?_
          replace h := obi h; obtain ⟨x17, ex17, h⟩ := h
          refine hg_r X hq 0 1 rfl (by decide) ex17 q_140 d_x_NS_result_142 ?_
          refine lv_aload_n hx hb d_x_NS_result_145 rfl (lv_at hl 6 rfl) ?_
          replace h := obi h; obtain ⟨x18, ex18, h⟩ := h
          refine lv_iinc (v := x18) (lv' := [(4, .int x18), (5, .int x11), (7, .ref ad12), (6, .int x7), (0, .ref l0), (1, .ref l1), (2, .ref l2), (3, .ref l3)]) hx hb d_x_NS_result_146 hl (k := 7) rfl (Option.some.inj ex18) (by decide) rfl (fun ls hl => ?_)
          refine lv_iload hx hb d_x_NS_result_149 (lv_at hl 0 rfl) ?_
          replace h := obi h; obtain ⟨x19, ex19, h⟩ := h
          refine ha_lld X hq ex19 d_x_NS_result_151 ?_
          refine lv_l2i (v := _) hx hb d_x_NS_result_152 rfl ?_
          refine lv_bipush (v := 12) hx hb d_x_NS_result_153 (by decide) ?_
          replace h := obi h; obtain ⟨x20, ex20, h⟩ := h
          refine hcallS (st' := st) (n := 2) X hq hle.rf (c_x_Math_floorMod l 0 (Nat.le_refl _) G A ex20) q_629 q_630 q_10 q_631 ok_x_Math_floorMod rfl (lvl (by omega) (by decide)) hl.1 rfl (by simp only [List.map_cons, List.map_nil, List.sum_cons, List.sum_nil, rf_cat]; simp [Value.category]) d_x_NS_result_155 (hn.fit hmr) (fun H locs hq => ?_)
          replace h := obi h; obtain ⟨ad21, rfl, h⟩ := h
          replace h := obi h; obtain ⟨x22, ex22, h⟩ := h
          refine ha_rld X hq 4 (by decide) ex22 d_x_NS_result_158 ?_
          refine lv_aload_n hx hb d_x_NS_result_159 rfl (lv_at hl 6 rfl) ?_
          replace h := obi h; obtain ⟨ad23, rfl, h⟩ := h
          replace h := obi h; obtain ⟨u24, eu24, h⟩ := h
          replace h := obi h; obtain ⟨q25, eq25, h⟩ := h
          have hn2 := hn.call (nm_given eq25)
          have hmr := n_x_NS_result_J163 nm_given (n_x_NS_result_L11 nm_given n) h
          refine hcallV (n := 2) X hq (nm_given eq25) (M_given eq25) (C := 0) rfl eu24 q_620 q_622 q_p18 q_1 q_623 ok_x_NS_given rfl (lvl (by omega) (by decide)) hl.1 rfl (Nat.le_of_ble_eq_true rfl) d_x_NS_result_160 (hn2.fit hmr) (fun H locs hq => ?_)
          have hn := hn2
          exact w_x_NS_result_J163 X hK nm_given M_given hKg hq hn (lv_sub hl [4, 5, 6, 7, 0, 1] rfl) ih (n_x_NS_result_L11 nm_given n) h
        · replace h := ifp c122 h
          refine lv_aload_n hx hb d_x_NS_result_125 rfl (lv_at hl 3 rfl) ?_
          refine lv_aload_n hx hb d_x_NS_result_126 rfl (lv_at hl 3 rfl) ?_
          replace h := obi h; obtain ⟨x26, ex26, h⟩ := h
          refine hg_r X hq 0 1 rfl (by decide) ex26 q_140 d_x_NS_result_127 ?_
          refine lv_iload hx hb d_x_NS_result_130 (lv_at hl 2 rfl) ?_
          replace h := obi h; obtain ⟨ad27, rfl, h⟩ := h
          replace h := obi h; obtain ⟨x28, ex28, h⟩ := h
          refine ha_rld X hq 4 (by decide) ex28 d_x_NS_result_132 ?_
          refine lv_aload_n hx hb d_x_NS_result_133 rfl (lv_at hl 5 rfl) ?_
          replace h := obi h; obtain ⟨ad29, rfl, h⟩ := h
          replace h := obi h; obtain ⟨u30, eu30, h⟩ := h
          replace h := obi h; obtain ⟨q31, eq31, h⟩ := h
          have hn2 := hn.call (nm_given eq31)
          have hmr := n_x_NS_result_J137 nm_given (n_x_NS_result_L11 nm_given n) h
          refine hcallV (n := 2) X hq (nm_given eq31) (M_given eq31) (C := 0) rfl eu30 q_620 q_622 q_p18 q_1 q_623 ok_x_NS_given rfl (lvl (by omega) (by decide)) hl.1 rfl (Nat.le_of_ble_eq_true rfl) d_x_NS_result_134 (hn2.fit hmr) (fun H locs hq => ?_)
          have hn := hn2
          exact w_x_NS_result_J137 X hK nm_given M_given hKg hq hn (lv_sub hl [3, 4, 5, 6, 7, 0] rfl) ih (n_x_NS_result_L11 nm_given n) h
      replace h := ifn c47_1 h
      have ec47_1 := i32_ne c47_1
      rcases Decidable.em (x14 = 2) with c47_2 | c47_2
      · replace h := ifp c47_2 h
        have hsw : x14.toInt = 2 := by rw [c47_2]; decide
        refine lv_tableIn (tgt := 117) hx hb d_x_NS_result_47 (by rw [hsw]; decide) (by rw [hsw]; decide) (by rw [hsw]; rfl) (by decide) ?_
        refine lv_aload hx hb d_x_NS_result_117 (lv_at hl 1 rfl) ?_
        refine hs_op X hq 1 (by decide) rfl q_619 d_x_NS_result_119 ?_
        refine lv_acmp_ne (rx := (some ad12)) (ry := (some (hKc st 1))) (tgt := 140) hx hb d_x_NS_result_122 (by decide) (fun c122 => ?_) (fun c122 => ?_)
        · replace h := ifn c122 h
          refine lv_aload_n hx hb d_x_NS_result_140 rfl (lv_at hl 3 rfl) ?_
          refine lv_aload_n hx hb d_x_NS_result_141 rfl (lv_at hl 3 rfl) ?_
          replace h := obi h; obtain ⟨x32, ex32, h⟩ := h
          refine hg_r X hq 0 1 rfl (by decide) ex32 q_140 d_x_NS_result_142 ?_
          refine lv_aload_n hx hb d_x_NS_result_145 rfl (lv_at hl 6 rfl) ?_
          replace h := obi h; obtain ⟨x33, ex33, h⟩ := h
          refine lv_iinc (v := x33) (lv' := [(4, .int x33), (5, .int x11), (7, .ref ad12), (6, .int x7), (0, .ref l0), (1, .ref l1), (2, .ref l2), (3, .ref l3)]) hx hb d_x_NS_result_146 hl (k := 7) rfl (Option.some.inj ex33) (by decide) rfl (fun ls hl => ?_)
          refine lv_iload hx hb d_x_NS_result_149 (lv_at hl 0 rfl) ?_
          replace h := obi h; obtain ⟨x34, ex34, h⟩ := h
          refine ha_lld X hq ex34 d_x_NS_result_151 ?_
          refine lv_l2i (v := _) hx hb d_x_NS_result_152 rfl ?_
          refine lv_bipush (v := 12) hx hb d_x_NS_result_153 (by decide) ?_
          replace h := obi h; obtain ⟨x35, ex35, h⟩ := h
          refine hcallS (st' := st) (n := 2) X hq hle.rf (c_x_Math_floorMod l 0 (Nat.le_refl _) G A ex35) q_629 q_630 q_10 q_631 ok_x_Math_floorMod rfl (lvl (by omega) (by decide)) hl.1 rfl (by simp only [List.map_cons, List.map_nil, List.sum_cons, List.sum_nil, rf_cat]; simp [Value.category]) d_x_NS_result_155 (hn.fit hmr) (fun H locs hq => ?_)
          replace h := obi h; obtain ⟨ad36, rfl, h⟩ := h
          replace h := obi h; obtain ⟨x37, ex37, h⟩ := h
          refine ha_rld X hq 4 (by decide) ex37 d_x_NS_result_158 ?_
          refine lv_aload_n hx hb d_x_NS_result_159 rfl (lv_at hl 6 rfl) ?_
          replace h := obi h; obtain ⟨ad38, rfl, h⟩ := h
          replace h := obi h; obtain ⟨u39, eu39, h⟩ := h
          replace h := obi h; obtain ⟨q40, eq40, h⟩ := h
          have hn2 := hn.call (nm_given eq40)
          have hmr := n_x_NS_result_J163 nm_given (n_x_NS_result_L11 nm_given n) h
          refine hcallV (n := 2) X hq (nm_given eq40) (M_given eq40) (C := 0) rfl eu39 q_620 q_622 q_p18 q_1 q_623 ok_x_NS_given rfl (lvl (by omega) (by decide)) hl.1 rfl (Nat.le_of_ble_eq_true rfl) d_x_NS_result_160 (hn2.fit hmr) (fun H locs hq => ?_)
          have hn := hn2
          exact w_x_NS_result_J163 X hK nm_given M_given hKg hq hn (lv_sub hl [4, 5, 6, 7, 0, 1] rfl) ih (n_x_NS_result_L11 nm_given n) h
        · replace h := ifp c122 h
          refine lv_aload_n hx hb d_x_NS_result_125 rfl (lv_at hl 3 rfl) ?_
          refine lv_aload_n hx hb d_x_NS_result_126 rfl (lv_at hl 3 rfl) ?_
          replace h := obi h; obtain ⟨x41, ex41, h⟩ := h
          refine hg_r X hq 0 1 rfl (by decide) ex41 q_140 d_x_NS_result_127 ?_
          refine lv_iload hx hb d_x_NS_result_130 (lv_at hl 2 rfl) ?_
          replace h := obi h; obtain ⟨ad42, rfl, h⟩ := h
          replace h := obi h; obtain ⟨x43, ex43, h⟩ := h
          refine ha_rld X hq 4 (by decide) ex43 d_x_NS_result_132 ?_
          refine lv_aload_n hx hb d_x_NS_result_133 rfl (lv_at hl 5 rfl) ?_
          replace h := obi h; obtain ⟨ad44, rfl, h⟩ := h
          replace h := obi h; obtain ⟨u45, eu45, h⟩ := h
          replace h := obi h; obtain ⟨q46, eq46, h⟩ := h
          have hn2 := hn.call (nm_given eq46)
          have hmr := n_x_NS_result_J137 nm_given (n_x_NS_result_L11 nm_given n) h
          refine hcallV (n := 2) X hq (nm_given eq46) (M_given eq46) (C := 0) rfl eu45 q_620 q_622 q_p18 q_1 q_623 ok_x_NS_given rfl (lvl (by omega) (by decide)) hl.1 rfl (Nat.le_of_ble_eq_true rfl) d_x_NS_result_134 (hn2.fit hmr) (fun H locs hq => ?_)
          have hn := hn2
          exact w_x_NS_result_J137 X hK nm_given M_given hKg hq hn (lv_sub hl [3, 4, 5, 6, 7, 0] rfl) ih (n_x_NS_result_L11 nm_given n) h
      replace h := ifn c47_2 h
      have ec47_2 := i32_ne c47_2
      rcases Decidable.em (x14 = 3) with c47_3 | c47_3
      · replace h := ifp c47_3 h
        have hsw : x14.toInt = 3 := by rw [c47_3]; decide
        refine lv_tableIn (tgt := 239) hx hb d_x_NS_result_47 (by rw [hsw]; decide) (by rw [hsw]; decide) (by rw [hsw]; rfl) (by decide) ?_
        replace h := obi h; obtain ⟨x47, ex47, h⟩ := h
        refine lv_iinc (v := x47) (lv' := [(4, .int x47), (5, .int x11), (7, .ref ad12), (6, .int x7), (0, .ref l0), (1, .ref l1), (2, .ref l2), (3, .ref l3)]) hx hb d_x_NS_result_239 hl (k := 7) rfl (Option.some.inj ex47) (by decide) rfl (fun ls hl => ?_)
        refine lv_aload_n hx hb d_x_NS_result_242 rfl (lv_at hl 7 rfl) ?_
        refine lv_iload hx hb d_x_NS_result_243 (lv_at hl 0 rfl) ?_
        refine lv_iconst (v := 1) hx hb d_x_NS_result_245 (by decide) ?_
        refine lv_isub hx hb d_x_NS_result_246 ?_
        refine lv_aload hx hb d_x_NS_result_247 (lv_at hl 2 rfl) ?_
        refine lv_aload_n hx hb d_x_NS_result_249 rfl (lv_at hl 7 rfl) ?_
        refine lv_iload hx hb d_x_NS_result_250 (lv_at hl 0 rfl) ?_
        refine lv_iconst (v := 1) hx hb d_x_NS_result_252 (by decide) ?_
        refine lv_isub hx hb d_x_NS_result_253 ?_
        replace h := obi h; obtain ⟨x48, ex48, h⟩ := h
        refine ha_lld X hq ex48 d_x_NS_result_254 ?_
        refine lv_aload_n hx hb d_x_NS_result_255 rfl (lv_at hl 7 rfl) ?_
        refine lv_iload hx hb d_x_NS_result_256 (lv_at hl 0 rfl) ?_
        replace h := obi h; obtain ⟨x49, ex49, h⟩ := h
        refine ha_lld X hq ex49 d_x_NS_result_258 ?_
        replace h := obi h; obtain ⟨x50, ex50, h⟩ := h
        refine hcallS (st' := st) (n := 3) X hq hle.rf (c_x_NS_both l 1 (Nat.le_refl _) G A ex50) q_632 q_633 q_1 q_634 ok_x_NS_both rfl (lvl (by omega) (by decide)) hl.1 rfl (Nat.le_of_ble_eq_true rfl) d_x_NS_result_259 (hn.fit hmr) (fun H locs hq => ?_)
        replace h := obi h; obtain ⟨st51, est51, h⟩ := h
        refine ha_lst X hq est51 d_x_NS_result_262 (fun H locs hq => ?_)
        have hn := hn.ke (hWl_ke est51)
        have hmr := hmr.ke (hWl_ke est51)
        exact w_x_NS_result_J263 X hK nm_given M_given hKg hq hn (lv_sub hl [4, 5, 6, 7, 0, 1] rfl) ih (n_x_NS_result_L11 nm_given n) h
      replace h := ifn c47_3 h
      have ec47_3 := i32_ne c47_3
      rcases Decidable.em (x14 = 4) with c47_4 | c47_4
      · replace h := ifp c47_4 h
        have hsw : x14.toInt = 4 := by rw [c47_4]; decide
        refine lv_tableIn (tgt := 239) hx hb d_x_NS_result_47 (by rw [hsw]; decide) (by rw [hsw]; decide) (by rw [hsw]; rfl) (by decide) ?_
        replace h := obi h; obtain ⟨x52, ex52, h⟩ := h
        refine lv_iinc (v := x52) (lv' := [(4, .int x52), (5, .int x11), (7, .ref ad12), (6, .int x7), (0, .ref l0), (1, .ref l1), (2, .ref l2), (3, .ref l3)]) hx hb d_x_NS_result_239 hl (k := 7) rfl (Option.some.inj ex52) (by decide) rfl (fun ls hl => ?_)
        refine lv_aload_n hx hb d_x_NS_result_242 rfl (lv_at hl 7 rfl) ?_
        refine lv_iload hx hb d_x_NS_result_243 (lv_at hl 0 rfl) ?_
        refine lv_iconst (v := 1) hx hb d_x_NS_result_245 (by decide) ?_
        refine lv_isub hx hb d_x_NS_result_246 ?_
        refine lv_aload hx hb d_x_NS_result_247 (lv_at hl 2 rfl) ?_
        refine lv_aload_n hx hb d_x_NS_result_249 rfl (lv_at hl 7 rfl) ?_
        refine lv_iload hx hb d_x_NS_result_250 (lv_at hl 0 rfl) ?_
        refine lv_iconst (v := 1) hx hb d_x_NS_result_252 (by decide) ?_
        refine lv_isub hx hb d_x_NS_result_253 ?_
        replace h := obi h; obtain ⟨x53, ex53, h⟩ := h
        refine ha_lld X hq ex53 d_x_NS_result_254 ?_
        refine lv_aload_n hx hb d_x_NS_result_255 rfl (lv_at hl 7 rfl) ?_
        refine lv_iload hx hb d_x_NS_result_256 (lv_at hl 0 rfl) ?_
        replace h := obi h; obtain ⟨x54, ex54, h⟩ := h
        refine ha_lld X hq ex54 d_x_NS_result_258 ?_
        replace h := obi h; obtain ⟨x55, ex55, h⟩ := h
        refine hcallS (st' := st) (n := 3) X hq hle.rf (c_x_NS_both l 1 (Nat.le_refl _) G A ex55) q_632 q_633 q_1 q_634 ok_x_NS_both rfl (lvl (by omega) (by decide)) hl.1 rfl (Nat.le_of_ble_eq_true rfl) d_x_NS_result_259 (hn.fit hmr) (fun H locs hq => ?_)
        replace h := obi h; obtain ⟨st56, est56, h⟩ := h
        refine ha_lst X hq est56 d_x_NS_result_262 (fun H locs hq => ?_)
        have hn := hn.ke (hWl_ke est56)
        have hmr := hmr.ke (hWl_ke est56)
        exact w_x_NS_result_J263 X hK nm_given M_given hKg hq hn (lv_sub hl [4, 5, 6, 7, 0, 1] rfl) ih (n_x_NS_result_L11 nm_given n) h
      replace h := ifn c47_4 h
      have ec47_4 := i32_ne c47_4
      rcases Decidable.em (x14 = 5) with c47_5 | c47_5
      · replace h := ifp c47_5 h
        have hsw : x14.toInt = 5 := by rw [c47_5]; decide
        refine lv_tableIn (tgt := 239) hx hb d_x_NS_result_47 (by rw [hsw]; decide) (by rw [hsw]; decide) (by rw [hsw]; rfl) (by decide) ?_
        replace h := obi h; obtain ⟨x57, ex57, h⟩ := h
        refine lv_iinc (v := x57) (lv' := [(4, .int x57), (5, .int x11), (7, .ref ad12), (6, .int x7), (0, .ref l0), (1, .ref l1), (2, .ref l2), (3, .ref l3)]) hx hb d_x_NS_result_239 hl (k := 7) rfl (Option.some.inj ex57) (by decide) rfl (fun ls hl => ?_)
        refine lv_aload_n hx hb d_x_NS_result_242 rfl (lv_at hl 7 rfl) ?_
        refine lv_iload hx hb d_x_NS_result_243 (lv_at hl 0 rfl) ?_
        refine lv_iconst (v := 1) hx hb d_x_NS_result_245 (by decide) ?_
        refine lv_isub hx hb d_x_NS_result_246 ?_
        refine lv_aload hx hb d_x_NS_result_247 (lv_at hl 2 rfl) ?_
        refine lv_aload_n hx hb d_x_NS_result_249 rfl (lv_at hl 7 rfl) ?_
        refine lv_iload hx hb d_x_NS_result_250 (lv_at hl 0 rfl) ?_
        refine lv_iconst (v := 1) hx hb d_x_NS_result_252 (by decide) ?_
        refine lv_isub hx hb d_x_NS_result_253 ?_
        replace h := obi h; obtain ⟨x58, ex58, h⟩ := h
        refine ha_lld X hq ex58 d_x_NS_result_254 ?_
        refine lv_aload_n hx hb d_x_NS_result_255 rfl (lv_at hl 7 rfl) ?_
        refine lv_iload hx hb d_x_NS_result_256 (lv_at hl 0 rfl) ?_
        replace h := obi h; obtain ⟨x59, ex59, h⟩ := h
        refine ha_lld X hq ex59 d_x_NS_result_258 ?_
        replace h := obi h; obtain ⟨x60, ex60, h⟩ := h
        refine hcallS (st' := st) (n := 3) X hq hle.rf (c_x_NS_both l 1 (Nat.le_refl _) G A ex60) q_632 q_633 q_1 q_634 ok_x_NS_both rfl (lvl (by omega) (by decide)) hl.1 rfl (Nat.le_of_ble_eq_true rfl) d_x_NS_result_259 (hn.fit hmr) (fun H locs hq => ?_)
        replace h := obi h; obtain ⟨st61, est61, h⟩ := h
        refine ha_lst X hq est61 d_x_NS_result_262 (fun H locs hq => ?_)
        have hn := hn.ke (hWl_ke est61)
        have hmr := hmr.ke (hWl_ke est61)
        exact w_x_NS_result_J263 X hK nm_given M_given hKg hq hn (lv_sub hl [4, 5, 6, 7, 0, 1] rfl) ih (n_x_NS_result_L11 nm_given n) h
      replace h := ifn c47_5 h
      have ec47_5 := i32_ne c47_5
      rcases Decidable.em (x14 = 6) with c47_6 | c47_6
      · replace h := ifp c47_6 h
        have hsw : x14.toInt = 6 := by rw [c47_6]; decide
        refine lv_tableIn (tgt := 190) hx hb d_x_NS_result_47 (by rw [hsw]; decide) (by rw [hsw]; decide) (by rw [hsw]; rfl) (by decide) ?_
        refine lv_aload_n hx hb d_x_NS_result_190 rfl (lv_at hl 6 rfl) ?_
        refine lv_iload hx hb d_x_NS_result_191 (lv_at hl 7 rfl) ?_
        refine lv_iconst (v := 1) hx hb d_x_NS_result_193 (by decide) ?_
        refine lv_isub hx hb d_x_NS_result_194 ?_
        refine lv_aload_n hx hb d_x_NS_result_195 rfl (lv_at hl 6 rfl) ?_
        refine lv_iload hx hb d_x_NS_result_196 (lv_at hl 7 rfl) ?_
        refine lv_iconst (v := 1) hx hb d_x_NS_result_198 (by decide) ?_
        refine lv_isub hx hb d_x_NS_result_199 ?_
        replace h := obi h; obtain ⟨x62, ex62, h⟩ := h
        refine ha_lld X hq ex62 d_x_NS_result_200 ?_
        refine lv_lneg hx hb d_x_NS_result_201 ?_
        refine lv_l2i (v := _) hx hb d_x_NS_result_202 rfl ?_
        refine lv_i2l (v := _) hx hb d_x_NS_result_203 rfl ?_
        replace h := obi h; obtain ⟨st63, est63, h⟩ := h
        refine ha_lst X hq est63 d_x_NS_result_204 (fun H locs hq => ?_)
        have hn := hn.ke (hWl_ke est63)
        have hmr := hmr.ke (hWl_ke est63)
        refine lv_goto (tgt := 263) hx hb d_x_NS_result_205 (by decide) ?_
        exact w_x_NS_result_J263 X hK nm_given M_given hKg hq hn (lv_sub hl [3, 4, 5, 6, 7, 0] rfl) ih (n_x_NS_result_L11 nm_given n) h
      replace h := ifn c47_6 h
      have ec47_6 := i32_ne c47_6
      rcases Decidable.em (x14 = 7) with c47_7 | c47_7
      · replace h := ifp c47_7 h
        have hsw : x14.toInt = 7 := by rw [c47_7]; decide
        refine lv_tableIn (tgt := 239) hx hb d_x_NS_result_47 (by rw [hsw]; decide) (by rw [hsw]; decide) (by rw [hsw]; rfl) (by decide) ?_
        replace h := obi h; obtain ⟨x64, ex64, h⟩ := h
        refine lv_iinc (v := x64) (lv' := [(4, .int x64), (5, .int x11), (7, .ref ad12), (6, .int x7), (0, .ref l0), (1, .ref l1), (2, .ref l2), (3, .ref l3)]) hx hb d_x_NS_result_239 hl (k := 7) rfl (Option.some.inj ex64) (by decide) rfl (fun ls hl => ?_)
        refine lv_aload_n hx hb d_x_NS_result_242 rfl (lv_at hl 7 rfl) ?_
        refine lv_iload hx hb d_x_NS_result_243 (lv_at hl 0 rfl) ?_
        refine lv_iconst (v := 1) hx hb d_x_NS_result_245 (by decide) ?_
        refine lv_isub hx hb d_x_NS_result_246 ?_
        refine lv_aload hx hb d_x_NS_result_247 (lv_at hl 2 rfl) ?_
        refine lv_aload_n hx hb d_x_NS_result_249 rfl (lv_at hl 7 rfl) ?_
        refine lv_iload hx hb d_x_NS_result_250 (lv_at hl 0 rfl) ?_
        refine lv_iconst (v := 1) hx hb d_x_NS_result_252 (by decide) ?_
        refine lv_isub hx hb d_x_NS_result_253 ?_
        replace h := obi h; obtain ⟨x65, ex65, h⟩ := h
        refine ha_lld X hq ex65 d_x_NS_result_254 ?_
        refine lv_aload_n hx hb d_x_NS_result_255 rfl (lv_at hl 7 rfl) ?_
        refine lv_iload hx hb d_x_NS_result_256 (lv_at hl 0 rfl) ?_
        replace h := obi h; obtain ⟨x66, ex66, h⟩ := h
        refine ha_lld X hq ex66 d_x_NS_result_258 ?_
        replace h := obi h; obtain ⟨x67, ex67, h⟩ := h
        refine hcallS (st' := st) (n := 3) X hq hle.rf (c_x_NS_both l 1 (Nat.le_refl _) G A ex67) q_632 q_633 q_1 q_634 ok_x_NS_both rfl (lvl (by omega) (by decide)) hl.1 rfl (Nat.le_of_ble_eq_true rfl) d_x_NS_result_259 (hn.fit hmr) (fun H locs hq => ?_)
        replace h := obi h; obtain ⟨st68, est68, h⟩ := h
        refine ha_lst X hq est68 d_x_NS_result_262 (fun H locs hq => ?_)
        have hn := hn.ke (hWl_ke est68)
        have hmr := hmr.ke (hWl_ke est68)
        exact w_x_NS_result_J263 X hK nm_given M_given hKg hq hn (lv_sub hl [4, 5, 6, 7, 0, 1] rfl) ih (n_x_NS_result_L11 nm_given n) h
      replace h := ifn c47_7 h
      have ec47_7 := i32_ne c47_7
      rcases Decidable.em (x14 = 8) with c47_8 | c47_8
      · replace h := ifp c47_8 h
        have hsw : x14.toInt = 8 := by rw [c47_8]; decide
        refine lv_tableIn (tgt := 239) hx hb d_x_NS_result_47 (by rw [hsw]; decide) (by rw [hsw]; decide) (by rw [hsw]; rfl) (by decide) ?_
        replace h := obi h; obtain ⟨x69, ex69, h⟩ := h
        refine lv_iinc (v := x69) (lv' := [(4, .int x69), (5, .int x11), (7, .ref ad12), (6, .int x7), (0, .ref l0), (1, .ref l1), (2, .ref l2), (3, .ref l3)]) hx hb d_x_NS_result_239 hl (k := 7) rfl (Option.some.inj ex69) (by decide) rfl (fun ls hl => ?_)
        refine lv_aload_n hx hb d_x_NS_result_242 rfl (lv_at hl 7 rfl) ?_
        refine lv_iload hx hb d_x_NS_result_243 (lv_at hl 0 rfl) ?_
        refine lv_iconst (v := 1) hx hb d_x_NS_result_245 (by decide) ?_
        refine lv_isub hx hb d_x_NS_result_246 ?_
        refine lv_aload hx hb d_x_NS_result_247 (lv_at hl 2 rfl) ?_
        refine lv_aload_n hx hb d_x_NS_result_249 rfl (lv_at hl 7 rfl) ?_
        refine lv_iload hx hb d_x_NS_result_250 (lv_at hl 0 rfl) ?_
        refine lv_iconst (v := 1) hx hb d_x_NS_result_252 (by decide) ?_
        refine lv_isub hx hb d_x_NS_result_253 ?_
        replace h := obi h; obtain ⟨x70, ex70, h⟩ := h
        refine ha_lld X hq ex70 d_x_NS_result_254 ?_
        refine lv_aload_n hx hb d_x_NS_result_255 rfl (lv_at hl 7 rfl) ?_
        refine lv_iload hx hb d_x_NS_result_256 (lv_at hl 0 rfl) ?_
        replace h := obi h; obtain ⟨x71, ex71, h⟩ := h
        refine ha_lld X hq ex71 d_x_NS_result_258 ?_
        replace h := obi h; obtain ⟨x72, ex72, h⟩ := h
        refine hcallS (st' := st) (n := 3) X hq hle.rf (c_x_NS_both l 1 (Nat.le_refl _) G A ex72) q_632 q_633 q_1 q_634 ok_x_NS_both rfl (lvl (by omega) (by decide)) hl.1 rfl (Nat.le_of_ble_eq_true rfl) d_x_NS_result_259 (hn.fit hmr) (fun H locs hq => ?_)
        replace h := obi h; obtain ⟨st73, est73, h⟩ := h
        refine ha_lst X hq est73 d_x_NS_result_262 (fun H locs hq => ?_)
        have hn := hn.ke (hWl_ke est73)
        have hmr := hmr.ke (hWl_ke est73)
        exact w_x_NS_result_J263 X hK nm_given M_given hKg hq hn (lv_sub hl [4, 5, 6, 7, 0, 1] rfl) ih (n_x_NS_result_L11 nm_given n) h
      replace h := ifn c47_8 h
      have ec47_8 := i32_ne c47_8
      rcases Decidable.em (x14 = 9) with c47_9 | c47_9
      · replace h := ifp c47_9 h
        have hsw : x14.toInt = 9 := by rw [c47_9]; decide
        refine lv_tableIn (tgt := 208) hx hb d_x_NS_result_47 (by rw [hsw]; decide) (by rw [hsw]; decide) (by rw [hsw]; rfl) (by decide) ?_
        refine lv_aload_n hx hb d_x_NS_result_208 rfl (lv_at hl 6 rfl) ?_
        replace h := obi h; obtain ⟨x74, ex74, h⟩ := h
        refine lv_iinc (v := x74) (lv' := [(4, .int x74), (5, .int x11), (7, .ref ad12), (6, .int x7), (0, .ref l0), (1, .ref l1), (2, .ref l2), (3, .ref l3)]) hx hb d_x_NS_result_209 hl (k := 7) rfl (Option.some.inj ex74) (by decide) rfl (fun ls hl => ?_)
        refine lv_iload hx hb d_x_NS_result_212 (lv_at hl 0 rfl) ?_
        replace h := obi h; obtain ⟨x75, ex75, h⟩ := h
        refine ha_lld X hq ex75 d_x_NS_result_214 ?_
        refine lv_lconst (v := 0) hx hb d_x_NS_result_215 (by decide) ?_
        refine W.lcmp hx hb d_x_NS_result_216 ?_
        refine lv_if_eq (tgt := 225) hx hb d_x_NS_result_217 (by decide) (fun c217 => ?_) (fun c217 => ?_)
        · replace h := ifp c217 h
          refine lv_iload hx hb d_x_NS_result_225 (lv_at hl 3 rfl) ?_
          exact w_x_NS_result_J227 X hK nm_given M_given hKg hq hn (lv_sub hl [4, 5, 6, 7, 0] rfl) ih (n_x_NS_result_L11 nm_given n) h
        · replace h := ifn c217 h
          refine lv_iload hx hb d_x_NS_result_220 (lv_at hl 1 rfl) ?_
          refine lv_goto (tgt := 227) hx hb d_x_NS_result_222 (by decide) ?_
          exact w_x_NS_result_J227 X hK nm_given M_given hKg hq hn (lv_sub hl [4, 5, 6, 7, 0] rfl) ih (n_x_NS_result_L11 nm_given n) h
      replace h := ifn c47_9 h
      have ec47_9 := i32_ne c47_9
      rcases Decidable.em (x14 = 10) with c47_10 | c47_10
      · replace h := ifp c47_10 h
        have hsw : x14.toInt = 10 := by rw [c47_10]; decide
        refine lv_tableIn (tgt := 232) hx hb d_x_NS_result_47 (by rw [hsw]; decide) (by rw [hsw]; decide) (by rw [hsw]; rfl) (by decide) ?_
        refine lv_iload hx hb d_x_NS_result_232 (lv_at hl 2 rfl) ?_
        refine lv_istore (lv' := [(5, .int x7), (7, .ref ad12), (6, .int x7), (0, .ref l0), (1, .ref l1), (2, .ref l2), (3, .ref l3), (4, .int l4)]) hx hb d_x_NS_result_234 hl (by decide) rfl (fun ls hl => ?_)
        refine lv_goto (tgt := 263) hx hb d_x_NS_result_236 (by decide) ?_
        exact w_x_NS_result_J263 X hK nm_given M_given hKg hq hn (lv_sub hl [3, 4, 5, 6, 7, 0] rfl) ih (n_x_NS_result_L11 nm_given n) h
      replace h := ifn c47_10 h
      have ec47_10 := i32_ne c47_10
      rw [show (0 : Int32).toInt = 0 by decide] at ec47_0
      rw [show (1 : Int32).toInt = 1 by decide] at ec47_1
      rw [show (2 : Int32).toInt = 2 by decide] at ec47_2
      rw [show (3 : Int32).toInt = 3 by decide] at ec47_3
      rw [show (4 : Int32).toInt = 4 by decide] at ec47_4
      rw [show (5 : Int32).toInt = 5 by decide] at ec47_5
      rw [show (6 : Int32).toInt = 6 by decide] at ec47_6
      rw [show (7 : Int32).toInt = 7 by decide] at ec47_7
      rw [show (8 : Int32).toInt = 8 by decide] at ec47_8
      rw [show (9 : Int32).toInt = 9 by decide] at ec47_9
      rw [show (10 : Int32).toInt = 10 by decide] at ec47_10
      refine lv_tableOut (tgt := 239) hx hb d_x_NS_result_47 (by omega) (by decide) ?_
      replace h := obi h; obtain ⟨x76, ex76, h⟩ := h
      refine lv_iinc (v := x76) (lv' := [(4, .int x76), (5, .int x11), (7, .ref ad12), (6, .int x7), (0, .ref l0), (1, .ref l1), (2, .ref l2), (3, .ref l3)]) hx hb d_x_NS_result_239 hl (k := 7) rfl (Option.some.inj ex76) (by decide) rfl (fun ls hl => ?_)
      refine lv_aload_n hx hb d_x_NS_result_242 rfl (lv_at hl 7 rfl) ?_
      refine lv_iload hx hb d_x_NS_result_243 (lv_at hl 0 rfl) ?_
      refine lv_iconst (v := 1) hx hb d_x_NS_result_245 (by decide) ?_
      refine lv_isub hx hb d_x_NS_result_246 ?_
      refine lv_aload hx hb d_x_NS_result_247 (lv_at hl 2 rfl) ?_
      refine lv_aload_n hx hb d_x_NS_result_249 rfl (lv_at hl 7 rfl) ?_
      refine lv_iload hx hb d_x_NS_result_250 (lv_at hl 0 rfl) ?_
      refine lv_iconst (v := 1) hx hb d_x_NS_result_252 (by decide) ?_
      refine lv_isub hx hb d_x_NS_result_253 ?_
      replace h := obi h; obtain ⟨x77, ex77, h⟩ := h
      refine ha_lld X hq ex77 d_x_NS_result_254 ?_
      refine lv_aload_n hx hb d_x_NS_result_255 rfl (lv_at hl 7 rfl) ?_
      refine lv_iload hx hb d_x_NS_result_256 (lv_at hl 0 rfl) ?_
      replace h := obi h; obtain ⟨x78, ex78, h⟩ := h
      refine ha_lld X hq ex78 d_x_NS_result_258 ?_
      replace h := obi h; obtain ⟨x79, ex79, h⟩ := h
      refine hcallS (st' := st) (n := 3) X hq hle.rf (c_x_NS_both l 1 (Nat.le_refl _) G A ex79) q_632 q_633 q_1 q_634 ok_x_NS_both rfl (lvl (by omega) (by decide)) hl.1 rfl (Nat.le_of_ble_eq_true rfl) d_x_NS_result_259 (hn.fit hmr) (fun H locs hq => ?_)
      replace h := obi h; obtain ⟨st80, est80, h⟩ := h
      refine ha_lst X hq est80 d_x_NS_result_262 (fun H locs hq => ?_)
      have hn := hn.ke (hWl_ke est80)
      have hmr := hmr.ke (hWl_ke est80)
      exact w_x_NS_result_J263 X hK nm_given M_given hKg hq hn (lv_sub hl [4, 5, 6, 7, 0, 1] rfl) ih (n_x_NS_result_L11 nm_given n) h
theorem w_x_NS_result_J4 {r : Int64 × HS} {g_given : HS → Nat → Nat → Nat → Option (Int64 × HS)} {st : HS} {l0 : Nat} {l1 : Nat} {l2 : Nat} {w0 : Nat} {n0 s0 : Nat} {H : Heap} {locs : List Loc} {ce sl : Nat} {ls : Array Slot} (X : jx p s m args meth c b_x_NS_result 10 (some .long) "NoteSheet") (hK : 2 ≤ K) (nm_given : ∀ {st : HS} {this : Nat} {a1 : Nat} {a2 : Nat} {r : Int64 × HS}, g_given st this a1 a2 = some r → hle st r.2) (M_given : ∀ {st : HS} {this : Nat} {a1 : Nat} {a2 : Nat} {r : Int64 × HS}, g_given st this a1 a2 = some r → Met l y_x_NS_given (Cond.code y_x_NS_given b_x_NS_given 5 (some .long) :: lw_g) (rmL Kg (hNx r.2 - hNx st) (hNs r.2 - hNs st)) (hPc G A [.ref this, .ref a1, .ref a2] st) (hQc G A (some (.long r.1)) r.2) (hNx r.2 - hNx st) (hNs r.2 - hNs st) A) (hKg : Kg + 1 ≤ K) (hq : hC G A s st H locs) (hn : hN ce sl n0 s0 st) (hl : lv_has ls 10 [(0, .ref l0), (1, .ref l1), (2, .ref l2)]) (h : x_NS_result_J4 g_given st l0 l1 l2 w0 = some r) : W p l e (rmL K (hNx r.2 - n0) (hNs r.2 - s0)) s m args below meth c H locs ce sl (MQ below (hQc G A (some (.long r.1)) r.2) args s (hNx r.2 - n0) (hNs r.2 - s0) A) (F0 m 4 ls [.ref w0]) := by
  obtain ⟨hx, hb, hr, hml, hown, hts, hlocks⟩ := id X
  have hmr : hle st r.2 := n_x_NS_result_J4 nm_given h
  unfold x_NS_result_J4 at h
  refine lv_astore_n (lv' := [(3, .ref w0), (0, .ref l0), (1, .ref l1), (2, .ref l2)]) hx hb d_x_NS_result_4 rfl hl (by decide) rfl (fun ls hl => ?_)
  refine lv_iconst (v := 0) hx hb d_x_NS_result_5 (by decide) ?_
  refine lv_istore (lv' := [(4, .int 0), (3, .ref w0), (0, .ref l0), (1, .ref l1), (2, .ref l2)]) hx hb d_x_NS_result_6 hl (by decide) rfl (fun ls hl => ?_)
  refine lv_iconst (v := 0) hx hb d_x_NS_result_8 (by decide) ?_
  refine lv_istore (lv' := [(5, .int 0), (4, .int 0), (3, .ref w0), (0, .ref l0), (1, .ref l1), (2, .ref l2)]) hx hb d_x_NS_result_9 hl (by decide) rfl (fun ls hl => ?_)
  exact w_x_NS_result_L11 X hK nm_given M_given hKg 1000 _ _ _ _ _ _ _ _ _ _ _ _ h hq hn (lv_sub hl [3, 4, 5, 2, 1, 0] rfl)
theorem c_x_NS_result (l : Launch) (K : Nat) (hK : 2 ≤ K) (G : HG) (A : Nat → Prop) {g_given : HS → Nat → Nat → Nat → Option (Int64 × HS)} {Kg : Nat} (nm_given : ∀ {st : HS} {this : Nat} {a1 : Nat} {a2 : Nat} {r : Int64 × HS}, g_given st this a1 a2 = some r → hle st r.2) (M_given : ∀ {st : HS} {this : Nat} {a1 : Nat} {a2 : Nat} {r : Int64 × HS}, g_given st this a1 a2 = some r → Met l y_x_NS_given (Cond.code y_x_NS_given b_x_NS_given 5 (some .long) :: lw_g) (rmL Kg (hNx r.2 - hNx st) (hNs r.2 - hNs st)) (hPc G A [.ref this, .ref a1, .ref a2] st) (hQc G A (some (.long r.1)) r.2) (hNx r.2 - hNx st) (hNs r.2 - hNs st) A) (hKg : Kg + 1 ≤ K) {st : HS} {this : Nat} {a1 : Nat} {a2 : Nat} {r : Int64 × HS} (h : x_NS_result g_given st this a1 a2 = some r) : Met l y_x_NS_result (Cond.code y_x_NS_result b_x_NS_result 10 (some .long) :: lw_g) (rmL K (hNx r.2 - hNx st) (hNs r.2 - hNs st)) (hPc G A [.ref this, .ref a1, .ref a2] st) (hQc G A (some (.long r.1)) r.2) (hNx r.2 - hNx st) (hNs r.2 - hNs st) A := by
  refine Met.ofH (by decide +kernel) (Nat.le_of_ble_eq_true rfl) ?_
  intro p e s m below meth c ls X hmn hq hl
  have hl : lv_has ls 10 [(0, .ref this), (1, .ref a1), (2, .ref a2)] := hl
  generalize ([.ref this, .ref a1, .ref a2] : List Value).toArray = args at X ⊢
  obtain ⟨hx, hb, hr, hml, hown, hts, hlocks⟩ := id X
  generalize hHH : s.heap = H at hq ⊢
  generalize ([] : List Loc) = locs at hq ⊢
  clear hHH
  have hmr : hle st r.2 := n_x_NS_result nm_given h
  have hn : hN 0 0 (hNx st) (hNs st) st := ⟨Nat.zero_add _, Nat.zero_add _⟩
  unfold x_NS_result at h
  refine lv_bipush (v := 16) hx hb d_x_NS_result_0 (by decide) ?_
  replace h := obi h; obtain ⟨ad1, ead1, h⟩ := h
  replace h := obi h; obtain ⟨st2, est2, h⟩ := h
  have hn2 := hn.newa est2
  have hmr := n_x_NS_result_J4 nm_given h
  refine h_newa X hq 3 (by decide) .long rfl est2 q_643 (by decide) (hn2.fit hmr) d_x_NS_result_2 (fun H hq => ?_)
  have hn := hn2
  refine lv_nma (Option.some.inj ead1) ?_
  exact w_x_NS_result_J4 X hK nm_given M_given hKg hq hn (lv_sub hl [0, 1, 2] rfl) h
end
