section
variable {p : Program} {l : Launch} {e : Env} {s : State} {m : MethodId} {args : Array Value} {below : List Frame} {meth : Method} {c : Code} {G : HG} {A : Nat → Prop} {K Kg : Nat}
theorem w_x_NS_init_J88 {r : HS} {st : HS} {l0 : Nat} {l2 : Int32} {w0 : Nat} {w1 : Int32} {w2 : Option Nat} {k_74 : HS → Nat → Int32 → Option HS} {n0 s0 : Nat} {H : Heap} {locs : List Loc} {ce sl : Nat} {ls : Array Slot} (X : jx p s m args meth c b_x_NS_init 3 none "NoteSheet") (hK : 3 ≤ K) (hmn : meth.name = "<init>") (hq : hC G A s st H locs) (hn : hN ce sl n0 s0 st) (hl : lv_has ls 3 [(0, .ref l0), (2, .int l2)]) (hk_74 : ∀ (st : HS) (l0 : Nat) (l2 : Int32) (H : Heap) (locs : List Loc) (ce sl : Nat) (ls : Array Slot), k_74 st l0 l2 = some r → hC G A s st H locs → hN ce sl n0 s0 st → lv_has ls 3 [(0, .ref l0), (2, .int l2)] → W p l e (rmL K (hNx r - n0) (hNs r - s0)) s m args below meth c H locs ce sl (MQ below (hQc G A none r) args s (hNx r - n0) (hNs r - s0) A) (F0 m 74 ls [])) (hm_74 : ∀ (st : HS) (l0 : Nat) (l2 : Int32), k_74 st l0 l2 = some r → hle st r) (h : x_NS_init_J88 k_74 st l0 l2 w0 w1 w2 = some r) : W p l e (rmL K (hNx r - n0) (hNs r - s0)) s m args below meth c H locs ce sl (MQ below (hQc G A none r) args s (hNx r - n0) (hNs r - s0) A) (F0 m 88 ls [.ref w0, .int w1, va_rf w2]) := by
  obtain ⟨hx, hb, hr, hml, hown, hts, hlocks⟩ := id X
  have hmr : hle st r := n_x_NS_init_J88 hm_74 h
  unfold x_NS_init_J88 at h
  refine lv_dup hx hb d_x_NS_init_88 rfl ?_
  refine lv_iload_n hx hb d_x_NS_init_89 rfl (lv_at hl 1 rfl) ?_
  replace h := obi h; obtain ⟨st1, est1, h⟩ := h
  refine hcallI (n := 1) X hq (n_x_Cell_init est1).le (c_x_Cell_init l 1 (Nat.le_refl _) G A est1) q_93 q_94 q_7 q_95 ok_x_Cell_init rfl rfl (lvl (by omega) (by decide)) hl.1 rfl (by simp only [List.map_cons, List.map_nil, List.sum_cons, List.sum_nil, rf_cat]; simp [Value.category]) d_x_NS_init_90 (hn.fit hmr) (fun H locs hq => ?_)
  have hn := hn.ke (n_x_Cell_init est1)
  have hmr := hmr.ke (n_x_Cell_init est1)
  replace h := obi h; obtain ⟨ad2, rfl, h⟩ := h
  replace h := obi h; obtain ⟨st3, est3, h⟩ := h
  refine ha_rst X hq 4 est3 d_x_NS_init_93 (fun H locs hq => ?_)
  have hn := hn.ke (hWr_ke est3)
  have hmr := hmr.ke (hWr_ke est3)
  replace h := obi h; obtain ⟨x4, ex4, h⟩ := h
  refine lv_iinc (v := x4) (lv' := [(2, .int x4), (0, .ref l0)]) hx hb d_x_NS_init_94 hl (k := 1) rfl (Option.some.inj ex4) (by decide) rfl (fun ls hl => ?_)
  refine lv_goto (tgt := 74) hx hb d_x_NS_init_97 (by decide) ?_
  exact hk_74 _ _ _ _ _ _ _ _ h hq hn (lv_sub hl [1, 0] rfl)
theorem w_x_NS_init_L74 {r : HS} {n0 s0 : Nat} (X : jx p s m args meth c b_x_NS_init 3 none "NoteSheet") (hK : 3 ≤ K) (hmn : meth.name = "<init>") : ∀ (n : Nat), ∀ (st : HS) (l0 : Nat) (l2 : Int32) (H : Heap) (locs : List Loc) (ce sl : Nat) (ls : Array Slot), x_NS_init_L74 n st l0 l2 = some r → hC G A s st H locs → hN ce sl n0 s0 st → lv_has ls 3 [(0, .ref l0), (2, .int l2)] → W p l e (rmL K (hNx r - n0) (hNs r - s0)) s m args below meth c H locs ce sl (MQ below (hQc G A none r) args s (hNx r - n0) (hNs r - s0) A) (F0 m 74 ls []) := by
  obtain ⟨hx, hb, hr, hml, hown, hts, hlocks⟩ := id X
  intro n
  induction n with
  | zero => intro st l0 l2 H locs ce sl ls h hq hn hl; exact absurd h (by simp [x_NS_init_L74])
  | succ n ih =>
    intro st l0 l2 H locs ce sl ls h hq hn hl
    have hmr : hle st r := n_x_NS_init_L74 (n + 1) _ _ _ h
    rw [x_NS_init_L74] at h
    refine lv_iload_n hx hb d_x_NS_init_74 rfl (lv_at hl 1 rfl) ?_
    refine lv_bipush (v := 12) hx hb d_x_NS_init_75 (by decide) ?_
    refine lv_icmp_ge (tgt := 100) hx hb d_x_NS_init_77 (by decide) (fun c77 => ?_) (fun c77 => ?_)
    · replace h := ifp c77 h
      cases h
      exact hret_v X hq (hn.fit hle.rf) d_x_NS_init_100
    · replace h := ifn c77 h
      refine lv_aload_n hx hb d_x_NS_init_80 rfl (lv_at hl 0 rfl) ?_
      replace h := obi h; obtain ⟨x1, ex1, h⟩ := h
      refine hg_r X hq 0 1 rfl (by decide) ex1 q_140 d_x_NS_init_81 ?_
      refine lv_iload_n hx hb d_x_NS_init_84 rfl (lv_at hl 1 rfl) ?_
      replace h := obi h; obtain ⟨ad2, ead2, h⟩ := h
      replace h := obi h; obtain ⟨st3, est3, h⟩ := h
      have hn2 := hn.new est3
      have hmr := n_x_NS_init_J88 (n_x_NS_init_L74 n) h
      refine h_new X hq 1 rfl est3 q_28 q_92 q_7 (hn2.fit hmr) d_x_NS_init_85 (fun H hq => ?_)
      have hn := hn2
      refine lv_nma (Option.some.inj ead2) ?_
      exact w_x_NS_init_J88 X hK hmn hq hn (lv_sub hl [0, 1] rfl) ih (n_x_NS_init_L74 n) h
theorem w_x_NS_init_J69 {r : HS} {st : HS} {l0 : Nat} {w0 : Int32} {w1 : Nat} {n0 s0 : Nat} {H : Heap} {locs : List Loc} {ce sl : Nat} {ls : Array Slot} (X : jx p s m args meth c b_x_NS_init 3 none "NoteSheet") (hK : 3 ≤ K) (hmn : meth.name = "<init>") (hq : hC G A s st H locs) (hn : hN ce sl n0 s0 st) (hl : lv_has ls 3 [(0, .ref l0)]) (h : x_NS_init_J69 st l0 w0 w1 = some r) : W p l e (rmL K (hNx r - n0) (hNs r - s0)) s m args below meth c H locs ce sl (MQ below (hQc G A none r) args s (hNx r - n0) (hNs r - s0) A) (F0 m 69 ls [.int w0, .ref w1]) := by
  obtain ⟨hx, hb, hr, hml, hown, hts, hlocks⟩ := id X
  have hmr : hle st r := n_x_NS_init_J69 h
  unfold x_NS_init_J69 at h
  replace h := obi h; obtain ⟨st1, est1, h⟩ := h
  refine hpF_v (ty := .int) X hmn hq 0 0 rfl (by decide) rfl rfl (by decide +kernel) rfl rfl est1 q_139 d_x_NS_init_69 (fun H locs hq => ?_)
  have hn := hn.ke (hP_ke est1)
  have hmr := hmr.ke (hP_ke est1)
  refine lv_iconst (v := 0) hx hb d_x_NS_init_72 (by decide) ?_
  refine lv_istore_n (lv' := [(2, .int 0), (0, .ref l0)]) hx hb d_x_NS_init_73 rfl hl (by decide) rfl (fun ls hl => ?_)
  exact w_x_NS_init_L74 X hK hmn 1000 _ _ _ _ _ _ _ _ h hq hn (lv_sub hl [1, 0] rfl)
theorem w_x_NS_init_J44 {r : HS} {st : HS} {l0 : Nat} {l1 : Int32} {w0 : Nat} {w1 : Nat} {n0 s0 : Nat} {H : Heap} {locs : List Loc} {ce sl : Nat} {ls : Array Slot} (X : jx p s m args meth c b_x_NS_init 3 none "NoteSheet") (hK : 3 ≤ K) (hmn : meth.name = "<init>") (hq : hC G A s st H locs) (hn : hN ce sl n0 s0 st) (hl : lv_has ls 3 [(0, .ref l0), (1, .int l1)]) (h : x_NS_init_J44 st l0 l1 w0 w1 = some r) : W p l e (rmL K (hNx r - n0) (hNs r - s0)) s m args below meth c H locs ce sl (MQ below (hQc G A none r) args s (hNx r - n0) (hNs r - s0) A) (F0 m 44 ls [.ref w0, .ref w1]) := by
  obtain ⟨hx, hb, hr, hml, hown, hts, hlocks⟩ := id X
  have hmr : hle st r := n_x_NS_init_J44 h
  unfold x_NS_init_J44 at h
  replace h := obi h; obtain ⟨st1, est1, h⟩ := h
  refine hpF_v (ty := (.array .int)) X hmn hq 0 9 rfl (by decide) rfl rfl (by decide +kernel) rfl rfl est1 q_148 d_x_NS_init_44 (fun H locs hq => ?_)
  have hn := hn.ke (hP_ke est1)
  have hmr := hmr.ke (hP_ke est1)
  refine lv_aload_n hx hb d_x_NS_init_47 rfl (lv_at hl 0 rfl) ?_
  refine lv_iload_n hx hb d_x_NS_init_48 rfl (lv_at hl 1 rfl) ?_
  refine lv_iconst (v := 1) hx hb d_x_NS_init_49 (by decide) ?_
  refine lv_icmp_ge (tgt := 57) hx hb d_x_NS_init_50 (by decide) (fun c50 => ?_) (fun c50 => ?_)
  · replace h := ifp c50 h
    refine lv_iload_n hx hb d_x_NS_init_57 rfl (lv_at hl 1 rfl) ?_
    refine lv_bipush (v := 12) hx hb d_x_NS_init_58 (by decide) ?_
    refine lv_icmp_le (tgt := 68) hx hb d_x_NS_init_60 (by decide) (fun c60 => ?_) (fun c60 => ?_)
    · replace h := ifp c60 h
      refine lv_iload_n hx hb d_x_NS_init_68 rfl (lv_at hl 1 rfl) ?_
      exact w_x_NS_init_J69 X hK hmn hq hn (lv_sub hl [0] rfl) h
    · replace h := ifn c60 h
      refine lv_bipush (v := 12) hx hb d_x_NS_init_63 (by decide) ?_
      refine lv_goto (tgt := 69) hx hb d_x_NS_init_65 (by decide) ?_
      exact w_x_NS_init_J69 X hK hmn hq hn (lv_sub hl [0] rfl) h
  · replace h := ifn c50 h
    refine lv_iconst (v := 1) hx hb d_x_NS_init_53 (by decide) ?_
    refine lv_goto (tgt := 69) hx hb d_x_NS_init_54 (by decide) ?_
    exact w_x_NS_init_J69 X hK hmn hq hn (lv_sub hl [0] rfl) h
theorem w_x_NS_init_J32 {r : HS} {st : HS} {l0 : Nat} {l1 : Int32} {w0 : Nat} {w1 : Nat} {n0 s0 : Nat} {H : Heap} {locs : List Loc} {ce sl : Nat} {ls : Array Slot} (X : jx p s m args meth c b_x_NS_init 3 none "NoteSheet") (hK : 3 ≤ K) (hmn : meth.name = "<init>") (hq : hC G A s st H locs) (hn : hN ce sl n0 s0 st) (hl : lv_has ls 3 [(0, .ref l0), (1, .int l1)]) (h : x_NS_init_J32 st l0 l1 w0 w1 = some r) : W p l e (rmL K (hNx r - n0) (hNs r - s0)) s m args below meth c H locs ce sl (MQ below (hQc G A none r) args s (hNx r - n0) (hNs r - s0) A) (F0 m 32 ls [.ref w0, .ref w1]) := by
  obtain ⟨hx, hb, hr, hml, hown, hts, hlocks⟩ := id X
  have hmr : hle st r := n_x_NS_init_J32 h
  unfold x_NS_init_J32 at h
  replace h := obi h; obtain ⟨st1, est1, h⟩ := h
  refine hpF_v (ty := (.object "NoteSheet$Reader")) X hmn hq 0 3 rfl (by decide) rfl rfl (by decide +kernel) rfl rfl est1 q_142 d_x_NS_init_32 (fun H locs hq => ?_)
  have hn := hn.ke (hP_ke est1)
  have hmr := hmr.ke (hP_ke est1)
  refine lv_aload_n hx hb d_x_NS_init_35 rfl (lv_at hl 0 rfl) ?_
  refine lv_iconst (v := 1) hx hb d_x_NS_init_36 (by decide) ?_
  replace h := obi h; obtain ⟨st2, est2, h⟩ := h
  refine hp_v (ty := .int) X hq 0 4 rfl (by decide) rfl (by decide +kernel) rfl rfl est2 q_143 d_x_NS_init_37 (fun H locs hq => ?_)
  have hn := hn.ke (hP_ke est2)
  have hmr := hmr.ke (hP_ke est2)
  refine lv_aload_n hx hb d_x_NS_init_40 rfl (lv_at hl 0 rfl) ?_
  refine lv_iconst (v := 3) hx hb d_x_NS_init_41 (by decide) ?_
  replace h := obi h; obtain ⟨ad3, ead3, h⟩ := h
  replace h := obi h; obtain ⟨st4, est4, h⟩ := h
  have hn2 := hn.newa est4
  have hmr := n_x_NS_init_J44 h
  refine h_newa X hq 0 (by decide) .int rfl est4 q_91 (by decide) (hn2.fit hmr) d_x_NS_init_42 (fun H hq => ?_)
  have hn := hn2
  refine lv_nma (Option.some.inj ead3) ?_
  exact w_x_NS_init_J44 X hK hmn hq hn (lv_sub hl [0, 1] rfl) h
theorem w_x_NS_init_J28 {r : HS} {st : HS} {l0 : Nat} {l1 : Int32} {w0 : Nat} {w1 : Nat} {n0 s0 : Nat} {H : Heap} {locs : List Loc} {ce sl : Nat} {ls : Array Slot} (X : jx p s m args meth c b_x_NS_init 3 none "NoteSheet") (hK : 3 ≤ K) (hmn : meth.name = "<init>") (hq : hC G A s st H locs) (hn : hN ce sl n0 s0 st) (hl : lv_has ls 3 [(0, .ref l0), (1, .int l1)]) (h : x_NS_init_J28 st l0 l1 w0 w1 = some r) : W p l e (rmL K (hNx r - n0) (hNs r - s0)) s m args below meth c H locs ce sl (MQ below (hQc G A none r) args s (hNx r - n0) (hNs r - s0) A) (F0 m 28 ls [.ref w0, .ref w1]) := by
  obtain ⟨hx, hb, hr, hml, hown, hts, hlocks⟩ := id X
  have hmr : hle st r := n_x_NS_init_J28 h
  unfold x_NS_init_J28 at h
  refine lv_dup hx hb d_x_NS_init_28 rfl ?_
  replace h := obi h; obtain ⟨st1, est1, h⟩ := h
  have hn2 := hn.call (n_x_Rdr_init est1)
  have hmr := n_x_NS_init_J32 h
  refine hcallIN (n := 0) X hq (n_x_Rdr_init est1) (c_x_Rdr_init l 1 (Nat.le_refl _) G A est1) qn_65 q_66 q_6 q_67 ok_x_Rdr_init rfl rfl (lvl (by omega) (by decide)) hl.1 rfl (Nat.le_of_ble_eq_true rfl) d_x_NS_init_29 (hn2.fit hmr) (fun H locs hq => ?_)
  have hn := hn2
  exact w_x_NS_init_J32 X hK hmn hq hn (lv_sub hl [0, 1] rfl) h
theorem w_x_NS_init_J21 {r : HS} {st : HS} {l0 : Nat} {l1 : Int32} {w0 : Nat} {w1 : Nat} {n0 s0 : Nat} {H : Heap} {locs : List Loc} {ce sl : Nat} {ls : Array Slot} (X : jx p s m args meth c b_x_NS_init 3 none "NoteSheet") (hK : 3 ≤ K) (hmn : meth.name = "<init>") (hq : hC G A s st H locs) (hn : hN ce sl n0 s0 st) (hl : lv_has ls 3 [(0, .ref l0), (1, .int l1)]) (h : x_NS_init_J21 st l0 l1 w0 w1 = some r) : W p l e (rmL K (hNx r - n0) (hNs r - s0)) s m args below meth c H locs ce sl (MQ below (hQc G A none r) args s (hNx r - n0) (hNs r - s0) A) (F0 m 21 ls [.ref w0, .ref w1]) := by
  obtain ⟨hx, hb, hr, hml, hown, hts, hlocks⟩ := id X
  have hmr : hle st r := n_x_NS_init_J21 h
  unfold x_NS_init_J21 at h
  replace h := obi h; obtain ⟨st1, est1, h⟩ := h
  refine hpF_v (ty := (.object "java/lang/StringBuilder")) X hmn hq 0 2 rfl (by decide) rfl rfl (by decide +kernel) rfl rfl est1 q_141 d_x_NS_init_21 (fun H locs hq => ?_)
  have hn := hn.ke (hP_ke est1)
  have hmr := hmr.ke (hP_ke est1)
  refine lv_aload_n hx hb d_x_NS_init_24 rfl (lv_at hl 0 rfl) ?_
  replace h := obi h; obtain ⟨ad2, ead2, h⟩ := h
  replace h := obi h; obtain ⟨st3, est3, h⟩ := h
  have hn2 := hn.new est3
  have hmr := n_x_NS_init_J28 h
  refine h_new X hq 4 rfl est3 q_63 q_64 q_6 (hn2.fit hmr) d_x_NS_init_25 (fun H hq => ?_)
  have hn := hn2
  refine lv_nma (Option.some.inj ead2) ?_
  exact w_x_NS_init_J28 X hK hmn hq hn (lv_sub hl [0, 1] rfl) h
theorem w_x_NS_init_J17 {r : HS} {st : HS} {l0 : Nat} {l1 : Int32} {w0 : Nat} {w1 : Nat} {n0 s0 : Nat} {H : Heap} {locs : List Loc} {ce sl : Nat} {ls : Array Slot} (X : jx p s m args meth c b_x_NS_init 3 none "NoteSheet") (hK : 3 ≤ K) (hmn : meth.name = "<init>") (hq : hC G A s st H locs) (hn : hN ce sl n0 s0 st) (hl : lv_has ls 3 [(0, .ref l0), (1, .int l1)]) (h : x_NS_init_J17 st l0 l1 w0 w1 = some r) : W p l e (rmL K (hNx r - n0) (hNs r - s0)) s m args below meth c H locs ce sl (MQ below (hQc G A none r) args s (hNx r - n0) (hNs r - s0) A) (F0 m 17 ls [.ref w0, .ref w1]) := by
  obtain ⟨hx, hb, hr, hml, hown, hts, hlocks⟩ := id X
  have hmr : hle st r := n_x_NS_init_J17 h
  unfold x_NS_init_J17 at h
  refine lv_dup hx hb d_x_NS_init_17 rfl ?_
  replace h := obi h; obtain ⟨st1, est1, h⟩ := h
  have hn2 := hn.call (n_x_SB_init est1)
  have hmr := n_x_NS_init_J21 h
  refine hcallI (n := 0) X hq (n_x_SB_init est1) (c_x_SB_init l 2 (Nat.le_refl _) G A est1) q_32 q_33 q_3 q_34 ok_x_SB_init rfl rfl (lvl (by omega) (by decide)) hl.1 rfl (Nat.le_of_ble_eq_true rfl) d_x_NS_init_18 (hn2.fit hmr) (fun H locs hq => ?_)
  have hn := hn2
  exact w_x_NS_init_J21 X hK hmn hq hn (lv_sub hl [0, 1] rfl) h
theorem w_x_NS_init_J10 {r : HS} {st : HS} {l0 : Nat} {l1 : Int32} {w0 : Nat} {w1 : Nat} {n0 s0 : Nat} {H : Heap} {locs : List Loc} {ce sl : Nat} {ls : Array Slot} (X : jx p s m args meth c b_x_NS_init 3 none "NoteSheet") (hK : 3 ≤ K) (hmn : meth.name = "<init>") (hq : hC G A s st H locs) (hn : hN ce sl n0 s0 st) (hl : lv_has ls 3 [(0, .ref l0), (1, .int l1)]) (h : x_NS_init_J10 st l0 l1 w0 w1 = some r) : W p l e (rmL K (hNx r - n0) (hNs r - s0)) s m args below meth c H locs ce sl (MQ below (hQc G A none r) args s (hNx r - n0) (hNs r - s0) A) (F0 m 10 ls [.ref w0, .ref w1]) := by
  obtain ⟨hx, hb, hr, hml, hown, hts, hlocks⟩ := id X
  have hmr : hle st r := n_x_NS_init_J10 h
  unfold x_NS_init_J10 at h
  replace h := obi h; obtain ⟨st1, est1, h⟩ := h
  refine hpF_v (ty := (.array (.object "NoteSheet$Cell"))) X hmn hq 0 1 rfl (by decide) rfl rfl (by decide +kernel) rfl rfl est1 q_140 d_x_NS_init_10 (fun H locs hq => ?_)
  have hn := hn.ke (hP_ke est1)
  have hmr := hmr.ke (hP_ke est1)
  refine lv_aload_n hx hb d_x_NS_init_13 rfl (lv_at hl 0 rfl) ?_
  replace h := obi h; obtain ⟨ad2, ead2, h⟩ := h
  replace h := obi h; obtain ⟨st3, est3, h⟩ := h
  have hn2 := hn.new est3
  have hmr := n_x_NS_init_J17 h
  refine h_new X hq 5 rfl est3 q_30 q_31 q_3 (hn2.fit hmr) d_x_NS_init_14 (fun H hq => ?_)
  have hn := hn2
  refine lv_nma (Option.some.inj ead2) ?_
  exact w_x_NS_init_J17 X hK hmn hq hn (lv_sub hl [0, 1] rfl) h
theorem c_x_NS_init (l : Launch) (K : Nat) (hK : 3 ≤ K) (G : HG) (A : Nat → Prop) {st : HS} {this : Nat} {a1 : Int32} {r : HS} (h : x_NS_init st this a1 = some r) : Met l y_x_NS_init (Cond.code y_x_NS_init b_x_NS_init 3 none :: lw_g) (rmL K (hNx r - hNx st) (hNs r - hNs st)) (hPc G A [.ref this, .int a1] st) (hQc G A none r) (hNx r - hNx st) (hNs r - hNs st) A := by
  refine Met.ofH (by decide +kernel) (Nat.le_of_ble_eq_true rfl) ?_
  intro p e s m below meth c ls X hmn hq hl
  have hl : lv_has ls 3 [(0, .ref this), (1, .int a1)] := hl
  generalize ([.ref this, .int a1] : List Value).toArray = args at X ⊢
  obtain ⟨hx, hb, hr, hml, hown, hts, hlocks⟩ := id X
  generalize hHH : s.heap = H at hq ⊢
  generalize ([] : List Loc) = locs at hq ⊢
  clear hHH
  have hmr : hle st r := n_x_NS_init h
  have hn : hN 0 0 (hNx st) (hNs st) st := ⟨Nat.zero_add _, Nat.zero_add _⟩
  unfold x_NS_init at h
  refine lv_aload_n hx hb d_x_NS_init_0 rfl (lv_at hl 0 rfl) ?_
  refine h_obj X hl.1 q_25 q_26 q_27 (Nat.le_of_ble_eq_true rfl) (by omega) d_x_NS_init_1 ?_
  refine lv_aload_n hx hb d_x_NS_init_4 rfl (lv_at hl 0 rfl) ?_
  refine lv_bipush (v := 12) hx hb d_x_NS_init_5 (by decide) ?_
  replace h := obi h; obtain ⟨ad1, ead1, h⟩ := h
  replace h := obi h; obtain ⟨st2, est2, h⟩ := h
  have hn2 := hn.newa est2
  have hmr := n_x_NS_init_J10 h
  refine h_newr X hq 4 (by decide) (by decide) rfl est2 q_28 qn_29 (hn2.fit hmr) d_x_NS_init_7 (fun H hq => ?_)
  have hn := hn2
  refine lv_nma (Option.some.inj ead1) ?_
  exact w_x_NS_init_J10 X hK hmn hq hn (lv_sub hl [0, 1] rfl) h
theorem w_x_NS_type_J69 {r : Int32 × HS} {st : HS} {w0 : Option Nat} {n0 s0 : Nat} {H : Heap} {locs : List Loc} {ce sl : Nat} {ls : Array Slot} (X : jx p s m args meth c b_x_NS_type 3 (some .boolean) "NoteSheet") (hK : 6 ≤ K) (hq : hC G A s st H locs) (hn : hN ce sl n0 s0 st) (hl : lv_has ls 3 []) (h : x_NS_type_J69 st w0 = some r) : W p l e (rmL K (hNx r.2 - n0) (hNs r.2 - s0)) s m args below meth c H locs ce sl (MQ below (hQc G A (some (.int r.1)) r.2) args s (hNx r.2 - n0) (hNs r.2 - s0) A) (F0 m 69 ls [va_rf w0]) := by
  obtain ⟨hx, hb, hr, hml, hown, hts, hlocks⟩ := id X
  have hmr : hle st r.2 := n_x_NS_type_J69 h
  unfold x_NS_type_J69 at h
  refine lv_pop_q hx hb d_x_NS_type_69 ?_
  refine lv_iconst (v := 1) hx hb d_x_NS_type_70 (by decide) ?_
  cases h
  exact hret_z (v := 1) (by decide) X hq (hn.fit hle.rf) d_x_NS_type_71
theorem w_x_NS_type_J42 {r : Int32 × HS} {st : HS} {l0 : Nat} {l1 : Int32} {w0 : Int32} {n0 s0 : Nat} {H : Heap} {locs : List Loc} {ce sl : Nat} {ls : Array Slot} (X : jx p s m args meth c b_x_NS_type 3 (some .boolean) "NoteSheet") (hK : 6 ≤ K) (hq : hC G A s st H locs) (hn : hN ce sl n0 s0 st) (hl : lv_has ls 3 [(0, .ref l0), (1, .int l1)]) (h : x_NS_type_J42 st l0 l1 w0 = some r) : W p l e (rmL K (hNx r.2 - n0) (hNs r.2 - s0)) s m args below meth c H locs ce sl (MQ below (hQc G A (some (.int r.1)) r.2) args s (hNx r.2 - n0) (hNs r.2 - s0) A) (F0 m 42 ls [.int w0]) := by
  obtain ⟨hx, hb, hr, hml, hown, hts, hlocks⟩ := id X
  have hmr : hle st r.2 := n_x_NS_type_J42 h
  unfold x_NS_type_J42 at h
  refine lv_istore_n (lv' := [(2, .int w0), (0, .ref l0), (1, .int l1)]) hx hb d_x_NS_type_42 rfl hl (by decide) rfl (fun ls hl => ?_)
  refine lv_iload_n hx hb d_x_NS_type_43 rfl (lv_at hl 0 rfl) ?_
  refine lv_if_eq (tgt := 59) hx hb d_x_NS_type_44 (by decide) (fun c44 => ?_) (fun c44 => ?_)
  · replace h := ifp c44 h
    refine lv_iconst (v := 0) hx hb d_x_NS_type_59 (by decide) ?_
    cases h
    exact hret_z (v := 0) (by decide) X hq (hn.fit hle.rf) d_x_NS_type_60
  · replace h := ifn c44 h
    refine lv_aload_n hx hb d_x_NS_type_47 rfl (lv_at hl 1 rfl) ?_
    replace h := obi h; obtain ⟨x1, ex1, h⟩ := h
    refine hg_r X hq 0 2 rfl (by decide) ex1 q_141 d_x_NS_type_48 ?_
    replace h := obi h; obtain ⟨ad2, rfl, h⟩ := h
    replace h := obi h; obtain ⟨u3, eu3, h⟩ := h
    replace h := obi h; obtain ⟨x4, ex4, h⟩ := h
    refine hcallV (st' := st) (n := 0) X hq hle.rf (c_x_SB_length l 1 (Nat.le_refl _) G A ex4) (C := 5) rfl eu3 q_260 q_261 q_262 q_3 q_263 ok_x_SB_length rfl (lvl (by omega) (by decide)) hl.1 rfl (Nat.le_of_ble_eq_true rfl) d_x_NS_type_51 (hn.fit hmr) (fun H locs hq => ?_)
    refine lv_bipush (v := 30) hx hb d_x_NS_type_54 (by decide) ?_
    refine lv_icmp_lt (tgt := 61) hx hb d_x_NS_type_56 (by decide) (fun c56 => ?_) (fun c56 => ?_)
    · replace h := ifp c56 h
      refine lv_aload_n hx hb d_x_NS_type_61 rfl (lv_at hl 1 rfl) ?_
      replace h := obi h; obtain ⟨x5, ex5, h⟩ := h
      refine hg_r X hq 0 2 rfl (by decide) ex5 q_141 d_x_NS_type_62 ?_
      refine lv_iload_n hx hb d_x_NS_type_65 rfl (lv_at hl 2 rfl) ?_
      replace h := obi h; obtain ⟨ad6, rfl, h⟩ := h
      replace h := obi h; obtain ⟨u7, eu7, h⟩ := h
      replace h := obi h; obtain ⟨q8, eq8, h⟩ := h
      have hn2 := hn.call (n_x_SB_append eq8)
      have hmr := n_x_NS_type_J69 h
      refine hcallV (n := 1) X hq (n_x_SB_append eq8) (c_x_SB_append l 5 (Nat.le_refl _) G A eq8) (C := 5) rfl eu7 q_267 q_268 q_269 q_3 q_270 ok_x_SB_append rfl (lvl (by omega) (by decide)) hl.1 rfl (Nat.le_of_ble_eq_true rfl) d_x_NS_type_66 (hn2.fit hmr) (fun H locs hq => ?_)
      have hn := hn2
      exact w_x_NS_type_J69 X hK hq hn (lv_sub hl [] rfl) h
    · replace h := ifn c56 h
      refine lv_iconst (v := 0) hx hb d_x_NS_type_59 (by decide) ?_
      cases h
      exact hret_z (v := 0) (by decide) X hq (hn.fit hle.rf) d_x_NS_type_60
theorem w_x_NS_type_J41 {r : Int32 × HS} {st : HS} {l0 : Nat} {l1 : Int32} {n0 s0 : Nat} {H : Heap} {locs : List Loc} {ce sl : Nat} {ls : Array Slot} (X : jx p s m args meth c b_x_NS_type 3 (some .boolean) "NoteSheet") (hK : 6 ≤ K) (hq : hC G A s st H locs) (hn : hN ce sl n0 s0 st) (hl : lv_has ls 3 [(0, .ref l0), (1, .int l1)]) (h : x_NS_type_J41 st l0 l1 = some r) : W p l e (rmL K (hNx r.2 - n0) (hNs r.2 - s0)) s m args below meth c H locs ce sl (MQ below (hQc G A (some (.int r.1)) r.2) args s (hNx r.2 - n0) (hNs r.2 - s0) A) (F0 m 41 ls []) := by
  obtain ⟨hx, hb, hr, hml, hown, hts, hlocks⟩ := id X
  have hmr : hle st r.2 := n_x_NS_type_J41 h
  unfold x_NS_type_J41 at h
  refine lv_iconst (v := 0) hx hb d_x_NS_type_41 (by decide) ?_
  exact w_x_NS_type_J42 X hK hq hn (lv_sub hl [0, 1] rfl) h
theorem w_x_NS_type_J37 {r : Int32 × HS} {st : HS} {l0 : Nat} {l1 : Int32} {n0 s0 : Nat} {H : Heap} {locs : List Loc} {ce sl : Nat} {ls : Array Slot} (X : jx p s m args meth c b_x_NS_type 3 (some .boolean) "NoteSheet") (hK : 6 ≤ K) (hq : hC G A s st H locs) (hn : hN ce sl n0 s0 st) (hl : lv_has ls 3 [(0, .ref l0), (1, .int l1)]) (h : x_NS_type_J37 st l0 l1 = some r) : W p l e (rmL K (hNx r.2 - n0) (hNs r.2 - s0)) s m args below meth c H locs ce sl (MQ below (hQc G A (some (.int r.1)) r.2) args s (hNx r.2 - n0) (hNs r.2 - s0) A) (F0 m 37 ls []) := by
  obtain ⟨hx, hb, hr, hml, hown, hts, hlocks⟩ := id X
  have hmr : hle st r.2 := n_x_NS_type_J37 h
  unfold x_NS_type_J37 at h
  refine lv_iconst (v := 1) hx hb d_x_NS_type_37 (by decide) ?_
  refine lv_goto (tgt := 42) hx hb d_x_NS_type_38 (by decide) ?_
  exact w_x_NS_type_J42 X hK hq hn (lv_sub hl [0, 1] rfl) h
theorem w_x_NS_type_J24 {r : Int32 × HS} {st : HS} {l0 : Nat} {l1 : Int32} {n0 s0 : Nat} {H : Heap} {locs : List Loc} {ce sl : Nat} {ls : Array Slot} (X : jx p s m args meth c b_x_NS_type 3 (some .boolean) "NoteSheet") (hK : 6 ≤ K) (hq : hC G A s st H locs) (hn : hN ce sl n0 s0 st) (hl : lv_has ls 3 [(0, .ref l0), (1, .int l1)]) (h : x_NS_type_J24 st l0 l1 = some r) : W p l e (rmL K (hNx r.2 - n0) (hNs r.2 - s0)) s m args below meth c H locs ce sl (MQ below (hQc G A (some (.int r.1)) r.2) args s (hNx r.2 - n0) (hNs r.2 - s0) A) (F0 m 24 ls []) := by
  obtain ⟨hx, hb, hr, hml, hown, hts, hlocks⟩ := id X
  have hmr : hle st r.2 := n_x_NS_type_J24 h
  unfold x_NS_type_J24 at h
  refine lv_iload_n hx hb d_x_NS_type_24 rfl (lv_at hl 1 rfl) ?_
  refine lv_if_le (tgt := 41) hx hb d_x_NS_type_25 (by decide) (fun c25 => ?_) (fun c25 => ?_)
  · replace h := ifp c25 h
    exact w_x_NS_type_J41 X hK hq hn (lv_sub hl [0, 1] rfl) h
  · replace h := ifn c25 h
    refine hs_str X hq d_x_NS_type_28 ?_
    refine lv_iload_n hx hb d_x_NS_type_30 rfl (lv_at hl 1 rfl) ?_
    replace h := obi h; obtain ⟨u1, eu1, h⟩ := h
    replace h := obi h; obtain ⟨x2, ex2, h⟩ := h
    refine hcallV (st' := st) (n := 1) X hq hle.rf (c_x_Str_indexOf l 3 (Nat.le_refl _) G A ex2) (C := 6) rfl eu1 q_175 q_176 q_177 q_4 q_178 ok_x_Str_indexOf rfl (lvl (by omega) (by decide)) hl.1 rfl (Nat.le_of_ble_eq_true rfl) d_x_NS_type_31 (hn.fit hmr) (fun H locs hq => ?_)
    refine lv_if_lt (tgt := 41) hx hb d_x_NS_type_34 (by decide) (fun c34 => ?_) (fun c34 => ?_)
    · replace h := ifp c34 h
      exact w_x_NS_type_J41 X hK hq hn (lv_sub hl [0, 1] rfl) h
    · replace h := ifn c34 h
      exact w_x_NS_type_J37 X hK hq hn (lv_sub hl [0, 1] rfl) h
theorem w_x_NS_type_J12 {r : Int32 × HS} {st : HS} {l0 : Nat} {l1 : Int32} {n0 s0 : Nat} {H : Heap} {locs : List Loc} {ce sl : Nat} {ls : Array Slot} (X : jx p s m args meth c b_x_NS_type 3 (some .boolean) "NoteSheet") (hK : 6 ≤ K) (hq : hC G A s st H locs) (hn : hN ce sl n0 s0 st) (hl : lv_has ls 3 [(0, .ref l0), (1, .int l1)]) (h : x_NS_type_J12 st l0 l1 = some r) : W p l e (rmL K (hNx r.2 - n0) (hNs r.2 - s0)) s m args below meth c H locs ce sl (MQ below (hQc G A (some (.int r.1)) r.2) args s (hNx r.2 - n0) (hNs r.2 - s0) A) (F0 m 12 ls []) := by
  obtain ⟨hx, hb, hr, hml, hown, hts, hlocks⟩ := id X
  have hmr : hle st r.2 := n_x_NS_type_J12 h
  unfold x_NS_type_J12 at h
  refine lv_iload_n hx hb d_x_NS_type_12 rfl (lv_at hl 1 rfl) ?_
  refine lv_bipush (v := 48) hx hb d_x_NS_type_13 (by decide) ?_
  refine lv_icmp_lt (tgt := 24) hx hb d_x_NS_type_15 (by decide) (fun c15 => ?_) (fun c15 => ?_)
  · replace h := ifp c15 h
    exact w_x_NS_type_J24 X hK hq hn (lv_sub hl [0, 1] rfl) h
  · replace h := ifn c15 h
    refine lv_iload_n hx hb d_x_NS_type_18 rfl (lv_at hl 1 rfl) ?_
    refine lv_bipush (v := 57) hx hb d_x_NS_type_19 (by decide) ?_
    refine lv_icmp_le (tgt := 37) hx hb d_x_NS_type_21 (by decide) (fun c21 => ?_) (fun c21 => ?_)
    · replace h := ifp c21 h
      exact w_x_NS_type_J37 X hK hq hn (lv_sub hl [0, 1] rfl) h
    · replace h := ifn c21 h
      exact w_x_NS_type_J24 X hK hq hn (lv_sub hl [0, 1] rfl) h
theorem c_x_NS_type (l : Launch) (K : Nat) (hK : 6 ≤ K) (G : HG) (A : Nat → Prop) {st : HS} {this : Nat} {a1 : Int32} {r : Int32 × HS} (h : x_NS_type st this a1 = some r) : Met l y_x_NS_type (Cond.code y_x_NS_type b_x_NS_type 3 (some .boolean) :: lw_g) (rmL K (hNx r.2 - hNx st) (hNs r.2 - hNs st)) (hPc G A [.ref this, .int a1] st) (hQc G A (some (.int r.1)) r.2) (hNx r.2 - hNx st) (hNs r.2 - hNs st) A := by
  refine Met.ofH (by decide +kernel) (Nat.le_of_ble_eq_true rfl) ?_
  intro p e s m below meth c ls X hmn hq hl
  have hl : lv_has ls 3 [(0, .ref this), (1, .int a1)] := hl
  generalize ([.ref this, .int a1] : List Value).toArray = args at X ⊢
  obtain ⟨hx, hb, hr, hml, hown, hts, hlocks⟩ := id X
  generalize hHH : s.heap = H at hq ⊢
  generalize ([] : List Loc) = locs at hq ⊢
  clear hHH
  have hmr : hle st r.2 := n_x_NS_type h
  have hn : hN 0 0 (hNx st) (hNs st) st := ⟨Nat.zero_add _, Nat.zero_add _⟩
  unfold x_NS_type at h
  refine lv_iload_n hx hb d_x_NS_type_0 rfl (lv_at hl 1 rfl) ?_
  refine lv_bipush (v := 65) hx hb d_x_NS_type_1 (by decide) ?_
  refine lv_icmp_lt (tgt := 12) hx hb d_x_NS_type_3 (by decide) (fun c3 => ?_) (fun c3 => ?_)
  · replace h := ifp c3 h
    exact w_x_NS_type_J12 X hK hq hn (lv_sub hl [0, 1] rfl) h
  · replace h := ifn c3 h
    refine lv_iload_n hx hb d_x_NS_type_6 rfl (lv_at hl 1 rfl) ?_
    refine lv_bipush (v := 76) hx hb d_x_NS_type_7 (by decide) ?_
    refine lv_icmp_le (tgt := 37) hx hb d_x_NS_type_9 (by decide) (fun c9 => ?_) (fun c9 => ?_)
    · replace h := ifp c9 h
      exact w_x_NS_type_J37 X hK hq hn (lv_sub hl [0, 1] rfl) h
    · replace h := ifn c9 h
      exact w_x_NS_type_J12 X hK hq hn (lv_sub hl [0, 1] rfl) h
theorem w_x_NS_cell_J10 {r : Option Nat} {st : HS} {H : Heap} {locs : List Loc} {ls : Array Slot} (X : jx p s m args meth c b_x_NS_cell 2 (some (.object "NoteSheet$Cell")) "NoteSheet") (hK : 0 ≤ K) (hq : hC G A s st H locs) (hl : lv_has ls 2 []) (h : x_NS_cell_J10 st = some r) : W p l e (rmL K 0 0) s m args below meth c H locs 0 0 (MQ below (hQc G A (some (va_rf r)) st) args s 0 0 A) (F0 m 10 ls []) := by
  obtain ⟨hx, hb, hr, hml, hown, hts, hlocks⟩ := id X
  unfold x_NS_cell_J10 at h
  refine lv_null hx hb d_x_NS_cell_10 ?_
  refine lv_goto (tgt := 20) hx hb d_x_NS_cell_11 (by decide) ?_
  cases h
  exact hret_a (v := none) (Or.inl ⟨_, rfl⟩) X hq ⟨Nat.le_refl _, Nat.le_refl _⟩ d_x_NS_cell_20
theorem c_x_NS_cell (l : Launch) (K : Nat) (hK : 0 ≤ K) (G : HG) (A : Nat → Prop) {st : HS} {this : Nat} {a1 : Int32} {r : Option Nat} (h : x_NS_cell st this a1 = some r) : Met l y_x_NS_cell (Cond.code y_x_NS_cell b_x_NS_cell 2 (some (.object "NoteSheet$Cell")) :: lw_g) (rmL K 0 0) (hPc G A [.ref this, .int a1] st) (hQc G A (some (va_rf r)) st) 0 0 A := by
  refine Met.ofH (by decide +kernel) (Nat.le_of_ble_eq_true rfl) ?_
  intro p e s m below meth c ls X hmn hq hl
  have hl : lv_has ls 2 [(0, .ref this), (1, .int a1)] := hl
  generalize ([.ref this, .int a1] : List Value).toArray = args at X ⊢
  obtain ⟨hx, hb, hr, hml, hown, hts, hlocks⟩ := id X
  generalize hHH : s.heap = H at hq ⊢
  generalize ([] : List Loc) = locs at hq ⊢
  clear hHH
  unfold x_NS_cell at h
  refine lv_iload_n hx hb d_x_NS_cell_0 rfl (lv_at hl 1 rfl) ?_
  refine lv_if_lt (tgt := 10) hx hb d_x_NS_cell_1 (by decide) (fun c1 => ?_) (fun c1 => ?_)
  · replace h := ifp c1 h
    exact w_x_NS_cell_J10 X hK hq (lv_sub hl [] rfl) h
  · replace h := ifn c1 h
    refine lv_iload_n hx hb d_x_NS_cell_4 rfl (lv_at hl 1 rfl) ?_
    refine lv_bipush (v := 12) hx hb d_x_NS_cell_5 (by decide) ?_
    refine lv_icmp_lt (tgt := 14) hx hb d_x_NS_cell_7 (by decide) (fun c7 => ?_) (fun c7 => ?_)
    · replace h := ifp c7 h
      refine lv_aload_n hx hb d_x_NS_cell_14 rfl (lv_at hl 0 rfl) ?_
      replace h := obi h; obtain ⟨x1, ex1, h⟩ := h
      refine hg_r X hq 0 1 rfl (by decide) ex1 q_140 d_x_NS_cell_15 ?_
      refine lv_iload_n hx hb d_x_NS_cell_18 rfl (lv_at hl 1 rfl) ?_
      replace h := obi h; obtain ⟨ad2, rfl, h⟩ := h
      replace h := obi h; obtain ⟨x3, ex3, h⟩ := h
      refine ha_rld X hq 4 (by decide) ex3 d_x_NS_cell_19 ?_
      cases h
      exact hret_a (v := _) (Or.inl ⟨_, rfl⟩) X hq ⟨Nat.le_refl _, Nat.le_refl _⟩ d_x_NS_cell_20
    · replace h := ifn c7 h
      exact w_x_NS_cell_J10 X hK hq (lv_sub hl [] rfl) h
theorem w_x_NS_change_L12 {r : HS} (X : jx p s m args meth c b_x_NS_change 3 none "NoteSheet") (hK : 0 ≤ K) : ∀ (n : Nat), ∀ (st : HS) (l0 : Nat) (l1 : Int32) (l2 : Int32) (H : Heap) (locs : List Loc) (ls : Array Slot), x_NS_change_L12 n st l0 l1 l2 = some r → hC G A s st H locs → lv_has ls 3 [(0, .ref l0), (1, .int l1), (2, .int l2)] → W p l e (rmL K 0 0) s m args below meth c H locs 0 0 (MQ below (hQc G A none r) args s 0 0 A) (F0 m 12 ls []) := by
  obtain ⟨hx, hb, hr, hml, hown, hts, hlocks⟩ := id X
  intro n
  induction n with
  | zero => intro st l0 l1 l2 H locs ls h hq hl; exact absurd h (by simp [x_NS_change_L12])
  | succ n ih =>
    intro st l0 l1 l2 H locs ls h hq hl
    rw [x_NS_change_L12] at h
    refine lv_iload_n hx hb d_x_NS_change_12 rfl (lv_at hl 2 rfl) ?_
    refine lv_iload_n hx hb d_x_NS_change_13 rfl (lv_at hl 1 rfl) ?_
    refine lv_icmp_gt (tgt := 33) hx hb d_x_NS_change_14 (by decide) (fun c14 => ?_) (fun c14 => ?_)
    · replace h := ifp c14 h
      cases h
      exact hret_v X hq ⟨Nat.le_refl _, Nat.le_refl _⟩ d_x_NS_change_33
    · replace h := ifn c14 h
      refine lv_aload_n hx hb d_x_NS_change_17 rfl (lv_at hl 0 rfl) ?_
      replace h := obi h; obtain ⟨x1, ex1, h⟩ := h
      refine hg_r X hq 0 9 rfl (by decide) ex1 q_148 d_x_NS_change_18 ?_
      refine lv_iload_n hx hb d_x_NS_change_21 rfl (lv_at hl 2 rfl) ?_
      refine lv_aload_n hx hb d_x_NS_change_22 rfl (lv_at hl 0 rfl) ?_
      replace h := obi h; obtain ⟨x2, ex2, h⟩ := h
      refine hg_i X hq 0 4 rfl (by decide) ex2 q_143 d_x_NS_change_23 ?_
      replace h := obi h; obtain ⟨ad3, rfl, h⟩ := h
      replace h := obi h; obtain ⟨st4, est4, h⟩ := h
      refine ha_ist X hq est4 d_x_NS_change_26 (fun H locs hq => ?_)
      replace h := obi h; obtain ⟨x5, ex5, h⟩ := h
      refine lv_iinc (v := x5) (lv' := [(2, .int x5), (0, .ref l0), (1, .int l1)]) hx hb d_x_NS_change_27 hl (k := 2) rfl (Option.some.inj ex5) (by decide) rfl (fun ls hl => ?_)
      refine lv_goto (tgt := 12) hx hb d_x_NS_change_30 (by decide) ?_
      exact ih _ _ _ _ _ _ _ h hq (lv_sub hl [1, 2, 0] rfl)
theorem c_x_NS_change (l : Launch) (K : Nat) (hK : 0 ≤ K) (G : HG) (A : Nat → Prop) {st : HS} {this : Nat} {a1 : Int32} {r : HS} (h : x_NS_change st this a1 = some r) : Met l y_x_NS_change (Cond.code y_x_NS_change b_x_NS_change 3 none :: lw_g) (rmL K 0 0) (hPc G A [.ref this, .int a1] st) (hQc G A none r) 0 0 A := by
  refine Met.ofH (by decide +kernel) (Nat.le_of_ble_eq_true rfl) ?_
  intro p e s m below meth c ls X hmn hq hl
  have hl : lv_has ls 3 [(0, .ref this), (1, .int a1)] := hl
  generalize ([.ref this, .int a1] : List Value).toArray = args at X ⊢
  obtain ⟨hx, hb, hr, hml, hown, hts, hlocks⟩ := id X
  generalize hHH : s.heap = H at hq ⊢
  generalize ([] : List Loc) = locs at hq ⊢
  clear hHH
  unfold x_NS_change at h
  refine lv_aload_n hx hb d_x_NS_change_0 rfl (lv_at hl 0 rfl) ?_
  refine lv_dup hx hb d_x_NS_change_1 rfl ?_
  replace h := obi h; obtain ⟨x1, ex1, h⟩ := h
  refine hg_i X hq 0 4 rfl (by decide) ex1 q_143 d_x_NS_change_2 ?_
  refine lv_iconst (v := 1) hx hb d_x_NS_change_5 (by decide) ?_
  refine lv_iadd hx hb d_x_NS_change_6 ?_
  replace h := obi h; obtain ⟨st2, est2, h⟩ := h
  refine hp_v (ty := .int) X hq 0 4 rfl (by decide) rfl (by decide +kernel) rfl rfl est2 q_143 d_x_NS_change_7 (fun H locs hq => ?_)
  refine lv_iconst (v := 0) hx hb d_x_NS_change_10 (by decide) ?_
  refine lv_istore_n (lv' := [(2, .int 0), (0, .ref this), (1, .int a1)]) hx hb d_x_NS_change_11 rfl hl (by decide) rfl (fun ls hl => ?_)
  exact w_x_NS_change_L12 X hK 1000 _ _ _ _ _ _ _ h hq (lv_sub hl [1, 2, 0] rfl)
theorem c_x_Rdr_peek (l : Launch) (K : Nat) (hK : 4 ≤ K) (G : HG) (A : Nat → Prop) {st : HS} {this : Nat} {r : Int32} (h : x_Rdr_peek st this = some r) : Met l y_x_Rdr_peek (Cond.code y_x_Rdr_peek b_x_Rdr_peek 1 (some .char) :: lw_g) (rmL K 0 0) (hPc G A [.ref this] st) (hQc G A (some (.int r)) st) 0 0 A := by
  refine Met.ofH (by decide +kernel) (Nat.le_of_ble_eq_true rfl) ?_
  intro p e s m below meth c ls X hmn hq hl
  have hl : lv_has ls 1 [(0, .ref this)] := hl
  generalize ([.ref this] : List Value).toArray = args at X ⊢
  obtain ⟨hx, hb, hr, hml, hown, hts, hlocks⟩ := id X
  generalize hHH : s.heap = H at hq ⊢
  generalize ([] : List Loc) = locs at hq ⊢
  clear hHH
  unfold x_Rdr_peek at h
  refine lv_aload_n hx hb d_x_Rdr_peek_0 rfl (lv_at hl 0 rfl) ?_
  replace h := obi h; obtain ⟨x1, ex1, h⟩ := h
  refine hg_i X hq 4 1 rfl (by decide) ex1 q_72 d_x_Rdr_peek_1 ?_
  refine lv_aload_n hx hb d_x_Rdr_peek_4 rfl (lv_at hl 0 rfl) ?_
  replace h := obi h; obtain ⟨x2, ex2, h⟩ := h
  refine hg_r X hq 4 0 rfl (by decide) ex2 q_71 d_x_Rdr_peek_5 ?_
  replace h := obi h; obtain ⟨ad3, rfl, h⟩ := h
  replace h := obi h; obtain ⟨u4, eu4, h⟩ := h
  replace h := obi h; obtain ⟨x5, ex5, h⟩ := h
  refine hcallV (st' := st) (n := 0) X hq hle.rf (c_x_Str_length l 1 (Nat.le_refl _) G A ex5) (C := 6) rfl eu4 q_457 q_189 q_190 q_4 q_191 ok_x_Str_length rfl (lvl (by omega) (by decide)) hl.1 rfl (Nat.le_of_ble_eq_true rfl) d_x_Rdr_peek_8 ⟨Nat.le_refl _, Nat.le_refl _⟩ (fun H locs hq => ?_)
  refine lv_icmp_ge (tgt := 35) hx hb d_x_Rdr_peek_11 (by decide) (fun c11 => ?_) (fun c11 => ?_)
  · replace h := ifp c11 h
    refine lv_iconst (v := 0) hx hb d_x_Rdr_peek_35 (by decide) ?_
    replace h := obi h; obtain ⟨x6, ex6, h⟩ := h
    obtain ⟨ez, hz⟩ := nchk_spec ex6
    cases h
    subst ez
    exact hret_z (nar_eq (Or.inr (Or.inl rfl)) hz) X hq ⟨Nat.le_refl _, Nat.le_refl _⟩ d_x_Rdr_peek_36
  · replace h := ifn c11 h
    refine lv_aload_n hx hb d_x_Rdr_peek_14 rfl (lv_at hl 0 rfl) ?_
    replace h := obi h; obtain ⟨x7, ex7, h⟩ := h
    refine hg_i X hq 4 3 rfl (by decide) ex7 q_75 d_x_Rdr_peek_15 ?_
    refine lv_if_ne (tgt := 35) hx hb d_x_Rdr_peek_18 (by decide) (fun c18 => ?_) (fun c18 => ?_)
    · replace h := ifn c18 h
      refine lv_iconst (v := 0) hx hb d_x_Rdr_peek_35 (by decide) ?_
      replace h := obi h; obtain ⟨x8, ex8, h⟩ := h
      obtain ⟨ez, hz⟩ := nchk_spec ex8
      cases h
      subst ez
      exact hret_z (nar_eq (Or.inr (Or.inl rfl)) hz) X hq ⟨Nat.le_refl _, Nat.le_refl _⟩ d_x_Rdr_peek_36
    · replace h := ifp c18 h
      refine lv_aload_n hx hb d_x_Rdr_peek_21 rfl (lv_at hl 0 rfl) ?_
      replace h := obi h; obtain ⟨x9, ex9, h⟩ := h
      refine hg_r X hq 4 0 rfl (by decide) ex9 q_71 d_x_Rdr_peek_22 ?_
      refine lv_aload_n hx hb d_x_Rdr_peek_25 rfl (lv_at hl 0 rfl) ?_
      replace h := obi h; obtain ⟨x10, ex10, h⟩ := h
      refine hg_i X hq 4 1 rfl (by decide) ex10 q_72 d_x_Rdr_peek_26 ?_
      replace h := obi h; obtain ⟨ad11, rfl, h⟩ := h
      replace h := obi h; obtain ⟨u12, eu12, h⟩ := h
      replace h := obi h; obtain ⟨x13, ex13, h⟩ := h
      refine hcallV (st' := st) (n := 1) X hq hle.rf (c_x_Str_charAt l 3 (Nat.le_refl _) G A ex13) (C := 6) rfl eu12 q_458 q_459 q_460 q_4 q_461 ok_x_Str_charAt rfl (lvl (by omega) (by decide)) hl.1 rfl (Nat.le_of_ble_eq_true rfl) d_x_Rdr_peek_29 ⟨Nat.le_refl _, Nat.le_refl _⟩ (fun H locs hq => ?_)
      refine lv_goto (tgt := 36) hx hb d_x_Rdr_peek_32 (by decide) ?_
      replace h := obi h; obtain ⟨x14, ex14, h⟩ := h
      obtain ⟨ez, hz⟩ := nchk_spec ex14
      cases h
      subst ez
      exact hret_z (nar_eq (Or.inr (Or.inl rfl)) hz) X hq ⟨Nat.le_refl _, Nat.le_refl _⟩ d_x_Rdr_peek_36
theorem w_x_Rdr_takes_J28 {r : Int32 × HS} {st : HS} {l2 : Int32} {w0 : Int32} {w1 : Int32} {w2 : Nat} {H : Heap} {locs : List Loc} {ls : Array Slot} (X : jx p s m args meth c b_x_Rdr_takes 3 (some .boolean) "NoteSheet$Reader") (hK : 5 ≤ K) (hq : hC G A s st H locs) (hl : lv_has ls 3 [(2, .int l2)]) (h : x_Rdr_takes_J28 st l2 w0 w1 w2 = some r) : W p l e (rmL K 0 0) s m args below meth c H locs 0 0 (MQ below (hQc G A (some (.int r.1)) r.2) args s 0 0 A) (F0 m 28 ls [.int w0, .int w1, .ref w2]) := by
  obtain ⟨hx, hb, hr, hml, hown, hts, hlocks⟩ := id X
  unfold x_Rdr_takes_J28 at h
  refine lv_iadd hx hb d_x_Rdr_takes_28 ?_
  replace h := obi h; obtain ⟨st1, est1, h⟩ := h
  refine hp_v (ty := .int) X hq 4 1 rfl (by decide) rfl (by decide +kernel) rfl rfl est1 q_72 d_x_Rdr_takes_29 (fun H locs hq => ?_)
  refine lv_iload_n hx hb d_x_Rdr_takes_32 rfl (lv_at hl 0 rfl) ?_
  replace h := obi h; obtain ⟨x2, ex2, h⟩ := h
  obtain ⟨ez, hz⟩ := bchk_spec ex2
  cases h
  subst ez
  exact hret_z (bchk_nar hz).1 X hq ⟨Nat.le_refl _, Nat.le_refl _⟩ d_x_Rdr_takes_33
theorem w_x_Rdr_takes_J13 {r : Int32 × HS} {st : HS} {l0 : Nat} {w0 : Int32} {H : Heap} {locs : List Loc} {ls : Array Slot} (X : jx p s m args meth c b_x_Rdr_takes 3 (some .boolean) "NoteSheet$Reader") (hK : 5 ≤ K) (hq : hC G A s st H locs) (hl : lv_has ls 3 [(0, .ref l0)]) (h : x_Rdr_takes_J13 st l0 w0 = some r) : W p l e (rmL K 0 0) s m args below meth c H locs 0 0 (MQ below (hQc G A (some (.int r.1)) r.2) args s 0 0 A) (F0 m 13 ls [.int w0]) := by
  obtain ⟨hx, hb, hr, hml, hown, hts, hlocks⟩ := id X
  unfold x_Rdr_takes_J13 at h
  refine lv_istore_n (lv' := [(2, .int w0), (0, .ref l0)]) hx hb d_x_Rdr_takes_13 rfl hl (by decide) rfl (fun ls hl => ?_)
  refine lv_aload_n hx hb d_x_Rdr_takes_14 rfl (lv_at hl 1 rfl) ?_
  refine lv_dup hx hb d_x_Rdr_takes_15 rfl ?_
  replace h := obi h; obtain ⟨x1, ex1, h⟩ := h
  refine hg_i X hq 4 1 rfl (by decide) ex1 q_72 d_x_Rdr_takes_16 ?_
  refine lv_iload_n hx hb d_x_Rdr_takes_19 rfl (lv_at hl 0 rfl) ?_
  refine lv_if_eq (tgt := 27) hx hb d_x_Rdr_takes_20 (by decide) (fun c20 => ?_) (fun c20 => ?_)
  · replace h := ifp c20 h
    refine lv_iconst (v := 0) hx hb d_x_Rdr_takes_27 (by decide) ?_
    exact w_x_Rdr_takes_J28 X hK hq (lv_sub hl [0] rfl) h
  · replace h := ifn c20 h
    refine lv_iconst (v := 1) hx hb d_x_Rdr_takes_23 (by decide) ?_
    refine lv_goto (tgt := 28) hx hb d_x_Rdr_takes_24 (by decide) ?_
    exact w_x_Rdr_takes_J28 X hK hq (lv_sub hl [0] rfl) h
theorem c_x_Rdr_takes (l : Launch) (K : Nat) (hK : 5 ≤ K) (G : HG) (A : Nat → Prop) {st : HS} {this : Nat} {a1 : Int32} {r : Int32 × HS} (h : x_Rdr_takes st this a1 = some r) : Met l y_x_Rdr_takes (Cond.code y_x_Rdr_takes b_x_Rdr_takes 3 (some .boolean) :: lw_g) (rmL K 0 0) (hPc G A [.ref this, .int a1] st) (hQc G A (some (.int r.1)) r.2) 0 0 A := by
  refine Met.ofH (by decide +kernel) (Nat.le_of_ble_eq_true rfl) ?_
  intro p e s m below meth c ls X hmn hq hl
  have hl : lv_has ls 3 [(0, .ref this), (1, .int a1)] := hl
  generalize ([.ref this, .int a1] : List Value).toArray = args at X ⊢
  obtain ⟨hx, hb, hr, hml, hown, hts, hlocks⟩ := id X
  generalize hHH : s.heap = H at hq ⊢
  generalize ([] : List Loc) = locs at hq ⊢
  clear hHH
  unfold x_Rdr_takes at h
  refine lv_aload_n hx hb d_x_Rdr_takes_0 rfl (lv_at hl 0 rfl) ?_
  replace h := obi h; obtain ⟨u1, eu1, h⟩ := h
  replace h := obi h; obtain ⟨x2, ex2, h⟩ := h
  refine hcallV (st' := st) (n := 0) X hq hle.rf (c_x_Rdr_peek l 4 (Nat.le_refl _) G A ex2) (C := 4) rfl eu1 q_453 q_455 q_p7 q_6 q_456 ok_x_Rdr_peek rfl (lvl (by omega) (by decide)) hl.1 rfl (Nat.le_of_ble_eq_true rfl) d_x_Rdr_takes_1 ⟨Nat.le_refl _, Nat.le_refl _⟩ (fun H locs hq => ?_)
  refine lv_iload_n hx hb d_x_Rdr_takes_4 rfl (lv_at hl 1 rfl) ?_
  refine lv_icmp_ne (tgt := 12) hx hb d_x_Rdr_takes_5 (by decide) (fun c5 => ?_) (fun c5 => ?_)
  · replace h := ifn c5 h
    refine lv_iconst (v := 0) hx hb d_x_Rdr_takes_12 (by decide) ?_
    exact w_x_Rdr_takes_J13 X hK hq (lv_sub hl [0] rfl) h
  · replace h := ifp c5 h
    refine lv_iconst (v := 1) hx hb d_x_Rdr_takes_8 (by decide) ?_
    refine lv_goto (tgt := 13) hx hb d_x_Rdr_takes_9 (by decide) ?_
    exact w_x_Rdr_takes_J13 X hK hq (lv_sub hl [0] rfl) h
theorem c_x_Rdr_put (l : Launch) (K : Nat) (hK : 0 ≤ K) (G : HG) (A : Nat → Prop) {st : HS} {this : Nat} {a1 : Nat} {a2 : Int32} {r : Int32 × HS} (h : x_Rdr_put st this a1 a2 = some r) : Met l y_x_Rdr_put (Cond.code y_x_Rdr_put b_x_Rdr_put 3 (some .int) :: lw_g) (rmL K 0 0) (hPc G A [.ref this, .ref a1, .int a2] st) (hQc G A (some (.int r.1)) r.2) 0 0 A := by
  refine Met.ofH (by decide +kernel) (Nat.le_of_ble_eq_true rfl) ?_
  intro p e s m below meth c ls X hmn hq hl
  have hl : lv_has ls 3 [(0, .ref this), (1, .ref a1), (2, .int a2)] := hl
  generalize ([.ref this, .ref a1, .int a2] : List Value).toArray = args at X ⊢
  obtain ⟨hx, hb, hr, hml, hown, hts, hlocks⟩ := id X
  generalize hHH : s.heap = H at hq ⊢
  generalize ([] : List Loc) = locs at hq ⊢
  clear hHH
  unfold x_Rdr_put at h
  refine lv_aload_n hx hb d_x_Rdr_put_0 rfl (lv_at hl 0 rfl) ?_
  replace h := obi h; obtain ⟨x1, ex1, h⟩ := h
  refine hg_r X hq 4 4 rfl (by decide) ex1 q_76 d_x_Rdr_put_1 ?_
  refine lv_aload_n hx hb d_x_Rdr_put_4 rfl (lv_at hl 0 rfl) ?_
  replace h := obi h; obtain ⟨x2, ex2, h⟩ := h
  refine hg_i X hq 4 2 rfl (by decide) ex2 q_74 d_x_Rdr_put_5 ?_
  refine lv_aload_n hx hb d_x_Rdr_put_8 rfl (lv_at hl 1 rfl) ?_
  replace h := obi h; obtain ⟨ad3, rfl, h⟩ := h
  replace h := obi h; obtain ⟨st4, est4, h⟩ := h
  refine ha_rst X hq 5 est4 d_x_Rdr_put_9 (fun H locs hq => ?_)
  refine lv_aload_n hx hb d_x_Rdr_put_10 rfl (lv_at hl 0 rfl) ?_
  replace h := obi h; obtain ⟨x5, ex5, h⟩ := h
  refine hg_r X hq 4 5 rfl (by decide) ex5 q_77 d_x_Rdr_put_11 ?_
  refine lv_aload_n hx hb d_x_Rdr_put_14 rfl (lv_at hl 0 rfl) ?_
  replace h := obi h; obtain ⟨x6, ex6, h⟩ := h
  refine hg_i X hq 4 2 rfl (by decide) ex6 q_74 d_x_Rdr_put_15 ?_
  refine lv_iload_n hx hb d_x_Rdr_put_18 rfl (lv_at hl 2 rfl) ?_
  replace h := obi h; obtain ⟨ad7, rfl, h⟩ := h
  replace h := obi h; obtain ⟨st8, est8, h⟩ := h
  refine ha_ist X hq est8 d_x_Rdr_put_19 (fun H locs hq => ?_)
  refine lv_aload_n hx hb d_x_Rdr_put_20 rfl (lv_at hl 0 rfl) ?_
  refine lv_dup hx hb d_x_Rdr_put_21 rfl ?_
  replace h := obi h; obtain ⟨x9, ex9, h⟩ := h
  refine hg_i X hq 4 2 rfl (by decide) ex9 q_74 d_x_Rdr_put_22 ?_
  refine lv_iconst (v := 1) hx hb d_x_Rdr_put_25 (by decide) ?_
  refine lv_iadd hx hb d_x_Rdr_put_26 ?_
  replace h := obi h; obtain ⟨st10, est10, h⟩ := h
  refine hp_v (ty := .int) X hq 4 2 rfl (by decide) rfl (by decide +kernel) rfl rfl est10 q_74 d_x_Rdr_put_27 (fun H locs hq => ?_)
  refine lv_aload_n hx hb d_x_Rdr_put_30 rfl (lv_at hl 0 rfl) ?_
  replace h := obi h; obtain ⟨x11, ex11, h⟩ := h
  refine hg_i X hq 4 2 rfl (by decide) ex11 q_74 d_x_Rdr_put_31 ?_
  refine lv_iconst (v := 1) hx hb d_x_Rdr_put_34 (by decide) ?_
  refine lv_isub hx hb d_x_Rdr_put_35 ?_
  cases h
  exact hret_i X hq ⟨Nat.le_refl _, Nat.le_refl _⟩ d_x_Rdr_put_36
theorem w_x_Rdr_need_J21 {r : HS} {st : HS} {w0 : Int32} {w1 : Nat} {H : Heap} {locs : List Loc} {ls : Array Slot} (X : jx p s m args meth c b_x_Rdr_need 2 none "NoteSheet$Reader") (hK : 6 ≤ K) (hq : hC G A s st H locs) (hl : lv_has ls 2 []) (h : x_Rdr_need_J21 st w0 w1 = some r) : W p l e (rmL K 0 0) s m args below meth c H locs 0 0 (MQ below (hQc G A none r) args s 0 0 A) (F0 m 21 ls [.int w0, .ref w1]) := by
  obtain ⟨hx, hb, hr, hml, hown, hts, hlocks⟩ := id X
  unfold x_Rdr_need_J21 at h
  replace h := obi h; obtain ⟨x1, ex1, h⟩ := h
  obtain ⟨ezx1, hzx1⟩ := bchk_spec ex1
  subst ezx1
  replace h := obi h; obtain ⟨st2, est2, h⟩ := h
  refine hp_v (ty := .boolean) X hq 4 3 rfl (by decide) rfl (by decide +kernel) (bchk_nar hzx1).1 (bchk_nar hzx1).2 est2 q_75 d_x_Rdr_need_21 (fun H locs hq => ?_)
  cases h
  exact hret_v X hq ⟨Nat.le_refl _, Nat.le_refl _⟩ d_x_Rdr_need_24
theorem w_x_Rdr_need_J16 {r : HS} {st : HS} {w0 : Nat} {H : Heap} {locs : List Loc} {ls : Array Slot} (X : jx p s m args meth c b_x_Rdr_need 2 none "NoteSheet$Reader") (hK : 6 ≤ K) (hq : hC G A s st H locs) (hl : lv_has ls 2 []) (h : x_Rdr_need_J16 st w0 = some r) : W p l e (rmL K 0 0) s m args below meth c H locs 0 0 (MQ below (hQc G A none r) args s 0 0 A) (F0 m 16 ls [.ref w0]) := by
  obtain ⟨hx, hb, hr, hml, hown, hts, hlocks⟩ := id X
  unfold x_Rdr_need_J16 at h
  refine lv_iconst (v := 1) hx hb d_x_Rdr_need_16 (by decide) ?_
  refine lv_goto (tgt := 21) hx hb d_x_Rdr_need_17 (by decide) ?_
  exact w_x_Rdr_need_J21 X hK hq (lv_sub hl [] rfl) h
theorem c_x_Rdr_need (l : Launch) (K : Nat) (hK : 6 ≤ K) (G : HG) (A : Nat → Prop) {st : HS} {this : Nat} {a1 : Int32} {r : HS} (h : x_Rdr_need st this a1 = some r) : Met l y_x_Rdr_need (Cond.code y_x_Rdr_need b_x_Rdr_need 2 none :: lw_g) (rmL K 0 0) (hPc G A [.ref this, .int a1] st) (hQc G A none r) 0 0 A := by
  refine Met.ofH (by decide +kernel) (Nat.le_of_ble_eq_true rfl) ?_
  intro p e s m below meth c ls X hmn hq hl
  have hl : lv_has ls 2 [(0, .ref this), (1, .int a1)] := hl
  generalize ([.ref this, .int a1] : List Value).toArray = args at X ⊢
  obtain ⟨hx, hb, hr, hml, hown, hts, hlocks⟩ := id X
  generalize hHH : s.heap = H at hq ⊢
  generalize ([] : List Loc) = locs at hq ⊢
  clear hHH
  unfold x_Rdr_need at h
  refine lv_aload_n hx hb d_x_Rdr_need_0 rfl (lv_at hl 0 rfl) ?_
  refine lv_aload_n hx hb d_x_Rdr_need_1 rfl (lv_at hl 0 rfl) ?_
  replace h := obi h; obtain ⟨x1, ex1, h⟩ := h
  refine hg_i X hq 4 3 rfl (by decide) ex1 q_75 d_x_Rdr_need_2 ?_
  refine lv_if_ne (tgt := 16) hx hb d_x_Rdr_need_5 (by decide) (fun c5 => ?_) (fun c5 => ?_)
  · replace h := ifn c5 h
    exact w_x_Rdr_need_J16 X hK hq (lv_sub hl [] rfl) h
  · replace h := ifp c5 h
    refine lv_aload_n hx hb d_x_Rdr_need_8 rfl (lv_at hl 0 rfl) ?_
    refine lv_iload_n hx hb d_x_Rdr_need_9 rfl (lv_at hl 1 rfl) ?_
    replace h := obi h; obtain ⟨u2, eu2, h⟩ := h
    replace h := obi h; obtain ⟨q3, eq3, h⟩ := h
    refine hcallV (n := 1) X hq (n_x_Rdr_takes eq3).le (c_x_Rdr_takes l 5 (Nat.le_refl _) G A eq3) (C := 4) rfl eu2 q_477 q_479 q_p9 q_6 q_480 ok_x_Rdr_takes rfl (lvl (by omega) (by decide)) hl.1 rfl (Nat.le_of_ble_eq_true rfl) d_x_Rdr_need_10 ⟨Nat.le_refl _, Nat.le_refl _⟩ (fun H locs hq => ?_)
    refine lv_if_ne (tgt := 20) hx hb d_x_Rdr_need_13 (by decide) (fun c13 => ?_) (fun c13 => ?_)
    · replace h := ifn c13 h
      refine lv_iconst (v := 0) hx hb d_x_Rdr_need_20 (by decide) ?_
      exact w_x_Rdr_need_J21 X hK hq (lv_sub hl [] rfl) h
    · replace h := ifp c13 h
      exact w_x_Rdr_need_J16 X hK hq (lv_sub hl [] rfl) h
theorem c_x_Rdr_formula (l : Launch) (K : Nat) (hK : 7 ≤ K) (G : HG) (A : Nat → Prop) {g_comparison : HS → Nat → Int32 → Option HS} {g_one : HS → Nat → Int32 → Option HS} {Kg : Nat} (nm_comparison : ∀ {st : HS} {this : Nat} {a1 : Int32} {r : HS}, g_comparison st this a1 = some r → hke st r) (nm_one : ∀ {st : HS} {this : Nat} {a1 : Int32} {r : HS}, g_one st this a1 = some r → hke st r) (M_comparison : ∀ {st : HS} {this : Nat} {a1 : Int32} {r : HS}, g_comparison st this a1 = some r → Met l y_x_Rdr_comparison (Cond.code y_x_Rdr_comparison b_x_Rdr_comparison 3 none :: lw_g) (rmL Kg 0 0) (hPc G A [.ref this, .int a1] st) (hQc G A none r) 0 0 A) (M_one : ∀ {st : HS} {this : Nat} {a1 : Int32} {r : HS}, g_one st this a1 = some r → Met l y_x_Rdr_one (Cond.code y_x_Rdr_one b_x_Rdr_one 2 none :: lw_g) (rmL Kg 0 0) (hPc G A [.ref this, .int a1] st) (hQc G A none r) 0 0 A) (hKg : Kg + 1 ≤ K) {st : HS} {this : Nat} {a1 : Int32} {r : HS} (h : x_Rdr_formula g_comparison g_one st this a1 = some r) : Met l y_x_Rdr_formula (Cond.code y_x_Rdr_formula b_x_Rdr_formula 4 none :: lw_g) (rmL K 0 0) (hPc G A [.ref this, .int a1] st) (hQc G A none r) 0 0 A := by
  refine Met.ofH (by decide +kernel) (Nat.le_of_ble_eq_true rfl) ?_
  intro p e s m below meth c ls X hmn hq hl
  have hl : lv_has ls 4 [(0, .ref this), (1, .int a1)] := hl
  generalize ([.ref this, .int a1] : List Value).toArray = args at X ⊢
  obtain ⟨hx, hb, hr, hml, hown, hts, hlocks⟩ := id X
  generalize hHH : s.heap = H at hq ⊢
  generalize ([] : List Loc) = locs at hq ⊢
  clear hHH
  unfold x_Rdr_formula at h
  refine lv_aload_n hx hb d_x_Rdr_formula_0 rfl (lv_at hl 0 rfl) ?_
  refine lv_iload_n hx hb d_x_Rdr_formula_1 rfl (lv_at hl 1 rfl) ?_
  replace h := obi h; obtain ⟨u1, eu1, h⟩ := h
  replace h := obi h; obtain ⟨st2, est2, h⟩ := h
  refine hcallV (n := 1) X hq (nm_comparison est2).le (M_comparison est2) (C := 4) rfl eu1 q_433 q_435 q_p2 q_6 q_436 ok_x_Rdr_comparison rfl (lvl (by omega) (by decide)) hl.1 rfl (Nat.le_of_ble_eq_true rfl) d_x_Rdr_formula_2 ⟨Nat.le_refl _, Nat.le_refl _⟩ (fun H locs hq => ?_)
  refine lv_aload_n hx hb d_x_Rdr_formula_5 rfl (lv_at hl 0 rfl) ?_
  refine lv_bipush (v := 63) hx hb d_x_Rdr_formula_6 (by decide) ?_
  replace h := obi h; obtain ⟨u3, eu3, h⟩ := h
  replace h := obi h; obtain ⟨q4, eq4, h⟩ := h
  refine hcallV (n := 1) X hq (n_x_Rdr_takes eq4).le (c_x_Rdr_takes l 5 (Nat.le_refl _) G A eq4) (C := 4) rfl eu3 q_477 q_479 q_p9 q_6 q_480 ok_x_Rdr_takes rfl (lvl (by omega) (by decide)) hl.1 rfl (Nat.le_of_ble_eq_true rfl) d_x_Rdr_formula_8 ⟨Nat.le_refl _, Nat.le_refl _⟩ (fun H locs hq => ?_)
  refine lv_if_ne (tgt := 15) hx hb d_x_Rdr_formula_11 (by decide) (fun c11 => ?_) (fun c11 => ?_)
  · replace h := ifn c11 h
    refine lv_aload_n hx hb d_x_Rdr_formula_15 rfl (lv_at hl 0 rfl) ?_
    refine hs_op X hq 9 (by decide) rfl q_503 d_x_Rdr_formula_16 ?_
    refine lv_iconst (v := 0) hx hb d_x_Rdr_formula_19 (by decide) ?_
    replace h := obi h; obtain ⟨u5, eu5, h⟩ := h
    replace h := obi h; obtain ⟨q6, eq6, h⟩ := h
    refine hcallV (n := 2) X hq (n_x_Rdr_put eq6).le (c_x_Rdr_put l 0 (Nat.le_refl _) G A eq6) (C := 4) rfl eu5 q_471 q_473 q_p8 q_6 q_474 ok_x_Rdr_put rfl (lvl (by omega) (by decide)) hl.1 rfl (Nat.le_of_ble_eq_true rfl) d_x_Rdr_formula_20 ⟨Nat.le_refl _, Nat.le_refl _⟩ (fun H locs hq => ?_)
    refine lv_istore_n (lv' := [(2, .int q6.1), (0, .ref this), (1, .int a1)]) hx hb d_x_Rdr_formula_23 rfl hl (by decide) rfl (fun ls hl => ?_)
    refine lv_aload_n hx hb d_x_Rdr_formula_24 rfl (lv_at hl 1 rfl) ?_
    refine lv_iload_n hx hb d_x_Rdr_formula_25 rfl (lv_at hl 2 rfl) ?_
    replace h := obi h; obtain ⟨u7, eu7, h⟩ := h
    replace h := obi h; obtain ⟨st8, est8, h⟩ := h
    refine hcallV (n := 1) X hq (nm_one est8).le (M_one est8) (C := 4) rfl eu7 q_481 q_483 q_p10 q_6 q_484 ok_x_Rdr_one rfl (lvl (by omega) (by decide)) hl.1 rfl (Nat.le_of_ble_eq_true rfl) d_x_Rdr_formula_26 ⟨Nat.le_refl _, Nat.le_refl _⟩ (fun H locs hq => ?_)
    refine lv_aload_n hx hb d_x_Rdr_formula_29 rfl (lv_at hl 1 rfl) ?_
    refine lv_bipush (v := 58) hx hb d_x_Rdr_formula_30 (by decide) ?_
    replace h := obi h; obtain ⟨u9, eu9, h⟩ := h
    replace h := obi h; obtain ⟨st10, est10, h⟩ := h
    refine hcallV (n := 1) X hq (n_x_Rdr_need est10).le (c_x_Rdr_need l 6 (Nat.le_refl _) G A est10) (C := 4) rfl eu9 q_485 q_487 q_p11 q_6 q_488 ok_x_Rdr_need rfl (lvl (by omega) (by decide)) hl.1 rfl (Nat.le_of_ble_eq_true rfl) d_x_Rdr_formula_32 ⟨Nat.le_refl _, Nat.le_refl _⟩ (fun H locs hq => ?_)
    refine lv_aload_n hx hb d_x_Rdr_formula_35 rfl (lv_at hl 1 rfl) ?_
    refine hs_op X hq 10 (by decide) rfl q_505 d_x_Rdr_formula_36 ?_
    refine lv_iconst (v := 0) hx hb d_x_Rdr_formula_39 (by decide) ?_
    replace h := obi h; obtain ⟨u11, eu11, h⟩ := h
    replace h := obi h; obtain ⟨q12, eq12, h⟩ := h
    refine hcallV (n := 2) X hq (n_x_Rdr_put eq12).le (c_x_Rdr_put l 0 (Nat.le_refl _) G A eq12) (C := 4) rfl eu11 q_471 q_473 q_p8 q_6 q_474 ok_x_Rdr_put rfl (lvl (by omega) (by decide)) hl.1 rfl (Nat.le_of_ble_eq_true rfl) d_x_Rdr_formula_40 ⟨Nat.le_refl _, Nat.le_refl _⟩ (fun H locs hq => ?_)
    refine lv_istore_n (lv' := [(3, .int q12.1), (2, .int q6.1), (0, .ref this), (1, .int a1)]) hx hb d_x_Rdr_formula_43 rfl hl (by decide) rfl (fun ls hl => ?_)
    refine lv_aload_n hx hb d_x_Rdr_formula_44 rfl (lv_at hl 2 rfl) ?_
    replace h := obi h; obtain ⟨x13, ex13, h⟩ := h
    refine hg_r X hq 4 5 rfl (by decide) ex13 q_77 d_x_Rdr_formula_45 ?_
    refine lv_iload_n hx hb d_x_Rdr_formula_48 rfl (lv_at hl 1 rfl) ?_
    refine lv_aload_n hx hb d_x_Rdr_formula_49 rfl (lv_at hl 2 rfl) ?_
    replace h := obi h; obtain ⟨x14, ex14, h⟩ := h
    refine hg_i X hq 4 2 rfl (by decide) ex14 q_74 d_x_Rdr_formula_50 ?_
    replace h := obi h; obtain ⟨ad15, rfl, h⟩ := h
    replace h := obi h; obtain ⟨st16, est16, h⟩ := h
    refine ha_ist X hq est16 d_x_Rdr_formula_53 (fun H locs hq => ?_)
    refine lv_aload_n hx hb d_x_Rdr_formula_54 rfl (lv_at hl 2 rfl) ?_
    refine lv_iload_n hx hb d_x_Rdr_formula_55 rfl (lv_at hl 3 rfl) ?_
    replace h := obi h; obtain ⟨u17, eu17, h⟩ := h
    replace h := obi h; obtain ⟨st18, est18, h⟩ := h
    refine hcallV (n := 1) X hq (nm_one est18).le (M_one est18) (C := 4) rfl eu17 q_481 q_483 q_p10 q_6 q_484 ok_x_Rdr_one rfl (lvl (by omega) (by decide)) hl.1 rfl (Nat.le_of_ble_eq_true rfl) d_x_Rdr_formula_56 ⟨Nat.le_refl _, Nat.le_refl _⟩ (fun H locs hq => ?_)
    refine lv_aload_n hx hb d_x_Rdr_formula_59 rfl (lv_at hl 2 rfl) ?_
    replace h := obi h; obtain ⟨x19, ex19, h⟩ := h
    refine hg_r X hq 4 5 rfl (by decide) ex19 q_77 d_x_Rdr_formula_60 ?_
    refine lv_iload_n hx hb d_x_Rdr_formula_63 rfl (lv_at hl 0 rfl) ?_
    refine lv_aload_n hx hb d_x_Rdr_formula_64 rfl (lv_at hl 2 rfl) ?_
    replace h := obi h; obtain ⟨x20, ex20, h⟩ := h
    refine hg_i X hq 4 2 rfl (by decide) ex20 q_74 d_x_Rdr_formula_65 ?_
    replace h := obi h; obtain ⟨ad21, rfl, h⟩ := h
    replace h := obi h; obtain ⟨st22, est22, h⟩ := h
    refine ha_ist X hq est22 d_x_Rdr_formula_68 (fun H locs hq => ?_)
    cases h
    exact hret_v X hq ⟨Nat.le_refl _, Nat.le_refl _⟩ d_x_Rdr_formula_69
  · replace h := ifp c11 h
    cases h
    exact hret_v X hq ⟨Nat.le_refl _, Nat.le_refl _⟩ d_x_Rdr_formula_14
theorem w_x_Form_init_L29 {r : HS} {n0 s0 : Nat} (X : jx p s m args meth c b_x_Form_init 6 none "NoteSheet$Formula") (hK : 1 ≤ K) (hmn : meth.name = "<init>") : ∀ (n : Nat), ∀ (st : HS) (l0 : Nat) (l2 : Nat) (l3 : Nat) (l4 : Int32) (l5 : Int32) (H : Heap) (locs : List Loc) (ce sl : Nat) (ls : Array Slot), x_Form_init_L29 n st l0 l2 l3 l4 l5 = some r → hC G A s st H locs → hN ce sl n0 s0 st → lv_has ls 6 [(0, .ref l0), (2, .ref l2), (3, .ref l3), (4, .int l4), (5, .int l5)] → W p l e (rmL K (hNx r - n0) (hNs r - s0)) s m args below meth c H locs ce sl (MQ below (hQc G A none r) args s (hNx r - n0) (hNs r - s0) A) (F0 m 29 ls []) := by
  obtain ⟨hx, hb, hr, hml, hown, hts, hlocks⟩ := id X
  intro n
  induction n with
  | zero => intro st l0 l2 l3 l4 l5 H locs ce sl ls h hq hn hl; exact absurd h (by simp [x_Form_init_L29])
  | succ n ih =>
    intro st l0 l2 l3 l4 l5 H locs ce sl ls h hq hn hl
    have hmr : hle st r := n_x_Form_init_L29 (n + 1) _ _ _ _ _ _ h
    rw [x_Form_init_L29] at h
    refine lv_iload hx hb d_x_Form_init_29 (lv_at hl 4 rfl) ?_
    refine lv_iload hx hb d_x_Form_init_31 (lv_at hl 3 rfl) ?_
    refine lv_icmp_ge (tgt := 64) hx hb d_x_Form_init_33 (by decide) (fun c33 => ?_) (fun c33 => ?_)
    · replace h := ifp c33 h
      cases h
      exact hret_v X hq (hn.fit hle.rf) d_x_Form_init_64
    · replace h := ifn c33 h
      refine lv_aload_n hx hb d_x_Form_init_36 rfl (lv_at hl 0 rfl) ?_
      replace h := obi h; obtain ⟨x1, ex1, h⟩ := h
      refine hg_r X hq 2 1 rfl (by decide) ex1 q_516 d_x_Form_init_37 ?_
      refine lv_iload hx hb d_x_Form_init_40 (lv_at hl 4 rfl) ?_
      refine lv_aload_n hx hb d_x_Form_init_42 rfl (lv_at hl 1 rfl) ?_
      refine lv_iload hx hb d_x_Form_init_43 (lv_at hl 4 rfl) ?_
      replace h := obi h; obtain ⟨x2, ex2, h⟩ := h
      refine ha_rld X hq 5 (by decide) ex2 d_x_Form_init_45 ?_
      replace h := obi h; obtain ⟨ad3, rfl, h⟩ := h
      replace h := obi h; obtain ⟨ad4, rfl, h⟩ := h
      replace h := obi h; obtain ⟨st5, est5, h⟩ := h
      refine ha_rst X hq 5 est5 d_x_Form_init_46 (fun H locs hq => ?_)
      have hn := hn.ke (hWr_ke est5)
      have hmr := hmr.ke (hWr_ke est5)
      refine lv_aload_n hx hb d_x_Form_init_47 rfl (lv_at hl 0 rfl) ?_
      replace h := obi h; obtain ⟨x6, ex6, h⟩ := h
      refine hg_r X hq 2 2 rfl (by decide) ex6 q_518 d_x_Form_init_48 ?_
      refine lv_iload hx hb d_x_Form_init_51 (lv_at hl 4 rfl) ?_
      refine lv_aload_n hx hb d_x_Form_init_53 rfl (lv_at hl 2 rfl) ?_
      refine lv_iload hx hb d_x_Form_init_54 (lv_at hl 4 rfl) ?_
      replace h := obi h; obtain ⟨x7, ex7, h⟩ := h
      refine ha_ild X hq ex7 d_x_Form_init_56 ?_
      replace h := obi h; obtain ⟨ad8, rfl, h⟩ := h
      replace h := obi h; obtain ⟨st9, est9, h⟩ := h
      refine ha_ist X hq est9 d_x_Form_init_57 (fun H locs hq => ?_)
      have hn := hn.ke (hWi_ke est9)
      have hmr := hmr.ke (hWi_ke est9)
      replace h := obi h; obtain ⟨x10, ex10, h⟩ := h
      refine lv_iinc (v := x10) (lv' := [(5, .int x10), (0, .ref l0), (2, .ref l2), (3, .ref l3), (4, .int l4)]) hx hb d_x_Form_init_58 hl (k := 4) rfl (Option.some.inj ex10) (by decide) rfl (fun ls hl => ?_)
      refine lv_goto (tgt := 29) hx hb d_x_Form_init_61 (by decide) ?_
      exact ih _ _ _ _ _ _ _ _ _ _ _ h hq hn (lv_sub hl [1, 2, 3, 4, 0] rfl)
theorem w_x_Form_init_J23 {r : HS} {st : HS} {l0 : Nat} {l2 : Nat} {l3 : Nat} {l4 : Int32} {w0 : Nat} {w1 : Nat} {n0 s0 : Nat} {H : Heap} {locs : List Loc} {ce sl : Nat} {ls : Array Slot} (X : jx p s m args meth c b_x_Form_init 6 none "NoteSheet$Formula") (hK : 1 ≤ K) (hmn : meth.name = "<init>") (hq : hC G A s st H locs) (hn : hN ce sl n0 s0 st) (hl : lv_has ls 6 [(0, .ref l0), (2, .ref l2), (3, .ref l3), (4, .int l4)]) (h : x_Form_init_J23 st l0 l2 l3 l4 w0 w1 = some r) : W p l e (rmL K (hNx r - n0) (hNs r - s0)) s m args below meth c H locs ce sl (MQ below (hQc G A none r) args s (hNx r - n0) (hNs r - s0) A) (F0 m 23 ls [.ref w0, .ref w1]) := by
  obtain ⟨hx, hb, hr, hml, hown, hts, hlocks⟩ := id X
  have hmr : hle st r := n_x_Form_init_J23 h
  unfold x_Form_init_J23 at h
  replace h := obi h; obtain ⟨st1, est1, h⟩ := h
  refine hpF_v (ty := (.array .int)) X hmn hq 2 2 rfl (by decide) rfl rfl (by decide +kernel) rfl rfl est1 q_518 d_x_Form_init_23 (fun H locs hq => ?_)
  have hn := hn.ke (hP_ke est1)
  have hmr := hmr.ke (hP_ke est1)
  refine lv_iconst (v := 0) hx hb d_x_Form_init_26 (by decide) ?_
  refine lv_istore (lv' := [(5, .int 0), (0, .ref l0), (2, .ref l2), (3, .ref l3), (4, .int l4)]) hx hb d_x_Form_init_27 hl (by decide) rfl (fun ls hl => ?_)
  exact w_x_Form_init_L29 X hK hmn 1000 _ _ _ _ _ _ _ _ _ _ _ h hq hn (lv_sub hl [1, 2, 3, 4, 0] rfl)
theorem w_x_Form_init_J15 {r : HS} {st : HS} {l0 : Nat} {l2 : Nat} {l3 : Nat} {l4 : Int32} {w0 : Nat} {w1 : Nat} {n0 s0 : Nat} {H : Heap} {locs : List Loc} {ce sl : Nat} {ls : Array Slot} (X : jx p s m args meth c b_x_Form_init 6 none "NoteSheet$Formula") (hK : 1 ≤ K) (hmn : meth.name = "<init>") (hq : hC G A s st H locs) (hn : hN ce sl n0 s0 st) (hl : lv_has ls 6 [(0, .ref l0), (2, .ref l2), (3, .ref l3), (4, .int l4)]) (h : x_Form_init_J15 st l0 l2 l3 l4 w0 w1 = some r) : W p l e (rmL K (hNx r - n0) (hNs r - s0)) s m args below meth c H locs ce sl (MQ below (hQc G A none r) args s (hNx r - n0) (hNs r - s0) A) (F0 m 15 ls [.ref w0, .ref w1]) := by
  obtain ⟨hx, hb, hr, hml, hown, hts, hlocks⟩ := id X
  have hmr : hle st r := n_x_Form_init_J15 h
  unfold x_Form_init_J15 at h
  replace h := obi h; obtain ⟨st1, est1, h⟩ := h
  refine hpF_v (ty := (.array (.object "NoteSheet$Op"))) X hmn hq 2 1 rfl (by decide) rfl rfl (by decide +kernel) rfl rfl est1 q_516 d_x_Form_init_15 (fun H locs hq => ?_)
  have hn := hn.ke (hP_ke est1)
  have hmr := hmr.ke (hP_ke est1)
  refine lv_aload_n hx hb d_x_Form_init_18 rfl (lv_at hl 0 rfl) ?_
  refine lv_iload hx hb d_x_Form_init_19 (lv_at hl 3 rfl) ?_
  replace h := obi h; obtain ⟨ad2, ead2, h⟩ := h
  replace h := obi h; obtain ⟨st3, est3, h⟩ := h
  have hn2 := hn.newa est3
  have hmr := n_x_Form_init_J23 h
  refine h_newa X hq 0 (by decide) .int rfl est3 q_91 (by decide) (hn2.fit hmr) d_x_Form_init_21 (fun H hq => ?_)
  have hn := hn2
  refine lv_nma (Option.some.inj ead2) ?_
  exact w_x_Form_init_J23 X hK hmn hq hn (lv_sub hl [0, 1, 2, 3] rfl) h
theorem c_x_Form_init (l : Launch) (K : Nat) (hK : 1 ≤ K) (G : HG) (A : Nat → Prop) {st : HS} {this : Nat} {a1 : Nat} {a2 : Nat} {a3 : Nat} {a4 : Int32} {r : HS} (h : x_Form_init st this a1 a2 a3 a4 = some r) : Met l y_x_Form_init (Cond.code y_x_Form_init b_x_Form_init 6 none :: lw_g) (rmL K (hNx r - hNx st) (hNs r - hNs st)) (hPc G A [.ref this, .ref a1, .ref a2, .ref a3, .int a4] st) (hQc G A none r) (hNx r - hNx st) (hNs r - hNs st) A := by
  refine Met.ofH (by decide +kernel) (Nat.le_of_ble_eq_true rfl) ?_
  intro p e s m below meth c ls X hmn hq hl
  have hl : lv_has ls 6 [(0, .ref this), (1, .ref a1), (2, .ref a2), (3, .ref a3), (4, .int a4)] := hl
  generalize ([.ref this, .ref a1, .ref a2, .ref a3, .int a4] : List Value).toArray = args at X ⊢
  obtain ⟨hx, hb, hr, hml, hown, hts, hlocks⟩ := id X
  generalize hHH : s.heap = H at hq ⊢
  generalize ([] : List Loc) = locs at hq ⊢
  clear hHH
  have hmr : hle st r := n_x_Form_init h
  have hn : hN 0 0 (hNx st) (hNs st) st := ⟨Nat.zero_add _, Nat.zero_add _⟩
  unfold x_Form_init at h
  refine lv_aload_n hx hb d_x_Form_init_0 rfl (lv_at hl 0 rfl) ?_
  refine h_obj X hl.1 q_512 q_26 q_27 (Nat.le_of_ble_eq_true rfl) (by omega) d_x_Form_init_1 ?_
  refine lv_aload_n hx hb d_x_Form_init_4 rfl (lv_at hl 0 rfl) ?_
  refine lv_aload_n hx hb d_x_Form_init_5 rfl (lv_at hl 1 rfl) ?_
  replace h := obi h; obtain ⟨st1, est1, h⟩ := h
  refine hpF_v (ty := (.object "java/lang/String")) X hmn hq 2 0 rfl (by decide) rfl rfl (by decide +kernel) rfl rfl est1 q_514 d_x_Form_init_6 (fun H locs hq => ?_)
  have hn := hn.ke (hP_ke est1)
  have hmr := hmr.ke (hP_ke est1)
  refine lv_aload_n hx hb d_x_Form_init_9 rfl (lv_at hl 0 rfl) ?_
  refine lv_iload hx hb d_x_Form_init_10 (lv_at hl 4 rfl) ?_
  replace h := obi h; obtain ⟨ad2, ead2, h⟩ := h
  replace h := obi h; obtain ⟨st3, est3, h⟩ := h
  have hn2 := hn.newa est3
  have hmr := n_x_Form_init_J15 h
  refine h_newr X hq 5 (by decide) (by decide) rfl est3 q_513 qn_70 (hn2.fit hmr) d_x_Form_init_12 (fun H hq => ?_)
  have hn := hn2
  refine lv_nma (Option.some.inj ead2) ?_
  exact w_x_Form_init_J15 X hK hmn hq hn (lv_sub hl [0, 2, 3, 4] rfl) h
end
