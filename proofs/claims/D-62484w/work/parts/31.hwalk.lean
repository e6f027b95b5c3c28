section
variable {p : Program} {l : Launch} {e : Env} {s : State} {m : MethodId} {args : Array Value} {below : List Frame} {meth : Method} {c : Code} {G : HG} {A : Nat → Prop} {K Kg : Nat}
theorem c_x_Law_cell (l : Launch) (K : Nat) (hK : 0 ≤ K) (G : HG) (A : Nat → Prop) {st : HS} {a0 : Nat} {a1 : Int32} {r : Int32} (h : x_Law_cell st a0 a1 = some r) : Met l y_x_Law_cell (Cond.code y_x_Law_cell b_x_Law_cell 2 (some .int) :: lw_g) (rmL K 0 0) (hPc G A [.ref a0, .int a1] st) (hQc G A (some (.int r)) st) 0 0 A := by
  refine Met.ofH (by decide +kernel) (Nat.le_of_ble_eq_true rfl) ?_
  intro p e s m below meth c ls X hmn hq hl
  have hl : lv_has ls 2 [(0, .ref a0), (1, .int a1)] := hl
  generalize ([.ref a0, .int a1] : List Value).toArray = args at X ⊢
  obtain ⟨hx, hb, hr, hml, hown, hts, hlocks⟩ := id X
  generalize hHH : s.heap = H at hq ⊢
  generalize ([] : List Loc) = locs at hq ⊢
  clear hHH
  unfold x_Law_cell at h
  refine lv_iload_n hx hb d_x_Law_cell_0 rfl (lv_at hl 1 rfl) ?_
  refine lv_aload_n hx hb d_x_Law_cell_1 rfl (lv_at hl 0 rfl) ?_
  replace h := obi h; obtain ⟨x1, ex1, h⟩ := h
  refine ha_len X hq ex1 d_x_Law_cell_2 ?_
  refine lv_icmp_ge (tgt := 12) hx hb d_x_Law_cell_3 (by decide) (fun c3 => ?_) (fun c3 => ?_)
  · replace h := ifp c3 h
    refine lv_iconst (v := 0) hx hb d_x_Law_cell_12 (by decide) ?_
    cases h
    exact hret_i X hq ⟨Nat.le_refl _, Nat.le_refl _⟩ d_x_Law_cell_13
  · replace h := ifn c3 h
    refine lv_aload_n hx hb d_x_Law_cell_6 rfl (lv_at hl 0 rfl) ?_
    refine lv_iload_n hx hb d_x_Law_cell_7 rfl (lv_at hl 1 rfl) ?_
    replace h := obi h; obtain ⟨x2, ex2, h⟩ := h
    refine ha_ild X hq ex2 d_x_Law_cell_8 ?_
    refine lv_goto (tgt := 13) hx hb d_x_Law_cell_9 (by decide) ?_
    cases h
    exact hret_i X hq ⟨Nat.le_refl _, Nat.le_refl _⟩ d_x_Law_cell_13
end
theorem pg_met (l : Launch) (G : HG) (A : Nat → Prop) : ∀ n K : Nat, 5 * n + 8 ≤ K → (∀ {st : HS} {this : Nat} {a1 : Int32} {r : HS}, (pg n).1 st this a1 = some r → Met l y_x_Rdr_formula (Cond.code y_x_Rdr_formula b_x_Rdr_formula 4 none :: lw_g) (rmL K 0 0) (hPc G A [.ref this, .int a1] st) (hQc G A none r) 0 0 A) ∧ (∀ {st : HS} {this : Nat} {a1 : Int32} {r : HS}, (pg n).2 st this a1 = some r → Met l y_x_Rdr_unit (Cond.code y_x_Rdr_unit b_x_Rdr_unit 5 none :: lw_g) (rmL K 0 0) (hPc G A [.ref this, .int a1] st) (hQc G A none r) 0 0 A) := by
  intro n
  induction n with
  | zero => exact fun K _ => ⟨fun h => (by cases h), fun h => (by cases h)⟩
  | succ n ih =>
    intro K hK
    have ke := pg_ke n
    have uIk : ∀ {st : HS} {this : Nat} {a1 : Int32} {r : HS}, x_Rdr_unitIn (pg n).2 st this a1 = some r → hke st r := fun h => n_x_Rdr_unitIn ke.2 h
    have onk : ∀ {st : HS} {this : Nat} {a1 : Int32} {r : HS}, x_Rdr_one (pg n).1 st this a1 = some r → hke st r := fun h => n_x_Rdr_one ke.1 h
    have prk : ∀ {st : HS} {this : Nat} {a1 : Int32} {r : HS}, x_Rdr_product (x_Rdr_unitIn (pg n).2) st this a1 = some r → hke st r := fun h => n_x_Rdr_product uIk h
    have suk : ∀ {st : HS} {this : Nat} {a1 : Int32} {r : HS}, x_Rdr_sum (x_Rdr_product (x_Rdr_unitIn (pg n).2)) st this a1 = some r → hke st r := fun h => n_x_Rdr_sum prk h
    have cok : ∀ {st : HS} {this : Nat} {a1 : Int32} {r : HS}, x_Rdr_comparison (x_Rdr_sum (x_Rdr_product (x_Rdr_unitIn (pg n).2))) st this a1 = some r → hke st r := fun h => n_x_Rdr_comparison suk h
    have uI : ∀ {st : HS} {this : Nat} {a1 : Int32} {r : HS}, x_Rdr_unitIn (pg n).2 st this a1 = some r → Met l y_x_Rdr_unitIn (Cond.code y_x_Rdr_unitIn b_x_Rdr_unitIn 2 none :: lw_g) (rmL (K - 4) 0 0) (hPc G A [.ref this, .int a1] st) (hQc G A none r) 0 0 A := fun h => c_x_Rdr_unitIn l (K - 4) (by omega) G A (Kg := K - 5) ke.2 (ih (K - 5) (by omega)).2 (by omega) h
    have pr : ∀ {st : HS} {this : Nat} {a1 : Int32} {r : HS}, x_Rdr_product (x_Rdr_unitIn (pg n).2) st this a1 = some r → Met l y_x_Rdr_product (Cond.code y_x_Rdr_product b_x_Rdr_product 2 none :: lw_g) (rmL (K - 3) 0 0) (hPc G A [.ref this, .int a1] st) (hQc G A none r) 0 0 A := fun h => c_x_Rdr_product l (K - 3) (by omega) G A (Kg := K - 4) uIk uI (by omega) h
    have su : ∀ {st : HS} {this : Nat} {a1 : Int32} {r : HS}, x_Rdr_sum (x_Rdr_product (x_Rdr_unitIn (pg n).2)) st this a1 = some r → Met l y_x_Rdr_sum (Cond.code y_x_Rdr_sum b_x_Rdr_sum 3 none :: lw_g) (rmL (K - 2) 0 0) (hPc G A [.ref this, .int a1] st) (hQc G A none r) 0 0 A := fun h => c_x_Rdr_sum l (K - 2) (by omega) G A (Kg := K - 3) prk pr (by omega) h
    have co : ∀ {st : HS} {this : Nat} {a1 : Int32} {r : HS}, x_Rdr_comparison (x_Rdr_sum (x_Rdr_product (x_Rdr_unitIn (pg n).2))) st this a1 = some r → Met l y_x_Rdr_comparison (Cond.code y_x_Rdr_comparison b_x_Rdr_comparison 3 none :: lw_g) (rmL (K - 1) 0 0) (hPc G A [.ref this, .int a1] st) (hQc G A none r) 0 0 A := fun h => c_x_Rdr_comparison l (K - 1) (by omega) G A (Kg := K - 2) suk su (by omega) h
    have on : ∀ {st : HS} {this : Nat} {a1 : Int32} {r : HS}, x_Rdr_one (pg n).1 st this a1 = some r → Met l y_x_Rdr_one (Cond.code y_x_Rdr_one b_x_Rdr_one 2 none :: lw_g) (rmL (K - 1) 0 0) (hPc G A [.ref this, .int a1] st) (hQc G A none r) 0 0 A := fun h => c_x_Rdr_one l (K - 1) (by omega) G A (Kg := K - 5) ke.1 (ih (K - 5) (by omega)).1 (by omega) h
    have uJ : ∀ {st : HS} {this : Nat} {a1 : Int32} {r : HS}, x_Rdr_unitIn (pg n).2 st this a1 = some r → Met l y_x_Rdr_unitIn (Cond.code y_x_Rdr_unitIn b_x_Rdr_unitIn 2 none :: lw_g) (rmL (K - 1) 0 0) (hPc G A [.ref this, .int a1] st) (hQc G A none r) 0 0 A := fun h => c_x_Rdr_unitIn l (K - 1) (by omega) G A (Kg := K - 5) ke.2 (ih (K - 5) (by omega)).2 (by omega) h
    exact ⟨fun h => c_x_Rdr_formula l K (by omega) G A (g_comparison := x_Rdr_comparison (x_Rdr_sum (x_Rdr_product (x_Rdr_unitIn (pg n).2)))) (g_one := x_Rdr_one (pg n).1) (Kg := K - 1) cok onk co on (by omega) h, fun h => c_x_Rdr_unit l K (by omega) G A (g_one := x_Rdr_one (pg n).1) (g_unitIn := x_Rdr_unitIn (pg n).2) (Kg := K - 1) onk uIk on uJ (by omega) h⟩
theorem c_x_Rdr_formulaK (l : Launch) (K : Nat) (hK : 600 ≤ K) (G : HG) (A : Nat → Prop) {st : HS} {this : Nat} {a1 : Int32} {r : HS} (h : x_Rdr_formulaK st this a1 = some r) : Met l y_x_Rdr_formula (Cond.code y_x_Rdr_formula b_x_Rdr_formula 4 none :: lw_g) (rmL K 0 0) (hPc G A [.ref this, .int a1] st) (hQc G A none r) 0 0 A := (pg_met l G A 100 K (by omega)).1 h
theorem eg_met (l : Launch) (G : HG) (A : Nat → Prop) : ∀ n K : Nat, 4 * n + 8 ≤ K → (∀ {st : HS} {this : Nat} {a1 : Nat} {r : HS}, (eg n).1 st this a1 = some r → Met l y_x_NS_bring (Cond.code y_x_NS_bring b_x_NS_bring 2 none :: lw_g) (rmL K (hNx r - hNx st) (hNs r - hNs st)) (hPc G A [.ref this, .ref a1] st) (hQc G A none r) (hNx r - hNx st) (hNs r - hNs st) A) ∧ (∀ {st : HS} {this : Nat} {a1 : Nat} {r : HS}, (eg n).2 st this a1 = some r → Met l y_x_NS_workOut (Cond.code y_x_NS_workOut b_x_NS_workOut 6 none :: lw_g) (rmL K (hNx r - hNx st) (hNs r - hNs st)) (hPc G A [.ref this, .ref a1] st) (hQc G A none r) (hNx r - hNx st) (hNs r - hNs st) A) := by
  intro n
  induction n with
  | zero => exact fun K _ => ⟨fun h => (by cases h), fun h => (by cases h)⟩
  | succ n ih =>
    intro K hK
    have le := eg_le n
    have unl : ∀ {st : HS} {this a1 : Nat} {r : Int32 × HS}, x_NS_unchanged (eg n).1 st this a1 = some r → hle st r.2 := fun h => n_x_NS_unchanged le.1 h
    have val : ∀ {st : HS} {this a1 : Nat} {r : Int64 × HS}, x_NS_value (eg n).1 (eg n).2 st this a1 = some r → hle st r.2 := fun h => n_x_NS_value le.1 le.2 h
    have gil : ∀ {st : HS} {this a1 a2 : Nat} {r : Int64 × HS}, x_NS_given (x_NS_value (eg n).1 (eg n).2) st this a1 a2 = some r → hle st r.2 := fun h => n_x_NS_given val h
    have rel : ∀ {st : HS} {this a1 a2 : Nat} {r : Int64 × HS}, x_NS_result (x_NS_given (x_NS_value (eg n).1 (eg n).2)) st this a1 a2 = some r → hle st r.2 := fun h => n_x_NS_result gil h
    have un : ∀ {st : HS} {this : Nat} {a1 : Nat} {r : Int32 × HS}, x_NS_unchanged (eg n).1 st this a1 = some r → Met l y_x_NS_unchanged (Cond.code y_x_NS_unchanged b_x_NS_unchanged 5 (some .boolean) :: lw_g) (rmL (K - 1) (hNx r.2 - hNx st) (hNs r.2 - hNs st)) (hPc G A [.ref this, .ref a1] st) (hQc G A (some (.int r.1)) r.2) (hNx r.2 - hNx st) (hNs r.2 - hNs st) A := fun h => c_x_NS_unchanged l (K - 1) (by omega) G A (Kg := K - 2) le.1 (ih (K - 2) (by omega)).1 (by omega) h
    have va : ∀ {st : HS} {this : Nat} {a1 : Nat} {r : Int64 × HS}, x_NS_value (eg n).1 (eg n).2 st this a1 = some r → Met l y_x_NS_value (Cond.code y_x_NS_value b_x_NS_value 2 (some .long) :: lw_g) (rmL (K - 3) (hNx r.2 - hNx st) (hNs r.2 - hNs st)) (hPc G A [.ref this, .ref a1] st) (hQc G A (some (.long r.1)) r.2) (hNx r.2 - hNx st) (hNs r.2 - hNs st) A := fun h => c_x_NS_value l (K - 3) (by omega) G A (Kg := K - 4) le.1 le.2 (ih (K - 4) (by omega)).1 (ih (K - 4) (by omega)).2 (by omega) h
    have gi : ∀ {st : HS} {this : Nat} {a1 : Nat} {a2 : Nat} {r : Int64 × HS}, x_NS_given (x_NS_value (eg n).1 (eg n).2) st this a1 a2 = some r → Met l y_x_NS_given (Cond.code y_x_NS_given b_x_NS_given 5 (some .long) :: lw_g) (rmL (K - 2) (hNx r.2 - hNx st) (hNs r.2 - hNs st)) (hPc G A [.ref this, .ref a1, .ref a2] st) (hQc G A (some (.long r.1)) r.2) (hNx r.2 - hNx st) (hNs r.2 - hNs st) A := fun h => c_x_NS_given l (K - 2) (by omega) G A (Kg := K - 3) val va (by omega) h
    have re : ∀ {st : HS} {this : Nat} {a1 : Nat} {a2 : Nat} {r : Int64 × HS}, x_NS_result (x_NS_given (x_NS_value (eg n).1 (eg n).2)) st this a1 a2 = some r → Met l y_x_NS_result (Cond.code y_x_NS_result b_x_NS_result 10 (some .long) :: lw_g) (rmL (K - 1) (hNx r.2 - hNx st) (hNs r.2 - hNs st)) (hPc G A [.ref this, .ref a1, .ref a2] st) (hQc G A (some (.long r.1)) r.2) (hNx r.2 - hNx st) (hNs r.2 - hNs st) A := fun h => c_x_NS_result l (K - 1) (by omega) G A (Kg := K - 2) gil gi (by omega) h
    exact ⟨fun h => c_x_NS_bring l K (by omega) G A (g_unchanged := x_NS_unchanged (eg n).1) (g_workOut := (eg n).2) (Kg := K - 1) unl le.2 un (ih (K - 1) (by omega)).2 (by omega) h, fun h => c_x_NS_workOut l K (by omega) G A (g_result := x_NS_result (x_NS_given (x_NS_value (eg n).1 (eg n).2))) (Kg := K - 1) rel re (by omega) h⟩
theorem c_x_NS_valueK (l : Launch) (K : Nat) (hK : 300 ≤ K) (G : HG) (A : Nat → Prop) {st : HS} {this a1 : Nat} {r : Int64 × HS} (h : x_NS_valueK st this a1 = some r) : Met l y_x_NS_value (Cond.code y_x_NS_value b_x_NS_value 2 (some .long) :: lw_g) (rmL K (hNx r.2 - hNx st) (hNs r.2 - hNs st)) (hPc G A [.ref this, .ref a1] st) (hQc G A (some (.long r.1)) r.2) (hNx r.2 - hNx st) (hNs r.2 - hNs st) A := c_x_NS_value l K (by omega) G A (Kg := K - 1) (eg_le 60).1 (eg_le 60).2 (eg_met l G A 60 (K - 1) (by omega)).1 (eg_met l G A 60 (K - 1) (by omega)).2 (by omega) h
section
variable {p : Program} {l : Launch} {e : Env} {s : State} {m : MethodId} {args : Array Value} {below : List Frame} {meth : Method} {c : Code} {G : HG} {A : Nat → Prop} {K Kg : Nat}
theorem w_x_Rdr_read_J73 {r : Option Nat × HS} {st : HS} {w0 : Option Nat} {n0 s0 : Nat} {H : Heap} {locs : List Loc} {ce sl : Nat} {ls : Array Slot} (X : jx p s m args meth c b_x_Rdr_read 2 (some (.object "NoteSheet$Formula")) "NoteSheet$Reader") (hK : 601 ≤ K) (hq : hC G A s st H locs) (hn : hN ce sl n0 s0 st) (hl : lv_has ls 2 []) (h : x_Rdr_read_J73 st w0 = some r) : W p l e (rmL K (hNx r.2 - n0) (hNs r.2 - s0)) s m args below meth c H locs ce sl (MQ below (hQc G A (some (va_rf r.1)) r.2) args s (hNx r.2 - n0) (hNs r.2 - s0) A) (F0 m 73 ls [va_rf w0]) := by
  obtain ⟨hx, hb, hr, hml, hown, hts, hlocks⟩ := id X
  have hmr : hle st r.2 := n_x_Rdr_read_J73 h
  unfold x_Rdr_read_J73 at h
  cases h
  exact hret_a (v := _) (Or.inl ⟨_, rfl⟩) X hq (hn.fit hle.rf) d_x_Rdr_read_73
theorem w_x_Rdr_read_J53 {r : Option Nat × HS} {st : HS} {l0 : Nat} {w0 : Nat} {n0 s0 : Nat} {H : Heap} {locs : List Loc} {ce sl : Nat} {ls : Array Slot} (X : jx p s m args meth c b_x_Rdr_read 2 (some (.object "NoteSheet$Formula")) "NoteSheet$Reader") (hK : 601 ≤ K) (hq : hC G A s st H locs) (hn : hN ce sl n0 s0 st) (hl : lv_has ls 2 [(0, .ref l0)]) (h : x_Rdr_read_J53 st l0 w0 = some r) : W p l e (rmL K (hNx r.2 - n0) (hNs r.2 - s0)) s m args below meth c H locs ce sl (MQ below (hQc G A (some (va_rf r.1)) r.2) args s (hNx r.2 - n0) (hNs r.2 - s0) A) (F0 m 53 ls [.ref w0]) := by
  obtain ⟨hx, hb, hr, hml, hown, hts, hlocks⟩ := id X
  have hmr : hle st r.2 := n_x_Rdr_read_J53 h
  unfold x_Rdr_read_J53 at h
  refine lv_dup hx hb d_x_Rdr_read_53 rfl ?_
  refine lv_aload_n hx hb d_x_Rdr_read_54 rfl (lv_at hl 0 rfl) ?_
  replace h := obi h; obtain ⟨x1, ex1, h⟩ := h
  refine hg_r X hq 4 0 rfl (by decide) ex1 q_71 d_x_Rdr_read_55 ?_
  refine lv_aload_n hx hb d_x_Rdr_read_58 rfl (lv_at hl 0 rfl) ?_
  replace h := obi h; obtain ⟨x2, ex2, h⟩ := h
  refine hg_r X hq 4 4 rfl (by decide) ex2 q_76 d_x_Rdr_read_59 ?_
  refine lv_aload_n hx hb d_x_Rdr_read_62 rfl (lv_at hl 0 rfl) ?_
  replace h := obi h; obtain ⟨x3, ex3, h⟩ := h
  refine hg_r X hq 4 5 rfl (by decide) ex3 q_77 d_x_Rdr_read_63 ?_
  refine lv_aload_n hx hb d_x_Rdr_read_66 rfl (lv_at hl 0 rfl) ?_
  replace h := obi h; obtain ⟨x4, ex4, h⟩ := h
  refine hg_i X hq 4 2 rfl (by decide) ex4 q_74 d_x_Rdr_read_67 ?_
  replace h := obi h; obtain ⟨ad5, rfl, h⟩ := h
  replace h := obi h; obtain ⟨ad6, rfl, h⟩ := h
  replace h := obi h; obtain ⟨ad7, rfl, h⟩ := h
  replace h := obi h; obtain ⟨st8, est8, h⟩ := h
  have hn2 := hn.call (n_x_Form_init est8)
  have hmr := n_x_Rdr_read_J73 h
  refine hcallI (n := 4) X hq (n_x_Form_init est8) (c_x_Form_init l 1 (Nat.le_refl _) G A est8) q_509 q_510 q_18 q_511 ok_x_Form_init rfl rfl (lvl (by omega) (by decide)) hl.1 rfl (Nat.le_of_ble_eq_true rfl) d_x_Rdr_read_70 (hn2.fit hmr) (fun H locs hq => ?_)
  have hn := hn2
  exact w_x_Rdr_read_J73 X hK hq hn (lv_sub hl [] rfl) h
theorem w_x_Rdr_read_J46 {r : Option Nat × HS} {st : HS} {n0 s0 : Nat} {H : Heap} {locs : List Loc} {ce sl : Nat} {ls : Array Slot} (X : jx p s m args meth c b_x_Rdr_read 2 (some (.object "NoteSheet$Formula")) "NoteSheet$Reader") (hK : 601 ≤ K) (hq : hC G A s st H locs) (hn : hN ce sl n0 s0 st) (hl : lv_has ls 2 []) (h : x_Rdr_read_J46 st = some r) : W p l e (rmL K (hNx r.2 - n0) (hNs r.2 - s0)) s m args below meth c H locs ce sl (MQ below (hQc G A (some (va_rf r.1)) r.2) args s (hNx r.2 - n0) (hNs r.2 - s0) A) (F0 m 46 ls []) := by
  obtain ⟨hx, hb, hr, hml, hown, hts, hlocks⟩ := id X
  have hmr : hle st r.2 := n_x_Rdr_read_J46 h
  unfold x_Rdr_read_J46 at h
  refine lv_null hx hb d_x_Rdr_read_46 ?_
  refine lv_goto (tgt := 73) hx hb d_x_Rdr_read_47 (by decide) ?_
  exact w_x_Rdr_read_J73 X hK hq hn (lv_sub hl [] rfl) h
theorem c_x_Rdr_read (l : Launch) (K : Nat) (hK : 601 ≤ K) (G : HG) (A : Nat → Prop) {st : HS} {this : Nat} {a1 : Nat} {r : Option Nat × HS} (h : x_Rdr_read st this a1 = some r) : Met l y_x_Rdr_read (Cond.code y_x_Rdr_read b_x_Rdr_read 2 (some (.object "NoteSheet$Formula")) :: lw_g) (rmL K (hNx r.2 - hNx st) (hNs r.2 - hNs st)) (hPc G A [.ref this, .ref a1] st) (hQc G A (some (va_rf r.1)) r.2) (hNx r.2 - hNx st) (hNs r.2 - hNs st) A := by
  refine Met.ofH (by decide +kernel) (Nat.le_of_ble_eq_true rfl) ?_
  intro p e s m below meth c ls X hmn hq hl
  have hl : lv_has ls 2 [(0, .ref this), (1, .ref a1)] := hl
  generalize ([.ref this, .ref a1] : List Value).toArray = args at X ⊢
  obtain ⟨hx, hb, hr, hml, hown, hts, hlocks⟩ := id X
  generalize hHH : s.heap = H at hq ⊢
  generalize ([] : List Loc) = locs at hq ⊢
  clear hHH
  have hmr : hle st r.2 := n_x_Rdr_read h
  have hn : hN 0 0 (hNx st) (hNs st) st := ⟨Nat.zero_add _, Nat.zero_add _⟩
  unfold x_Rdr_read at h
  refine lv_aload_n hx hb d_x_Rdr_read_0 rfl (lv_at hl 0 rfl) ?_
  refine lv_aload_n hx hb d_x_Rdr_read_1 rfl (lv_at hl 1 rfl) ?_
  replace h := obi h; obtain ⟨st1, est1, h⟩ := h
  refine hp_v (ty := (.object "java/lang/String")) X hq 4 0 rfl (by decide) rfl (by decide +kernel) rfl rfl est1 q_71 d_x_Rdr_read_2 (fun H locs hq => ?_)
  have hn := hn.ke (hP_ke est1)
  have hmr := hmr.ke (hP_ke est1)
  refine lv_aload_n hx hb d_x_Rdr_read_5 rfl (lv_at hl 0 rfl) ?_
  refine lv_iconst (v := 0) hx hb d_x_Rdr_read_6 (by decide) ?_
  replace h := obi h; obtain ⟨st2, est2, h⟩ := h
  refine hp_v (ty := .int) X hq 4 1 rfl (by decide) rfl (by decide +kernel) rfl rfl est2 q_72 d_x_Rdr_read_7 (fun H locs hq => ?_)
  have hn := hn.ke (hP_ke est2)
  have hmr := hmr.ke (hP_ke est2)
  refine lv_aload_n hx hb d_x_Rdr_read_10 rfl (lv_at hl 0 rfl) ?_
  refine lv_iconst (v := 0) hx hb d_x_Rdr_read_11 (by decide) ?_
  replace h := obi h; obtain ⟨st3, est3, h⟩ := h
  refine hp_v (ty := .int) X hq 4 2 rfl (by decide) rfl (by decide +kernel) rfl rfl est3 q_74 d_x_Rdr_read_12 (fun H locs hq => ?_)
  have hn := hn.ke (hP_ke est3)
  have hmr := hmr.ke (hP_ke est3)
  refine lv_aload_n hx hb d_x_Rdr_read_15 rfl (lv_at hl 0 rfl) ?_
  refine lv_iconst (v := 0) hx hb d_x_Rdr_read_16 (by decide) ?_
  replace h := obi h; obtain ⟨st4, est4, h⟩ := h
  refine hp_v (ty := .boolean) X hq 4 3 rfl (by decide) rfl (by decide +kernel) (by decide) (by decide) est4 q_75 d_x_Rdr_read_17 (fun H locs hq => ?_)
  have hn := hn.ke (hP_ke est4)
  have hmr := hmr.ke (hP_ke est4)
  refine lv_aload_n hx hb d_x_Rdr_read_20 rfl (lv_at hl 0 rfl) ?_
  refine lv_iconst (v := 0) hx hb d_x_Rdr_read_21 (by decide) ?_
  replace h := obi h; obtain ⟨u5, eu5, h⟩ := h
  replace h := obi h; obtain ⟨st6, est6, h⟩ := h
  refine hcallV (n := 1) X hq (n_x_Rdr_formulaK est6).le (c_x_Rdr_formulaK l 600 (Nat.le_refl _) G A est6) (C := 4) rfl eu5 q_429 q_431 q_p1 q_6 q_432 ok_x_Rdr_formula rfl (lvl (by omega) (by decide)) hl.1 rfl (Nat.le_of_ble_eq_true rfl) d_x_Rdr_read_22 (hn.fit hmr) (fun H locs hq => ?_)
  have hn := hn.ke (n_x_Rdr_formulaK est6)
  have hmr := hmr.ke (n_x_Rdr_formulaK est6)
  refine lv_aload_n hx hb d_x_Rdr_read_25 rfl (lv_at hl 0 rfl) ?_
  replace h := obi h; obtain ⟨x7, ex7, h⟩ := h
  refine hg_i X hq 4 3 rfl (by decide) ex7 q_75 d_x_Rdr_read_26 ?_
  refine lv_if_ne (tgt := 46) hx hb d_x_Rdr_read_29 (by decide) (fun c29 => ?_) (fun c29 => ?_)
  · replace h := ifn c29 h
    exact w_x_Rdr_read_J46 X hK hq hn (lv_sub hl [] rfl) h
  · replace h := ifp c29 h
    refine lv_aload_n hx hb d_x_Rdr_read_32 rfl (lv_at hl 0 rfl) ?_
    replace h := obi h; obtain ⟨x8, ex8, h⟩ := h
    refine hg_i X hq 4 1 rfl (by decide) ex8 q_72 d_x_Rdr_read_33 ?_
    refine lv_aload_n hx hb d_x_Rdr_read_36 rfl (lv_at hl 0 rfl) ?_
    replace h := obi h; obtain ⟨x9, ex9, h⟩ := h
    refine hg_r X hq 4 0 rfl (by decide) ex9 q_71 d_x_Rdr_read_37 ?_
    replace h := obi h; obtain ⟨ad10, rfl, h⟩ := h
    replace h := obi h; obtain ⟨u11, eu11, h⟩ := h
    replace h := obi h; obtain ⟨x12, ex12, h⟩ := h
    refine hcallV (st' := st6) (n := 0) X hq hle.rf (c_x_Str_length l 1 (Nat.le_refl _) G A ex12) (C := 6) rfl eu11 q_457 q_189 q_190 q_4 q_191 ok_x_Str_length rfl (lvl (by omega) (by decide)) hl.1 rfl (Nat.le_of_ble_eq_true rfl) d_x_Rdr_read_40 (hn.fit hmr) (fun H locs hq => ?_)
    refine lv_icmp_ge (tgt := 50) hx hb d_x_Rdr_read_43 (by decide) (fun c43 => ?_) (fun c43 => ?_)
    · replace h := ifp c43 h
      replace h := obi h; obtain ⟨ad13, ead13, h⟩ := h
      replace h := obi h; obtain ⟨st14, est14, h⟩ := h
      have hn2 := hn.new est14
      have hmr := n_x_Rdr_read_J53 h
      refine h_new X hq 2 rfl est14 q_507 q_508 q_18 (hn2.fit hmr) d_x_Rdr_read_50 (fun H hq => ?_)
      have hn := hn2
      refine lv_nma (Option.some.inj ead13) ?_
      exact w_x_Rdr_read_J53 X hK hq hn (lv_sub hl [0] rfl) h
    · replace h := ifn c43 h
      exact w_x_Rdr_read_J46 X hK hq hn (lv_sub hl [] rfl) h
theorem w_x_NS_define_J107 {r : Int32 × HS} {st : HS} {l0 : Nat} {l2 : Nat} {l4 : Option Nat} {n0 s0 : Nat} {H : Heap} {locs : List Loc} {ce sl : Nat} {ls : Array Slot} (X : jx p s m args meth c b_x_NS_define 5 (some .int) "NoteSheet") (hK : 602 ≤ K) (hq : hC G A s st H locs) (hn : hN ce sl n0 s0 st) (hl : lv_has ls 5 [(0, .ref l0), (2, .ref l2), (4, va_rf l4)]) (h : x_NS_define_J107 st l0 l2 l4 = some r) : W p l e (rmL K (hNx r.2 - n0) (hNs r.2 - s0)) s m args below meth c H locs ce sl (MQ below (hQc G A (some (.int r.1)) r.2) args s (hNx r.2 - n0) (hNs r.2 - s0) A) (F0 m 107 ls []) := by
  obtain ⟨hx, hb, hr, hml, hown, hts, hlocks⟩ := id X
  have hmr : hle st r.2 := n_x_NS_define_J107 h
  unfold x_NS_define_J107 at h
  refine lv_aload_n hx hb d_x_NS_define_107 rfl (lv_at hl 1 rfl) ?_
  refine lv_iconst (v := 0) hx hb d_x_NS_define_108 (by decide) ?_
  replace h := obi h; obtain ⟨st1, est1, h⟩ := h
  refine hpN_v (ty := .boolean) X hq 1 1 rfl (by decide) rfl (by decide +kernel) (by decide) (by decide) est1 qn_100 d_x_NS_define_109 (fun H locs hq => ?_)
  have hn := hn.ke (hP_ke est1)
  have hmr := hmr.ke (hP_ke est1)
  refine lv_aload_n hx hb d_x_NS_define_112 rfl (lv_at hl 1 rfl) ?_
  refine lv_aloadq hx hb d_x_NS_define_113 (lv_at hl 2 rfl) ?_
  replace h := obi h; obtain ⟨st2, est2, h⟩ := h
  refine hpN_v (ty := (.object "NoteSheet$Formula")) X hq 1 7 rfl (by decide) rfl (by decide +kernel) rf_nar rf_fit est2 qn_108 d_x_NS_define_115 (fun H locs hq => ?_)
  have hn := hn.ke (hP_ke est2)
  have hmr := hmr.ke (hP_ke est2)
  refine lv_aload_n hx hb d_x_NS_define_118 rfl (lv_at hl 1 rfl) ?_
  refine lv_aload_n hx hb d_x_NS_define_119 rfl (lv_at hl 0 rfl) ?_
  replace h := obi h; obtain ⟨x3, ex3, h⟩ := h
  refine hg_i X hq 0 4 rfl (by decide) ex3 q_143 d_x_NS_define_120 ?_
  replace h := obi h; obtain ⟨st4, est4, h⟩ := h
  refine hpN_v (ty := .int) X hq 1 6 rfl (by decide) rfl (by decide +kernel) rfl rfl est4 qn_107 d_x_NS_define_123 (fun H locs hq => ?_)
  have hn := hn.ke (hP_ke est4)
  have hmr := hmr.ke (hP_ke est4)
  refine lv_iconst (v := 0) hx hb d_x_NS_define_126 (by decide) ?_
  cases h
  exact hret_i X hq (hn.fit hle.rf) d_x_NS_define_127
theorem w_x_NS_define_J92 {r : Int32 × HS} {st : HS} {l0 : Nat} {l2 : Nat} {l4 : Option Nat} {w0 : Int32} {w1 : Nat} {n0 s0 : Nat} {H : Heap} {locs : List Loc} {ce sl : Nat} {ls : Array Slot} (X : jx p s m args meth c b_x_NS_define 5 (some .int) "NoteSheet") (hK : 602 ≤ K) (hq : hC G A s st H locs) (hn : hN ce sl n0 s0 st) (hl : lv_has ls 5 [(0, .ref l0), (2, .ref l2), (4, va_rf l4)]) (h : x_NS_define_J92 st l0 l2 l4 w0 w1 = some r) : W p l e (rmL K (hNx r.2 - n0) (hNs r.2 - s0)) s m args below meth c H locs ce sl (MQ below (hQc G A (some (.int r.1)) r.2) args s (hNx r.2 - n0) (hNs r.2 - s0) A) (F0 m 92 ls [.int w0, .ref w1]) := by
  obtain ⟨hx, hb, hr, hml, hown, hts, hlocks⟩ := id X
  have hmr : hle st r.2 := n_x_NS_define_J92 h
  unfold x_NS_define_J92 at h
  replace h := obi h; obtain ⟨u1, eu1, h⟩ := h
  replace h := obi h; obtain ⟨st2, est2, h⟩ := h
  refine hcallV (n := 1) X hq (n_x_NS_change est2).le (c_x_NS_change l 0 (Nat.le_refl _) G A est2) (C := 0) rfl eu1 q_535 q_537 q_p12 q_1 q_538 ok_x_NS_change rfl (lvl (by omega) (by decide)) hl.1 rfl (Nat.le_of_ble_eq_true rfl) d_x_NS_define_92 (hn.fit hmr) (fun H locs hq => ?_)
  have hn := hn.ke (n_x_NS_change est2)
  have hmr := hmr.ke (n_x_NS_change est2)
  refine lv_aload_n hx hb d_x_NS_define_95 rfl (lv_at hl 1 rfl) ?_
  replace h := obi h; obtain ⟨x3, ex3, h⟩ := h
  refine hgN_i X hq 1 1 rfl (by decide) ex3 qn_100 d_x_NS_define_96 ?_
  refine lv_if_eq (tgt := 107) hx hb d_x_NS_define_99 (by decide) (fun c99 => ?_) (fun c99 => ?_)
  · replace h := ifp c99 h
    exact w_x_NS_define_J107 X hK hq hn (lv_sub hl [0, 1, 2] rfl) h
  · replace h := ifn c99 h
    refine lv_aload_n hx hb d_x_NS_define_102 rfl (lv_at hl 1 rfl) ?_
    refine lv_null hx hb d_x_NS_define_103 ?_
    replace h := obi h; obtain ⟨st4, est4, h⟩ := h
    refine hpN_v (ty := (.object "NoteSheet$Note")) X hq 1 8 rfl (by decide) rfl (by decide +kernel) rfl rfl est4 qn_110 d_x_NS_define_104 (fun H locs hq => ?_)
    have hn := hn.ke (hP_ke est4)
    have hmr := hmr.ke (hP_ke est4)
    exact w_x_NS_define_J107 X hK hq hn (lv_sub hl [0, 1, 2] rfl) h
theorem w_x_NS_define_J76 {r : Int32 × HS} {st : HS} {l0 : Nat} {l2 : Nat} {l4 : Option Nat} {n0 s0 : Nat} {H : Heap} {locs : List Loc} {ce sl : Nat} {ls : Array Slot} (X : jx p s m args meth c b_x_NS_define 5 (some .int) "NoteSheet") (hK : 602 ≤ K) (hq : hC G A s st H locs) (hn : hN ce sl n0 s0 st) (hl : lv_has ls 5 [(0, .ref l0), (2, .ref l2), (4, va_rf l4)]) (h : x_NS_define_J76 st l0 l2 l4 = some r) : W p l e (rmL K (hNx r.2 - n0) (hNs r.2 - s0)) s m args below meth c H locs ce sl (MQ below (hQc G A (some (.int r.1)) r.2) args s (hNx r.2 - n0) (hNs r.2 - s0) A) (F0 m 76 ls []) := by
  obtain ⟨hx, hb, hr, hml, hown, hts, hlocks⟩ := id X
  have hmr : hle st r.2 := n_x_NS_define_J76 h
  unfold x_NS_define_J76 at h
  refine lv_aload_n hx hb d_x_NS_define_76 rfl (lv_at hl 0 rfl) ?_
  refine lv_aload_n hx hb d_x_NS_define_77 rfl (lv_at hl 1 rfl) ?_
  replace h := obi h; obtain ⟨x1, ex1, h⟩ := h
  refine hgN_i X hq 1 1 rfl (by decide) ex1 qn_100 d_x_NS_define_78 ?_
  refine lv_if_eq (tgt := 91) hx hb d_x_NS_define_81 (by decide) (fun c81 => ?_) (fun c81 => ?_)
  · replace h := ifp c81 h
    refine lv_iconst (v := 2) hx hb d_x_NS_define_91 (by decide) ?_
    exact w_x_NS_define_J92 X hK hq hn (lv_sub hl [0, 1, 2] rfl) h
  · replace h := ifn c81 h
    refine lv_aload_n hx hb d_x_NS_define_84 rfl (lv_at hl 1 rfl) ?_
    replace h := obi h; obtain ⟨x2, ex2, h⟩ := h
    refine hgN_i X hq 1 4 rfl (by decide) ex2 qn_104 d_x_NS_define_85 ?_
    refine lv_goto (tgt := 92) hx hb d_x_NS_define_88 (by decide) ?_
    exact w_x_NS_define_J92 X hK hq hn (lv_sub hl [0, 1, 2] rfl) h
theorem w_x_NS_define_J36 {r : Int32 × HS} {st : HS} {l0 : Nat} {l2 : Option Nat} {l3 : Nat} {w0 : Option Nat} {n0 s0 : Nat} {H : Heap} {locs : List Loc} {ce sl : Nat} {ls : Array Slot} (X : jx p s m args meth c b_x_NS_define 5 (some .int) "NoteSheet") (hK : 602 ≤ K) (hq : hC G A s st H locs) (hn : hN ce sl n0 s0 st) (hl : lv_has ls 5 [(0, .ref l0), (2, va_rf l2), (3, .ref l3)]) (h : x_NS_define_J36 st l0 l2 l3 w0 = some r) : W p l e (rmL K (hNx r.2 - n0) (hNs r.2 - s0)) s m args below meth c H locs ce sl (MQ below (hQc G A (some (.int r.1)) r.2) args s (hNx r.2 - n0) (hNs r.2 - s0) A) (F0 m 36 ls [va_rf w0]) := by
  obtain ⟨hx, hb, hr, hml, hown, hts, hlocks⟩ := id X
  have hmr : hle st r.2 := n_x_NS_define_J36 h
  unfold x_NS_define_J36 at h
  refine lv_astoreq (lv' := [(4, va_rf w0), (0, .ref l0), (2, va_rf l2), (3, .ref l3)]) hx hb d_x_NS_define_36 hl (by decide) rfl (fun ls hl => ?_)
  refine lv_aloadq hx hb d_x_NS_define_38 (lv_at hl 0 rfl) ?_
  refine lv_ifnonnull_q (tgt := 53) hx hb d_x_NS_define_40 (by decide) (fun c40 => ?_) (fun c40 => ?_)
  · replace h := ifn c40 h
    refine lv_aload_nq hx hb d_x_NS_define_53 rfl (lv_at hl 2 rfl) ?_
    replace h := obi h; obtain ⟨ad1, rfl, h⟩ := h
    replace h := obi h; obtain ⟨x2, ex2, h⟩ := h
    refine hgN_i X hq 1 1 rfl (by decide) ex2 qn_100 d_x_NS_define_54 ?_
    refine lv_if_ne (tgt := 76) hx hb d_x_NS_define_57 (by decide) (fun c57 => ?_) (fun c57 => ?_)
    · replace h := ifn c57 h
      exact w_x_NS_define_J76 X hK hq hn (lv_sub hl [1, 2, 0] rfl) h
    · replace h := ifp c57 h
      refine lv_aload_n hx hb d_x_NS_define_60 rfl (lv_at hl 2 rfl) ?_
      replace h := obi h; obtain ⟨x3, ex3, h⟩ := h
      refine hgN_r X hq 1 7 rfl (by decide) ex3 qn_108 d_x_NS_define_61 ?_
      replace h := obi h; obtain ⟨ad4, rfl, h⟩ := h
      replace h := obi h; obtain ⟨x5, ex5, h⟩ := h
      refine hgN_r X hq 2 0 rfl (by decide) ex5 qn_515 d_x_NS_define_64 ?_
      refine lv_aload_n hx hb d_x_NS_define_67 rfl (lv_at hl 3 rfl) ?_
      replace h := obi h; obtain ⟨ad6, rfl, h⟩ := h
      replace h := obi h; obtain ⟨u7, eu7, h⟩ := h
      replace h := obi h; obtain ⟨x8, ex8, h⟩ := h
      refine hcallV (st' := st) (n := 1) X hq hle.rf (c_x_Str_equals l 1 (Nat.le_refl _) G A ex8) (C := 6) rfl eu7 q_527 q_528 q_529 q_4 q_530 ok_x_Str_equals rfl (lvl (by omega) (by decide)) hl.1 rfl (Nat.le_of_ble_eq_true rfl) d_x_NS_define_68 (hn.fit hmr) (fun H locs hq => ?_)
      refine lv_if_eq (tgt := 76) hx hb d_x_NS_define_71 (by decide) (fun c71 => ?_) (fun c71 => ?_)
      · replace h := ifp c71 h
        exact w_x_NS_define_J76 X hK hq hn (lv_sub hl [1, 2, 0] rfl) h
      · replace h := ifn c71 h
        refine lv_iconst (v := 0) hx hb d_x_NS_define_74 (by decide) ?_
        cases h
        exact hret_i X hq (hn.fit hle.rf) d_x_NS_define_75
  · replace h := ifp c40 h
    refine lv_iconst (v := 1) hx hb d_x_NS_define_43 (by decide) ?_
    refine lv_aload_n hx hb d_x_NS_define_44 rfl (lv_at hl 1 rfl) ?_
    replace h := obi h; obtain ⟨x9, ex9, h⟩ := h
    refine hg_r X hq 0 3 rfl (by decide) ex9 q_142 d_x_NS_define_45 ?_
    replace h := obi h; obtain ⟨ad10, rfl, h⟩ := h
    replace h := obi h; obtain ⟨x11, ex11, h⟩ := h
    refine hgN_i X hq 4 1 rfl (by decide) ex11 qn_73 d_x_NS_define_48 ?_
    refine lv_iadd hx hb d_x_NS_define_51 ?_
    cases h
    exact hret_i X hq (hn.fit hle.rf) d_x_NS_define_52
theorem w_x_NS_define_J22 {r : Int32 × HS} {st : HS} {l0 : Nat} {l2 : Option Nat} {l3 : Option Nat} {n0 s0 : Nat} {H : Heap} {locs : List Loc} {ce sl : Nat} {ls : Array Slot} (X : jx p s m args meth c b_x_NS_define 5 (some .int) "NoteSheet") (hK : 602 ≤ K) (hq : hC G A s st H locs) (hn : hN ce sl n0 s0 st) (hl : lv_has ls 5 [(0, .ref l0), (2, va_rf l2), (3, va_rf l3)]) (h : x_NS_define_J22 st l0 l2 l3 = some r) : W p l e (rmL K (hNx r.2 - n0) (hNs r.2 - s0)) s m args below meth c H locs ce sl (MQ below (hQc G A (some (.int r.1)) r.2) args s (hNx r.2 - n0) (hNs r.2 - s0) A) (F0 m 22 ls []) := by
  obtain ⟨hx, hb, hr, hml, hown, hts, hlocks⟩ := id X
  have hmr : hle st r.2 := n_x_NS_define_J22 h
  unfold x_NS_define_J22 at h
  refine lv_aload_nq hx hb d_x_NS_define_22 rfl (lv_at hl 1 rfl) ?_
  refine lv_ifnonnull_q (tgt := 28) hx hb d_x_NS_define_23 (by decide) (fun c23 => ?_) (fun c23 => ?_)
  · replace h := ifn c23 h
    refine lv_aload_n hx hb d_x_NS_define_28 rfl (lv_at hl 0 rfl) ?_
    replace h := obi h; obtain ⟨x1, ex1, h⟩ := h
    refine hg_r X hq 0 3 rfl (by decide) ex1 q_142 d_x_NS_define_29 ?_
    refine lv_aload_nq hx hb d_x_NS_define_32 rfl (lv_at hl 2 rfl) ?_
    replace h := obi h; obtain ⟨ad2, rfl, h⟩ := h
    replace h := obi h; obtain ⟨ad3, rfl, h⟩ := h
    replace h := obi h; obtain ⟨u4, eu4, h⟩ := h
    replace h := obi h; obtain ⟨q5, eq5, h⟩ := h
    have hn2 := hn.call (n_x_Rdr_read eq5)
    have hmr := n_x_NS_define_J36 h
    refine hcallV (n := 1) X hq (n_x_Rdr_read eq5) (c_x_Rdr_read l 601 (Nat.le_refl _) G A eq5) (C := 4) rfl eu4 q_425 q_426 q_427 q_6 q_428 ok_x_Rdr_read rfl (lvl (by omega) (by decide)) hl.1 rfl (Nat.le_of_ble_eq_true rfl) d_x_NS_define_33 (hn2.fit hmr) (fun H locs hq => ?_)
    have hn := hn2
    exact w_x_NS_define_J36 X hK hq hn (lv_sub hl [0, 1, 2] rfl) h
  · replace h := ifp c23 h
    refine lv_iconst (v := -1) hx hb d_x_NS_define_26 (by decide) ?_
    cases h
    exact hret_i X hq (hn.fit hle.rf) d_x_NS_define_27
theorem w_x_NS_define_J13 {r : Int32 × HS} {st : HS} {l0 : Nat} {l2 : Option Nat} {w0 : Option Nat} {n0 s0 : Nat} {H : Heap} {locs : List Loc} {ce sl : Nat} {ls : Array Slot} (X : jx p s m args meth c b_x_NS_define 5 (some .int) "NoteSheet") (hK : 602 ≤ K) (hq : hC G A s st H locs) (hn : hN ce sl n0 s0 st) (hl : lv_has ls 5 [(0, .ref l0), (2, va_rf l2)]) (h : x_NS_define_J13 st l0 l2 w0 = some r) : W p l e (rmL K (hNx r.2 - n0) (hNs r.2 - s0)) s m args below meth c H locs ce sl (MQ below (hQc G A (some (.int r.1)) r.2) args s (hNx r.2 - n0) (hNs r.2 - s0) A) (F0 m 13 ls [va_rf w0]) := by
  obtain ⟨hx, hb, hr, hml, hown, hts, hlocks⟩ := id X
  have hmr : hle st r.2 := n_x_NS_define_J13 h
  unfold x_NS_define_J13 at h
  refine lv_astore_nq (lv' := [(3, va_rf w0), (0, .ref l0), (2, va_rf l2)]) hx hb d_x_NS_define_13 rfl hl (by decide) (by first | (simp only [List.filter, rf_cat]; rfl) | (simp [rf_cat, List.filter]; exact ⟨rfl, rfl⟩)) (fun ls hl => ?_)
  refine lv_aload_n hx hb d_x_NS_define_14 rfl (lv_at hl 1 rfl) ?_
  replace h := obi h; obtain ⟨x1, ex1, h⟩ := h
  refine hg_r X hq 0 2 rfl (by decide) ex1 q_141 d_x_NS_define_15 ?_
  refine lv_iconst (v := 0) hx hb d_x_NS_define_18 (by decide) ?_
  replace h := obi h; obtain ⟨ad2, rfl, h⟩ := h
  replace h := obi h; obtain ⟨u3, eu3, h⟩ := h
  replace h := obi h; obtain ⟨st4, est4, h⟩ := h
  have hn2 := hn.call (n_x_SB_setLength est4)
  have hmr := n_x_NS_define_J22 h
  refine hcallV (n := 1) X hq (n_x_SB_setLength est4) (c_x_SB_setLength l 5 (Nat.le_refl _) G A est4) (C := 5) rfl eu3 q_405 q_406 q_407 q_3 q_408 ok_x_SB_setLength rfl (lvl (by omega) (by decide)) hl.1 rfl (Nat.le_of_ble_eq_true rfl) d_x_NS_define_19 (hn2.fit hmr) (fun H locs hq => ?_)
  have hn := hn2
  exact w_x_NS_define_J22 X hK hq hn (lv_sub hl [1, 2, 0] rfl) h
theorem c_x_NS_define (l : Launch) (K : Nat) (hK : 602 ≤ K) (G : HG) (A : Nat → Prop) {st : HS} {this : Nat} {a1 : Int32} {r : Int32 × HS} (h : x_NS_define st this a1 = some r) : Met l y_x_NS_define (Cond.code y_x_NS_define b_x_NS_define 5 (some .int) :: lw_g) (rmL K (hNx r.2 - hNx st) (hNs r.2 - hNs st)) (hPc G A [.ref this, .int a1] st) (hQc G A (some (.int r.1)) r.2) (hNx r.2 - hNx st) (hNs r.2 - hNs st) A := by
  refine Met.ofH (by decide +kernel) (Nat.le_of_ble_eq_true rfl) ?_
  intro p e s m below meth c ls X hmn hq hl
  have hl : lv_has ls 5 [(0, .ref this), (1, .int a1)] := hl
  generalize ([.ref this, .int a1] : List Value).toArray = args at X ⊢
  obtain ⟨hx, hb, hr, hml, hown, hts, hlocks⟩ := id X
  generalize hHH : s.heap = H at hq ⊢
  generalize ([] : List Loc) = locs at hq ⊢
  clear hHH
  have hmr : hle st r.2 := n_x_NS_define h
  have hn : hN 0 0 (hNx st) (hNs st) st := ⟨Nat.zero_add _, Nat.zero_add _⟩
  unfold x_NS_define at h
  refine lv_aload_n hx hb d_x_NS_define_0 rfl (lv_at hl 0 rfl) ?_
  refine lv_iload_n hx hb d_x_NS_define_1 rfl (lv_at hl 1 rfl) ?_
  replace h := obi h; obtain ⟨u1, eu1, h⟩ := h
  replace h := obi h; obtain ⟨x2, ex2, h⟩ := h
  refine hcallV (st' := st) (n := 1) X hq hle.rf (c_x_NS_cell l 0 (Nat.le_refl _) G A ex2) (C := 0) rfl eu1 q_351 q_353 q_p0 q_1 q_354 ok_x_NS_cell rfl (lvl (by omega) (by decide)) hl.1 rfl (Nat.le_of_ble_eq_true rfl) d_x_NS_define_2 (hn.fit hmr) (fun H locs hq => ?_)
  refine lv_astore_nq (lv' := [(2, va_rf x2), (0, .ref this), (1, .int a1)]) hx hb d_x_NS_define_5 rfl hl (by decide) rfl (fun ls hl => ?_)
  refine lv_aload_n hx hb d_x_NS_define_6 rfl (lv_at hl 1 rfl) ?_
  replace h := obi h; obtain ⟨x3, ex3, h⟩ := h
  refine hg_r X hq 0 2 rfl (by decide) ex3 q_141 d_x_NS_define_7 ?_
  replace h := obi h; obtain ⟨ad4, rfl, h⟩ := h
  replace h := obi h; obtain ⟨u5, eu5, h⟩ := h
  replace h := obi h; obtain ⟨q6, eq6, h⟩ := h
  have hn2 := hn.call (n_x_SB_toString eq6)
  have hmr := n_x_NS_define_J13 h
  refine hcallV (n := 0) X hq (n_x_SB_toString eq6) (c_x_SB_toString l 5 (Nat.le_refl _) G A eq6) (C := 5) rfl eu5 q_355 q_356 q_357 q_3 q_358 ok_x_SB_toString rfl (lvl (by omega) (by decide)) hl.1 rfl (Nat.le_of_ble_eq_true rfl) d_x_NS_define_10 (hn2.fit hmr) (fun H locs hq => ?_)
  have hn := hn2
  exact w_x_NS_define_J13 X hK hq hn (lv_sub hl [1, 0] rfl) h
theorem w_x_NS_ask_L41 {r : Int64 × HS} {n0 s0 : Nat} (X : jx p s m args meth c b_x_NS_ask 6 (some .long) "NoteSheet") (hK : 301 ≤ K) : ∀ (n : Nat), ∀ (st : HS) (l0 : Nat) (l3 : Int64) (l5 : Int32) (H : Heap) (locs : List Loc) (ce sl : Nat) (ls : Array Slot), x_NS_ask_L41 n st l0 l3 l5 = some r → hC G A s st H locs → hN ce sl n0 s0 st → lv_has ls 6 [(0, .ref l0), (3, .long l3), (5, .int l5)] → W p l e (rmL K (hNx r.2 - n0) (hNs r.2 - s0)) s m args below meth c H locs ce sl (MQ below (hQc G A (some (.long r.1)) r.2) args s (hNx r.2 - n0) (hNs r.2 - s0) A) (F0 m 41 ls []) := by
  obtain ⟨hx, hb, hr, hml, hown, hts, hlocks⟩ := id X
  intro n
  induction n with
  | zero => intro st l0 l3 l5 H locs ce sl ls h hq hn hl; exact absurd h (by simp [x_NS_ask_L41])
  | succ n ih =>
    intro st l0 l3 l5 H locs ce sl ls h hq hn hl
    have hmr : hle st r.2 := n_x_NS_ask_L41 (n + 1) _ _ _ _ h
    rw [x_NS_ask_L41] at h
    refine lv_iload hx hb d_x_NS_ask_41 (lv_at hl 2 rfl) ?_
    refine lv_aload_n hx hb d_x_NS_ask_43 rfl (lv_at hl 0 rfl) ?_
    replace h := obi h; obtain ⟨x1, ex1, h⟩ := h
    refine hg_i X hq 0 0 rfl (by decide) ex1 q_139 d_x_NS_ask_44 ?_
    refine lv_icmp_le (tgt := 60) hx hb d_x_NS_ask_47 (by decide) (fun c47 => ?_) (fun c47 => ?_)
    · replace h := ifp c47 h
      refine lv_lload_n hx hb d_x_NS_ask_60 rfl (lv_at hl 1 rfl) ?_
      cases h
      exact hret_l X hq (hn.fit hle.rf) d_x_NS_ask_61
    · replace h := ifn c47 h
      refine lv_aload_n hx hb d_x_NS_ask_50 rfl (lv_at hl 0 rfl) ?_
      replace h := obi h; obtain ⟨u2, eu2, h⟩ := h
      replace h := obi h; obtain ⟨st3, est3, h⟩ := h
      refine hcallV (n := 0) X hq (n_x_NS_dropOne est3).le (c_x_NS_dropOne l 0 (Nat.le_refl _) G A est3) (C := 0) rfl eu2 q_639 q_641 q_p20 q_1 q_642 ok_x_NS_dropOne rfl (lvl (by omega) (by decide)) hl.1 rfl (Nat.le_of_ble_eq_true rfl) d_x_NS_ask_51 (hn.fit hmr) (fun H locs hq => ?_)
      have hn := hn.ke (n_x_NS_dropOne est3)
      have hmr := hmr.ke (n_x_NS_dropOne est3)
      replace h := obi h; obtain ⟨x4, ex4, h⟩ := h
      refine lv_iinc (v := x4) (lv' := [(5, .int x4), (0, .ref l0), (3, .long l3)]) hx hb d_x_NS_ask_54 hl (k := 2) rfl (Option.some.inj ex4) (by decide) rfl (fun ls hl => ?_)
      refine lv_goto (tgt := 41) hx hb d_x_NS_ask_57 (by decide) ?_
      exact ih _ _ _ _ _ _ _ _ _ h hq hn (lv_sub hl [1, 2, 0] rfl)
theorem w_x_NS_ask_J34 {r : Int64 × HS} {st : HS} {l0 : Nat} {w0 : Int64} {n0 s0 : Nat} {H : Heap} {locs : List Loc} {ce sl : Nat} {ls : Array Slot} (X : jx p s m args meth c b_x_NS_ask 6 (some .long) "NoteSheet") (hK : 301 ≤ K) (hq : hC G A s st H locs) (hn : hN ce sl n0 s0 st) (hl : lv_has ls 6 [(0, .ref l0)]) (h : x_NS_ask_J34 st l0 w0 = some r) : W p l e (rmL K (hNx r.2 - n0) (hNs r.2 - s0)) s m args below meth c H locs ce sl (MQ below (hQc G A (some (.long r.1)) r.2) args s (hNx r.2 - n0) (hNs r.2 - s0) A) (F0 m 34 ls [.long w0]) := by
  obtain ⟨hx, hb, hr, hml, hown, hts, hlocks⟩ := id X
  have hmr : hle st r.2 := n_x_NS_ask_J34 h
  unfold x_NS_ask_J34 at h
  refine lv_lstore_n (lv' := [(3, .long w0), (0, .ref l0)]) hx hb d_x_NS_ask_34 rfl hl (by decide) rfl (fun ls hl => ?_)
  refine lv_aload_n hx hb d_x_NS_ask_35 rfl (lv_at hl 1 rfl) ?_
  replace h := obi h; obtain ⟨u1, eu1, h⟩ := h
  replace h := obi h; obtain ⟨x2, ex2, h⟩ := h
  refine hcallV (st' := st) (n := 0) X hq hle.rf (c_x_NS_held l 0 (Nat.le_refl _) G A ex2) (C := 0) rfl eu1 q_635 q_637 q_p19 q_1 q_638 ok_x_NS_held rfl (lvl (by omega) (by decide)) hl.1 rfl (Nat.le_of_ble_eq_true rfl) d_x_NS_ask_36 (hn.fit hmr) (fun H locs hq => ?_)
  refine lv_istore (lv' := [(5, .int x2), (3, .long w0), (0, .ref l0)]) hx hb d_x_NS_ask_39 hl (by decide) rfl (fun ls hl => ?_)
  exact w_x_NS_ask_L41 X hK 1000 _ _ _ _ _ _ _ _ _ h hq hn (lv_sub hl [2, 1, 0] rfl)
theorem c_x_NS_ask (l : Launch) (K : Nat) (hK : 301 ≤ K) (G : HG) (A : Nat → Prop) {st : HS} {this : Nat} {a1 : Int32} {r : Int64 × HS} (h : x_NS_ask st this a1 = some r) : Met l y_x_NS_ask (Cond.code y_x_NS_ask b_x_NS_ask 6 (some .long) :: lw_g) (rmL K (hNx r.2 - hNx st) (hNs r.2 - hNs st)) (hPc G A [.ref this, .int a1] st) (hQc G A (some (.long r.1)) r.2) (hNx r.2 - hNx st) (hNs r.2 - hNs st) A := by
  refine Met.ofH (by decide +kernel) (Nat.le_of_ble_eq_true rfl) ?_
  intro p e s m below meth c ls X hmn hq hl
  have hl : lv_has ls 6 [(0, .ref this), (1, .int a1)] := hl
  generalize ([.ref this, .int a1] : List Value).toArray = args at X ⊢
  obtain ⟨hx, hb, hr, hml, hown, hts, hlocks⟩ := id X
  generalize hHH : s.heap = H at hq ⊢
  generalize ([] : List Loc) = locs at hq ⊢
  clear hHH
  have hmr : hle st r.2 := n_x_NS_ask h
  have hn : hN 0 0 (hNx st) (hNs st) st := ⟨Nat.zero_add _, Nat.zero_add _⟩
  unfold x_NS_ask at h
  refine lv_aload_n hx hb d_x_NS_ask_0 rfl (lv_at hl 0 rfl) ?_
  refine lv_iload_n hx hb d_x_NS_ask_1 rfl (lv_at hl 1 rfl) ?_
  replace h := obi h; obtain ⟨u1, eu1, h⟩ := h
  replace h := obi h; obtain ⟨x2, ex2, h⟩ := h
  refine hcallV (st' := st) (n := 1) X hq hle.rf (c_x_NS_cell l 0 (Nat.le_refl _) G A ex2) (C := 0) rfl eu1 q_351 q_353 q_p0 q_1 q_354 ok_x_NS_cell rfl (lvl (by omega) (by decide)) hl.1 rfl (Nat.le_of_ble_eq_true rfl) d_x_NS_ask_2 (hn.fit hmr) (fun H locs hq => ?_)
  refine lv_astore_nq (lv' := [(2, va_rf x2), (0, .ref this), (1, .int a1)]) hx hb d_x_NS_ask_5 rfl hl (by decide) rfl (fun ls hl => ?_)
  refine lv_aload_nq hx hb d_x_NS_ask_6 rfl (lv_at hl 0 rfl) ?_
  refine lv_ifnonnull_q (tgt := 14) hx hb d_x_NS_ask_7 (by decide) (fun c7 => ?_) (fun c7 => ?_)
  · replace h := ifn c7 h
    refine lv_aload_n hx hb d_x_NS_ask_14 rfl (lv_at hl 1 rfl) ?_
    refine lv_iconst (v := 0) hx hb d_x_NS_ask_15 (by decide) ?_
    replace h := obi h; obtain ⟨st3, est3, h⟩ := h
    refine hp_v (ty := .int) X hq 0 6 rfl (by decide) rfl (by decide +kernel) rfl rfl est3 q_145 d_x_NS_ask_16 (fun H locs hq => ?_)
    have hn := hn.ke (hP_ke est3)
    have hmr := hmr.ke (hP_ke est3)
    refine lv_aload_n hx hb d_x_NS_ask_19 rfl (lv_at hl 1 rfl) ?_
    refine lv_iconst (v := 0) hx hb d_x_NS_ask_20 (by decide) ?_
    replace h := obi h; obtain ⟨st4, est4, h⟩ := h
    refine hp_v (ty := .int) X hq 0 7 rfl (by decide) rfl (by decide +kernel) rfl rfl est4 q_146 d_x_NS_ask_21 (fun H locs hq => ?_)
    have hn := hn.ke (hP_ke est4)
    have hmr := hmr.ke (hP_ke est4)
    refine lv_aload_n hx hb d_x_NS_ask_24 rfl (lv_at hl 1 rfl) ?_
    refine lv_iconst (v := 0) hx hb d_x_NS_ask_25 (by decide) ?_
    replace h := obi h; obtain ⟨st5, est5, h⟩ := h
    refine hp_v (ty := .int) X hq 0 8 rfl (by decide) rfl (by decide +kernel) rfl rfl est5 q_147 d_x_NS_ask_26 (fun H locs hq => ?_)
    have hn := hn.ke (hP_ke est5)
    have hmr := hmr.ke (hP_ke est5)
    refine lv_aload_n hx hb d_x_NS_ask_29 rfl (lv_at hl 1 rfl) ?_
    refine lv_aload_nq hx hb d_x_NS_ask_30 rfl (lv_at hl 0 rfl) ?_
    replace h := obi h; obtain ⟨ad6, rfl, h⟩ := h
    replace h := obi h; obtain ⟨u7, eu7, h⟩ := h
    replace h := obi h; obtain ⟨q8, eq8, h⟩ := h
    have hn2 := hn.call (n_x_NS_valueK eq8)
    have hmr := n_x_NS_ask_J34 h
    refine hcallV (n := 1) X hq (n_x_NS_valueK eq8) (c_x_NS_valueK l 300 (Nat.le_refl _) G A eq8) (C := 0) rfl eu7 q_548 q_550 q_p13 q_1 q_551 ok_x_NS_value rfl (lvl (by omega) (by decide)) hl.1 rfl (Nat.le_of_ble_eq_true rfl) d_x_NS_ask_31 (hn2.fit hmr) (fun H locs hq => ?_)
    have hn := hn2
    exact w_x_NS_ask_J34 X hK hq hn (lv_sub hl [1] rfl) h
  · replace h := ifp c7 h
    refine lv_ldc2 (v := -1) hx hb hown (hts _ q_547) d_x_NS_ask_10 ?_
    cases h
    exact hret_l X hq (hn.fit hle.rf) d_x_NS_ask_13
end
