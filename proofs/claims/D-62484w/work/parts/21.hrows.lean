theorem hdf_ok : ∀ ci : Nat, ci < 8 → ∀ j, j < (hcl.getD ci ("", F_Op, 0)).2.2 → defaultValue (htf ci j) = vp_V (hdf ci) j := by
  intro ci hci
  match ci, hci with
  | 0, _ => decide +kernel
  | 1, _ => decide +kernel
  | 2, _ => decide +kernel
  | 3, _ => decide +kernel
  | 4, _ => decide +kernel
  | 5, _ => decide +kernel
  | 6, _ => decide +kernel
  | 7, _ => decide +kernel
theorem hAi_spec {st : HS} {a ty : Nat} {i x : Int32} (h : hAi st a ty i = some x) : ∃ (k n : Nat) (f : Nat → Int32), st.1 a = some (.inr (k, n, .inl f)) ∧ k % 100 = ty ∧ vp_in i n ∧ x = f i.toNatClampNeg := by
  unfold hAi at h
  split at h
  · rename_i k n f e
    split at h
    · rename_i q
      obtain ⟨j, h1, h2⟩ := Option.map_eq_some_iff.mp h
      obtain ⟨h3, rfl⟩ := ix_spec h1
      exact ⟨k, n, f, e, q, h3, h2.symm⟩
    · cases h
  · cases h
theorem hAl_spec {st : HS} {a : Nat} {i : Int32} {x : Int64} (h : hAl st a i = some x) : ∃ (n : Nat) (f : Nat → Int64), st.1 a = some (.inr (3, n, .inr (.inl f))) ∧ vp_in i n ∧ x = f i.toNatClampNeg := by
  unfold hAl at h
  split at h
  · rename_i k n f e
    split at h
    · rename_i q
      obtain ⟨j, h1, h2⟩ := Option.map_eq_some_iff.mp h
      obtain ⟨h3, rfl⟩ := ix_spec h1
      subst q
      exact ⟨n, f, e, h3, h2.symm⟩
    · cases h
  · cases h
theorem hAr_spec {st : HS} {a ty : Nat} {i : Int32} {x : Option Nat} (h : hAr st a ty i = some x) : ∃ (n : Nat) (f : Nat → Option Nat), st.1 a = some (.inr (ty, n, .inr (.inr (.inr (.inr f))))) ∧ vp_in i n ∧ x = f i.toNatClampNeg := by
  unfold hAr at h
  split at h
  · rename_i k n f e
    split at h
    · rename_i q
      obtain ⟨j, h1, h2⟩ := Option.map_eq_some_iff.mp h
      obtain ⟨h3, rfl⟩ := ix_spec h1
      subst q
      exact ⟨n, f, e, h3, h2.symm⟩
    · cases h
  · cases h
theorem hWi_spec {st st' : HS} {a ty : Nat} {i v : Int32} (h : hWi st a ty i v = some st') : ∃ (n : Nat) (f : Nat → Int32), st.1 a = some (.inr (ty, n, .inl f)) ∧ vp_in i n ∧ st' = hSet st a (.inr (ty, n, .inl (upd f i.toNatClampNeg v))) := by
  unfold hWi at h
  split at h
  · rename_i k n f e
    split at h
    · rename_i q
      obtain ⟨j, h1, h2⟩ := Option.map_eq_some_iff.mp h
      obtain ⟨h3, rfl⟩ := ix_spec h1
      subst q
      exact ⟨n, f, e, h3, h2.symm⟩
    · cases h
  · cases h
theorem hWl_spec {st st' : HS} {a : Nat} {i : Int32} {v : Int64} (h : hWl st a i v = some st') : ∃ (n : Nat) (f : Nat → Int64), st.1 a = some (.inr (3, n, .inr (.inl f))) ∧ vp_in i n ∧ st' = hSet st a (.inr (3, n, .inr (.inl (vp_updL f i.toNatClampNeg v)))) := by
  unfold hWl at h
  split at h
  · rename_i k n f e
    split at h
    · rename_i q
      obtain ⟨j, h1, h2⟩ := Option.map_eq_some_iff.mp h
      obtain ⟨h3, rfl⟩ := ix_spec h1
      subst q
      exact ⟨n, f, e, h3, h2.symm⟩
    · cases h
  · cases h
theorem hWr_spec {st st' : HS} {a ty v : Nat} {i : Int32} (h : hWr st a ty i v = some st') : ∃ (n : Nat) (f : Nat → Option Nat) (u : Unit), st.1 a = some (.inr (ty, n, .inr (.inr (.inr (.inr f))))) ∧ hIs st v (hco ty) = some u ∧ 4 ≤ ty ∧ ty ≤ 5 ∧ vp_in i n ∧ st' = hSet st a (.inr (ty, n, .inr (.inr (.inr (.inr (va_up f i.toNatClampNeg (some v))))))) := by
  unfold hWr at h
  split at h
  · rename_i k n f u e eu
    split at h
    · rename_i q
      obtain ⟨j, h1, h2⟩ := Option.map_eq_some_iff.mp h
      obtain ⟨h3, rfl⟩ := ix_spec h1
      obtain ⟨rfl, q1, q2⟩ := q
      exact ⟨n, f, u, e, eu, q1, q2, h3, h2.symm⟩
    · cases h
  · cases h
theorem hLen_spec {st : HS} {a : Nat} {x : Int32} (h : hLen st a = some x) : ∃ (k : Nat) (y : vp_A), st.1 a = some (.inr (k, y)) ∧ k % 100 ≤ 5 ∧ x = Int32.ofNat y.1 := by
  unfold hLen at h
  split at h
  · rename_i k n y e
    split at h
    · rename_i q; cases h; exact ⟨k, (n, y), e, q, rfl⟩
    · cases h
  · cases h
theorem hsz_spec {n : Int32} {N : Nat} (h : hsz n = some N) : ¬ n < 0 ∧ n.toNatClampNeg = N ∧ N ≤ 100000 := by
  unfold hsz at h
  split at h
  · cases h
  · rename_i q
    cases h
    exact ⟨fun z => q (Or.inl z), rfl, Nat.le_of_not_lt fun z => q (Or.inr z)⟩
theorem bchk_nar {v : Int32} (h : v = 0 ∨ v = 1) : narrow .boolean (.int v) = .int v ∧ fits .boolean (.int v) = true := by
  rcases h with rfl | rfl <;> exact ⟨by decide +kernel, by decide +kernel⟩
theorem rf_nar {v : Option Nat} {C : String} : narrow (.object C) (va_rf v) = va_rf v := by cases v <;> rfl
theorem rf_narA {v : Option Nat} {t : FieldType} : narrow (.array t) (va_rf v) = va_rf v := by cases v <;> rfl
theorem rf_fit {v : Option Nat} {C : String} : fits (.object C) (va_rf v) = true := by cases v <;> rfl
theorem rf_fitA {v : Option Nat} {t : FieldType} : fits (.array t) (va_rf v) = true := by cases v <;> rfl
theorem rf_cat {v : Option Nat} : (va_rf v).category = 1 := by cases v <;> rfl
section HR
variable {p : Program} {l : Launch} {e : Env} {R : Room} {s : State} {m : MethodId} {args : Array Value} {below : List Frame} {meth : Method} {c : Code} {H : Heap} {locs : List Loc} {cells slots : Nat} {Q : State → Prop}
variable {cc : ByteArray} {nL : Nat} {ret : Option FieldType} {own : String} {pc : Nat} {ls : Array Slot} {rest : List Value} {G : HG} {A : Nat → Prop} {st st' : HS} {a : Nat}
theorem hg_v {v : Value} (X : jx p s m args meth c cc nL ret own) (hC : hC G A s st H locs) (C k : Nat) {r : vw_C} (hr : hrd[C]? = some r) (hk : k < r.2.2) (h : hG st a C k = some v) {idx : Nat} (hl : Cond.fieldLink own idx (r.2.1 k).1 (r.2.1 k).2.1 (r.2.1 k).2.2.1 ∈ lw_g) (hdg : decode cc pc = .ok (.getfield idx, 3))
    (kk : W p l e R s m args below meth c H locs cells slots Q (F0 m (pc + 3) ls (v :: rest))) : W p l e R s m args below meth c H locs cells slots Q (F0 m pc ls (.ref a :: rest)) := by
  obtain ⟨hx, hb, -, -, hown, hts, -⟩ := X
  obtain ⟨ci, fs, e1, rfl, e2⟩ := hG_spec h
  obtain ⟨r', cell, g1, g2, g3, g4, g5, g6⟩ := (hC.2.2.1 a _ e1).1.rd hts hC.1
  cases hr.symm.trans g1
  obtain ⟨cf, kf, i, f, q1, q2, q3⟩ := g6 k hk
  refine W.getf hx hb hown (hts _ hl) q1 q2 g2 g3 (v := v) ?_ rfl rfl hdg kk
  rw [q3]
  simp [vp_V, e2]
theorem hg_i {v : Int32} (X : jx p s m args meth c cc nL ret own) (hC : hC G A s st H locs) (C k : Nat) {r : vw_C} (hr : hrd[C]? = some r) (hk : k < r.2.2) (h : hI st a C k = some v) {idx : Nat} (hl : Cond.fieldLink own idx (r.2.1 k).1 (r.2.1 k).2.1 (r.2.1 k).2.2.1 ∈ lw_g) (hdg : decode cc pc = .ok (.getfield idx, 3))
    (kk : W p l e R s m args below meth c H locs cells slots Q (F0 m (pc + 3) ls (.int v :: rest))) : W p l e R s m args below meth c H locs cells slots Q (F0 m pc ls (.ref a :: rest)) := hg_v X hC C k hr hk (hI_spec h) hl hdg kk
theorem hg_j {v : Int64} (X : jx p s m args meth c cc nL ret own) (hC : hC G A s st H locs) (C k : Nat) {r : vw_C} (hr : hrd[C]? = some r) (hk : k < r.2.2) (h : hJ st a C k = some v) {idx : Nat} (hl : Cond.fieldLink own idx (r.2.1 k).1 (r.2.1 k).2.1 (r.2.1 k).2.2.1 ∈ lw_g) (hdg : decode cc pc = .ok (.getfield idx, 3))
    (kk : W p l e R s m args below meth c H locs cells slots Q (F0 m (pc + 3) ls (.long v :: rest))) : W p l e R s m args below meth c H locs cells slots Q (F0 m pc ls (.ref a :: rest)) := hg_v X hC C k hr hk (hJ_spec h) hl hdg kk
theorem hg_r {v : Option Nat} (X : jx p s m args meth c cc nL ret own) (hC : hC G A s st H locs) (C k : Nat) {r : vw_C} (hr : hrd[C]? = some r) (hk : k < r.2.2) (h : hR st a C k = some v) {idx : Nat} (hl : Cond.fieldLink own idx (r.2.1 k).1 (r.2.1 k).2.1 (r.2.1 k).2.2.1 ∈ lw_g) (hdg : decode cc pc = .ok (.getfield idx, 3))
    (kk : W p l e R s m args below meth c H locs cells slots Q (F0 m (pc + 3) ls (va_rf v :: rest))) : W p l e R s m args below meth c H locs cells slots Q (F0 m pc ls (.ref a :: rest)) := hg_v X hC C k hr hk (hR_spec h) hl hdg kk
theorem hgN_v {v : Value} (X : jx p s m args meth c cc nL ret own) (hC : hC G A s st H locs) (C k : Nat) {r : vw_C} (hr : hrd[C]? = some r) (hk : k < r.2.2) (h : hG st a C k = some v) {idx : Nat} {host : String} (hl : Cond.fieldLinkNest own idx (r.2.1 k).1 (r.2.1 k).2.1 (r.2.1 k).2.2.1 host ∈ lw_n) (hdg : decode cc pc = .ok (.getfield idx, 3))
    (kk : W p l e R s m args below meth c H locs cells slots Q (F0 m (pc + 3) ls (v :: rest))) : W p l e R s m args below meth c H locs cells slots Q (F0 m pc ls (.ref a :: rest)) := by
  obtain ⟨hx, hb, -, -, hown, hts, -⟩ := X
  obtain ⟨ci, fs, e1, rfl, e2⟩ := hG_spec h
  obtain ⟨r', cell, g1, g2, g3, g4, g5, g6⟩ := (hC.2.2.1 a _ e1).1.rd hts hC.1
  cases hr.symm.trans g1
  obtain ⟨cf, kf, i, f, q1, q2, q3⟩ := g6 k hk
  refine va_Wgetf hx hb hown (nwUse rfl (hC.2.1.1 _ hl)) q1 q2 g2 g3 (v := v) ?_ rfl rfl hdg kk
  rw [q3]
  simp [vp_V, e2]
theorem hgN_i {v : Int32} (X : jx p s m args meth c cc nL ret own) (hC : hC G A s st H locs) (C k : Nat) {r : vw_C} (hr : hrd[C]? = some r) (hk : k < r.2.2) (h : hI st a C k = some v) {idx : Nat} {host : String} (hl : Cond.fieldLinkNest own idx (r.2.1 k).1 (r.2.1 k).2.1 (r.2.1 k).2.2.1 host ∈ lw_n) (hdg : decode cc pc = .ok (.getfield idx, 3))
    (kk : W p l e R s m args below meth c H locs cells slots Q (F0 m (pc + 3) ls (.int v :: rest))) : W p l e R s m args below meth c H locs cells slots Q (F0 m pc ls (.ref a :: rest)) := hgN_v X hC C k hr hk (hI_spec h) hl hdg kk
theorem hgN_j {v : Int64} (X : jx p s m args meth c cc nL ret own) (hC : hC G A s st H locs) (C k : Nat) {r : vw_C} (hr : hrd[C]? = some r) (hk : k < r.2.2) (h : hJ st a C k = some v) {idx : Nat} {host : String} (hl : Cond.fieldLinkNest own idx (r.2.1 k).1 (r.2.1 k).2.1 (r.2.1 k).2.2.1 host ∈ lw_n) (hdg : decode cc pc = .ok (.getfield idx, 3))
    (kk : W p l e R s m args below meth c H locs cells slots Q (F0 m (pc + 3) ls (.long v :: rest))) : W p l e R s m args below meth c H locs cells slots Q (F0 m pc ls (.ref a :: rest)) := hgN_v X hC C k hr hk (hJ_spec h) hl hdg kk
theorem hgN_r {v : Option Nat} (X : jx p s m args meth c cc nL ret own) (hC : hC G A s st H locs) (C k : Nat) {r : vw_C} (hr : hrd[C]? = some r) (hk : k < r.2.2) (h : hR st a C k = some v) {idx : Nat} {host : String} (hl : Cond.fieldLinkNest own idx (r.2.1 k).1 (r.2.1 k).2.1 (r.2.1 k).2.2.1 host ∈ lw_n) (hdg : decode cc pc = .ok (.getfield idx, 3))
    (kk : W p l e R s m args below meth c H locs cells slots Q (F0 m (pc + 3) ls (va_rf v :: rest))) : W p l e R s m args below meth c H locs cells slots Q (F0 m pc ls (.ref a :: rest)) := hgN_v X hC C k hr hk (hR_spec h) hl hdg kk
/-- what every store into a field needs -/
theorem hp_pre {v : Value} {ty : FieldType} {C k : Nat} {r : vw_C} {fs : List Value} (hts : ∀ w ∈ lw_g, w.before args s = true) (hCC : hC G A s st H locs) (hr : hcl[C]? = some r) (hk : k < r.2.2) (hd : parseFieldDescriptor (r.2.1 k).2.2.1 = some ty) (hn : narrow ty v = v) (hfit : fits ty v = true) (e1 : st.1 a = some (.inl (C, fs))) (hkl : k < fs.length) :
    ∃ (cf : ClassId) (kf : Class) (fi : Nat) (f : Field) (cell : Cell) (kC : Class), s.fieldFound? (r.2.1 k).1 (r.2.1 k).2.1 (r.2.1 k).2.2.1 = some (cf, kf, fi, f) ∧ f.isStatic = false ∧ H[a]? = some cell ∧ cell.vm = .none ∧ f.slot < cell.slots.size ∧ s.vm.findClass r.1 = some cell.cls ∧ s.vm.classes[cell.cls]? = some kC ∧ kC.kind = .ordinary ∧ narrow f.type v = v ∧ s.fitsSlot cell.cls .none f.slot v = true ∧
      ∀ (H1 : Heap), H1[a]? = some (cell.setSlot f.slot v) → H1.size = H.size → (∀ q : Nat, q ≠ a → H1[q]? = H[q]?) → hC G A s (hSet st a (.inl (C, fs.set k v))) H1 (locs ++ [⟨a, f.slot⟩]) := by
  have hC0 := hCC
  obtain ⟨hKs, hZs, hEs, -⟩ := hCC
  have hlt := (hcl_lt hr).1
  obtain ⟨r', h1, cell, q1, q2, q3, q4⟩ := (hEs a _ e1).1.1 (by omega)
  have h1 : hcl[C]? = some r' := h1
  cases hr.symm.trans h1
  obtain ⟨hS, hfc, kC, hkC, hkind⟩ := hKs.1 C r hr
  obtain ⟨cf, kf, fi, f, hi, hsl⟩ := hS k hk
  have hap := va_apart (own := "") hts (hin hr) (htf C) (hty hr) (hnm hr) hKs hr
  have h6 := u_fits hfc hkC hkind (u_lays hts (hin hr) hk) hi hd hn hfit
  have q2 : cell.cls = G.1.1 C := q2
  refine ⟨cf, kf, fi, f, cell, kC, hi, (u_facts hfc hkC (u_lays hts (hin hr) hk) hi).1, q1, q3, by rw [hsl]; exact k2_hasslot (q4 k hk), by rw [q2]; exact hfc, by rw [q2]; exact hkC, hkind, h6.1, by rw [q2]; exact h6.2, fun H1 g1 g2 g3 => ?_⟩
  rw [hsl] at g1 ⊢
  refine hC0.put e1 (show C < 100 by omega) (show C < 100 by omega) ⟨fun _ => ⟨r, hr, t_OB.to (V := updV (vp_V fs) k v) ⟨_, g1, q2, q3, t_set q4 hap hk v⟩ (fun j _ => vp_updV_set hkl v j)⟩, fun q => absurd (show C < 100 by omega) q⟩ g2 g3
theorem hp_v {v : Value} {ty : FieldType} (X : jx p s m args meth c cc nL ret own) (hCC : hC G A s st H locs) (C k : Nat) {r : vw_C} (hr : hcl[C]? = some r) (hk : k < r.2.2) (hfin : (r.2.1 k).2.2.2 = false) (hd : parseFieldDescriptor (r.2.1 k).2.2.1 = some ty) (hn : narrow ty v = v) (hfit : fits ty v = true) (h : hP st a C k v = some st') {idx : Nat} (hl : Cond.fieldLink own idx (r.2.1 k).1 (r.2.1 k).2.1 (r.2.1 k).2.2.1 ∈ lw_g) (hdg : decode cc pc = .ok (.putfield idx, 3))
    (kk : ∀ (H1 : Heap) (locs1 : List Loc), hC G A s st' H1 locs1 → W p l e R s m args below meth c H1 locs1 cells slots Q (F0 m (pc + 3) ls rest)) : W p l e R s m args below meth c H locs cells slots Q (F0 m pc ls (v :: .ref a :: rest)) := by
  obtain ⟨hx, hb, -, -, hown, hts, -⟩ := X
  obtain ⟨fs, e1, hkl, rfl⟩ := hP_spec h
  obtain ⟨cf, kf, fi, f, cell, kC, hi, hst, g1, g2, g3, g4, g5, g6, g7, g8, gg⟩ := hp_pre hts hCC hr hk hd hn hfit e1 hkl
  have hlay := hts _ (hin hr _ (u_in_lay hk))
  unfold u_lay at hlay
  rw [if_neg (by rw [hfin]; decide)] at hlay
  have h6 := u_store g4 g5 g6 hlay hi hd hn hfit
  exact W.putK hx hb (f := f) ⟨hown, hts _ hl, ⟨_, _, _, hi⟩, hst⟩ h6 g1 g2 g3 rfl rfl hdg fun H' e1 e2 e3 => kk H' _ (gg H' e1 e2 e3)
theorem hpN_v {v : Value} {ty : FieldType} (X : jx p s m args meth c cc nL ret own) (hCC : hC G A s st H locs) (C k : Nat) {r : vw_C} (hr : hcl[C]? = some r) (hk : k < r.2.2) (hfin : (r.2.1 k).2.2.2 = false) (hd : parseFieldDescriptor (r.2.1 k).2.2.1 = some ty) (hn : narrow ty v = v) (hfit : fits ty v = true) (h : hP st a C k v = some st') {idx : Nat} {host : String} (hl : Cond.fieldLinkNest own idx (r.2.1 k).1 (r.2.1 k).2.1 (r.2.1 k).2.2.1 host ∈ lw_n) (hdg : decode cc pc = .ok (.putfield idx, 3))
    (kk : ∀ (H1 : Heap) (locs1 : List Loc), hC G A s st' H1 locs1 → W p l e R s m args below meth c H1 locs1 cells slots Q (F0 m (pc + 3) ls rest)) : W p l e R s m args below meth c H locs cells slots Q (F0 m pc ls (v :: .ref a :: rest)) := by
  obtain ⟨hx, hb, -, -, hown, hts, -⟩ := X
  obtain ⟨fs, e1, hkl, rfl⟩ := hP_spec h
  obtain ⟨cf, kf, fi, f, cell, kC, hi, hst, g1, g2, g3, g4, g5, g6, g7, g8, gg⟩ := hp_pre hts hCC hr hk hd hn hfit e1 hkl
  have hlay := hts _ (hin hr _ (u_in_lay hk))
  unfold u_lay at hlay
  rw [if_neg (by rw [hfin]; decide)] at hlay
  have h6 := u_store g4 g5 g6 hlay hi hd hn hfit
  exact va_WputK hx hb (f := f) hown (nwUse rfl (hCC.2.1.1 _ hl)) hi hst h6 g1 g2 g3 rfl rfl hdg fun H' e1 e2 e3 => kk H' _ (gg H' e1 e2 e3)
theorem hpF_v {v : Value} {ty : FieldType} (X : jx p s m args meth c cc nL ret own) (hmn : meth.name = "<init>") (hCC : hC G A s st H locs) (C k : Nat) {r : vw_C} (hr : hcl[C]? = some r) (hk : k < r.2.2) (hfin : (r.2.1 k).2.2.2 = true) (hdecl : (r.2.1 k).1 = own) (hd : parseFieldDescriptor (r.2.1 k).2.2.1 = some ty) (hn : narrow ty v = v) (hfit : fits ty v = true) (h : hP st a C k v = some st') {idx : Nat} (hl : Cond.fieldLink own idx (r.2.1 k).1 (r.2.1 k).2.1 (r.2.1 k).2.2.1 ∈ lw_g) (hdg : decode cc pc = .ok (.putfield idx, 3))
    (kk : ∀ (H1 : Heap) (locs1 : List Loc), hC G A s st' H1 locs1 → W p l e R s m args below meth c H1 locs1 cells slots Q (F0 m (pc + 3) ls rest)) : W p l e R s m args below meth c H locs cells slots Q (F0 m pc ls (v :: .ref a :: rest)) := by
  obtain ⟨hx, hb, -, -, hown, hts, -⟩ := X
  obtain ⟨fs, e1, hkl, rfl⟩ := hP_spec h
  obtain ⟨cf, kf, fi, f, cell, kC, hi, hst, g1, g2, g3, g4, g5, g6, g7, g8, gg⟩ := hp_pre hts hCC hr hk hd hn hfit e1 hkl
  have hlay := hts _ (hin hr _ (u_in_lay hk))
  unfold u_lay at hlay
  rw [if_pos hfin] at hlay
  have hcf : m.cls = cf := by
    obtain ⟨_, _, c', _, _, _, -, -, hf', -, -, -, hown2, -⟩ := Cond.laysFinal_spec hlay
    have e1 : c' = cf := by have := hi.symm.trans hf'; simp at this; exact this.1.symm
    rw [hdecl] at hown2
    rw [← e1]; exact Option.some.inj (hown.symm.trans hown2)
  exact W.putFinK hx hb hown (hts _ hl) hi hst hcf hmn ⟨g7, g8⟩ g1 g2 g3 rfl rfl hdg fun H' e1 e2 e3 => kk H' _ (gg H' e1 e2 e3)
/-- a new object -/
theorem h_new (X : jx p s m args meth c cc nL ret own) (hCC : hC G A s st H locs) (ci : Nat) {r : vw_C} (hr : hcl[ci]? = some r) (he : some (hNew st ci) = some st') {idx : Nat} (hl : Cond.classLink own idx r.1 ∈ lw_g) (hins : Cond.instantiable r.1 (hsl ci) ∈ lw_g) (hini : Cond.initialized r.1 ∈ lw_g) (hf : cells + 1 ≤ R.cells ∧ slots + hsl ci ≤ R.slots) (hdg : decode cc pc = .ok (.new idx, 3))
    (kk : ∀ (H1 : Heap), hC G A s st' H1 locs → W p l e R s m args below meth c H1 locs (cells + 1) (slots + hsl ci) Q (F0 m (pc + 3) ls (.ref (hNx st) :: rest))) : W p l e R s m args below meth c H locs cells slots Q (F0 m pc ls rest) := by
  cases he
  obtain ⟨hx, hb, -, -, hown, hts, -⟩ := X
  have hKn := hCC.1.1 ci r hr
  have hlt := (hcl_lt hr)
  refine W.newcK hx hb hown (hts _ hl) (hts _ hins) (hts _ hini) rfl hdg hf.1 hf.2 hKn.2.1 hCC.2.2.2.1 fun H1 kC hkC e1 z1 o1 => ?_
  have hz := hCC.2.2.2.1
  refine kk H1 (hCC.push (show ci < 100 by omega) ⟨fun _ => ⟨r, hr, (u_born (htf ci) hts (hin hr) hKn hkC e1 (hty hr)).to (fun j hj => ?_)⟩, fun q => absurd (show ci < 100 by omega) q⟩ (by rw [z1, hz]) (fun q hq => o1 q (by rw [← hz]; exact hq)))
  exact hdf_ok ci hlt.1 j (by rw [hlt.2]; exact hj)
theorem h_newa {n : Int32} (X : jx p s m args meth c cc nL ret own) (hCC : hC G A s st H locs) (ty : Nat) (h3 : ty ≤ 3) (atype : ArrayType) (hat : newarray.typeOf atype = aty ty) (he : hNewA st ty n = some st') (har : Cond.arrayClass (newarray.typeOf atype) ∈ lw_g) (hcb : componentBytes (aty ty) ≤ 8) (hf : cells + 1 ≤ R.cells ∧ slots + n.toNatClampNeg ≤ R.slots) (hdg : decode cc pc = .ok (.newarray atype, 2))
    (kk : ∀ (H1 : Heap), hC G A s st' H1 locs → W p l e R s m args below meth c H1 locs (cells + 1) (slots + n.toNatClampNeg) Q (F0 m (pc + 2) ls (.ref (hNx st) :: rest))) : W p l e R s m args below meth c H locs cells slots Q (F0 m pc ls (.int n :: rest)) := by
  obtain ⟨hx, hb, -, -, hown, hts, -⟩ := X
  obtain ⟨N, h1, rfl⟩ := Option.map_eq_some_iff.mp he
  obtain ⟨hn, hN, hle⟩ := hsz_spec h1
  subst hN
  have hz := hCC.2.2.2.1
  have hbytes : n.toNatClampNeg * componentBytes (newarray.typeOf atype) ≤ 536870912 := by
    rw [hat]
    have := Nat.mul_le_mul hle hcb
    omega
  refine va_newaK hx hb (hts _ har) rfl hdg rfl hn rfl hbytes hf.1 hf.2 hz fun H1 cA e1 z1 o1 hAr hNm => ?_
  have hcA : cA = G.2 ty := by
    have := (hCC.1.arr ty (by omega)).2
    rw [hat] at hNm
    match ty, h3, this, hNm with
    | 0, _, t, q => exact Option.some.inj (q.symm.trans t)
    | 1, _, t, q => exact Option.some.inj (q.symm.trans t)
    | 2, _, t, q => exact Option.some.inj (q.symm.trans t)
    | 3, _, t, q => exact Option.some.inj (q.symm.trans t)
  subst hcA
  refine kk H1 (hCC.push (show ty < 100 by omega) ⟨fun _ => ?_, fun q => absurd (show ty < 100 by omega) q⟩ (by rw [z1, hz]) (fun q hq => o1 q (by rw [← hz]; exact hq)))
  rw [hat] at e1
  rw [e1]
  match ty, h3 with
  | 0, _ => rfl
  | 1, _ => rfl
  | 2, _ => rfl
  | 3, _ => rfl
theorem h_newr {n : Int32} (X : jx p s m args meth c cc nL ret own) (hCC : hC G A s st H locs) (ty : Nat) (h4 : 4 ≤ ty) (h5 : ty ≤ 5) {C : String} (hat : aty ty = .object C) (he : hNewA st ty n = some st') {idx : Nat} (hl : Cond.classLink own idx C ∈ lw_g) (har : Cond.arrayOver (.object C) ∈ lw_n) (hf : cells + 1 ≤ R.cells ∧ slots + n.toNatClampNeg ≤ R.slots) (hdg : decode cc pc = .ok (.anewarray idx, 3))
    (kk : ∀ (H1 : Heap), hC G A s st' H1 locs → W p l e R s m args below meth c H1 locs (cells + 1) (slots + n.toNatClampNeg) Q (F0 m (pc + 3) ls (.ref (hNx st) :: rest))) : W p l e R s m args below meth c H locs cells slots Q (F0 m pc ls (.int n :: rest)) := by
  obtain ⟨hx, hb, -, -, hown, hts, -⟩ := X
  obtain ⟨N, h1, rfl⟩ := Option.map_eq_some_iff.mp he
  obtain ⟨hn, hN, hle⟩ := hsz_spec h1
  subst hN
  have hsi := hCC.2.2.2.1
  refine W.anew hx hb hown (hts _ hl) (nwUse rfl (hCC.2.1.1 _ har)) rfl hdg rfl hn (by omega) hf.1 hf.2 fun cA kA comp f1 f2 f3 f4 => ?_
  generalize hH1 : H.push ({ cls := cA, slots := Array.replicate n.toNatClampNeg .null, vm := .none } : Cell) = H1
  have z1 : H1.size = H.size + 1 := by rw [← hH1, Array.size_push]
  have e1 : H1[H.size]? = some (arrV cA n.toNatClampNeg (fun _ => .null)) := by rw [← hH1, Array.getElem?_push_size, ← arrV_new]
  have o1 : ∀ q : Nat, q < H.size → H1[q]? = H[q]? := fun q hq => by rw [← hH1, Array.getElem?_push, if_neg (Nat.ne_of_lt hq)]
  have hcA : cA = G.2 ty := by
    have t := (hCC.1.arr ty h5).2
    rw [hat] at t
    obtain ⟨_, _, -, -, -, t4⟩ := t
    exact Option.some.inj (f1.symm.trans t4)
  subst hcA
  have hzz : hz ty n.toNatClampNeg = (n.toNatClampNeg, .inr (.inr (.inr (.inr (fun _ => none))))) := by
    unfold hz
    rw [if_neg (by omega), if_pos h4]
  have := kk H1 (hCC.push (show ty < 100 by omega) ⟨fun _ => (by rw [hzz, vp_cell_q, ← hsi]; exact e1), fun q => absurd (show ty < 100 by omega) q⟩ z1 o1)
  rw [← hsi] at this
  exact this
theorem ha_ild {i x : Int32} (X : jx p s m args meth c cc nL ret own) (hCC : hC G A s st H locs) (h : hAi st a 0 i = some x) (hdg : decode cc pc = .ok (.iaload, 1))
    (kk : W p l e R s m args below meth c H locs cells slots Q (F0 m (pc + 1) ls (.int x :: rest))) : W p l e R s m args below meth c H locs cells slots Q (F0 m pc ls (.int i :: .ref a :: rest)) := by
  obtain ⟨hx, hb, -⟩ := X
  obtain ⟨k, n, f, e1, hk, hin, rfl⟩ := hAi_spec h
  have hlt : i.toNatClampNeg < n := Nat.not_le.mp fun q => hin (Or.inr q)
  obtain ⟨cell, g1, g2, g3, g4, g5⟩ := (hCC.2.2.1 a _ e1).1.ra hCC.1 (by omega)
  rw [hk] at g2
  exact W.iald hx hb g1 g2 g3 (by rw [g4]; exact hin) (g5 _ hlt) rfl rfl hdg kk
theorem ha_bld {i x : Int32} (X : jx p s m args meth c cc nL ret own) (hCC : hC G A s st H locs) (h : hAi st a 1 i = some x) (hdg : decode cc pc = .ok (.baload, 1))
    (kk : W p l e R s m args below meth c H locs cells slots Q (F0 m (pc + 1) ls (.int x :: rest))) : W p l e R s m args below meth c H locs cells slots Q (F0 m pc ls (.int i :: .ref a :: rest)) := by
  obtain ⟨hx, hb, -⟩ := X
  obtain ⟨k, n, f, e1, hk, hin, rfl⟩ := hAi_spec h
  have hlt : i.toNatClampNeg < n := Nat.not_le.mp fun q => hin (Or.inr q)
  obtain ⟨cell, g1, g2, g3, g4, g5⟩ := (hCC.2.2.1 a _ e1).1.ra hCC.1 (by omega)
  rw [hk] at g2
  exact W.bald hx hb g1 g2 g3 (by rw [g4]; exact hin) (g5 _ hlt) rfl rfl hdg kk
theorem ha_lld {i : Int32} {x : Int64} (X : jx p s m args meth c cc nL ret own) (hCC : hC G A s st H locs) (h : hAl st a i = some x) (hdg : decode cc pc = .ok (.laload, 1))
    (kk : W p l e R s m args below meth c H locs cells slots Q (F0 m (pc + 1) ls (.long x :: rest))) : W p l e R s m args below meth c H locs cells slots Q (F0 m pc ls (.int i :: .ref a :: rest)) := by
  obtain ⟨hx, hb, -⟩ := X
  obtain ⟨n, f, e1, hin, rfl⟩ := hAl_spec h
  have hlt : i.toNatClampNeg < n := Nat.not_le.mp fun q => hin (Or.inr q)
  have g1 := (hCC.2.2.1 a _ e1).1.1 (by decide)
  rw [vp_cell_l] at g1
  exact W.lald (v := .long (f i.toNatClampNeg)) hx hb g1 ((hCC.1.arr 3 (by decide)).1 _ _) (fun q => by cases q) (by rw [arrV_size]; exact hin) (by rw [arrV_read _ _ hlt]) rfl rfl hdg kk
theorem ha_rld {i : Int32} {x : Option Nat} (X : jx p s m args meth c cc nL ret own) (hCC : hC G A s st H locs) (ty : Nat) (h5 : ty = 4 ∨ ty = 5) (h : hAr st a ty i = some x) (hdg : decode cc pc = .ok (.aaload, 1))
    (kk : W p l e R s m args below meth c H locs cells slots Q (F0 m (pc + 1) ls (va_rf x :: rest))) : W p l e R s m args below meth c H locs cells slots Q (F0 m pc ls (.int i :: .ref a :: rest)) := by
  obtain ⟨hx, hb, -⟩ := X
  obtain ⟨n, f, e1, hin, rfl⟩ := hAr_spec h
  have hlt : i.toNatClampNeg < n := Nat.not_le.mp fun q => hin (Or.inr q)
  have g1 := (hCC.2.2.1 a _ e1).1.1 (by omega)
  rw [vp_cell_q] at g1
  exact W.aald (v := va_rf (f i.toNatClampNeg)) (ty := aty ty) hx hb g1 ((hCC.1.arr ty (by omega)).1 _ _) (by rcases h5 with rfl | rfl <;> rfl) (fun q => by cases q) (by rw [arrV_size]; exact hin) (by rw [arrV_read _ _ hlt]) rfl rfl hdg kk
theorem ha_len {x : Int32} (X : jx p s m args meth c cc nL ret own) (hCC : hC G A s st H locs) (h : hLen st a = some x) (hdg : decode cc pc = .ok (.arraylength, 1))
    (kk : W p l e R s m args below meth c H locs cells slots Q (F0 m (pc + 1) ls (.int x :: rest))) : W p l e R s m args below meth c H locs cells slots Q (F0 m pc ls (.ref a :: rest)) := by
  obtain ⟨hx, hb, -⟩ := X
  obtain ⟨k, y, e1, hk, rfl⟩ := hLen_spec h
  by_cases q : k < 100
  · have g1 := (hCC.2.2.1 a _ e1).1.1 q
    have hk5 : k ≤ 5 := by rw [Nat.mod_eq_of_lt q] at hk; exact hk
    have hA := (hCC.1.arr k hk5).1
    obtain ⟨n, f | f | f | f | f⟩ := y
    · exact W.alen (n := Int32.ofNat n) hx hb g1 (hA n _) (by rw [vp_cell_i, arrV_size] <;> rfl) rfl rfl hdg kk
    · exact W.alen (n := Int32.ofNat n) hx hb g1 (hA n _) (by rw [vp_cell_l, arrV_size] <;> rfl) rfl rfl hdg kk
    · exact W.alen (n := Int32.ofNat n) hx hb g1 (hA n _) (by rw [vp_cell_f, arrV_size] <;> rfl) rfl rfl hdg kk
    · exact W.alen (n := Int32.ofNat n) hx hb g1 (hA n _) (by rw [vp_cell_d, arrV_size] <;> rfl) rfl rfl hdg kk
    · exact W.alen (n := Int32.ofNat n) hx hb g1 (hA n _) (by rw [vp_cell_q, arrV_size] <;> rfl) rfl rfl hdg kk
  · obtain ⟨n, f, rfl, h2, cell, g1, g2, g3, g4, g5⟩ := (hCC.2.2.1 a _ e1).1.2 q
    exact W.alen (n := Int32.ofNat n) hx hb g1 g2 (by rw [g4] <;> rfl) rfl rfl hdg kk
theorem ha_ist {i x : Int32} (X : jx p s m args meth c cc nL ret own) (hCC : hC G A s st H locs) (h : hWi st a 0 i x = some st') (hdg : decode cc pc = .ok (.iastore, 1))
    (kk : ∀ (H1 : Heap) (locs1 : List Loc), hC G A s st' H1 locs1 → W p l e R s m args below meth c H1 locs1 cells slots Q (F0 m (pc + 1) ls rest)) : W p l e R s m args below meth c H locs cells slots Q (F0 m pc ls (.int x :: .int i :: .ref a :: rest)) := by
  obtain ⟨hx, hb, -⟩ := X
  obtain ⟨n, f, e1, hin, rfl⟩ := hWi_spec h
  have g1 := (hCC.2.2.1 a _ e1).1.1 (by decide)
  rw [vp_cell_i] at g1
  refine W.iast hx hb g1 ((hCC.1.arr 0 (by decide)).1 _ _) (fun q => by cases q) (by rw [arrV_size]; exact hin) rfl rfl hdg fun H1 w z oq => ?_
  refine kk H1 _ (hCC.put e1 (show (0 : Nat) < 100 by decide) (show (0 : Nat) < 100 by decide) ⟨fun _ => ?_, fun q => absurd (show (0 : Nat) < 100 by decide) q⟩ z oq)
  rw [w, vp_cell_i, arrV_store]
  congr 2
  funext q
  by_cases hq : q = i.toNatClampNeg
  · subst hq; simp [updV, upd]
  · simp [updV, upd, hq]
theorem ha_bst {i x : Int32} (X : jx p s m args meth c cc nL ret own) (hCC : hC G A s st H locs) (h : hWi st a 1 i (vp_nar .byte x) = some st') (hdg : decode cc pc = .ok (.bastore, 1))
    (kk : ∀ (H1 : Heap) (locs1 : List Loc), hC G A s st' H1 locs1 → W p l e R s m args below meth c H1 locs1 cells slots Q (F0 m (pc + 1) ls rest)) : W p l e R s m args below meth c H locs cells slots Q (F0 m pc ls (.int x :: .int i :: .ref a :: rest)) := by
  obtain ⟨hx, hb, -⟩ := X
  obtain ⟨n, f, e1, hin, rfl⟩ := hWi_spec h
  have g1 := (hCC.2.2.1 a _ e1).1.1 (by decide)
  rw [vp_cell_i] at g1
  refine W.bast hx hb g1 ((hCC.1.arr 1 (by decide)).1 _ _) (fun q => by cases q) (by rw [arrV_size]; exact hin) rfl rfl hdg fun H1 w z oq => ?_
  refine kk H1 _ (hCC.put e1 (show (1 : Nat) < 100 by decide) (show (1 : Nat) < 100 by decide) ⟨fun _ => ?_, fun q => absurd (show (1 : Nat) < 100 by decide) q⟩ z oq)
  rw [w, vp_cell_i, arrV_store]
  congr 2
  funext q
  by_cases hq : q = i.toNatClampNeg
  · subst hq
    simp [updV, upd, vp_nar]
    try rfl
  · simp [updV, upd, hq]
theorem ha_lst {i : Int32} {x : Int64} (X : jx p s m args meth c cc nL ret own) (hCC : hC G A s st H locs) (h : hWl st a i x = some st') (hdg : decode cc pc = .ok (.lastore, 1))
    (kk : ∀ (H1 : Heap) (locs1 : List Loc), hC G A s st' H1 locs1 → W p l e R s m args below meth c H1 locs1 cells slots Q (F0 m (pc + 1) ls rest)) : W p l e R s m args below meth c H locs cells slots Q (F0 m pc ls (.long x :: .int i :: .ref a :: rest)) := by
  obtain ⟨hx, hb, -⟩ := X
  obtain ⟨n, f, e1, hin, rfl⟩ := hWl_spec h
  have g1 := (hCC.2.2.1 a _ e1).1.1 (by decide)
  rw [vp_cell_l] at g1
  refine W.last hx hb g1 ((hCC.1.arr 3 (by decide)).1 _ _) (fun q => by cases q) (by rw [arrV_size]; exact hin) rfl rfl hdg fun H1 w z oq => ?_
  refine kk H1 _ (hCC.put e1 (show (3 : Nat) < 100 by decide) (show (3 : Nat) < 100 by decide) ⟨fun _ => ?_, fun q => absurd (show (3 : Nat) < 100 by decide) q⟩ z oq)
  rw [w, vp_cell_l, arrV_store]
  congr 2
  funext q
  by_cases hq : q = i.toNatClampNeg
  · subst hq; simp [updV, vp_updL]
  · simp [updV, vp_updL, hq]
theorem ha_rst {i : Int32} {v : Nat} (X : jx p s m args meth c cc nL ret own) (hCC : hC G A s st H locs) (ty : Nat) (h : hWr st a ty i v = some st') (hdg : decode cc pc = .ok (.aastore, 1))
    (kk : ∀ (H1 : Heap) (locs1 : List Loc), hC G A s st' H1 locs1 → W p l e R s m args below meth c H1 locs1 cells slots Q (F0 m (pc + 1) ls rest)) : W p l e R s m args below meth c H locs cells slots Q (F0 m pc ls (.ref v :: .int i :: .ref a :: rest)) := by
  obtain ⟨hx, hb, -, -, -, hts, -⟩ := X
  obtain ⟨n, f, u, e1, hu, h4, h5, hin, rfl⟩ := hWr_spec h
  have hlt : i.toNatClampNeg < n := Nat.not_le.mp fun q => hin (Or.inr q)
  have g1 := (hCC.2.2.1 a _ e1).1.1 (by omega)
  rw [vp_cell_q] at g1
  obtain ⟨ci, fs, v1, v2⟩ := hIs_spec hu
  obtain ⟨r, cv, w1, w2, w3, w4, w5, -⟩ := (hCC.2.2.1 v _ v1).1.rd hts hCC.1
  rw [v2] at w1
  obtain ⟨kA, comp, k1, k2, k3⟩ : ∃ (kA : Class) (comp : ClassId), s.vm.classes[G.2 ty]? = some kA ∧ kA.kind = .array comp (.object r.1) ∧ s.vm.findClass r.1 = some comp := by
    have t := (hCC.1.arr ty h5).2
    rcases (show ty = 4 ∨ ty = 5 by omega) with rfl | rfl
    · obtain ⟨kA, comp, t1, t2, t3, -⟩ := t
      cases w1
      exact ⟨kA, comp, t1, t2, t3⟩
    · obtain ⟨kA, comp, t1, t2, t3, -⟩ := t
      cases w1
      exact ⟨kA, comp, t1, t2, t3⟩
  obtain ⟨kcomp, hkcomp, -⟩ := Vm.findClass_spec k3
  have hcv : cv.cls = comp := Option.some.inj (w5.symm.trans k3)
  refine W.aast hx hb g1 (fun q h => by cases h) (fun h => by cases h) k1 k2 rfl hkcomp ⟨fun z => hin (Or.inl z), by rw [arrV_size]; exact hlt⟩ w2 (fun q h => by rw [h] at w4; cases w4) (by rw [hcv]; exact hkcomp) (by rw [hcv]; exact va_asg _ _) rfl rfl hdg fun H1 w z oq => ?_
  refine kk H1 _ (hCC.put e1 (show ty < 100 by omega) (show ty < 100 by omega) ⟨fun _ => ?_, fun q => absurd (show ty < 100 by omega) q⟩ z oq)
  rw [w, vp_cell_q, arrV_store]
  congr 2
  funext q
  by_cases hq : q = i.toNatClampNeg
  · subst hq; simp [updV, va_up, va_rf]
  · simp [updV, va_up, hq]
theorem hs_cs (X : jx p s m args meth c cc nL ret own) (hCC : hC G A s st H locs) {idx : Nat} (hl : Cond.fieldLink own idx "java/lang/String" "COMPACT_STRINGS" "Z" ∈ lw_g) (hdg : decode cc pc = .ok (.getstatic idx, 3))
    (kk : W p l e R s m args below meth c H locs cells slots Q (F0 m (pc + 3) ls (.int 1 :: rest))) : W p l e R s m args below meth c H locs cells slots Q (F0 m pc ls rest) := by
  obtain ⟨hx, hb, -, -, hown, hts, -⟩ := X
  exact va_gets hx hb hCC.2.1.2.1 hCC.2.2.2.2.2 hown (hts _ hl) (fun _ h => h) hdg kk
theorem hs_fm (X : jx p s m args meth c cc nL ret own) (hCC : hC G A s st H locs) {idx : Nat} (hl : Cond.fieldLink own idx "jdk/internal/util/Preconditions" "SIOOBE_FORMATTER" "Ljava/util/function/BiFunction;" ∈ lw_g) (hdg : decode cc pc = .ok (.getstatic idx, 3))
    (kk : W p l e R s m args below meth c H locs cells slots Q (F0 m (pc + 3) ls (va_rf (hFm st) :: rest))) : W p l e R s m args below meth c H locs cells slots Q (F0 m pc ls rest) := by
  obtain ⟨hx, hb, -, -, hown, hts, -⟩ := X
  exact va_gets hx hb hCC.2.1.2.2.1 hCC.2.2.2.2.2 hown (hts _ hl) (fun _ h => h) hdg kk
theorem hs_op (X : jx p s m args meth c cc nL ret own) (hCC : hC G A s st H locs) (i : Nat) (hi : i < 11) {nm : String} (hnm : hOpn.getD i "" = nm) {idx : Nat} (hl : Cond.fieldLink own idx "NoteSheet$Op" nm "LNoteSheet$Op;" ∈ lw_g) (hdg : decode cc pc = .ok (.getstatic idx, 3))
    (kk : W p l e R s m args below meth c H locs cells slots Q (F0 m (pc + 3) ls (.ref (hKc st i) :: rest))) : W p l e R s m args below meth c H locs cells slots Q (F0 m pc ls rest) := by
  obtain ⟨hx, hb, -, -, hown, hts, -⟩ := X
  subst hnm
  exact va_gets hx hb (hCC.2.1.2.2.2.1 i hi) hCC.2.2.2.2.2 hown (hts _ hl) (fun _ h => h) hdg kk
theorem hs_str (X : jx p s m args meth c cc nL ret "NoteSheet") (hCC : hC G A s st H locs) (hdg : decode cc pc = .ok (.ldc 43, 2))
    (kk : W p l e R s m args below meth c H locs cells slots Q (F0 m (pc + 2) ls (.ref (hKc st 11) :: rest))) : W p l e R s m args below meth c H locs cells slots Q (F0 m pc ls rest) := by
  obtain ⟨hx, hb, -, -, hown, hts, -⟩ := X
  exact va_ldcS hx hb hown hCC.2.1.2.2.2.2 hdg kk
theorem h_recv {C : Nat} {u : Unit} {r : vw_C} (hts : ∀ w ∈ lw_g, w.before args s = true) (hCC : hC G A s st H locs) (hr : hrd[C]? = some r) (h : hIs st a C = some u) : ∃ cell : Cell, H[a]? = some cell ∧ cell.vm.isStatics = false ∧ s.vm.findClass r.1 = some cell.cls := by
  obtain ⟨ci, fs, e1, rfl⟩ := hIs_spec h
  obtain ⟨r', cell, g1, g2, g3, g4, g5, -⟩ := (hCC.2.2.1 a _ e1).1.rd hts hCC.1
  cases hr.symm.trans g1
  exact ⟨cell, g2, g4, g5⟩
theorem h_inst (X : jx p s m args meth c cc nL ret own) (hCC : hC G A s st H locs) {u : Unit} (h : hIs st a 6 = some u) {idx : Nat} (hl : Cond.classLink own idx "java/lang/String" ∈ lw_g) (hdg : decode cc pc = .ok (.instanceof idx, 3))
    (kk : W p l e R s m args below meth c H locs cells slots Q (F0 m (pc + 3) ls (.int 1 :: rest))) : W p l e R s m args below meth c H locs cells slots Q (F0 m pc ls (.ref a :: rest)) := by
  obtain ⟨hx, hb, -, -, hown, hts, -⟩ := X
  exact va_instE hx hb hown (hts _ hl) (h_recv hts hCC (r := (R_Str, F_Str, 2)) rfl h) hdg kk
theorem h_cast (X : jx p s m args meth c cc nL ret own) (hCC : hC G A s st H locs) {u : Unit} (h : hIs st a 6 = some u) {idx : Nat} (hl : Cond.classLink own idx "java/lang/String" ∈ lw_g) (hdg : decode cc pc = .ok (.checkcast idx, 3))
    (kk : W p l e R s m args below meth c H locs cells slots Q (F0 m (pc + 3) ls (.ref a :: rest))) : W p l e R s m args below meth c H locs cells slots Q (F0 m pc ls (.ref a :: rest)) := by
  obtain ⟨hx, hb, -, -, hown, hts, -⟩ := X
  exact va_castE hx hb hown (hts _ hl) (h_recv hts hCC (r := (R_Str, F_Str, 2)) rfl h) hdg kk
theorem h_castB {x : Int32} (X : jx p s m args meth c cc nL ret own) (hCC : hC G A s st H locs) {n : Nat} {f : Nat → Int32} (e1 : st.1 a = some (.inr (1, n, .inl f))) {idx : Nat} (hl : Cond.classLink own idx "[B" ∈ lw_g) (hdg : decode cc pc = .ok (.checkcast idx, 3))
    (kk : W p l e R s m args below meth c H locs cells slots Q (F0 m (pc + 3) ls (.ref a :: rest))) : W p l e R s m args below meth c H locs cells slots Q (F0 m pc ls (.ref a :: rest)) := by
  obtain ⟨hx, hb, -, -, hown, hts, -⟩ := X
  have g1 := (hCC.2.2.1 a _ e1).1.1 (by decide)
  exact va_castE hx hb hown (hts _ hl) ⟨_, g1, rfl, (hCC.1.arr 1 (by decide)).2⟩ hdg kk
theorem hCpy_spec {b : Nat} {sp dp n : Int32} (h : hCpy st a sp b dp n = some st') : ∃ (n0 n1 : Nat) (f g : Nat → Int32), st.1 a = some (.inr (1, n0, .inl f)) ∧ st.1 b = some (.inr (1, n1, .inl g)) ∧ (a ≠ b ∧ ¬ sp < 0 ∧ ¬ dp < 0 ∧ ¬ n < 0 ∧ sp.toNatClampNeg + n.toNatClampNeg ≤ n0 ∧ dp.toNatClampNeg + n.toNatClampNeg ≤ n1 ∧ (List.range n.toNatClampNeg).all (fun i => fits .byte (.int (f (sp.toNatClampNeg + i))))) ∧ st' = hSet st b (.inr (1, n1, .inl (va_cpy f g sp.toNatClampNeg dp.toNatClampNeg n.toNatClampNeg))) := by
  unfold hCpy at h
  split at h
  · rename_i n0 f n1 g e1 e2
    split at h
    · rename_i q; cases h; exact ⟨n0, n1, f, g, e1, e2, q, rfl⟩
    · cases h
  · cases h
/-- System.arraycopy of bytes -/
theorem h_cpy {b : Nat} {sp dp n : Int32} {K mc ms : Nat} (X : jx p s m args meth c cc nL ret own) (hls : ls.size = nL) (hCC : hC G A s st H locs) (h : hCpy st a sp b dp n = some st') {idx : Nat} (hl : Cond.methodLink own idx arraycopyName ∈ lw_g) (hnat : Cond.native arraycopyName ∈ lw_g) (hstt : Cond.static arraycopyName ∈ lw_g) (hini : Cond.initialized "java/lang/System" ∈ lw_g) (hK1 : 1 ≤ K) (hrest : (rest.map fun v => v.category).sum ≤ 8) (hnw : nativeFrameWords "java/lang/System" "arraycopy" 5 ≤ 40) (hdg : decode cc pc = .ok (.invokestatic idx, 3))
    (kk : ∀ (H1 : Heap) (locs1 : List Loc), hC G A s st' H1 locs1 → W p l e (rmL K mc ms) s m args below meth c H1 locs1 cells slots Q (F0 m (pc + 3) ls rest)) : W p l e (rmL K mc ms) s m args below meth c H locs cells slots Q (F0 m pc ls (.int n :: .int dp :: .ref b :: .int sp :: .ref a :: rest)) := by
  obtain ⟨hx, hb, -, hml, hown, hts, -⟩ := X
  obtain ⟨n0, n1, f, g, e1, e2, ⟨hne, c1, c2, c3, c4, c5, c6⟩, rfl⟩ := hCpy_spec h
  have g1 := (hCC.2.2.1 a _ e1).1.1 (by decide)
  have g2 := (hCC.2.2.1 b _ e2).1.1 (by decide)
  have hAr := (hCC.1.arr 1 (by decide)).1
  have hA := (hCC.2.2.1 b _ e2).2.1 (show (1 : Nat) < 100 by decide)
  have nn : ∀ z : Int32, ¬ z < 0 → z.toInt = (z.toNatClampNeg : Int) := by
    intro z hz
    have hz0 : (0 : Int) ≤ z.toInt := by
      have := Int32.not_lt.mp hz
      simpa using Int32.le_iff_toInt_le.mp this
    show z.toInt = ((z.toInt.toNat : Nat) : Int)
    omega
  intro T hT XX
  obtain ⟨-, k0, hk0, cm0, hkk0⟩ := hAr n0 (fun j => .int (f j))
  obtain ⟨-, k1, hk1, cm1, hkk1⟩ := hAr n1 (fun j => .int (g j))
  obtain ⟨vm', X', step⟩ := XX.arraycopy hx hown (hts _ hl) (hts _ hnat) (hts _ hstt) (hts _ hini) (src := a) (dst := b) (cs := vp_cell (G.2 1) (n0, .inl f)) (cd := vp_cell (G.2 1) (n1, .inl g)) (srcPos := sp) (destPos := dp) (n := n) (by rw [hT]; exact g1) (by rw [hT]; exact g2)
    (fun _ h => by cases h) (fun _ h => by cases h) (fun h => by cases h) (fun h => by cases h) hk0 hk1 hkk0 hkk1 (by simp [refKind, aty]) c1 c2 c3
    (by rw [nn sp c1, nn n c3]; show ¬ _ > ((arrV (G.2 1) n0 (fun j => .int (f j))).slots.size : Int); rw [arrV_size]; omega)
    (by rw [nn dp c2, nn n c3]; show ¬ _ > ((arrV (G.2 1) n1 (fun j => .int (g j))).slots.size : Int); rw [arrV_size]; omega)
    (fun vm₁ _ i hi => by
      have e : (vp_cell (G.2 1) (n0, .inl f)).slots.getD (sp.toNatClampNeg + i) .null = .int (f (sp.toNatClampNeg + i)) := by
        show (arrV (G.2 1) n0 (fun j => .int (f j))).slots.getD _ _ = _
        rw [Array.getD_eq_getD_getElem?, arrV_read _ _ (by omega)]
        rfl
      refine ⟨?_, ?_⟩
      · rw [e]
        exact List.all_eq_true.mp c6 i (List.mem_range.mpr hi)
      · rw [e]
        exact trivial)
    (g := F0 m pc ls (.int n :: .int dp :: .ref b :: .int sp :: .ref a :: rest)) rfl (by rw [hml]; exact hls) (rest := rest) rfl (by rw [hb]; exact hdg) hK1 (by show 2 * 0 + _ + _ ≤ 60 * K; omega)
  have e3 : copied (vp_cell (G.2 1) (n0, .inl f)) (vp_cell (G.2 1) (n1, .inl g)) sp dp n = vp_cell (G.2 1) (n1, .inl (va_cpy f g sp.toNatClampNeg dp.toNatClampNeg n.toNatClampNeg)) := va_copied (fun z => .int z) (G.2 1) (G.2 1) f g c4
  rw [e3] at X' step
  have hl : b < H.size := (Array.getElem?_eq_some_iff.mp g2).1
  have hheap : ((T.setVm vm').setCell b (vp_cell (G.2 1) (n1, .inl (va_cpy f g sp.toNatClampNeg dp.toNatClampNeg n.toNatClampNeg)))).heap = H.setIfInBounds b (vp_cell (G.2 1) (n1, .inl (va_cpy f g sp.toNatClampNeg dp.toNatClampNeg n.toNatClampNeg))) := by rw [← hT]; rfl
  have oq : ∀ q : Nat, q ≠ b → (H.setIfInBounds b (vp_cell (G.2 1) (n1, .inl (va_cpy f g sp.toNatClampNeg dp.toNatClampNeg n.toNatClampNeg))))[q]? = H[q]? := fun q hq => by simp [Array.getElem?_setIfInBounds, Ne.symm hq]
  have hput := hCC.put (k := 0) (e := .inr (1, n1, .inl (va_cpy f g sp.toNatClampNeg dp.toNatClampNeg n.toNatClampNeg))) e2 (show (1 : Nat) < 100 by decide) (show (1 : Nat) < 100 by decide) ⟨fun _ => (show (H.setIfInBounds b _)[b]? = some _ by simp [Array.getElem?_setIfInBounds, hl]), fun q => absurd (show (1 : Nat) < 100 by decide) q⟩ (by simp) oq
  obtain ⟨t, a1, b1⟩ := kk _ _ ⟨hput.1, hput.2.1, hput.2.2.1, hput.2.2.2.1, hput.2.2.2.2.1, hput.2.2.2.2.2.1, hput.2.2.2.2.2.2.1, fun q hq => by
      rcases List.mem_append.mp hq with h | h
      · exact hCC.2.2.2.2.2.2.2 q h
      · obtain ⟨z, -, hz⟩ := List.mem_map.mp h
        rw [← hz]
        exact hA⟩ _ hheap X'
  exact ⟨t, step t a1, b1⟩
theorem hCln_spec (h : hCln st a = some st') : ∃ (n : Nat) (f : Nat → Int32), st.1 a = some (.inr (1, n, .inl f)) ∧ (∀ i, i < n → fits .byte (.int (f i)) = true) ∧ st' = hPush st (.inr (1, n, .inl f)) n := by
  unfold hCln at h
  split at h
  · rename_i n f e1
    split at h
    · rename_i q; cases h; exact ⟨n, f, e1, fun i hi => List.all_eq_true.mp q i (List.mem_range.mpr hi), rfl⟩
    · cases h
  · cases h
/-- the clone of a byte array -/
theorem h_cln {K mc ms : Nat} (X : jx p s m args meth c cc nL ret own) (hls : ls.size = nL) (hCC : hC G A s st H locs) (h : hCln st a = some st') {idx : Nat} (hl : Cond.methodLink own idx ⟨"[B", "clone", "()Ljava/lang/Object;"⟩ ∈ lw_g) (hsame : Cond.sameMethod "[B" "java/lang/Object" "clone" "()Ljava/lang/Object;" ∈ lw_g) (hnat : Cond.native ⟨"java/lang/Object", "clone", "()Ljava/lang/Object;"⟩ ∈ lw_g) (hinst : Cond.instanceMethod ⟨"java/lang/Object", "clone", "()Ljava/lang/Object;"⟩ ∈ lw_g) (hsel : Cond.selects "[B" ⟨"[B", "clone", "()Ljava/lang/Object;"⟩ ⟨"java/lang/Object", "clone", "()Ljava/lang/Object;"⟩ ∈ lw_g) (hcl : Cond.castable "[B" "java/lang/Cloneable" ∈ lw_n) (hK1 : 1 ≤ K) (hrest : (rest.map fun v => v.category).sum ≤ 8) (hf : cells + (hNx st' - hNx st) ≤ mc ∧ slots + (hNs st' - hNs st) ≤ ms) (hdg : decode cc pc = .ok (.invokevirtual idx, 3))
    (kk : ∀ (H1 : Heap), hC G A s st' H1 locs → W p l e (rmL K mc ms) s m args below meth c H1 locs (cells + (hNx st' - hNx st)) (slots + (hNs st' - hNs st)) Q (F0 m (pc + 3) ls (.ref (hNx st) :: rest))) : W p l e (rmL K mc ms) s m args below meth c H locs cells slots Q (F0 m pc ls (.ref a :: rest)) := by
  obtain ⟨hx, hb, -, hml, hown, hts, -⟩ := X
  obtain ⟨n, f, e1, hfit, rfl⟩ := hCln_spec h
  have g1 := (hCC.2.2.1 a _ e1).1.1 (by decide)
  have hA := (hCC.2.2.1 a _ e1).2.1 (show (1 : Nat) < 100 by decide)
  have d1 : hNx (hPush st (.inr (1, n, .inl f)) n) - hNx st = 1 := by show hNx st + 1 - hNx st = 1; omega
  have d2 : hNs (hPush st (.inr (1, n, .inl f)) n) - hNs st = n := by show hNs st + n - hNs st = n; omega
  rw [d1, d2] at hf kk
  have hsi := hCC.2.2.2.1
  have hnm : s.vm.findClass "[B" = some (G.2 1) := (hCC.1.arr 1 (by decide)).2
  obtain ⟨c0, t0', f1, f2, f3⟩ := Cond.castable_spec (va_Nw.use (A := args) rfl (hCC.2.1.1 _ hcl))
  cases hnm.symm.trans f1
  intro T hT XX
  have hcellT : T.heap[a]? = some (vp_cell (G.2 1) (n, .inl f)) := by rw [hT]; exact g1
  obtain ⟨-, kA, hkA, comp, hkind⟩ := State.isArrayOf_alike XX.warmed.alike ((hCC.1.arr 1 (by decide)).1 0 (fun _ => .null))
  obtain ⟨-, kS, hkS, compS, hkindS⟩ := (hCC.1.arr 1 (by decide)).1 0 (fun _ => .null)
  obtain ⟨vm', X', stp⟩ := XX.cloneArray hx hown (hts _ hl) (hts _ hsame) (hts _ hnat) (hts _ hinst) (hts _ hsel) (a := a) (cell := vp_cell (G.2 1) (n, .inl f)) hcellT (fun k h => by cases h) (fun h => by cases h) hnm f2 f3
    (fun i v hv => by
      have hk' : T.vm.classes[G.2 1]? = some kA := hkA
      have hft : fits .byte v = true := va_fit (fun i hi => hfit i hi) i v hv
      show T.fitsSlot (G.2 1) .none i v = true
      simpa [State.fitsSlot, State.slotType?, hk', hkind, aty] using hft)
    (g := F0 m pc ls (.ref a :: rest)) rfl (by rw [hml]; exact hls) rfl (by rw [hb]; exact hdg) hK1 (by show 2 * 0 + _ + 14 ≤ 60 * K; omega) hf.1 (by show slots + (arrV (G.2 1) n (fun j => .int (f j))).slots.size ≤ ms; rw [arrV_size]; exact hf.2) (hloader := Vm.clonesLoader_of_array hkS hkindS)
  have hsz : (vp_cell (G.2 1) (n, .inl f)).slots.size = n := arrV_size _ _ _
  rw [hsz] at X'
  generalize hH1 : H.push (vp_cell (G.2 1) (n, .inl f)) = H1
  have z1 : H1.size = H.size + 1 := by rw [← hH1, Array.size_push]
  have w1 : H1[H.size]? = some (vp_cell (G.2 1) (n, .inl f)) := by rw [← hH1, Array.getElem?_push_size]
  have o1 : ∀ q : Nat, q < H.size → H1[q]? = H[q]? := fun q hq => by rw [← hH1, Array.getElem?_push, if_neg (Nat.ne_of_lt hq)]
  obtain ⟨t, b1, b2⟩ := kk H1 (hCC.push (show (1 : Nat) < 100 by decide) ⟨fun _ => (by rw [← hsi]; exact w1), fun q => absurd (show (1 : Nat) < 100 by decide) q⟩ z1 o1) ((T.setVm vm').pushCell (vp_cell (G.2 1) (n, .inl f))) (by rw [← hH1, ← hT]; rfl) X'
  refine ⟨t, stp t ?_, b2⟩
  rw [← hsi] at b1
  rw [hT]
  exact b1
/-- behind a call -/
theorem h_fin {rv : Option Value} {mc ms : Nat} {aa : Array Value} {st0 : List Value} (hr : va_Run p l e R s m args below meth c H locs cells slots mc ms (F0 m pc ls st0) rest (hQc G A rv st' aa) A) (hCC : hC G A s st H locs) (hm : hle st st')
    (kk : ∀ (H1 : Heap) (locs1 : List Loc), hC G A s st' H1 locs1 → W p l e R s m args below meth c H1 locs1 (cells + mc) (slots + ms) Q (F0 m (pc + 3) ls (rv.toList ++ rest))) : W p l e R s m args below meth c H locs cells slots Q (F0 m pc ls st0) := by
  intro T hT XX
  obtain ⟨v, st₀, t, T', L, h0, X', hL, e1, e2, ⟨hv, hu, hF⟩, stp⟩ := hr T hT XX
  cases hv
  have hc := hCC.back (L := L) h0 hu hF (by rw [← e2]; exact X'.warmed.alike) hL hm
  rw [← e1] at hc
  obtain ⟨t2, a1, b1⟩ := kk T'.heap (locs ++ L) hc T' rfl X'
  exact ⟨t2, stp t2 a1, b1⟩
theorem h_blind {av : List Value} : FrameBlind (hPc G A av st) := fun a U g mk q => by
  obtain ⟨q0, q1⟩ := q
  exact ⟨q0, hU.same (u := U) (U := U.calling g mk a) rfl rfl q1⟩
theorem hcallV {y : MethodName} {bytes : ByteArray} {maxL index k n mc ms C : Nat} {u : Unit} {r : vw_C} {rt : Option FieldType} {As : List Value} {rv : Option Value} {stk : List Value} (X : jx p s m args meth c cc nL ret own) (hCC : hC G A s st H locs) (hm : hle st st')
    (hM : Met l y (Cond.code y bytes maxL rt :: lw_g) (rmL k mc ms) (hPc G A (.ref a :: As) st) (hQc G A rv st') mc ms A) (hr : hrd[C]? = some r) (hi : hIs st a C = some u)
    (hlink : Cond.methodLink own index y ∈ lw_g) (hinst : Cond.instanceMethod y ∈ lw_g) (hsel : Cond.selects r.1 y y ∈ lw_g) (hini : Cond.initialized y.cls ∈ lw_g) (hcode : Cond.code y bytes maxL rt ∈ lw_g) (hd : cOK y n) (hn : As.length = n) (hR : k + 1 ≤ R.frames ∧ 8 + (maxL + 11) + 60 * k ≤ R.locals)
    (hls : ls.size = nL) (hstk : stk = As.reverse ++ .ref a :: rest) (hrest : (rest.map fun v => v.category).sum ≤ 8) (hdg : decode cc pc = .ok (.invokevirtual index, 3)) (hcs : cells + mc ≤ R.cells ∧ slots + ms ≤ R.slots)
    (kk : ∀ (H1 : Heap) (locs1 : List Loc), hC G A s st' H1 locs1 → W p l e R s m args below meth c H1 locs1 (cells + mc) (slots + ms) Q (F0 m (pc + 3) ls (rv.toList ++ rest))) : W p l e R s m args below meth c H locs cells slots Q (F0 m pc ls stk) := by
  have hts := X.2.2.2.2.2.1
  exact h_fin (va_runV (g := F0 m pc ls stk) X.fix hM ⟨jcB (mc := mc) (ms := ms) hts hlink hini hcode hd hR, hts _ hinst, hts _ hsel⟩ ⟨h_blind, h_recv hts hCC hr hi, fun U hU hW => ⟨rfl, hCC.toU hU hW⟩⟩ rfl hn hls hstk (lv_room hrest) hdg hcs) hCC hm kk
theorem hcallS {y : MethodName} {bytes : ByteArray} {maxL index k n mc ms : Nat} {rt : Option FieldType} {As : List Value} {rv : Option Value} {stk : List Value} (X : jx p s m args meth c cc nL ret own) (hCC : hC G A s st H locs) (hm : hle st st')
    (hM : Met l y (Cond.code y bytes maxL rt :: lw_g) (rmL k mc ms) (hPc G A As st) (hQc G A rv st') mc ms A)
    (hlink : Cond.methodLink own index y ∈ lw_g) (hstt : Cond.static y ∈ lw_g) (hini : Cond.initialized y.cls ∈ lw_g) (hcode : Cond.code y bytes maxL rt ∈ lw_g) (hd : cOK y n) (hn : As.length = n) (hR : k + 1 ≤ R.frames ∧ 8 + (maxL + 11) + 60 * k ≤ R.locals)
    (hls : ls.size = nL) (hstk : stk = As.reverse ++ rest) (hrest : (rest.map fun v => v.category).sum ≤ 8) (hdg : decode cc pc = .ok (.invokestatic index, 3)) (hcs : cells + mc ≤ R.cells ∧ slots + ms ≤ R.slots)
    (kk : ∀ (H1 : Heap) (locs1 : List Loc), hC G A s st' H1 locs1 → W p l e R s m args below meth c H1 locs1 (cells + mc) (slots + ms) Q (F0 m (pc + 3) ls (rv.toList ++ rest))) : W p l e R s m args below meth c H locs cells slots Q (F0 m pc ls stk) := by
  have hts := X.2.2.2.2.2.1
  exact h_fin (va_runS (g := F0 m pc ls stk) X.fix hM ⟨jcB (mc := mc) (ms := ms) hts hlink hini hcode hd hR, hts _ hstt⟩ ⟨h_blind, fun U hU hW => ⟨rfl, hCC.toU hU hW⟩⟩ rfl hn hls hstk (lv_room hrest) hdg hcs) hCC hm kk
theorem hcallI {y : MethodName} {bytes : ByteArray} {maxL index k n mc ms : Nat} {As : List Value} {stk : List Value} (X : jx p s m args meth c cc nL ret own) (hCC : hC G A s st H locs) (hm : hle st st')
    (hM : Met l y (Cond.code y bytes maxL none :: lw_g) (rmL k mc ms) (hPc G A (.ref a :: As) st) (hQc G A none st') mc ms A)
    (hlink : Cond.methodLink own index y ∈ lw_g) (hinst : Cond.instanceMethod y ∈ lw_g) (hini : Cond.initialized y.cls ∈ lw_g) (hcode : Cond.code y bytes maxL none ∈ lw_g) (hd : cOK y n) (hy : y.name = "<init>") (hn : As.length = n) (hR : k + 1 ≤ R.frames ∧ 8 + (maxL + 11) + 60 * k ≤ R.locals)
    (hls : ls.size = nL) (hstk : stk = As.reverse ++ .ref a :: rest) (hrest : (rest.map fun v => v.category).sum ≤ 8) (hdg : decode cc pc = .ok (.invokespecial index, 3)) (hcs : cells + mc ≤ R.cells ∧ slots + ms ≤ R.slots)
    (kk : ∀ (H1 : Heap) (locs1 : List Loc), hC G A s st' H1 locs1 → W p l e R s m args below meth c H1 locs1 (cells + mc) (slots + ms) Q (F0 m (pc + 3) ls rest)) : W p l e R s m args below meth c H locs cells slots Q (F0 m pc ls stk) := by
  have hts := X.2.2.2.2.2.1
  exact h_fin (va_runI (g := F0 m pc ls stk) X.fix hM ⟨jcB (mc := mc) (ms := ms) hts hlink hini hcode hd hR, hy, hts _ hinst⟩ ⟨h_blind, fun U hU hW => ⟨rfl, hCC.toU hU hW⟩⟩ rfl hn hls hstk (lv_room hrest) hdg hcs) hCC hm kk
theorem hcallIN {y : MethodName} {bytes : ByteArray} {maxL index k n mc ms : Nat} {host : String} {As : List Value} {stk : List Value} (X : jx p s m args meth c cc nL ret own) (hCC : hC G A s st H locs) (hm : hle st st')
    (hM : Met l y (Cond.code y bytes maxL none :: lw_g) (rmL k mc ms) (hPc G A (.ref a :: As) st) (hQc G A none st') mc ms A)
    (hlink : Cond.methodLinkNest own index y host ∈ lw_n) (hinst : Cond.instanceMethod y ∈ lw_g) (hini : Cond.initialized y.cls ∈ lw_g) (hcode : Cond.code y bytes maxL none ∈ lw_g) (hd : cOK y n) (hy : y.name = "<init>") (hn : As.length = n) (hR : k + 1 ≤ R.frames ∧ 8 + (maxL + 11) + 60 * k ≤ R.locals)
    (hls : ls.size = nL) (hstk : stk = As.reverse ++ .ref a :: rest) (hrest : (rest.map fun v => v.category).sum ≤ 8) (hdg : decode cc pc = .ok (.invokespecial index, 3)) (hcs : cells + mc ≤ R.cells ∧ slots + ms ≤ R.slots)
    (kk : ∀ (H1 : Heap) (locs1 : List Loc), hC G A s st' H1 locs1 → W p l e R s m args below meth c H1 locs1 (cells + mc) (slots + ms) Q (F0 m (pc + 3) ls rest)) : W p l e R s m args below meth c H locs cells slots Q (F0 m pc ls stk) := by
  have hts := X.2.2.2.2.2.1
  exact h_fin (va_runIN (g := F0 m pc ls stk) X.fix hM ⟨va_cnB (mc := mc) (ms := ms) (rm := rmL k mc ms) n hts (gi_code hcode) rfl rfl rfl (hCC.2.1.1 _ hlink) (hts _ hini) hd hR, hy, hts _ hinst⟩ ⟨h_blind, fun U hU hW => ⟨rfl, hCC.toU hU hW⟩⟩ rfl hn hls hstk (lv_room hrest) hdg hcs) hCC hm kk
/-- an inherited method: named x, found as y -/
theorem hcallU {x y : MethodName} {bytes : ByteArray} {maxL index k n mc ms C : Nat} {u : Unit} {r : vw_C} {owner : String} {rt : Option FieldType} {As : List Value} {rv : Option Value} {stk : List Value} (X : jx p s m args meth c cc nL ret own) (hCC : hC G A s st H locs) (hm : hle st st')
    (hM : Met l y (Cond.code y bytes maxL rt :: lw_g) (rmL k mc ms) (hPc G A (.ref a :: As) st) (hQc G A rv st') mc ms A) (hr : hrd[C]? = some r) (hi : hIs st a C = some u)
    (hlink : Cond.methodLink own index x ∈ lw_g) (hsame : Cond.sameMethod x.cls owner x.name x.desc ∈ lw_g) (hinst : Cond.instanceMethod y ∈ lw_g) (hsel : Cond.selects r.1 x y ∈ lw_g) (hini : Cond.initialized y.cls ∈ lw_g) (hcode : Cond.code y bytes maxL rt ∈ lw_g) (hyx : y = ⟨owner, x.name, x.desc⟩) (hd : owner ≠ "java/lang/invoke/MethodHandle" ∧ owner ≠ "java/lang/invoke/VarHandle" ∧ (parseMethodDescriptor x.desc).map (fun d => d.parameters.length) = some n) (hn : As.length = n) (hR : k + 1 ≤ R.frames ∧ 8 + (maxL + 11) + 60 * k ≤ R.locals)
    (hls : ls.size = nL) (hstk : stk = As.reverse ++ .ref a :: rest) (hrest : (rest.map fun v => v.category).sum ≤ 8) (hdg : decode cc pc = .ok (.invokevirtual index, 3)) (hcs : cells + mc ≤ R.cells ∧ slots + ms ≤ R.slots)
    (kk : ∀ (H1 : Heap) (locs1 : List Loc), hC G A s st' H1 locs1 → W p l e R s m args below meth c H1 locs1 (cells + mc) (slots + ms) Q (F0 m (pc + 3) ls (rv.toList ++ rest))) : W p l e R s m args below meth c H locs cells slots Q (F0 m pc ls stk) := by
  have hts := X.2.2.2.2.2.1
  have hG : GoodIn lw_g (va_wsU own index r.1 owner x y (Cond.code y bytes maxL rt :: lw_g)) := by
    intro w hw
    have h2 : w ∈ lw_g := by
      unfold va_wsU at hw
      rcases List.mem_append.mp hw with h | h
      · simp only [List.mem_cons, List.not_mem_nil, or_false] at h
        rcases h with rfl | rfl | rfl | rfl | rfl
        · exact hlink
        · exact hsame
        · exact hsel
        · exact hinst
        · exact hini
      · exact (gi_code hcode w h).1
    exact ⟨h2, good_of_word (lw_good w h2)⟩
  exact h_fin (va_runU (g := F0 m pc ls stk) X.fix hM (va_cwU (rm := rmL k mc ms) n hts hG rfl rfl rfl hyx hd hR) ⟨h_blind, h_recv hts hCC hr hi, fun U hU hW => ⟨rfl, hCC.toU hU hW⟩⟩ rfl hn hls hstk (lv_room hrest) hdg hcs) hCC hm kk
/-- an overriding method -/
theorem hcallO {x y : MethodName} {bytes : ByteArray} {maxL index k n mc ms C : Nat} {u : Unit} {r : vw_C} {owner : String} {rt : Option FieldType} {As : List Value} {rv : Option Value} {stk : List Value} (X : jx p s m args meth c cc nL ret own) (hCC : hC G A s st H locs) (hm : hle st st')
    (hM : Met l y (Cond.code y bytes maxL rt :: lw_g) (rmL k mc ms) (hPc G A (.ref a :: As) st) (hQc G A rv st') mc ms A) (hr : hrd[C]? = some r) (hi : hIs st a C = some u)
    (hlink : Cond.methodLink own index x ∈ lw_g) (hsame : Cond.sameMethod x.cls owner x.name x.desc ∈ lw_g) (hinst : Cond.instanceMethod y ∈ lw_g) (hsel : Cond.selects r.1 x y ∈ lw_g) (hini : Cond.initialized y.cls ∈ lw_g) (hcode : Cond.code y bytes maxL rt ∈ lw_g) {b0 : ByteArray} {m0 : Nat} {r0 : Option FieldType} (h0 : Cond.code ⟨owner, x.name, x.desc⟩ b0 m0 r0 ∈ lw_g) (hi0 : Cond.instanceMethod ⟨owner, x.name, x.desc⟩ ∈ lw_g) (hd : owner ≠ "java/lang/invoke/MethodHandle" ∧ owner ≠ "java/lang/invoke/VarHandle" ∧ (parseMethodDescriptor x.desc).map (fun d => d.parameters.length) = some n) (hn : As.length = n) (hR : k + 1 ≤ R.frames ∧ 8 + (maxL + 11) + 60 * k ≤ R.locals)
    (hls : ls.size = nL) (hstk : stk = As.reverse ++ .ref a :: rest) (hrest : (rest.map fun v => v.category).sum ≤ 8) (hdg : decode cc pc = .ok (.invokevirtual index, 3)) (hcs : cells + mc ≤ R.cells ∧ slots + ms ≤ R.slots)
    (kk : ∀ (H1 : Heap) (locs1 : List Loc), hC G A s st' H1 locs1 → W p l e R s m args below meth c H1 locs1 (cells + mc) (slots + ms) Q (F0 m (pc + 3) ls (rv.toList ++ rest))) : W p l e R s m args below meth c H locs cells slots Q (F0 m pc ls stk) := by
  have hts := X.2.2.2.2.2.1
  have hG : GoodIn lw_g (va_wsO own index r.1 owner x y (Cond.code y bytes maxL rt :: lw_g)) := by
    intro w hw
    have h2 : w ∈ lw_g := by
      unfold va_wsO at hw
      rcases List.mem_append.mp hw with h | h
      · simp only [List.mem_cons, List.not_mem_nil, or_false] at h
        rcases h with rfl | rfl | rfl | rfl | rfl | rfl
        · exact hlink
        · exact hsame
        · exact hi0
        · exact hsel
        · exact hinst
        · exact hini
      · exact (gi_code hcode w h).1
    exact ⟨h2, good_of_word (lw_good w h2)⟩
  exact h_fin (va_runU (g := F0 m pc ls stk) X.fix hM (va_cwO (rm := rmL k mc ms) n hts hG rfl rfl rfl h0 hd hR) ⟨h_blind, h_recv hts hCC hr hi, fun U hU hW => ⟨rfl, hCC.toU hU hW⟩⟩ rfl hn hls hstk (lv_room hrest) hdg hcs) hCC hm kk
/-- the superclass' method by invokespecial -/
theorem hcallSU {y : MethodName} {bytes : ByteArray} {maxL index k n mc ms C : Nat} {u : Unit} {r : vw_C} {rt : Option FieldType} {As : List Value} {rv : Option Value} {stk : List Value} (X : jx p s m args meth c cc nL ret own) (hCC : hC G A s st H locs) (hm : hle st st')
    (hM : Met l y (Cond.code y bytes maxL rt :: lw_g) (rmL k mc ms) (hPc G A (.ref a :: As) st) (hQc G A rv st') mc ms A) (hr : hcl[C]? = some r) (hi : hIs st a C = some u)
    (hlink : Cond.methodLink own index y ∈ lw_g) (hsame : Cond.sameMethod y.cls y.cls y.name y.desc ∈ lw_g) (hsup : Cond.superclass own y.cls ∈ lw_g) (hinst : Cond.instanceMethod y ∈ lw_g) (hini : Cond.initialized y.cls ∈ lw_g) (hcode : Cond.code y bytes maxL rt ∈ lw_g) (hd : y.name ≠ "<init>" ∧ (parseMethodDescriptor y.desc).map (fun d => d.parameters.length) = some n) (hn : As.length = n) (hR : k + 1 ≤ R.frames ∧ 8 + (maxL + 11) + 60 * k ≤ R.locals)
    (hls : ls.size = nL) (hstk : stk = As.reverse ++ .ref a :: rest) (hrest : (rest.map fun v => v.category).sum ≤ 8) (hdg : decode cc pc = .ok (.invokespecial index, 3)) (hcs : cells + mc ≤ R.cells ∧ slots + ms ≤ R.slots)
    (kk : ∀ (H1 : Heap) (locs1 : List Loc), hC G A s st' H1 locs1 → W p l e R s m args below meth c H1 locs1 (cells + mc) (slots + ms) Q (F0 m (pc + 3) ls (rv.toList ++ rest))) : W p l e R s m args below meth c H locs cells slots Q (F0 m pc ls stk) := by
  have hts := X.2.2.2.2.2.1
  have hG : GoodIn lw_g (va_wsSU own index y (Cond.code y bytes maxL rt :: lw_g)) := by
    intro w hw
    have h2 : w ∈ lw_g := by
      unfold va_wsSU at hw
      rcases List.mem_append.mp hw with h | h
      · simp only [List.mem_cons, List.not_mem_nil, or_false] at h
        rcases h with rfl | rfl | rfl | rfl | rfl
        · exact hlink
        · exact hsame
        · exact hsup
        · exact hinst
        · exact hini
      · exact (gi_code hcode w h).1
    exact ⟨h2, good_of_word (lw_good w h2)⟩
  exact h_fin (va_runSU (g := F0 m pc ls stk) (hCC.1.1 C r hr).2 X.fix hM (va_cwSU (rm := rmL k mc ms) n hts hG rfl rfl rfl hd hR) ⟨h_blind, h_recv hts hCC (hcl_hrd hr) hi, fun U hU hW => ⟨rfl, hCC.toU hU hW⟩⟩ rfl hn hls hstk (lv_room hrest) hdg hcs) hCC hm kk
theorem h_obj {K mc ms idx : Nat} (X : jx p s m args meth c cc nL ret own) (hls : ls.size = nL) (hlink : Cond.methodLink own idx objectInit ∈ lw_g) (hinst : Cond.instanceMethod objectInit ∈ lw_g) (hcode : Cond.code objectInit ⟨#[0xb1]⟩ 1 none ∈ lw_g) (hrest : (rest.map fun v => v.category).sum ≤ 8) (hK1 : 1 ≤ K) (hdg : decode cc pc = .ok (.invokespecial idx, 3))
    (kk : W p l e (rmL K mc ms) s m args below meth c H locs cells slots Q (F0 m (pc + 3) ls rest)) : W p l e (rmL K mc ms) s m args below meth c H locs cells slots Q (F0 m pc ls (.ref a :: rest)) := by
  obtain ⟨hx, hb, -, hml, hown, hts, -⟩ := X
  exact W.objInit hx hb hown (hts _ hlink) (hts _ hinst) (hts _ hcode) rfl (by rw [hml]; exact hls) rfl hdg hK1 (by show 2 * 0 + _ + 12 ≤ 60 * K; omega) kk
/-! references -/
theorem lv_rf {x : Option Nat} {b : Nat} (he : x = some b) (kk : W p l e R s m args below meth c H locs cells slots Q (F0 m pc ls (.ref b :: rest))) : W p l e R s m args below meth c H locs cells slots Q (F0 m pc ls (va_rf x :: rest)) := by subst he; exact kk
theorem lv_nmr {x y : Option Nat} (he : x = y) (kk : W p l e R s m args below meth c H locs cells slots Q (F0 m pc ls (va_rf y :: rest))) : W p l e R s m args below meth c H locs cells slots Q (F0 m pc ls (va_rf x :: rest)) := he ▸ kk
theorem lv_rf2 {x : Option Nat} {b : Nat} {v : Value} (he : x = some b) (kk : W p l e R s m args below meth c H locs cells slots Q (F0 m pc ls (v :: .ref b :: rest))) : W p l e R s m args below meth c H locs cells slots Q (F0 m pc ls (v :: va_rf x :: rest)) := by subst he; exact kk
theorem lv_rf3 {x : Option Nat} {b : Nat} {v w : Value} (he : x = some b) (kk : W p l e R s m args below meth c H locs cells slots Q (F0 m pc ls (v :: w :: .ref b :: rest))) : W p l e R s m args below meth c H locs cells slots Q (F0 m pc ls (v :: w :: va_rf x :: rest)) := by subst he; exact kk
theorem lv_aload_nq (hexec : p.tables.exec = Jvm.exec) (hb : c.code = cc) {k : Fin 4} {i : Nat} {x : Option Nat} (hdg : decode cc pc = .ok (.aload_n k, 1)) (hi : (k : Nat) = i) (hl : ls[i]? = some (.val (va_rf x)))
    (kk : W p l e R s m args below meth c H locs cells slots Q (F0 m (pc + 1) ls (va_rf x :: rest))) : W p l e R s m args below meth c H locs cells slots Q (F0 m pc ls rest) := by
  cases x with
  | none => exact lv_aload_nN hexec hb hdg hi hl kk
  | some b => exact lv_aload_n hexec hb hdg hi hl kk
theorem lv_aloadq (hexec : p.tables.exec = Jvm.exec) (hb : c.code = cc) {i : Nat} {x : Option Nat} (hdg : decode cc pc = .ok (.aload i, 2)) (hl : ls[i]? = some (.val (va_rf x)))
    (kk : W p l e R s m args below meth c H locs cells slots Q (F0 m (pc + 2) ls (va_rf x :: rest))) : W p l e R s m args below meth c H locs cells slots Q (F0 m pc ls rest) := by
  cases x with
  | none => exact lv_aloadN hexec hb hdg hl kk
  | some b => exact lv_aload hexec hb hdg hl kk
theorem lv_astore_nq (hexec : p.tables.exec = Jvm.exec) (hb : c.code = cc) {k : Fin 4} {i nL : Nat} {x : Option Nat} {lv lv' : List (Nat × Value)} (hdg : decode cc pc = .ok (.astore_n k, 1)) (hi : (k : Nat) = i) (h : lv_has ls nL lv) (hn : i < nL) (hl : (i, va_rf x) :: lv.filter (fun q => !(q.1 == i) && !(q.1 + 1 == i && q.2.category == 2)) = lv')
    (kk : ∀ ls' : Array Slot, lv_has ls' nL lv' → W p l e R s m args below meth c H locs cells slots Q (F0 m (pc + 1) ls' rest)) : W p l e R s m args below meth c H locs cells slots Q (F0 m pc ls (va_rf x :: rest)) := by
  cases x with
  | none => exact lv_astore_nN hexec hb hdg hi h hn hl kk
  | some b => exact lv_astore_n hexec hb hdg hi h hn hl kk
theorem lv_astoreq (hexec : p.tables.exec = Jvm.exec) (hb : c.code = cc) {i nL : Nat} {x : Option Nat} {lv lv' : List (Nat × Value)} (hdg : decode cc pc = .ok (.astore i, 2)) (h : lv_has ls nL lv) (hn : i < nL) (hl : (i, va_rf x) :: lv.filter (fun q => !(q.1 == i) && !(q.1 + 1 == i && q.2.category == 2)) = lv')
    (kk : ∀ ls' : Array Slot, lv_has ls' nL lv' → W p l e R s m args below meth c H locs cells slots Q (F0 m (pc + 2) ls' rest)) : W p l e R s m args below meth c H locs cells slots Q (F0 m pc ls (va_rf x :: rest)) := by
  cases x with
  | none => exact lv_astoreN hexec hb hdg h hn hl kk
  | some b => exact lv_astore hexec hb hdg h hn hl kk
theorem lv_ifnull_q (hexec : p.tables.exec = Jvm.exec) (hb : c.code = cc) {x : Option Nat} {off : Int} {tgt : Nat} (hdg : decode cc pc = .ok (.ifnull off, 3)) (ht : (pc : Int) + off = (tgt : Int))
    (kt : x = none → W p l e R s m args below meth c H locs cells slots Q (F0 m tgt ls rest)) (kf : ¬ x = none → W p l e R s m args below meth c H locs cells slots Q (F0 m (pc + 3) ls rest)) : W p l e R s m args below meth c H locs cells slots Q (F0 m pc ls (va_rf x :: rest)) := by
  cases x with
  | none => exact lv_ifnullN hexec hb hdg ht (kt rfl)
  | some b => exact lv_ifnull hexec hb hdg (kf (fun h => by cases h))
theorem lv_ifnonnull_q (hexec : p.tables.exec = Jvm.exec) (hb : c.code = cc) {x : Option Nat} {off : Int} {tgt : Nat} (hdg : decode cc pc = .ok (.ifnonnull off, 3)) (ht : (pc : Int) + off = (tgt : Int))
    (kt : ¬ x = none → W p l e R s m args below meth c H locs cells slots Q (F0 m tgt ls rest)) (kf : x = none → W p l e R s m args below meth c H locs cells slots Q (F0 m (pc + 3) ls rest)) : W p l e R s m args below meth c H locs cells slots Q (F0 m pc ls (va_rf x :: rest)) := by
  cases x with
  | none => exact lv_ifnonnullN hexec hb hdg (kf rfl)
  | some b => exact lv_ifnonnull hexec hb hdg ht (kt (fun h => by cases h))
theorem lv_dup_q {x : Option Nat} (hexec : p.tables.exec = Jvm.exec) (hb : c.code = cc) (hdg : decode cc pc = .ok (.dup, 1))
    (kk : W p l e R s m args below meth c H locs cells slots Q (F0 m (pc + 1) ls (va_rf x :: va_rf x :: rest))) : W p l e R s m args below meth c H locs cells slots Q (F0 m pc ls (va_rf x :: rest)) := lv_dup hexec hb hdg rf_cat kk
theorem lv_pop_q {x : Option Nat} (hexec : p.tables.exec = Jvm.exec) (hb : c.code = cc) (hdg : decode cc pc = .ok (.pop, 1))
    (kk : W p l e R s m args below meth c H locs cells slots Q (F0 m (pc + 1) ls rest)) : W p l e R s m args below meth c H locs cells slots Q (F0 m pc ls (va_rf x :: rest)) := lv_pop hexec hb hdg rf_cat kk
/-! ends -/
theorem hret_v {mc ms : Nat} (X : jx p s m args meth c cc nL none own) (hCC : hC G A s st H locs) (hw : cells ≤ mc ∧ slots ≤ ms) (hdg : decode cc pc = .ok (.return_, 1)) : W p l e R s m args below meth c H locs cells slots (MQ below (hQc G A none st) args s mc ms A) (F0 m pc ls []) := by
  obtain ⟨hx, hb, hr, -, -, -, hlocks⟩ := X
  refine W.widen hw.1 hw.2 ?_
  exact W.vret hx hb hr (fun t ht hW => ⟨rfl, hCC.toU ht hW, hCC.2.2.2.2.2.F ht⟩) hCC.2.2.2.2.2.2.2 hdg
theorem hret_i {mc ms : Nat} {v : Int32} (X : jx p s m args meth c cc nL (some .int) own) (hCC : hC G A s st H locs) (hw : cells ≤ mc ∧ slots ≤ ms) (hdg : decode cc pc = .ok (.ireturn, 1)) : W p l e R s m args below meth c H locs cells slots (MQ below (hQc G A (some (.int v)) st) args s mc ms A) (F0 m pc ls [.int v]) := by
  obtain ⟨hx, hb, hr, -, -, -, hlocks⟩ := X
  refine W.widen hw.1 hw.2 ?_
  exact W.iret hx hb hr (fun t ht hW => ⟨rfl, hCC.toU ht hW, hCC.2.2.2.2.2.F ht⟩) hCC.2.2.2.2.2.2.2 hdg
theorem hret_z {mc ms : Nat} {ty : FieldType} {v : Int32} (hz : narrow ty (.int v) = .int v) (X : jx p s m args meth c cc nL (some ty) own) (hCC : hC G A s st H locs) (hw : cells ≤ mc ∧ slots ≤ ms) (hdg : decode cc pc = .ok (.ireturn, 1)) : W p l e R s m args below meth c H locs cells slots (MQ below (hQc G A (some (.int v)) st) args s mc ms A) (F0 m pc ls [.int v]) := by
  obtain ⟨hx, hb, hr, -, -, -, hlocks⟩ := X
  refine W.widen hw.1 hw.2 ?_
  exact W.zret hx hb hr hz (fun t ht hW => ⟨rfl, hCC.toU ht hW, hCC.2.2.2.2.2.F ht⟩) hCC.2.2.2.2.2.2.2 hdg
theorem hret_l {mc ms : Nat} {v : Int64} (X : jx p s m args meth c cc nL (some .long) own) (hCC : hC G A s st H locs) (hw : cells ≤ mc ∧ slots ≤ ms) (hdg : decode cc pc = .ok (.lreturn, 1)) : W p l e R s m args below meth c H locs cells slots (MQ below (hQc G A (some (.long v)) st) args s mc ms A) (F0 m pc ls [.long v]) := by
  obtain ⟨hx, hb, hr, -, -, -, hlocks⟩ := X
  refine W.widen hw.1 hw.2 ?_
  exact W.lret hx hb hr (fun t ht hW => ⟨rfl, hCC.toU ht hW, hCC.2.2.2.2.2.F ht⟩) hCC.2.2.2.2.2.2.2 hdg
theorem hret_a {mc ms : Nat} {rt : FieldType} {v : Option Nat} (hrt : (∃ n, rt = .object n) ∨ ∃ t, rt = .array t) (X : jx p s m args meth c cc nL (some rt) own) (hCC : hC G A s st H locs) (hw : cells ≤ mc ∧ slots ≤ ms) (hdg : decode cc pc = .ok (.areturn, 1)) : W p l e R s m args below meth c H locs cells slots (MQ below (hQc G A (some (va_rf v)) st) args s mc ms A) (F0 m pc ls [va_rf v]) := by
  obtain ⟨hx, hb, hr, -, -, -, hlocks⟩ := X
  refine W.widen hw.1 hw.2 ?_
  exact W.aret hx hb hr hrt (by cases v with | none => exact Or.inl rfl | some b => exact Or.inr ⟨b, rfl⟩) (fun t ht hW => ⟨rfl, hCC.toU ht hW, hCC.2.2.2.2.2.F ht⟩) hCC.2.2.2.2.2.2.2 hdg
end HR
/-- as Met.ofW, of a method that no row of natives stands for -/
theorem Met.ofWF {l : Launch} {y : MethodName} {ws ws' : List Cond} {rm : Room} {Pc : Array Value → State → Prop} {Qc : Array Value → State → Outcome → State → Prop} {mc ms : Nat} {free : Addr → Prop} {cc : ByteArray} {maxL : Nat} {ret : Option FieldType}
    (hy : plainFor y = true) (hw : ws = Cond.code y cc maxL ret :: ws')
    (body : ∀ p e s m args below meth c s₁, BodyLoose p l y (headSpec ws rm) cc maxL ret e s m args below meth c s₁ → c.maxLocals = maxL → Pc args s →
      W p l e (headSpec ws rm).room s m args below meth c s.heap [] 0 0 (MQ below Qc args s mc ms free) (entryFrame m args maxL)) : Met l y ws rm Pc Qc mc ms free := by
  refine MetFree.of_bodySF (code := cc) (maxLocals := maxL) (ret := ret) hy ?_ ?_
  · intro args s m h hn
    obtain ⟨meth, c, h1, h2, h3, h4, h5, h6, -, -⟩ := Cond.code_spec hn (atoms_spec (ws := ws) h _ (by rw [hw]; exact List.mem_cons_self))
    exact ⟨meth, c, h1, h2, h3, h4, h5, h6⟩
  · intro p e s m args below meth c s₁ B hml hP _
    have hh0 : s₁.heap = s.heap := by rw [B.state]; rfl
    obtain ⟨t, a1, o, b1, b2, b3⟩ := body p e s m args below meth c s₁ B hml hP s₁ hh0 (Stand.of_body B)
    exact ⟨t, o, a1, b1, b2, ⟨b3.1, b3.2⟩⟩
/-- a method in heap mode, from the walk of its body -/
theorem Met.ofH {l : Launch} {y : MethodName} {cc : ByteArray} {maxL k mc ms : Nat} {ret : Option FieldType} {G : HG} {A : Nat → Prop} {av : List Value} {st st' : HS} {r : Option Value} (hy : plainFor y = true) (hav : (lg_sl av).length ≤ maxL)
    (body : ∀ (p : Program) (e : Env) (s : State) (m : MethodId) (below : List Frame) (meth : Method) (c : Code) (ls : Array Slot), jx p s m av.toArray meth c cc maxL ret y.cls → meth.name = y.name → hC G A s st s.heap [] → lv_has ls maxL (lv_args 0 av) →
      W p l e (rmL k mc ms) s m av.toArray below meth c s.heap [] 0 0 (MQ below (hQc G A r st') av.toArray s mc ms A) (F0 m 0 ls [])) :
    Met l y (Cond.code y cc maxL ret :: lw_g) (rmL k mc ms) (hPc G A av st) (hQc G A r st') mc ms A := by
  refine Met.ofWF (cc := cc) (maxL := maxL) (ret := ret) hy rfl ?_
  intro p e s m args below meth c s₁ B hml hv
  obtain ⟨rfl, hu⟩ := hv
  have hts := atoms_spec (ws := Cond.code y cc maxL ret :: lw_g) B.pre
  have hl := lv_entry av (n := maxL) hav
  rw [lg_entry_eq]
  exact body p e s m below meth c _ ⟨B.exec, B.bytes, B.returns, hml, findClass_of_methodNamed B.named, fun w hw => hts w (List.mem_cons_of_mem _ hw), B.notSynchronized⟩ (name_of_methodNamed B.named B.method).1 (hC.ofU hu) hl
theorem lv_nma {p : Program} {l : Launch} {e : Env} {R : Room} {s : State} {m : MethodId} {args : Array Value} {below : List Frame} {meth : Method} {c : Code} {H : Heap} {locs : List Loc} {cells slots : Nat} {Q : State → Prop} {pc : Nat} {ls : Array Slot} {rest : List Value} {x y : Nat} (he : x = y) (kk : W p l e R s m args below meth c H locs cells slots Q (F0 m pc ls (.ref y :: rest))) : W p l e R s m args below meth c H locs cells slots Q (F0 m pc ls (.ref x :: rest)) := he ▸ kk
theorem hN.new {ce sl n0 s0 ci : Nat} {st st' : HS} (h : hN ce sl n0 s0 st) (he : some (hNew st ci) = some st') : hN (ce + 1) (sl + hsl ci) n0 s0 st' := by cases he; exact h.pu
theorem hN.newa {ce sl n0 s0 ty : Nat} {n : Int32} {st st' : HS} (h : hN ce sl n0 s0 st) (he : hNewA st ty n = some st') : hN (ce + 1) (sl + n.toNatClampNeg) n0 s0 st' := by
  obtain ⟨N, h1, rfl⟩ := Option.map_eq_some_iff.mp he
  obtain ⟨-, hN, -⟩ := hsz_spec h1
  rw [hN]
  exact h.pu
theorem hB_spec {st : HS} {a : Nat} {u : Unit} (h : hB st a = some u) : ∃ (n : Nat) (f : Nat → Int32), st.1 a = some (.inr (1, n, .inl f)) := by
  unfold hB at h
  split at h
  · rename_i n f e; exact ⟨n, f, e⟩
  · cases h
