def jx (p : Program) (s : State) (m : MethodId) (args : Array Value) (meth : Method) (c : Code) (cc : ByteArray) (nL : Nat) (ret : Option FieldType) (own : String) : Prop :=
  p.tables.exec = Jvm.exec ∧ c.code = cc ∧ meth.sig.returnType = ret ∧ c.maxLocals = nL ∧ s.vm.findClass own = some m.cls ∧ (∀ w ∈ lw_g, w.before args s = true) ∧ meth.locks = false
theorem jx.fix {p : Program} {s : State} {m : MethodId} {args : Array Value} {meth : Method} {c : Code} {cc : ByteArray} {nL : Nat} {ret : Option FieldType} {own : String} (X : jx p s m args meth c cc nL ret own) : CallFix p m c cc nL s args lw_g own :=
  ⟨X.1, X.2.1, X.2.2.2.1, X.2.2.2.2.1, X.2.2.2.2.2.1⟩
theorem jcB {R : Room} {s : State} {args : Array Value} {own : String} {index : Nat} {y : MethodName} {bytes : ByteArray} {maxL : Nat} {ret : Option FieldType} {k mc ms n : Nat} (hts : ∀ w ∈ lw_g, w.before args s = true)
    (hlink : Cond.methodLink own index y ∈ lw_g) (hini : Cond.initialized y.cls ∈ lw_g) (hcode : Cond.code y bytes maxL ret ∈ lw_g) (hd : cOK y n) (hR : k + 1 ≤ R.frames ∧ 8 + (maxL + 11) + 60 * k ≤ R.locals) :
    CallB R s args own index y bytes maxL ret (Cond.code y bytes maxL ret :: lw_g) (rmL k mc ms) mc ms n :=
  callB_of n hts (gi_code hcode) rfl rfl rfl (hts _ hini) (hts _ hlink) hd hR
/-! NoteSheetModel's world -/
abbrev MG : Type := ClassId × (Nat → Nat) × ClassId × ClassId × ClassId
def mK (G : MG) (U : State) : Prop := u_Kn U R_M F_M 43 G.1 G.2.1 ∧ ArrOfT U G.2.2.1 .int ∧ ArrOfT U G.2.2.2.1 .boolean ∧ ArrOfT U G.2.2.2.2 .long
theorem mK.moved {G : MG} {u U : State} (hvm : u.vm.Alike U.vm) (h : mK G u) : mK G U := ⟨u_Kn_moved hvm h.1, arrOfT_moved hvm h.2.1, arrOfT_moved hvm h.2.2.1, arrOfT_moved hvm h.2.2.2⟩
def mV (this : Nat) (st : MS) (k : Nat) : Value := if mo k = 0 then .int (mI st k) else .ref (this + mo k)
def mCell (G : MG) (st : MS) (k : Nat) : Cell := if mt k = 3 then arrV G.2.2.2.2 (mn k) (fun j => .long (mL st k j)) else if mt k = 2 then arrV G.2.2.2.1 (mn k) (fun j => .int (mA st k j)) else arrV G.2.2.1 (mn k) (fun j => .int (mA st k j))
def MP (G : MG) (this : Nat) (st : MS) (H : Heap) : Prop := t_OB this G.1 43 G.2.1 H (mV this st) ∧ ∀ k, mo k ≠ 0 → H[this + mo k]? = some (mCell G st k)
def mFr (this : Nat) (q : Nat) : Prop := this ≤ q ∧ q < this + 37
def mC (G : MG) (this : Nat) (s : State) (st : MS) (H : Heap) (locs : List Loc) : Prop :=
  mK G s ∧ MP G this st H ∧ H.size = s.heap.size ∧ (∀ q : Nat, ¬ mFr this q → H[q]? = s.heap[q]?) ∧ ∀ q ∈ locs, mFr this q.base
def mPc (G : MG) (this : Nat) (av : List Value) (st : MS) : Array Value → State → Prop := va_Pc (.ref this :: av) (fun U => mK G U ∧ MP G this st U.heap)
def mQc (G : MG) (this : Nat) (r : Option Value) (st : MS) : Array Value → State → Outcome → State → Prop := fun _ s0 oc t =>
  oc = .returned r ∧ MP G this st t.heap ∧ t.heap.size = s0.heap.size ∧ ∀ q : Nat, ¬ mFr this q → t.heap[q]? = s0.heap[q]?
def sQc (r : Option Value) : Array Value → State → Outcome → State → Prop := fun _ s0 oc t => oc = .returned r ∧ t.heap = s0.heap
def sPc (av : List Value) : Array Value → State → Prop := fun v _ => v = av.toArray
theorem mo_le : ∀ k, mo k ≤ 36 := by
  intro k
  by_cases h : k < 43
  · exact (by decide +kernel : ∀ k, k < 43 → mo k ≤ 36) k h
  · simp [mo, List.getD_eq_getElem?_getD, List.getElem?_eq_none (show ([0, 1, 0, 0, 2, 3, 4, 5, 6, 7, 8, 9, 10, 11, 12, 13, 14, 15, 16, 17, 18, 19, 20, 21, 0, 22, 23, 0, 24, 25, 26, 27, 28, 29, 30, 31, 32, 0, 33, 34, 0, 35, 36] : List Nat).length ≤ k by simp; omega)]
theorem mo_lt {k : Nat} (h : mo k ≠ 0) : k < 43 := by
  rcases Nat.lt_or_ge k 43 with q | q
  · exact q
  · exact absurd (by simp [mo, List.getD_eq_getElem?_getD, List.getElem?_eq_none (show ([0, 1, 0, 0, 2, 3, 4, 5, 6, 7, 8, 9, 10, 11, 12, 13, 14, 15, 16, 17, 18, 19, 20, 21, 0, 22, 23, 0, 24, 25, 26, 27, 28, 29, 30, 31, 32, 0, 33, 34, 0, 35, 36] : List Nat).length ≤ k by simp; omega)]) h
theorem mo_inj {j k : Nat} (hj : mo j ≠ 0) (hk : mo k ≠ 0) (h : mo j = mo k) : j = k :=
  (by decide +kernel : ∀ j, j < 43 → ∀ k, k < 43 → mo j ≠ 0 → mo k ≠ 0 → mo j = mo k → j = k) j (mo_lt hj) k (mo_lt hk) hj hk h
theorem n_M : ∀ a, a < 43 → ∀ b, b < 43 → a ≠ b → (F_M a).2.1 ≠ (F_M b).2.1 := by decide +kernel
theorem t_M_ok : ∀ k, k < 43 → parseFieldDescriptor (F_M k).2.2.1 = some (t_M k) := by decide +kernel
theorem i_M : ∀ w ∈ u_ws R_M F_M 43, w ∈ lw_g := by decide +kernel
theorem mrd_spec {st : MS} {k : Nat} {i x : Int32} (h : mrd st k i = some x) : vp_in i (mn k) ∧ x = mA st k i.toNatClampNeg := by
  obtain ⟨j, h1, h2⟩ := Option.map_eq_some_iff.mp h
  obtain ⟨h3, rfl⟩ := ix_spec h1
  exact ⟨h3, h2.symm⟩
theorem mrL_spec {st : MS} {k : Nat} {i : Int32} {x : Int64} (h : mrL st k i = some x) : vp_in i (mn k) ∧ x = mL st k i.toNatClampNeg := by
  obtain ⟨j, h1, h2⟩ := Option.map_eq_some_iff.mp h
  obtain ⟨h3, rfl⟩ := ix_spec h1
  exact ⟨h3, h2.symm⟩
theorem mwr_spec {st st' : MS} {k : Nat} {i x : Int32} (h : mwr st k i x = some st') : vp_in i (mn k) ∧ st' = mAs st k i.toNatClampNeg x := by
  obtain ⟨j, h1, h2⟩ := Option.map_eq_some_iff.mp h
  obtain ⟨h3, rfl⟩ := ix_spec h1
  exact ⟨h3, h2.symm⟩
theorem mwL_spec {st st' : MS} {k : Nat} {i : Int32} {x : Int64} (h : mwL st k i x = some st') : vp_in i (mn k) ∧ st' = mLs st k i.toNatClampNeg x := by
  obtain ⟨j, h1, h2⟩ := Option.map_eq_some_iff.mp h
  obtain ⟨h3, rfl⟩ := ix_spec h1
  exact ⟨h3, h2.symm⟩
section MR
variable {p : Program} {l : Launch} {e : Env} {R : Room} {s : State} {m : MethodId} {args : Array Value} {below : List Frame} {meth : Method} {c : Code} {H : Heap} {locs : List Loc} {cells slots : Nat} {Q : State → Prop}
variable {cc : ByteArray} {nL : Nat} {ret : Option FieldType} {own : String} {pc : Nat} {ls : Array Slot} {rest : List Value} {G : MG} {this : Nat} {st : MS}
theorem mg_int (X : jx p s m args meth c cc nL ret own) (hC : mC G this s st H locs) (j : Nat) (hj : j < 43) (h0 : mo j = 0) {idx : Nat} (hl : Cond.fieldLink own idx (F_M j).1 (F_M j).2.1 (F_M j).2.2.1 ∈ lw_g) (hdg : decode cc pc = .ok (.getfield idx, 3))
    (kk : W p l e R s m args below meth c H locs cells slots Q (F0 m (pc + 3) ls (.int (mI st j) :: rest))) : W p l e R s m args below meth c H locs cells slots Q (F0 m pc ls (.ref this :: rest)) := by
  obtain ⟨hx, hb, -, -, hown, hts, -⟩ := X
  obtain ⟨⟨⟨hS, hfc, kC, hkC, hkind⟩, -⟩, ⟨⟨cell, q1, q2, q3, q4⟩, -⟩, -⟩ := hC
  obtain ⟨cf, kf, fi, f, hi, hsl⟩ := hS j hj
  refine W.getf hx hb hown (hts _ hl) hi (u_facts hfc hkC (u_lays hts i_M hj) hi).1 q1 (by rw [q3]; exact fun h => by cases h) (v := .int (mI st j)) ?_ rfl rfl hdg kk
  rw [hsl, q4 j hj, mV, if_pos h0]
theorem mg_arr (X : jx p s m args meth c cc nL ret own) (hC : mC G this s st H locs) (j : Nat) (hj : j < 43) (h0 : mo j ≠ 0) {idx : Nat} (hl : Cond.fieldLink own idx (F_M j).1 (F_M j).2.1 (F_M j).2.2.1 ∈ lw_g) (hdg : decode cc pc = .ok (.getfield idx, 3))
    (kk : W p l e R s m args below meth c H locs cells slots Q (F0 m (pc + 3) ls (.ref (this + mo j) :: rest))) : W p l e R s m args below meth c H locs cells slots Q (F0 m pc ls (.ref this :: rest)) := by
  obtain ⟨hx, hb, -, -, hown, hts, -⟩ := X
  obtain ⟨⟨⟨hS, hfc, kC, hkC, hkind⟩, -⟩, ⟨⟨cell, q1, q2, q3, q4⟩, -⟩, -⟩ := hC
  obtain ⟨cf, kf, fi, f, hi, hsl⟩ := hS j hj
  refine W.getf hx hb hown (hts _ hl) hi (u_facts hfc hkC (u_lays hts i_M hj) hi).1 q1 (by rw [q3]; exact fun h => by cases h) (v := .ref (this + mo j)) ?_ rfl rfl hdg kk
  rw [hsl, q4 j hj, mV, if_neg h0]
theorem mM_apart (hts : ∀ w ∈ lw_g, w.before args s = true) (hK : mK G s) : ∀ x y, x < 43 → y < 43 → x ≠ y → G.2.1 x ≠ G.2.1 y := by
  intro x y hx hy hne
  obtain ⟨⟨hS, -⟩, -⟩ := hK
  obtain ⟨_, _, _, fa, hia, ea⟩ := hS x hx
  obtain ⟨_, _, _, fb, hib, eb⟩ := hS y hy
  rw [← ea, ← eb]
  refine u_apart (u_lays hts i_M hx) (u_lays hts i_M hy) hia hib ?_
  rw [(State.fieldFound?_type hia (t_M_ok x hx)).1, (State.fieldFound?_type hib (t_M_ok y hy)).1]
  exact n_M x hx y hy hne
theorem mp_int {v : Int32} {st' : MS} (X : jx p s m args meth c cc nL ret own) (hC : mC G this s st H locs) (j : Nat) (hj : j < 43) (h0 : mo j = 0) (hf : (F_M j).2.2.2 = false) (hd : parseFieldDescriptor (F_M j).2.2.1 = some .int) {idx : Nat} (hl : Cond.fieldLink own idx (F_M j).1 (F_M j).2.1 (F_M j).2.2.1 ∈ lw_g) (he : some (mIs st j v) = some st') (hdg : decode cc pc = .ok (.putfield idx, 3))
    (kk : ∀ (H1 : Heap) (locs1 : List Loc), mC G this s st' H1 locs1 → W p l e R s m args below meth c H1 locs1 cells slots Q (F0 m (pc + 3) ls rest)) : W p l e R s m args below meth c H locs cells slots Q (F0 m pc ls (.int v :: .ref this :: rest)) := by
  obtain ⟨hx, hb, -, -, hown, hts, -⟩ := X
  obtain ⟨hK, ⟨⟨cell, q1, q2, q3, q4⟩, hA⟩, hz, ho, hL⟩ := hC
  have hap := mM_apart hts hK
  cases he
  obtain ⟨hS, hfc, kC, hkC, hkind⟩ := hK.1
  obtain ⟨cf, kf, fi, f, hi, hsl⟩ := hS j hj
  have hlay := hts _ (i_M _ (u_in_lay hj))
  unfold u_lay at hlay
  rw [if_neg (by rw [hf]; decide)] at hlay
  have hst := (u_facts hfc hkC (u_lays hts i_M hj) hi).1
  have h6 := u_store (v := .int v) hfc hkC hkind hlay hi hd rfl rfl
  refine W.putK hx hb (f := f) ⟨hown, hts _ hl, ⟨_, _, _, hi⟩, hst⟩ (by rw [q2]; exact h6) q1 q3 (by rw [hsl]; exact k2_hasslot (q4 j hj)) rfl rfl hdg fun H' e1 e2 e3 => ?_
  rw [hsl] at e1 ⊢
  have hthis : mFr this this := ⟨Nat.le_refl _, by omega⟩
  refine kk H' _ ⟨hK, ⟨t_OB.to (V := updV (mV this st) j (.int v)) ⟨_, e1, q2, q3, t_set q4 hap hj _⟩ (fun k hk => ?_), fun k hk => ?_⟩, e2.trans hz, fun q hq => (e3 q (fun h => hq (h ▸ hthis))).trans (ho q hq), t_lc hL hthis⟩
  · by_cases hkj : k = j
    · subst hkj
      simp [updV, mV, h0, mI, mIs]
    · simp [updV, mV, mI, mIs, hkj]
  · rw [e3 (this + mo k) (fun h => hk (by have h : this + mo k = this := h; omega))]
    exact hA k hk
theorem mcell_1 {k : Nat} (h : mt k = 1) : mCell G st k = arrV G.2.2.1 (mn k) (fun j => .int (mA st k j)) := by simp [mCell, h]
theorem mcell_2 {k : Nat} (h : mt k = 2) : mCell G st k = arrV G.2.2.2.1 (mn k) (fun j => .int (mA st k j)) := by simp [mCell, h]
theorem mcell_3 {k : Nat} (h : mt k = 3) : mCell G st k = arrV G.2.2.2.2 (mn k) (fun j => .long (mL st k j)) := by simp [mCell, h]
theorem ma_ild {i x : Int32} (X : jx p s m args meth c cc nL ret own) (hC : mC G this s st H locs) (k : Nat) (h0 : mo k ≠ 0) (ht : mt k = 1) (h : mrd st k i = some x) (hdg : decode cc pc = .ok (.iaload, 1))
    (kk : W p l e R s m args below meth c H locs cells slots Q (F0 m (pc + 1) ls (.int x :: rest))) : W p l e R s m args below meth c H locs cells slots Q (F0 m pc ls (.int i :: .ref (this + mo k) :: rest)) := by
  obtain ⟨hx, hb, -⟩ := X
  obtain ⟨hK, ⟨-, hA⟩, -⟩ := hC
  obtain ⟨hin, rfl⟩ := mrd_spec h
  have hlt : i.toNatClampNeg < mn k := Nat.not_le.mp fun q => hin (Or.inr q)
  have hc := hA k h0
  rw [mcell_1 ht] at hc
  exact W.iald (v := .int (mA st k i.toNatClampNeg)) hx hb hc (hK.2.1 _ _) (fun q => by cases q) (by rw [arrV_size]; exact hin) (by rw [arrV_read _ _ hlt]) rfl rfl hdg kk
theorem ma_zld {i x : Int32} (X : jx p s m args meth c cc nL ret own) (hC : mC G this s st H locs) (k : Nat) (h0 : mo k ≠ 0) (ht : mt k = 2) (h : mrd st k i = some x) (hdg : decode cc pc = .ok (.baload, 1))
    (kk : W p l e R s m args below meth c H locs cells slots Q (F0 m (pc + 1) ls (.int x :: rest))) : W p l e R s m args below meth c H locs cells slots Q (F0 m pc ls (.int i :: .ref (this + mo k) :: rest)) := by
  obtain ⟨hx, hb, -⟩ := X
  obtain ⟨hK, ⟨-, hA⟩, -⟩ := hC
  obtain ⟨hin, rfl⟩ := mrd_spec h
  have hlt : i.toNatClampNeg < mn k := Nat.not_le.mp fun q => hin (Or.inr q)
  have hc := hA k h0
  rw [mcell_2 ht] at hc
  exact W.zald (v := .int (mA st k i.toNatClampNeg)) hx hb hc (hK.2.2.1 _ _) (fun q => by cases q) (by rw [arrV_size]; exact hin) (by rw [arrV_read _ _ hlt]) rfl rfl hdg kk
theorem ma_lld {i : Int32} {x : Int64} (X : jx p s m args meth c cc nL ret own) (hC : mC G this s st H locs) (k : Nat) (h0 : mo k ≠ 0) (ht : mt k = 3) (h : mrL st k i = some x) (hdg : decode cc pc = .ok (.laload, 1))
    (kk : W p l e R s m args below meth c H locs cells slots Q (F0 m (pc + 1) ls (.long x :: rest))) : W p l e R s m args below meth c H locs cells slots Q (F0 m pc ls (.int i :: .ref (this + mo k) :: rest)) := by
  obtain ⟨hx, hb, -⟩ := X
  obtain ⟨hK, ⟨-, hA⟩, -⟩ := hC
  obtain ⟨hin, rfl⟩ := mrL_spec h
  have hlt : i.toNatClampNeg < mn k := Nat.not_le.mp fun q => hin (Or.inr q)
  have hc := hA k h0
  rw [mcell_3 ht] at hc
  exact W.lald (v := .long (mL st k i.toNatClampNeg)) hx hb hc (hK.2.2.2 _ _) (fun q => by cases q) (by rw [arrV_size]; exact hin) (by rw [arrV_read _ _ hlt]) rfl rfl hdg kk
/-- behind a store into the array of field k -/
theorem mC.astore {H1 : Heap} {st' : MS} {k i : Nat} (hC : mC G this s st H locs) (h0 : mo k ≠ 0) (e1 : H1[this + mo k]? = some (mCell G st' k)) (z : H1.size = H.size) (oq : ∀ q : Nat, q ≠ this + mo k → H1[q]? = H[q]?)
    (hI : ∀ j, mI st' j = mI st j) (hc : ∀ k', k' ≠ k → mCell G st' k' = mCell G st k') : mC G this s st' H1 (locs ++ [⟨this + mo k, i⟩]) := by
  obtain ⟨hK, ⟨hO, hA⟩, hz, ho, hL⟩ := hC
  have hfr : mFr this (this + mo k) := ⟨by omega, by have := mo_le k; omega⟩
  refine ⟨hK, ⟨(hO.kept (oq this (by omega))).to (fun j _ => by simp only [mV, hI j]), fun k' hk' => ?_⟩, z.trans hz, fun q hq => (oq q (fun h => hq (h ▸ hfr))).trans (ho q hq), t_lc hL hfr⟩
  by_cases hkk : k' = k
  · subst hkk; exact e1
  · rw [oq _ (fun h => hkk (mo_inj hk' h0 (by omega))), hc k' hkk]
    exact hA k' hk'
theorem ma_ist {i x : Int32} {st' : MS} (X : jx p s m args meth c cc nL ret own) (hC : mC G this s st H locs) (k : Nat) (h0 : mo k ≠ 0) (ht : mt k = 1) (h : mwr st k i x = some st') (hdg : decode cc pc = .ok (.iastore, 1))
    (kk : ∀ (H1 : Heap) (locs1 : List Loc), mC G this s st' H1 locs1 → W p l e R s m args below meth c H1 locs1 cells slots Q (F0 m (pc + 1) ls rest)) : W p l e R s m args below meth c H locs cells slots Q (F0 m pc ls (.int x :: .int i :: .ref (this + mo k) :: rest)) := by
  obtain ⟨hx, hb, -⟩ := X
  have hC0 := hC
  obtain ⟨hK, ⟨-, hA⟩, -⟩ := hC
  obtain ⟨hin, rfl⟩ := mwr_spec h
  have hc := hA k h0
  rw [mcell_1 ht] at hc
  refine W.iast hx hb hc (hK.2.1 _ _) (fun q => by cases q) (by rw [arrV_size]; exact hin) rfl rfl hdg fun H1 e1 z oq => ?_
  refine kk H1 _ (hC0.astore h0 ?_ z oq (fun _ => rfl) (fun k' hk' => ?_))
  · rw [e1, mcell_1 ht, arrV_store]
    congr 2
    funext q
    by_cases hq : q = i.toNatClampNeg
    · subst hq; simp [updV, mA, mAs]
    · simp [updV, mA, mAs, hq]
  · simp [mCell, mA, mAs, mL, hk']
theorem ma_zst {i x : Int32} {st' : MS} (X : jx p s m args meth c cc nL ret own) (hC : mC G this s st H locs) (k : Nat) (h0 : mo k ≠ 0) (ht : mt k = 2) (h : mwr st k i (vp_nar .boolean x) = some st') (hdg : decode cc pc = .ok (.bastore, 1))
    (kk : ∀ (H1 : Heap) (locs1 : List Loc), mC G this s st' H1 locs1 → W p l e R s m args below meth c H1 locs1 cells slots Q (F0 m (pc + 1) ls rest)) : W p l e R s m args below meth c H locs cells slots Q (F0 m pc ls (.int x :: .int i :: .ref (this + mo k) :: rest)) := by
  obtain ⟨hx, hb, -⟩ := X
  have hC0 := hC
  obtain ⟨hK, ⟨-, hA⟩, -⟩ := hC
  obtain ⟨hin, rfl⟩ := mwr_spec h
  have hc := hA k h0
  rw [mcell_2 ht] at hc
  refine W.zast hx hb hc (hK.2.2.1 _ _) (fun q => by cases q) (by rw [arrV_size]; exact hin) rfl rfl hdg fun H1 e1 z oq => ?_
  refine kk H1 _ (hC0.astore h0 ?_ z oq (fun _ => rfl) (fun k' hk' => ?_))
  · rw [e1, mcell_2 ht, arrV_store]
    congr 2
    funext q
    by_cases hq : q = i.toNatClampNeg
    · subst hq
      simp [updV, mA, mAs, vp_nar]
      try rfl
    · simp [updV, mA, mAs, hq]
  · simp [mCell, mA, mAs, mL, hk']
theorem ma_lst {i : Int32} {x : Int64} {st' : MS} (X : jx p s m args meth c cc nL ret own) (hC : mC G this s st H locs) (k : Nat) (h0 : mo k ≠ 0) (ht : mt k = 3) (h : mwL st k i x = some st') (hdg : decode cc pc = .ok (.lastore, 1))
    (kk : ∀ (H1 : Heap) (locs1 : List Loc), mC G this s st' H1 locs1 → W p l e R s m args below meth c H1 locs1 cells slots Q (F0 m (pc + 1) ls rest)) : W p l e R s m args below meth c H locs cells slots Q (F0 m pc ls (.long x :: .int i :: .ref (this + mo k) :: rest)) := by
  obtain ⟨hx, hb, -⟩ := X
  have hC0 := hC
  obtain ⟨hK, ⟨-, hA⟩, -⟩ := hC
  obtain ⟨hin, rfl⟩ := mwL_spec h
  have hc := hA k h0
  rw [mcell_3 ht] at hc
  refine W.last hx hb hc (hK.2.2.2 _ _) (fun q => by cases q) (by rw [arrV_size]; exact hin) rfl rfl hdg fun H1 e1 z oq => ?_
  refine kk H1 _ (hC0.astore h0 ?_ z oq (fun _ => rfl) (fun k' hk' => ?_))
  · rw [e1, mcell_3 ht, arrV_store]
    congr 2
    funext q
    by_cases hq : q = i.toNatClampNeg
    · subst hq; simp [updV, mL, mLs]
    · simp [updV, mL, mLs, hq]
  · simp [mCell, mA, mL, mLs, hk']
/-- a call of one of its own methods -/
theorem mcallV {y : MethodName} {bytes : ByteArray} {maxL index k n : Nat} {rt : Option FieldType} {As : List Value} {r : Option Value} {st' : MS} {stk : List Value} (X : jx p s m args meth c cc nL ret own) (hC : mC G this s st H locs)
    (hM : Met l y (Cond.code y bytes maxL rt :: lw_g) (rmL k 0 0) (mPc G this As st) (mQc G this r st') 0 0 (mFr this))
    (hlink : Cond.methodLink own index y ∈ lw_g) (hinst : Cond.instanceMethod y ∈ lw_g) (hsel : Cond.selects R_M y y ∈ lw_g) (hini : Cond.initialized y.cls ∈ lw_g) (hcode : Cond.code y bytes maxL rt ∈ lw_g) (hd : cOK y n) (hn : As.length = n) (hR : k + 1 ≤ R.frames ∧ 8 + (maxL + 11) + 60 * k ≤ R.locals)
    (hls : ls.size = nL) (hstk : stk = As.reverse ++ .ref this :: rest) (hrest : (rest.map fun v => v.category).sum ≤ 8) (hdg : decode cc pc = .ok (.invokevirtual index, 3)) (hcs : cells ≤ R.cells ∧ slots ≤ R.slots)
    (kk : ∀ (H1 : Heap) (locs1 : List Loc), mC G this s st' H1 locs1 → W p l e R s m args below meth c H1 locs1 cells slots Q (F0 m (pc + 3) ls (r.toList ++ rest))) : W p l e R s m args below meth c H locs cells slots Q (F0 m pc ls stk) := by
  obtain ⟨hK, hMP, hz, ho, hL⟩ := hC
  have hts := X.2.2.2.2.2.1
  have hr := va_runV (p := p) (l := l) (e := e) (R := R) (s := s) (m := m) (args := args) (below := below) (meth := meth) (c := c) (H := H) (locs := locs) (cells := cells) (slots := slots) (As := As) (rest := rest) (g := F0 m pc ls stk) X.fix hM
    ⟨jcB (mc := 0) (ms := 0) hts hlink hini hcode hd hR, hts _ hinst, hts _ hsel⟩
    ⟨fun a U g mk q => by obtain ⟨q0, q1, q2⟩ := q; exact ⟨q0, mK.moved (u := U) (U := U.calling g mk a) (Vm.Alike.refl U.vm) q1, q2⟩, (by obtain ⟨cell, q1, q2, q3, -⟩ := hMP.1; exact ⟨cell, q1, by rw [q3]; rfl, by rw [q2]; exact hK.1.2.1⟩), fun U hU hW => ⟨rfl, hK.moved hW.alike, by rw [hU]; exact hMP⟩⟩
    rfl hn hls hstk (lv_room hrest) hdg hcs
  intro T hT XX
  obtain ⟨v, st₀, t, T', L, h0, X', hL', e1, e2, ⟨hv, hP', hz', ho'⟩, stp⟩ := hr T hT XX
  cases hv
  rw [h0] at hz' ho'
  obtain ⟨t2, a1, b1⟩ := kk T'.heap (locs ++ L) ⟨hK, by rw [e1]; exact hP', by rw [e1]; exact hz'.trans hz, fun q hq => by rw [e1]; exact (ho' q hq).trans (ho q hq), fun q hq => by
      rcases List.mem_append.mp hq with h | h
      · exact hL q h
      · exact hL' q h⟩ T' rfl X'
  exact ⟨t2, stp t2 a1, b1⟩
/-- a call of a static method that touches no cell -/
theorem mcallS {y : MethodName} {bytes : ByteArray} {maxL index k n : Nat} {rt : Option FieldType} {As : List Value} {r : Option Value} {stk : List Value} (X : jx p s m args meth c cc nL ret own)
    (hM : Met l y (Cond.code y bytes maxL rt :: lw_g) (rmL k 0 0) (sPc As) (sQc r) 0 0 (fun _ => False))
    (hlink : Cond.methodLink own index y ∈ lw_g) (hstt : Cond.static y ∈ lw_g) (hini : Cond.initialized y.cls ∈ lw_g) (hcode : Cond.code y bytes maxL rt ∈ lw_g) (hd : cOK y n) (hn : As.length = n) (hR : k + 1 ≤ R.frames ∧ 8 + (maxL + 11) + 60 * k ≤ R.locals)
    (hls : ls.size = nL) (hstk : stk = As.reverse ++ rest) (hrest : (rest.map fun v => v.category).sum ≤ 8) (hdg : decode cc pc = .ok (.invokestatic index, 3)) (hcs : cells ≤ R.cells ∧ slots ≤ R.slots)
    (kk : W p l e R s m args below meth c H locs cells slots Q (F0 m (pc + 3) ls (r.toList ++ rest))) : W p l e R s m args below meth c H locs cells slots Q (F0 m pc ls stk) := by
  have hts := X.2.2.2.2.2.1
  have hr := va_runS (p := p) (l := l) (e := e) (R := R) (s := s) (m := m) (args := args) (below := below) (meth := meth) (c := c) (H := H) (locs := locs) (cells := cells) (slots := slots) (As := As) (rest := rest) (g := F0 m pc ls stk) X.fix hM
    ⟨jcB (mc := 0) (ms := 0) hts hlink hini hcode hd hR, hts _ hstt⟩ ⟨fun a U g mk q => q, fun U hU hW => rfl⟩ rfl hn hls hstk (lv_room hrest) hdg hcs
  intro T hT XX
  obtain ⟨v, st₀, t, T', L, h0, X', hL', e1, e2, ⟨hv, hh⟩, stp⟩ := hr T hT XX
  cases hv
  obtain ⟨t2, a1, b1⟩ := kk T' (by rw [e1, hh, h0]) (Stand.forget X' (fun q h => (hL' q h).elim))
  exact ⟨t2, stp t2 a1, b1⟩
theorem mcallV_v {y : MethodName} {bytes : ByteArray} {maxL index k n : Nat} {rt : Option FieldType} {As : List Value} {st' : MS} {stk : List Value} (X : jx p s m args meth c cc nL ret own) (hC : mC G this s st H locs)
    (hM : Met l y (Cond.code y bytes maxL rt :: lw_g) (rmL k 0 0) (mPc G this As st) (mQc G this none st') 0 0 (mFr this))
    (hlink : Cond.methodLink own index y ∈ lw_g) (hinst : Cond.instanceMethod y ∈ lw_g) (hsel : Cond.selects R_M y y ∈ lw_g) (hini : Cond.initialized y.cls ∈ lw_g) (hcode : Cond.code y bytes maxL rt ∈ lw_g) (hd : cOK y n) (hn : As.length = n) (hR : k + 1 ≤ R.frames ∧ 8 + (maxL + 11) + 60 * k ≤ R.locals)
    (hls : ls.size = nL) (hstk : stk = As.reverse ++ .ref this :: rest) (hrest : (rest.map fun v => v.category).sum ≤ 8) (hdg : decode cc pc = .ok (.invokevirtual index, 3)) (hcs : cells ≤ R.cells ∧ slots ≤ R.slots)
    (kk : ∀ (H1 : Heap) (locs1 : List Loc), mC G this s st' H1 locs1 → W p l e R s m args below meth c H1 locs1 cells slots Q (F0 m (pc + 3) ls (rest))) : W p l e R s m args below meth c H locs cells slots Q (F0 m pc ls stk) :=
  mcallV X hC hM hlink hinst hsel hini hcode hd hn hR hls hstk hrest hdg hcs kk
theorem mcallV_i {y : MethodName} {bytes : ByteArray} {maxL index k n : Nat} {rt : Option FieldType} {As : List Value} {rv : Int32} {st' : MS} {stk : List Value} (X : jx p s m args meth c cc nL ret own) (hC : mC G this s st H locs)
    (hM : Met l y (Cond.code y bytes maxL rt :: lw_g) (rmL k 0 0) (mPc G this As st) (mQc G this (some (.int rv)) st') 0 0 (mFr this))
    (hlink : Cond.methodLink own index y ∈ lw_g) (hinst : Cond.instanceMethod y ∈ lw_g) (hsel : Cond.selects R_M y y ∈ lw_g) (hini : Cond.initialized y.cls ∈ lw_g) (hcode : Cond.code y bytes maxL rt ∈ lw_g) (hd : cOK y n) (hn : As.length = n) (hR : k + 1 ≤ R.frames ∧ 8 + (maxL + 11) + 60 * k ≤ R.locals)
    (hls : ls.size = nL) (hstk : stk = As.reverse ++ .ref this :: rest) (hrest : (rest.map fun v => v.category).sum ≤ 8) (hdg : decode cc pc = .ok (.invokevirtual index, 3)) (hcs : cells ≤ R.cells ∧ slots ≤ R.slots)
    (kk : ∀ (H1 : Heap) (locs1 : List Loc), mC G this s st' H1 locs1 → W p l e R s m args below meth c H1 locs1 cells slots Q (F0 m (pc + 3) ls (.int rv :: rest))) : W p l e R s m args below meth c H locs cells slots Q (F0 m pc ls stk) :=
  mcallV X hC hM hlink hinst hsel hini hcode hd hn hR hls hstk hrest hdg hcs kk
theorem mcallV_l {y : MethodName} {bytes : ByteArray} {maxL index k n : Nat} {rt : Option FieldType} {As : List Value} {rv : Int64} {st' : MS} {stk : List Value} (X : jx p s m args meth c cc nL ret own) (hC : mC G this s st H locs)
    (hM : Met l y (Cond.code y bytes maxL rt :: lw_g) (rmL k 0 0) (mPc G this As st) (mQc G this (some (.long rv)) st') 0 0 (mFr this))
    (hlink : Cond.methodLink own index y ∈ lw_g) (hinst : Cond.instanceMethod y ∈ lw_g) (hsel : Cond.selects R_M y y ∈ lw_g) (hini : Cond.initialized y.cls ∈ lw_g) (hcode : Cond.code y bytes maxL rt ∈ lw_g) (hd : cOK y n) (hn : As.length = n) (hR : k + 1 ≤ R.frames ∧ 8 + (maxL + 11) + 60 * k ≤ R.locals)
    (hls : ls.size = nL) (hstk : stk = As.reverse ++ .ref this :: rest) (hrest : (rest.map fun v => v.category).sum ≤ 8) (hdg : decode cc pc = .ok (.invokevirtual index, 3)) (hcs : cells ≤ R.cells ∧ slots ≤ R.slots)
    (kk : ∀ (H1 : Heap) (locs1 : List Loc), mC G this s st' H1 locs1 → W p l e R s m args below meth c H1 locs1 cells slots Q (F0 m (pc + 3) ls (.long rv :: rest))) : W p l e R s m args below meth c H locs cells slots Q (F0 m pc ls stk) :=
  mcallV X hC hM hlink hinst hsel hini hcode hd hn hR hls hstk hrest hdg hcs kk
theorem mcallS_i {y : MethodName} {bytes : ByteArray} {maxL index k n : Nat} {rt : Option FieldType} {As : List Value} {rv : Int32} {stk : List Value} (X : jx p s m args meth c cc nL ret own)
    (hM : Met l y (Cond.code y bytes maxL rt :: lw_g) (rmL k 0 0) (sPc As) (sQc (some (.int rv))) 0 0 (fun _ => False))
    (hlink : Cond.methodLink own index y ∈ lw_g) (hstt : Cond.static y ∈ lw_g) (hini : Cond.initialized y.cls ∈ lw_g) (hcode : Cond.code y bytes maxL rt ∈ lw_g) (hd : cOK y n) (hn : As.length = n) (hR : k + 1 ≤ R.frames ∧ 8 + (maxL + 11) + 60 * k ≤ R.locals)
    (hls : ls.size = nL) (hstk : stk = As.reverse ++ rest) (hrest : (rest.map fun v => v.category).sum ≤ 8) (hdg : decode cc pc = .ok (.invokestatic index, 3)) (hcs : cells ≤ R.cells ∧ slots ≤ R.slots)
    (kk : W p l e R s m args below meth c H locs cells slots Q (F0 m (pc + 3) ls (.int rv :: rest))) : W p l e R s m args below meth c H locs cells slots Q (F0 m pc ls stk) :=
  mcallS X hM hlink hstt hini hcode hd hn hR hls hstk hrest hdg hcs kk
theorem lv_nm {x y : Int32} (he : x = y) (kk : W p l e R s m args below meth c H locs cells slots Q (F0 m pc ls (.int y :: rest))) : W p l e R s m args below meth c H locs cells slots Q (F0 m pc ls (.int x :: rest)) := he ▸ kk
theorem lv_nml {x y : Int64} (he : x = y) (kk : W p l e R s m args below meth c H locs cells slots Q (F0 m pc ls (.long y :: rest))) : W p l e R s m args below meth c H locs cells slots Q (F0 m pc ls (.long x :: rest)) := he ▸ kk
theorem mret_v (X : jx p s m args meth c cc nL none own) (hC : mC G this s st H locs) (hdg : decode cc pc = .ok (.return_, 1)) : W p l e R s m args below meth c H locs cells slots (MQ below (mQc G this none st) args s cells slots (mFr this)) (F0 m pc ls []) := by
  obtain ⟨hx, hb, hr, -, -, -, hlocks⟩ := X
  obtain ⟨hK, hMP, hz, ho, hL⟩ := hC
  exact W.vret hx hb hr (fun t ht hW => ⟨rfl, by rw [ht]; exact hMP, by rw [ht]; exact hz, fun q hq => by rw [ht]; exact ho q hq⟩) hL hdg
theorem mret_i {v : Int32} (X : jx p s m args meth c cc nL (some .int) own) (hC : mC G this s st H locs) (hdg : decode cc pc = .ok (.ireturn, 1)) : W p l e R s m args below meth c H locs cells slots (MQ below (mQc G this (some (.int v)) st) args s cells slots (mFr this)) (F0 m pc ls [.int v]) := by
  obtain ⟨hx, hb, hr, -, -, -, hlocks⟩ := X
  obtain ⟨hK, hMP, hz, ho, hL⟩ := hC
  exact W.iret hx hb hr (fun t ht hW => ⟨rfl, by rw [ht]; exact hMP, by rw [ht]; exact hz, fun q hq => by rw [ht]; exact ho q hq⟩) hL hdg
theorem nar_eq {ty : FieldType} {v : Int32} (ht : ty = .boolean ∨ ty = .char ∨ ty = .byte) (h : vp_nar ty v = v) : narrow ty (.int v) = .int v := by
  rcases ht with rfl | rfl | rfl <;> exact congrArg Value.int h
theorem mret_z {v : Int32} (hv : vp_nar .boolean v = v) (X : jx p s m args meth c cc nL (some .boolean) own) (hC : mC G this s st H locs) (hdg : decode cc pc = .ok (.ireturn, 1)) : W p l e R s m args below meth c H locs cells slots (MQ below (mQc G this (some (.int v)) st) args s cells slots (mFr this)) (F0 m pc ls [.int v]) := by
  obtain ⟨hx, hb, hr, -, -, -, hlocks⟩ := X
  obtain ⟨hK, hMP, hz, ho, hL⟩ := hC
  exact W.zret hx hb hr (nar_eq (Or.inl rfl) hv) (fun t ht hW => ⟨rfl, by rw [ht]; exact hMP, by rw [ht]; exact hz, fun q hq => by rw [ht]; exact ho q hq⟩) hL hdg
theorem mret_l {v : Int64} (X : jx p s m args meth c cc nL (some .long) own) (hC : mC G this s st H locs) (hdg : decode cc pc = .ok (.lreturn, 1)) : W p l e R s m args below meth c H locs cells slots (MQ below (mQc G this (some (.long v)) st) args s cells slots (mFr this)) (F0 m pc ls [.long v]) := by
  obtain ⟨hx, hb, hr, -, -, -, hlocks⟩ := X
  obtain ⟨hK, hMP, hz, ho, hL⟩ := hC
  exact W.lret hx hb hr (fun t ht hW => ⟨rfl, by rw [ht]; exact hMP, by rw [ht]; exact hz, fun q hq => by rw [ht]; exact ho q hq⟩) hL hdg
theorem sret_i {v : Int32} (X : jx p s m args meth c cc nL (some .int) own) (hdg : decode cc pc = .ok (.ireturn, 1)) : W p l e R s m args below meth c s.heap [] cells slots (MQ below (sQc (some (.int v))) args s cells slots (fun _ => False)) (F0 m pc ls [.int v]) := by
  obtain ⟨hx, hb, hr, -, -, -, hlocks⟩ := X
  exact W.iret hx hb hr (fun t ht hW => ⟨rfl, ht⟩) (fun q h => by cases h) hdg
theorem sret_z {v : Int32} (hv : vp_nar .boolean v = v) (X : jx p s m args meth c cc nL (some .boolean) own) (hdg : decode cc pc = .ok (.ireturn, 1)) : W p l e R s m args below meth c s.heap [] cells slots (MQ below (sQc (some (.int v))) args s cells slots (fun _ => False)) (F0 m pc ls [.int v]) := by
  obtain ⟨hx, hb, hr, -, -, -, hlocks⟩ := X
  exact W.zret hx hb hr (nar_eq (Or.inl rfl) hv) (fun t ht hW => ⟨rfl, ht⟩) (fun q h => by cases h) hdg
end MR
/-- a method of its own, from the walk of its body -/
theorem Met.ofM {l : Launch} {y : MethodName} {cc : ByteArray} {maxL k : Nat} {ret : Option FieldType} {G : MG} {this : Nat} {av : List Value} {st st' : MS} {r : Option Value} (hy : plainName y.cls = true) (hav : (lg_sl (.ref this :: av)).length ≤ maxL)
    (body : ∀ (p : Program) (e : Env) (s : State) (m : MethodId) (below : List Frame) (meth : Method) (c : Code) (ls : Array Slot), jx p s m (.ref this :: av).toArray meth c cc maxL ret y.cls → mC G this s st s.heap [] → lv_has ls maxL (lv_args 0 (.ref this :: av)) →
      W p l e (rmL k 0 0) s m (.ref this :: av).toArray below meth c s.heap [] 0 0 (MQ below (mQc G this r st') (.ref this :: av).toArray s 0 0 (mFr this)) (F0 m 0 ls [])) :
    Met l y (Cond.code y cc maxL ret :: lw_g) (rmL k 0 0) (mPc G this av st) (mQc G this r st') 0 0 (mFr this) := by
  refine Met.ofW (cc := cc) (maxL := maxL) (ret := ret) hy rfl ?_
  intro p e s m args below meth c s₁ B hml hv
  obtain ⟨rfl, hK, hMP⟩ := hv
  have hts := atoms_spec (ws := Cond.code y cc maxL ret :: lw_g) B.pre
  have hl := lv_entry (.ref this :: av) (n := maxL) hav
  rw [lg_entry_eq]
  exact body p e s m below meth c _ ⟨B.exec, B.bytes, B.returns, hml, findClass_of_methodNamed B.named, fun w hw => hts w (List.mem_cons_of_mem _ hw), B.notSynchronized⟩ ⟨hK, hMP, rfl, fun _ _ => rfl, fun _ h => by cases h⟩ hl
theorem Met.ofS {l : Launch} {y : MethodName} {cc : ByteArray} {maxL k : Nat} {ret : Option FieldType} {av : List Value} {r : Option Value} (hy : plainName y.cls = true) (hav : (lg_sl av).length ≤ maxL)
    (body : ∀ (p : Program) (e : Env) (s : State) (m : MethodId) (below : List Frame) (meth : Method) (c : Code) (ls : Array Slot), jx p s m av.toArray meth c cc maxL ret y.cls → lv_has ls maxL (lv_args 0 av) →
      W p l e (rmL k 0 0) s m av.toArray below meth c s.heap [] 0 0 (MQ below (sQc r) av.toArray s 0 0 (fun _ => False)) (F0 m 0 ls [])) :
    Met l y (Cond.code y cc maxL ret :: lw_g) (rmL k 0 0) (sPc av) (sQc r) 0 0 (fun _ => False) := by
  refine Met.ofW (cc := cc) (maxL := maxL) (ret := ret) hy rfl ?_
  intro p e s m args below meth c s₁ B hml hv
  have hv : args = av.toArray := hv
  subst hv
  have hts := atoms_spec (ws := Cond.code y cc maxL ret :: lw_g) B.pre
  have hl := lv_entry av (n := maxL) hav
  rw [lg_entry_eq]
  exact body p e s m below meth c _ ⟨B.exec, B.bytes, B.returns, hml, findClass_of_methodNamed B.named, fun w hw => hts w (List.mem_cons_of_mem _ hw), B.notSynchronized⟩ hl
