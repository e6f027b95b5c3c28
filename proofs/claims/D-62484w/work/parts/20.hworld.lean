def R_NS : String := "NoteSheet"
def F_NS : u_T := fun k => match k with
  | 0 => ("NoteSheet", "kept", "I", true)
  | 1 => ("NoteSheet", "cells", "[LNoteSheet$Cell;", true)
  | 2 => ("NoteSheet", "pad", "Ljava/lang/StringBuilder;", true)
  | 3 => ("NoteSheet", "reader", "LNoteSheet$Reader;", true)
  | 4 => ("NoteSheet", "revision", "I", false)
  | 5 => ("NoteSheet", "uses", "I", false)
  | 6 => ("NoteSheet", "worked", "I", false)
  | 7 => ("NoteSheet", "confirmed", "I", false)
  | 8 => ("NoteSheet", "passed", "I", false)
  | _ => ("NoteSheet", "changed", "[I", true)
def t_NS : Nat → FieldType := fun k => match k with
  | 0 => .int
  | 1 => (.array (.object "NoteSheet$Cell"))
  | 2 => (.object "java/lang/StringBuilder")
  | 3 => (.object "NoteSheet$Reader")
  | 4 => .int
  | 5 => .int
  | 6 => .int
  | 7 => .int
  | 8 => .int
  | _ => (.array .int)
def R_Cell : String := "NoteSheet$Cell"
def F_Cell : u_T := fun k => match k with
  | 0 => ("NoteSheet$Cell", "number", "I", true)
  | 1 => ("NoteSheet$Cell", "input", "Z", false)
  | 2 => ("NoteSheet$Cell", "working", "Z", false)
  | 3 => ("NoteSheet$Cell", "value", "I", false)
  | 4 => ("NoteSheet$Cell", "durability", "I", false)
  | 5 => ("NoteSheet$Cell", "since", "I", false)
  | 6 => ("NoteSheet$Cell", "formulaSince", "I", false)
  | 7 => ("NoteSheet$Cell", "formula", "LNoteSheet$Formula;", false)
  | 8 => ("NoteSheet$Cell", "note", "LNoteSheet$Note;", false)
  | 9 => ("NoteSheet$Cell", "worked", "I", false)
  | 10 => ("NoteSheet$Cell", "confirmed", "I", false)
  | _ => ("NoteSheet$Cell", "passed", "I", false)
def t_Cell : Nat → FieldType := fun k => match k with
  | 0 => .int
  | 1 => .boolean
  | 2 => .boolean
  | 3 => .int
  | 4 => .int
  | 5 => .int
  | 6 => .int
  | 7 => (.object "NoteSheet$Formula")
  | 8 => (.object "NoteSheet$Note")
  | 9 => .int
  | 10 => .int
  | _ => .int
def R_Form : String := "NoteSheet$Formula"
def F_Form : u_T := fun k => match k with
  | 0 => ("NoteSheet$Formula", "text", "Ljava/lang/String;", true)
  | 1 => ("NoteSheet$Formula", "ops", "[LNoteSheet$Op;", true)
  | _ => ("NoteSheet$Formula", "numbers", "[I", true)
def t_Form : Nat → FieldType := fun k => match k with
  | 0 => (.object "java/lang/String")
  | 1 => (.array (.object "NoteSheet$Op"))
  | _ => (.array .int)
def R_Note : String := "NoteSheet$Note"
def F_Note : u_T := fun k => match k with
  | 0 => ("NoteSheet$Note", "has", "Z", false)
  | 1 => ("NoteSheet$Note", "value", "J", false)
  | 2 => ("NoteSheet$Note", "verified", "I", false)
  | 3 => ("NoteSheet$Note", "since", "I", false)
  | 4 => ("NoteSheet$Note", "durability", "I", false)
  | 5 => ("NoteSheet$Note", "used", "I", false)
  | 6 => ("NoteSheet$Note", "reads", "[LNoteSheet$Cell;", true)
  | _ => ("NoteSheet$Note", "count", "I", false)
def t_Note : Nat → FieldType := fun k => match k with
  | 0 => .boolean
  | 1 => .long
  | 2 => .int
  | 3 => .int
  | 4 => .int
  | 5 => .int
  | 6 => (.array (.object "NoteSheet$Cell"))
  | _ => .int
def R_Rdr : String := "NoteSheet$Reader"
def F_Rdr : u_T := fun k => match k with
  | 0 => ("NoteSheet$Reader", "text", "Ljava/lang/String;", false)
  | 1 => ("NoteSheet$Reader", "at", "I", false)
  | 2 => ("NoteSheet$Reader", "size", "I", false)
  | 3 => ("NoteSheet$Reader", "stopped", "Z", false)
  | 4 => ("NoteSheet$Reader", "ops", "[LNoteSheet$Op;", true)
  | _ => ("NoteSheet$Reader", "numbers", "[I", true)
def t_Rdr : Nat → FieldType := fun k => match k with
  | 0 => (.object "java/lang/String")
  | 1 => .int
  | 2 => .int
  | 3 => .boolean
  | 4 => (.array (.object "NoteSheet$Op"))
  | _ => (.array .int)
def R_SB : String := "java/lang/StringBuilder"
def F_SB : u_T := fun k => match k with
  | 0 => ("java/lang/AbstractStringBuilder", "value", "[B", false)
  | 1 => ("java/lang/AbstractStringBuilder", "coder", "B", false)
  | 2 => ("java/lang/AbstractStringBuilder", "maybeLatin1", "Z", false)
  | _ => ("java/lang/AbstractStringBuilder", "count", "I", false)
def t_SB : Nat → FieldType := fun k => match k with
  | 0 => (.array .byte)
  | 1 => .byte
  | 2 => .boolean
  | _ => .int
def R_Str : String := "java/lang/String"
def F_Str : u_T := fun k => match k with
  | 0 => ("java/lang/String", "value", "[B", true)
  | _ => ("java/lang/String", "coder", "B", true)
def t_Str : Nat → FieldType := fun k => match k with
  | 0 => (.array .byte)
  | _ => .byte
def R_Mod : String := "NoteSheetModel"
def R_Op : String := "NoteSheet$Op"
def F_Op : u_T := fun k => match k with
  | _ => ("java/lang/Enum", "ordinal", "I", true)
def t_Op : Nat → FieldType := fun k => match k with
  | _ => .int
abbrev hcl : List vw_C := [(R_NS, F_NS, 10), (R_Cell, F_Cell, 12), (R_Form, F_Form, 3), (R_Note, F_Note, 8), (R_Rdr, F_Rdr, 6), (R_SB, F_SB, 4), (R_Str, F_Str, 2), (R_Mod, F_M, 43)]
abbrev hrd : List vw_C := [(R_NS, F_NS, 10), (R_Cell, F_Cell, 12), (R_Form, F_Form, 3), (R_Note, F_Note, 8), (R_Rdr, F_Rdr, 6), (R_SB, F_SB, 4), (R_Str, F_Str, 2), (R_Mod, F_M, 43), (R_Op, F_Op, 1)]
def htf (ci : Nat) : Nat → FieldType := match ci with
  | 0 => t_NS
  | 1 => t_Cell
  | 2 => t_Form
  | 3 => t_Note
  | 4 => t_Rdr
  | 5 => t_SB
  | 6 => t_Str
  | _ => t_M
/-! heap mode: the world over the pure heap, and its rows -/
abbrev HG : Type := va_G × (Nat → ClassId)
def aty (k : Nat) : FieldType := match k with
  | 0 => .int
  | 1 => .byte
  | 2 => .boolean
  | 3 => .long
  | 4 => .object "NoteSheet$Cell"
  | _ => .object "NoteSheet$Op"
abbrev htys (G : HG) : List (ClassId × FieldType) := [(G.2 0, .int), (G.2 1, .byte), (G.2 2, .boolean), (G.2 3, .long), (G.2 4, .object "NoteSheet$Cell"), (G.2 5, .object "NoteSheet$Op")]
def hK (G : HG) (U : State) : Prop := va_K G.1 hcl (htys G) U
theorem hK.arr {G : HG} {U : State} (h : hK G U) : ∀ k : Nat, k ≤ 5 → ArrOfT U (G.2 k) (aty k) ∧ va_RA U (G.2 k) (aty k)
  | 0, _ => h.2 0 _ rfl
  | 1, _ => h.2 1 _ rfl
  | 2, _ => h.2 2 _ rfl
  | 3, _ => h.2 3 _ rfl
  | 4, _ => h.2 4 _ rfl
  | 5, _ => h.2 5 _ rfl
  | k + 6, hk => absurd hk (by omega)
theorem nwMove {w : Cond} {s U : State} (h : isNw w = true) (hW : s.WarmedH U.vm) (hz : va_Nw w s) : va_Nw w U := by
  unfold isNw at h
  split at h
  · exact va_Nw.warmF hW hz
  · exact va_Nw.warmM hW hz
  · exact va_Nw.warmC hW hz
  · exact va_AO.moved hW.alike hz
  · cases h
theorem nwSame {w : Cond} {u U : State} (h : isNw w = true) (hv : u.vm = U.vm) (hz : va_Nw w u) : va_Nw w U := by
  unfold isNw at h
  split at h
  · exact va_Nw.same rfl hv hz
  · exact va_Nw.same rfl hv hz
  · exact va_Nw.same rfl hv hz
  · exact va_AO.moved (hv ▸ Vm.Alike.refl u.vm) hz
  · cases h
theorem nwUse {w : Cond} {A : Array Value} {U : State} (h : isNw w = true) (hz : va_Nw w U) : w.before A U = true := by
  unfold isNw at h
  split at h
  · exact va_Nw.use rfl hz
  · exact va_Nw.use rfl hz
  · exact va_Nw.use rfl hz
  · exact va_AO.use hz
  · cases h
theorem nwOf {w : Cond} {A : Array Value} {U : State} (h : isNw w = true) (hz : w.before A U = true) : va_Nw w U := by
  unfold isNw at h
  split at h
  · exact va_Nw.of rfl hz
  · exact va_Nw.of rfl hz
  · exact va_Nw.of rfl hz
  · exact va_AO.of hz
  · cases h
def hOpn : List String := ["NUMBER", "READ", "FETCH", "ADD", "SUBTRACT", "MULTIPLY", "NEGATE", "LESS", "EQUAL", "BRANCH", "SKIP"]
/-- statics and constants that nobody writes -/
def hZ (A : Nat → Prop) (kc : Nat → Nat) (fm : Option Nat) (U : State) (H : Heap) : Prop :=
  (∀ w ∈ lw_n, va_Nw w U) ∧ va_Z "java/lang/String" "COMPACT_STRINGS" "Z" (.int 1) A U H ∧ va_Z "jdk/internal/util/Preconditions" "SIOOBE_FORMATTER" "Ljava/util/function/BiFunction;" (va_rf fm) A U H ∧
  (∀ i, i < 11 → va_Z "NoteSheet$Op" (hOpn.getD i "") "LNoteSheet$Op;" (.ref (kc i)) A U H) ∧ vk_R "NoteSheet" 43 "+-*<=?:()@" (kc 11) U
theorem lw_n_is : ∀ w ∈ lw_n, isNw w = true := fun w hw => (List.mem_filter.mp hw).2
theorem hZ.warm {A : Nat → Prop} {kc : Nat → Nat} {fm : Option Nat} {s U : State} {H : Heap} (hW : s.WarmedH U.vm) (h : hZ A kc fm s H) : hZ A kc fm U H :=
  ⟨fun w hw => nwMove (lw_n_is w hw) hW (h.1 w hw), h.2.1.moved hW.alike, h.2.2.1.moved hW.alike, fun i hi => (h.2.2.2.1 i hi).moved hW.alike, vk_R.warm hW h.2.2.2.2⟩
theorem hZ.same {A : Nat → Prop} {kc : Nat → Nat} {fm : Option Nat} {u U : State} {H : Heap} (hv : u.vm = U.vm) (h : hZ A kc fm u H) : hZ A kc fm U H :=
  ⟨fun w hw => nwSame (lw_n_is w hw) hv (h.1 w hw), h.2.1.moved (hv ▸ Vm.Alike.refl u.vm), h.2.2.1.moved (hv ▸ Vm.Alike.refl u.vm), fun i hi => (h.2.2.2.1 i hi).moved (hv ▸ Vm.Alike.refl u.vm), vk_R.same hv.symm h.2.2.2.2⟩
theorem hZ.kept {A : Nat → Prop} {kc : Nat → Nat} {fm : Option Nat} {U : State} {H H1 : Heap} (h : hZ A kc fm U H) (hq : ∀ a : Nat, a < H.size → ¬ A a → H1[a]? = H[a]?) : hZ A kc fm U H1 :=
  ⟨h.1, h.2.1.kept hq, h.2.2.1.kept hq, fun i hi => (h.2.2.2.1 i hi).kept hq, h.2.2.2.2⟩
/-- an object that can be read -/
def hRd (U : State) (C a : Nat) (fs : List Value) (H : Heap) : Prop := ∃ (r : vw_C) (cell : Cell), hrd[C]? = some r ∧ H[a]? = some cell ∧ cell.vm ≠ .unknown ∧ cell.vm.isStatics = false ∧ U.vm.findClass r.1 = some cell.cls ∧
  ∀ k, k < r.2.2 → ∃ (cf : ClassId) (kf : Class) (i : Nat) (f : Field), U.fieldFound? (r.2.1 k).1 (r.2.1 k).2.1 (r.2.1 k).2.2.1 = some (cf, kf, i, f) ∧ f.isStatic = false ∧ cell.slots[f.slot]? = some (vp_V fs k)
/-- an array of small numbers that can be read -/
def hRa (U : State) (k a n : Nat) (f : Nat → Int32) (H : Heap) : Prop := ∃ cell : Cell, H[a]? = some cell ∧ U.isArrayOf cell (aty k) ∧ cell.vm ≠ .unknown ∧ cell.slots.size = n ∧ ∀ j, j < n → cell.slots[j]? = some (.int (f j))
def hst (e : Ent) : Prop := match e with
  | .inl (ci, _) => ci < 100
  | .inr (k, _) => k < 100
def hAt (G : HG) (U : State) (a : Nat) (e : Ent) (H : Heap) : Prop := match e with
  | .inl (ci, fs) => (ci < 100 → va_at G.1 hcl (a, .inr (ci, fs)) H) ∧ (¬ ci < 100 → hRd U (ci % 100) a fs H)
  | .inr (k, x) => (k < 100 → H[a]? = some (vp_cell (G.2 k) x)) ∧ (¬ k < 100 → ∃ (n : Nat) (f : Nat → Int32), x = (n, .inl f) ∧ k % 100 ≤ 3 ∧ hRa U (k % 100) a n f H)
theorem hRd.moved {u U : State} {C a : Nat} {fs : List Value} {H : Heap} (hvm : u.vm.Alike U.vm) (h : hRd u C a fs H) : hRd U C a fs H := by
  obtain ⟨r, cell, h1, h2, h3, h4, h5, h6⟩ := h
  refine ⟨r, cell, h1, h2, h3, h4, by rw [hvm.findClass]; exact h5, fun k hk => ?_⟩
  obtain ⟨cf, kf, i, f, g1, g2, g3⟩ := h6 k hk
  obtain ⟨k', hi', -⟩ := State.fieldFound?_setVm hvm g1
  exact ⟨cf, k', i, f, hi', g2, g3⟩
theorem hRa.moved {u U : State} {k a n : Nat} {f : Nat → Int32} {H : Heap} (hvm : u.vm.Alike U.vm) (h : hRa u k a n f H) : hRa U k a n f H := by
  obtain ⟨cell, h1, h2, h3⟩ := h
  exact ⟨cell, h1, State.isArrayOf_alike hvm h2, h3⟩
theorem hAt.moved {G : HG} {u U : State} {a : Nat} {e : Ent} {H : Heap} (hvm : u.vm.Alike U.vm) (h : hAt G u a e H) : hAt G U a e H := by
  rcases e with ⟨ci, fs⟩ | ⟨k, x⟩
  · exact ⟨h.1, fun q => (h.2 q).moved hvm⟩
  · refine ⟨h.1, fun q => ?_⟩
    obtain ⟨n, f, h1, h2, h3⟩ := h.2 q
    exact ⟨n, f, h1, h2, h3.moved hvm⟩
theorem hAt.kept {G : HG} {U : State} {a : Nat} {e : Ent} {H H1 : Heap} (h : hAt G U a e H) (hq : H1[a]? = H[a]?) : hAt G U a e H1 := by
  rcases e with ⟨ci, fs⟩ | ⟨k, x⟩
  · refine ⟨fun q => (h.1 q).kept hq, fun q => ?_⟩
    obtain ⟨r, cell, h1, h2, h3⟩ := h.2 q
    exact ⟨r, cell, h1, by rw [hq]; exact h2, h3⟩
  · refine ⟨fun q => by rw [hq]; exact h.1 q, fun q => ?_⟩
    obtain ⟨n, f, h1, h2, cell, h3, h4⟩ := h.2 q
    exact ⟨n, f, h1, h2, cell, by rw [hq]; exact h3, h4⟩
theorem hAt.lt {G : HG} {U : State} {a : Nat} {e : Ent} {H : Heap} (h : hAt G U a e H) : a < H.size := by
  rcases e with ⟨ci, fs⟩ | ⟨k, x⟩
  · by_cases q : ci < 100
    · exact (h.1 q).lt
    · obtain ⟨r, cell, h1, h2, h3⟩ := h.2 q
      exact (Array.getElem?_eq_some_iff.mp h2).1
  · by_cases q : k < 100
    · exact (Array.getElem?_eq_some_iff.mp (h.1 q)).1
    · obtain ⟨n, f, h1, h2, cell, h3, h4⟩ := h.2 q
      exact (Array.getElem?_eq_some_iff.mp h3).1
def hE (G : HG) (A : Nat → Prop) (st : HS) (U : State) (H : Heap) : Prop := ∀ (a : Nat) (e : Ent), st.1 a = some e → hAt G U a e H ∧ (hst e → A a) ∧ (¬ hst e → ¬ A a)
def hU (G : HG) (A : Nat → Prop) (st : HS) (U : State) : Prop := hK G U ∧ hZ A (hKc st) (hFm st) U U.heap ∧ hE G A st U U.heap ∧ U.heap.size = hNx st ∧ ∀ q, hNx st ≤ q → A q
def hC (G : HG) (A : Nat → Prop) (s : State) (st : HS) (H : Heap) (locs : List Loc) : Prop :=
  hK G s ∧ hZ A (hKc st) (hFm st) s s.heap ∧ hE G A st s H ∧ H.size = hNx st ∧ (∀ q, s.heap.size ≤ q → A q) ∧ va_S A s.heap H locs
def hPc (G : HG) (A : Nat → Prop) (av : List Value) (st : HS) : Array Value → State → Prop := va_Pc av (hU G A st)
def hQc (G : HG) (A : Nat → Prop) (r : Option Value) (st : HS) : Array Value → State → Outcome → State → Prop := fun _ s0 oc t => oc = .returned r ∧ hU G A st t ∧ va_F A s0 t
theorem hC.toU {G : HG} {A : Nat → Prop} {s U : State} {st : HS} {H : Heap} {locs : List Loc} (h : hC G A s st H locs) (hUh : U.heap = H) (hW : s.WarmedH U.vm) : hU G A st U := by
  obtain ⟨h1, h2, h3, h4, h5, h6⟩ := h
  refine ⟨va_K.moved hW.alike h1, ?_, ?_, by rw [hUh]; exact h4, fun q hq => h5 q (Nat.le_trans h6.1 (by rw [h4]; exact hq))⟩
  · rw [hUh]; exact (h2.kept h6.2.1).warm hW
  · intro a e ha
    obtain ⟨g1, g2⟩ := h3 a e ha
    rw [hUh]
    exact ⟨g1.moved hW.alike, g2⟩
theorem hU.same {G : HG} {A : Nat → Prop} {u U : State} {st : HS} (hv : u.vm = U.vm) (hh : u.heap = U.heap) (h : hU G A st u) : hU G A st U := by
  obtain ⟨h1, h2, h3, h4, h5⟩ := h
  refine ⟨va_K.moved (hv ▸ Vm.Alike.refl u.vm) h1, ?_, fun a e ha => ?_, by rw [← hh]; exact h4, h5⟩
  · rw [← hh]; exact h2.same hv
  · obtain ⟨g1, g2⟩ := h3 a e ha
    rw [← hh]
    exact ⟨g1.moved (hv ▸ Vm.Alike.refl u.vm), g2⟩
theorem hC.ofU {G : HG} {A : Nat → Prop} {s : State} {st : HS} (h : hU G A st s) : hC G A s st s.heap [] :=
  ⟨h.1, h.2.1, h.2.2.1, h.2.2.2.1, fun q hq => h.2.2.2.2 q (by rw [← h.2.2.2.1]; exact hq), va_S.rf⟩
/-- behind a call -/
theorem hC.back {G : HG} {A : Nat → Prop} {s st0 t : State} {st st' : HS} {H : Heap} {locs L : List Loc} (h : hC G A s st H locs) (h0 : st0.heap = H) (hu : hU G A st' t) (hF : va_F A st0 t) (hvm : s.vm.Alike t.vm) (hL : ∀ q ∈ L, A q.base) (hm : hle st st') : hC G A s st' t.heap (locs ++ L) := by
  obtain ⟨h1, h2, h3, h4, h5, h6⟩ := h
  obtain ⟨g1, g2, g3, g4, g5⟩ := hu
  have hk : hKc st' = hKc st := by unfold hKc; rw [hm.2.2]
  have hf : hFm st' = hFm st := by unfold hFm; rw [hm.2.2]
  unfold va_F at hF
  rw [h0] at hF
  refine ⟨h1, by rw [hk, hf]; exact h2, fun a e ha => ⟨(g3 a e ha).1.moved hvm.symm, (g3 a e ha).2⟩, g4, h5, Nat.le_trans h6.1 hF.1, fun q q1 q2 => (hF.2 q (Nat.lt_of_lt_of_le q1 h6.1) q2).trans (h6.2.1 q q1 q2), fun q hq => ?_⟩
  rcases List.mem_append.mp hq with z | z
  · exact h6.2.2 q z
  · exact hL q z
/-- one strong cell is changed -/
theorem hC.put {G : HG} {A : Nat → Prop} {s : State} {st : HS} {H H1 : Heap} {locs : List Loc} {a k : Nat} {e0 e : Ent} (h : hC G A s st H locs) (h0 : st.1 a = some e0) (hs : hst e0) (hs1 : hst e) (he : hAt G s a e H1) (z : H1.size = H.size) (oq : ∀ q : Nat, q ≠ a → H1[q]? = H[q]?) : hC G A s (hSet st a e) H1 (locs ++ [⟨a, k⟩]) := by
  obtain ⟨h1, h2, h3, h4, h5, h6⟩ := h
  have hA := (h3 a e0 h0).2.1 hs
  refine ⟨h1, h2, fun b e1 hb => ?_, z.trans h4, h5, h6.put z oq hA⟩
  by_cases hba : b = a
  · subst hba
    have hb : (if b = b then some e else st.1 b) = some e1 := hb
    rw [if_pos rfl] at hb
    cases hb
    exact ⟨he, fun _ => hA, fun q => absurd hs1 q⟩
  · have hb : (if b = a then some e else st.1 b) = some e1 := hb
    rw [if_neg hba] at hb
    obtain ⟨g1, g2⟩ := h3 b e1 hb
    exact ⟨g1.kept (oq b hba), g2⟩
/-- a cell comes -/
theorem hC.push {G : HG} {A : Nat → Prop} {s : State} {st : HS} {H H1 : Heap} {locs : List Loc} {n : Nat} {e : Ent} (h : hC G A s st H locs) (hs1 : hst e) (he : hAt G s (hNx st) e H1) (z : H1.size = H.size + 1) (oq : ∀ q : Nat, q < H.size → H1[q]? = H[q]?) : hC G A s (hPush st e n) H1 locs := by
  obtain ⟨h1, h2, h3, h4, h5, h6⟩ := h
  refine ⟨h1, h2, fun b e1 hb => ?_, by rw [z, h4]; rfl, h5, by rw [z]; exact Nat.le_trans h6.1 (Nat.le_succ _), fun q q1 q2 => (oq q (Nat.lt_of_lt_of_le q1 h6.1)).trans (h6.2.1 q q1 q2), h6.2.2⟩
  have hb : (if b = hNx st then some e else st.1 b) = some e1 := hb
  by_cases hba : b = hNx st
  · rw [if_pos hba] at hb
    cases hb
    rw [hba]
    exact ⟨he, fun _ => h5 _ (by rw [← h4]; exact h6.1), fun q => absurd hs1 q⟩
  · rw [if_neg hba] at hb
    obtain ⟨g1, g2⟩ := h3 b e1 hb
    exact ⟨g1.kept (oq b g1.lt), g2⟩
theorem hfd : ∀ ci : Nat, ci < 8 → ∀ w ∈ u_ws (hcl.getD ci ("", F_Op, 0)).1 (hcl.getD ci ("", F_Op, 0)).2.1 (hcl.getD ci ("", F_Op, 0)).2.2, w ∈ lw_g := by
  intro ci hci
  match ci, hci with
  | 0, _ => decide +kernel
  | 1, _ => decide +kernel
  | 2, _ => decide +kernel
  | 3, _ => decide +kernel
  | 4, _ => decide +kernel
  | 5, _ => decide +kernel
  | 6, _ => decide +kernel
  | 7, _ => exact i_M
theorem hcl_lt {ci : Nat} {r : vw_C} (h : hcl[ci]? = some r) : ci < 8 ∧ hcl.getD ci ("", F_Op, 0) = r := by
  have h1 : ci < 8 := (List.getElem?_eq_some_iff.mp h).1
  exact ⟨h1, by rw [List.getD_eq_getElem?_getD, h]; rfl⟩
theorem hin {ci : Nat} {r : vw_C} (h : hcl[ci]? = some r) : ∀ w ∈ u_ws r.1 r.2.1 r.2.2, w ∈ lw_g := by
  obtain ⟨h1, h2⟩ := hcl_lt h
  have := hfd ci h1
  rw [h2] at this
  exact this
theorem hnm0 : ∀ ci : Nat, ci < 8 → ∀ a, a < (hcl.getD ci ("", F_Op, 0)).2.2 → ∀ b, b < (hcl.getD ci ("", F_Op, 0)).2.2 → a ≠ b → ((hcl.getD ci ("", F_Op, 0)).2.1 a).2.1 ≠ ((hcl.getD ci ("", F_Op, 0)).2.1 b).2.1 := by
  intro ci hci
  match ci, hci with
  | 0, _ => decide +kernel
  | 1, _ => decide +kernel
  | 2, _ => decide +kernel
  | 3, _ => decide +kernel
  | 4, _ => decide +kernel
  | 5, _ => decide +kernel
  | 6, _ => decide +kernel
  | 7, _ => exact n_M
theorem hty0 : ∀ ci : Nat, ci < 8 → ∀ k, k < (hcl.getD ci ("", F_Op, 0)).2.2 → parseFieldDescriptor ((hcl.getD ci ("", F_Op, 0)).2.1 k).2.2.1 = some (htf ci k) := by
  intro ci hci
  match ci, hci with
  | 0, _ => decide +kernel
  | 1, _ => decide +kernel
  | 2, _ => decide +kernel
  | 3, _ => decide +kernel
  | 4, _ => decide +kernel
  | 5, _ => decide +kernel
  | 6, _ => decide +kernel
  | 7, _ => exact t_M_ok
theorem hnm {ci : Nat} {r : vw_C} (h : hcl[ci]? = some r) : ∀ a, a < r.2.2 → ∀ b, b < r.2.2 → a ≠ b → (r.2.1 a).2.1 ≠ (r.2.1 b).2.1 := by
  obtain ⟨h1, h2⟩ := hcl_lt h
  have := hnm0 ci h1
  rw [h2] at this
  exact this
theorem hty {ci : Nat} {r : vw_C} (h : hcl[ci]? = some r) : ∀ k, k < r.2.2 → parseFieldDescriptor (r.2.1 k).2.2.1 = some (htf ci k) := by
  obtain ⟨h1, h2⟩ := hcl_lt h
  have := hty0 ci h1
  rw [h2] at this
  exact this
theorem hcl_hrd {ci : Nat} {r : vw_C} (h : hcl[ci]? = some r) : hrd[ci]? = some r := by
  have h1 : ci < 8 := (List.getElem?_eq_some_iff.mp h).1
  match ci, h1, h with
  | 0, _, h => exact h
  | 1, _, h => exact h
  | 2, _, h => exact h
  | 3, _, h => exact h
  | 4, _, h => exact h
  | 5, _, h => exact h
  | 6, _, h => exact h
  | 7, _, h => exact h
/-- an object of either kind can be read -/
theorem hAt.rd {G : HG} {s : State} {args : Array Value} {a ci : Nat} {fs : List Value} {H : Heap} (hts : ∀ w ∈ lw_g, w.before args s = true) (hk : hK G s) (h : hAt G s a (.inl (ci, fs)) H) : hRd s (ci % 100) a fs H := by
  by_cases q : ci < 100
  · obtain ⟨r, h1, cell, q1, q2, q3, q4⟩ := h.1 q
    have h1 : hcl[ci]? = some r := h1
    obtain ⟨hS, hfc, kC, hkC, hkind⟩ := hk.1 ci r h1
    refine ⟨r, cell, by rw [Nat.mod_eq_of_lt q]; exact hcl_hrd h1, q1, (by rw [q3]; exact fun h => (by cases h)), (by rw [q3]; rfl), (by rw [q2]; exact hfc), fun k hk' => ?_⟩
    obtain ⟨cf, kf, fi, f, hi, hsl⟩ := hS k hk'
    exact ⟨cf, kf, fi, f, hi, (u_facts hfc hkC (u_lays hts (hin h1) hk') hi).1, by rw [hsl]; exact q4 k hk'⟩
  · exact h.2 q
theorem hAt.ra {G : HG} {s : State} {a k n : Nat} {f : Nat → Int32} {H : Heap} (hk : hK G s) (h : hAt G s a (.inr (k, n, .inl f)) H) (h3 : k % 100 ≤ 3) : hRa s (k % 100) a n f H := by
  by_cases q : k < 100
  · have h1 := h.1 q
    rw [Nat.mod_eq_of_lt q] at h3 ⊢
    rw [vp_cell_i] at h1
    exact ⟨_, h1, (hk.arr k (by omega)).1 _ _, fun h => (by cases h), arrV_size _ _ _, fun j hj => arrV_read _ _ hj⟩
  · obtain ⟨n', f', e1, -, e2⟩ := h.2 q
    cases e1
    exact e2
theorem hG_spec {st : HS} {a C k : Nat} {v : Value} (h : hG st a C k = some v) : ∃ (ci : Nat) (fs : List Value), st.1 a = some (.inl (ci, fs)) ∧ ci % 100 = C ∧ fs[k]? = some v := by
  unfold hG at h
  split at h
  · rename_i ci fs e
    split at h
    · rename_i q; exact ⟨ci, fs, e, q, h⟩
    · cases h
  · cases h
theorem hI_spec {st : HS} {a C k : Nat} {v : Int32} (h : hI st a C k = some v) : hG st a C k = some (.int v) := by
  unfold hI at h
  split at h
  · rename_i e; cases h; exact e
  · cases h
theorem hJ_spec {st : HS} {a C k : Nat} {v : Int64} (h : hJ st a C k = some v) : hG st a C k = some (.long v) := by
  unfold hJ at h
  split at h
  · rename_i e; cases h; exact e
  · cases h
theorem hR_spec {st : HS} {a C k : Nat} {v : Option Nat} (h : hR st a C k = some v) : hG st a C k = some (va_rf v) := by
  unfold hR at h
  split at h
  · rename_i e; cases h; exact e
  · rename_i e; cases h; exact e
  · cases h
theorem hIs_spec {st : HS} {a C : Nat} {u : Unit} (h : hIs st a C = some u) : ∃ (ci : Nat) (fs : List Value), st.1 a = some (.inl (ci, fs)) ∧ ci % 100 = C := by
  unfold hIs at h
  split at h
  · rename_i ci fs e
    split at h
    · rename_i q; exact ⟨ci, fs, e, q⟩
    · cases h
  · cases h
theorem hP_spec {st st' : HS} {a C k : Nat} {v : Value} (h : hP st a C k v = some st') : ∃ fs : List Value, st.1 a = some (.inl (C, fs)) ∧ k < fs.length ∧ st' = hSet st a (.inl (C, fs.set k v)) := by
  unfold hP at h
  split at h
  · rename_i ci fs e
    split at h
    · rename_i q
      cases h
      obtain ⟨rfl, q2⟩ := q
      exact ⟨fs, e, q2, rfl⟩
    · cases h
  · cases h
/-- what a call's room is -/
theorem lvl {k K maxL mc ms : Nat} (h : k + 1 ≤ K) (hm : maxL ≤ 41) : k + 1 ≤ (rmL K mc ms).frames ∧ 8 + (maxL + 11) + 60 * k ≤ (rmL K mc ms).locals := by
  refine ⟨h, ?_⟩
  show 8 + (maxL + 11) + 60 * k ≤ 60 * K
  omega
/-- the room so far -/
def hN (ce sl n0 s0 : Nat) (st : HS) : Prop := ce + n0 = hNx st ∧ sl + s0 = hNs st
theorem hN.ke {ce sl n0 s0 : Nat} {st st' : HS} (h : hN ce sl n0 s0 st) (k : hke st st') : hN ce sl n0 s0 st' := by
  have k : st'.2 = st.2 := k
  unfold hN hNx hNs at h ⊢
  rw [k]
  exact h
theorem hN.pu {ce sl n0 s0 n : Nat} {e : Ent} {st : HS} (h : hN ce sl n0 s0 st) : hN (ce + 1) (sl + n) n0 s0 (hPush st e n) := by
  obtain ⟨h1, h2⟩ := h
  exact ⟨by show ce + 1 + n0 = hNx st + 1; omega, by show sl + n + s0 = hNs st + n; omega⟩
theorem hN.call {ce sl n0 s0 : Nat} {st st' : HS} (h : hN ce sl n0 s0 st) (hm : hle st st') : hN (ce + (hNx st' - hNx st)) (sl + (hNs st' - hNs st)) n0 s0 st' := by
  obtain ⟨m1, m2, -⟩ := hm
  unfold hN at *
  omega
theorem hN.fit {ce sl n0 s0 : Nat} {st r : HS} (h : hN ce sl n0 s0 st) (hm : hle st r) : ce ≤ hNx r - n0 ∧ sl ≤ hNs r - s0 := by
  obtain ⟨m1, m2, -⟩ := hm
  unfold hN at h
  omega
