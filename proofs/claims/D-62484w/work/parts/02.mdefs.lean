def R_M : String := "NoteSheetModel"
def F_M : u_T := fun k => match k with
  | 0 => ("NoteSheetModel", "most", "I", true)
  | 1 => ("NoteSheetModel", "pad", "[I", true)
  | 2 => ("NoteSheetModel", "length", "I", false)
  | 3 => ("NoteSheetModel", "revision", "I", false)
  | 4 => ("NoteSheetModel", "changes", "[I", true)
  | 5 => ("NoteSheetModel", "formula", "[Z", true)
  | 6 => ("NoteSheetModel", "text", "[I", true)
  | 7 => ("NoteSheetModel", "size", "[I", true)
  | 8 => ("NoteSheetModel", "steps", "[I", true)
  | 9 => ("NoteSheetModel", "step", "[I", true)
  | 10 => ("NoteSheetModel", "with", "[I", true)
  | 11 => ("NoteSheetModel", "altered", "[I", true)
  | 12 => ("NoteSheetModel", "number", "[I", true)
  | 13 => ("NoteSheetModel", "durable", "[I", true)
  | 14 => ("NoteSheetModel", "born", "[I", true)
  | 15 => ("NoteSheetModel", "noted", "[Z", true)
  | 16 => ("NoteSheetModel", "valued", "[Z", true)
  | 17 => ("NoteSheetModel", "value", "[J", true)
  | 18 => ("NoteSheetModel", "verified", "[I", true)
  | 19 => ("NoteSheetModel", "since", "[I", true)
  | 20 => ("NoteSheetModel", "noteDurable", "[I", true)
  | 21 => ("NoteSheetModel", "reads", "[I", true)
  | 22 => ("NoteSheetModel", "readCell", "[I", true)
  | 23 => ("NoteSheetModel", "used", "[I", true)
  | 24 => ("NoteSheetModel", "clock", "I", false)
  | 25 => ("NoteSheetModel", "often", "[I", true)
  | 26 => ("NoteSheetModel", "lately", "[I", true)
  | 27 => ("NoteSheetModel", "opened", "I", false)
  | 28 => ("NoteSheetModel", "open", "[I", true)
  | 29 => ("NoteSheetModel", "mode", "[I", true)
  | 30 => ("NoteSheetModel", "at", "[I", true)
  | 31 => ("NoteSheetModel", "depth", "[I", true)
  | 32 => ("NoteSheetModel", "stack", "[J", true)
  | 33 => ("NoteSheetModel", "found", "[I", true)
  | 34 => ("NoteSheetModel", "foundCell", "[I", true)
  | 35 => ("NoteSheetModel", "atWork", "[Z", true)
  | 36 => ("NoteSheetModel", "ring", "[Z", true)
  | 37 => ("NoteSheetModel", "signs", "I", false)
  | 38 => ("NoteSheetModel", "sign", "[I", true)
  | 39 => ("NoteSheetModel", "mend", "[I", true)
  | 40 => ("NoteSheetModel", "made", "I", false)
  | 41 => ("NoteSheetModel", "newStep", "[I", true)
  | _ => ("NoteSheetModel", "newWith", "[I", true)
def t_M : Nat → FieldType := fun k => match k with
  | 0 => .int
  | 1 => .array .int
  | 2 => .int
  | 3 => .int
  | 4 => .array .int
  | 5 => .array .boolean
  | 6 => .array .int
  | 7 => .array .int
  | 8 => .array .int
  | 9 => .array .int
  | 10 => .array .int
  | 11 => .array .int
  | 12 => .array .int
  | 13 => .array .int
  | 14 => .array .int
  | 15 => .array .boolean
  | 16 => .array .boolean
  | 17 => .array .long
  | 18 => .array .int
  | 19 => .array .int
  | 20 => .array .int
  | 21 => .array .int
  | 22 => .array .int
  | 23 => .array .int
  | 24 => .int
  | 25 => .array .int
  | 26 => .array .int
  | 27 => .int
  | 28 => .array .int
  | 29 => .array .int
  | 30 => .array .int
  | 31 => .array .int
  | 32 => .array .long
  | 33 => .array .int
  | 34 => .array .int
  | 35 => .array .boolean
  | 36 => .array .boolean
  | 37 => .int
  | 38 => .array .int
  | 39 => .array .int
  | 40 => .int
  | 41 => .array .int
  | _ => .array .int
def mo (k : Nat) : Nat := ([0, 1, 0, 0, 2, 3, 4, 5, 6, 7, 8, 9, 10, 11, 12, 13, 14, 15, 16, 17, 18, 19, 20, 21, 0, 22, 23, 0, 24, 25, 26, 27, 28, 29, 30, 31, 32, 0, 33, 34, 0, 35, 36] : List Nat).getD k 0
def mn (k : Nat) : Nat := ([0, 30, 0, 0, 3, 12, 360, 12, 12, 480, 480, 12, 12, 12, 12, 12, 12, 12, 12, 12, 12, 12, 144, 12, 0, 36, 3, 0, 12, 12, 12, 12, 192, 12, 144, 12, 12, 0, 64, 64, 0, 40, 40] : List Nat).getD k 0
def mt (k : Nat) : Nat := ([0, 1, 0, 0, 1, 2, 1, 1, 1, 1, 1, 1, 1, 1, 1, 2, 2, 3, 1, 1, 1, 1, 1, 1, 0, 1, 1, 0, 1, 1, 1, 1, 3, 1, 1, 2, 2, 0, 1, 1, 0, 1, 1] : List Nat).getD k 0
/-! the state of NoteSheetModel as plain functions: int fields, int and boolean arrays, long arrays (each by its field's number) -/
abbrev MS : Type := (Nat → Int32) × (Nat → Nat → Int32) × (Nat → Nat → Int64)
def mI (st : MS) (j : Nat) : Int32 := st.1 j
def mA (st : MS) (k i : Nat) : Int32 := st.2.1 k i
def mL (st : MS) (k i : Nat) : Int64 := st.2.2 k i
def mIs (st : MS) (j : Nat) (v : Int32) : MS := (fun q => if q = j then v else st.1 q, st.2)
def mAs (st : MS) (k i : Nat) (v : Int32) : MS := (st.1, fun q r => if q = k ∧ r = i then v else st.2.1 q r, st.2.2)
def mLs (st : MS) (k i : Nat) (v : Int64) : MS := (st.1, st.2.1, fun q r => if q = k ∧ r = i then v else st.2.2 q r)
/-- an index within -/
def ix (i : Int32) (n : Nat) : Option Nat := if i < 0 ∨ n ≤ i.toNatClampNeg then none else some i.toNatClampNeg
theorem ix_spec {i : Int32} {n j : Nat} (h : ix i n = some j) : vp_in i n ∧ j = i.toNatClampNeg := by
  unfold ix at h
  by_cases c : i < 0 ∨ n ≤ i.toNatClampNeg
  · rw [if_pos c] at h; cases h
  · rw [if_neg c] at h; cases h; exact ⟨c, rfl⟩
theorem ix_nI {j n : Nat} (h : j < n) (hn : n < 2 ^ 31) : ix (nI j) n = some j := by
  unfold ix
  rw [if_neg (nI_in h hn), nI_clamp (by omega)]
def mrd (st : MS) (k : Nat) (i : Int32) : Option Int32 := (ix i (mn k)).map (fun j => mA st k j)
def mrL (st : MS) (k : Nat) (i : Int32) : Option Int64 := (ix i (mn k)).map (fun j => mL st k j)
def mwr (st : MS) (k : Nat) (i : Int32) (v : Int32) : Option MS := (ix i (mn k)).map (fun j => mAs st k j v)
def mwL (st : MS) (k : Nat) (i : Int32) (v : Int64) : Option MS := (ix i (mn k)).map (fun j => mLs st k j v)
/-- a returned or stored small value is what it was -/
def nchk (ty : FieldType) (v : Int32) : Option Int32 := if vp_nar ty v = v then some v else none
theorem nchk_spec {ty : FieldType} {v w : Int32} (h : nchk ty v = some w) : w = v ∧ vp_nar ty v = v := by
  unfold nchk at h
  by_cases c : vp_nar ty v = v
  · rw [if_pos c] at h; cases h; exact ⟨rfl, c⟩
  · rw [if_neg c] at h; cases h
theorem obi {α β : Type} {x : Option α} {f : α → Option β} {b : β} (h : x.bind f = some b) : ∃ a, x = some a ∧ f a = some b := by
  cases x with
  | none => cases h
  | some a => exact ⟨a, rfl, h⟩
theorem i32_ne {x y : Int32} (h : ¬ x = y) : x.toInt ≠ y.toInt := fun e => h (Int32.toInt_inj.mp e)
theorem ifp {c : Prop} [Decidable c] {α : Type} {a b x : α} (hc : c) (h : (if c then a else b) = x) : a = x := by rw [if_pos hc] at h; exact h
theorem ifn {c : Prop} [Decidable c] {α : Type} {a b x : α} (hc : ¬ c) (h : (if c then a else b) = x) : b = x := by rw [if_neg hc] at h; exact h
