/-- the fields of a new object, by its class' number -/
def hdf (ci : Nat) : List Value := match ci with
  | 0 => [.int 0, .null, .null, .null, .int 0, .int 0, .int 0, .int 0, .int 0, .null]
  | 1 => [.int 0, .int 0, .int 0, .int 0, .int 0, .int 0, .int 0, .null, .null, .int 0, .int 0, .int 0]
  | 2 => [.null, .null, .null]
  | 3 => [.int 0, .long 0, .int 0, .int 0, .int 0, .int 0, .null, .int 0]
  | 4 => [.null, .int 0, .int 0, .int 0, .null, .null]
  | 5 => [.null, .int 0, .int 0, .int 0]
  | 6 => [.null, .int 0]
  | 7 => [.int 0, .null, .int 0, .int 0, .null, .null, .null, .null, .null, .null, .null, .null, .null, .null, .null, .null, .null, .null, .null, .null, .null, .null, .null, .null, .int 0, .null, .null, .int 0, .null, .null, .null, .null, .null, .null, .null, .null, .null, .int 0, .null, .null, .int 0, .null, .null]
  | _ => []
def hsl (ci : Nat) : Nat := ([10, 12, 3, 8, 6, 4, 4, 43, 0] : List Nat).getD ci 0
/-! the pure heap: at an address an object (its class' number, its fields) or an array (its kind's number, its length and contents); the next address; the slots so far; constants' addresses and the formatter. From 100 on: cells that are only read. -/
abbrev Ent : Type := (Nat × List Value) ⊕ (Nat × vp_A)
abbrev HS : Type := (Nat → Option Ent) × Nat × Nat × (Nat → Nat) × Option Nat
def hNx (st : HS) : Nat := st.2.1
def hNs (st : HS) : Nat := st.2.2.1
def hKc (st : HS) : Nat → Nat := st.2.2.2.1
def hFm (st : HS) : Option Nat := st.2.2.2.2
def hSet (st : HS) (a : Nat) (e : Ent) : HS := (fun q => if q = a then some e else st.1 q, st.2)
/-- field k of the object of class C at a -/
def hG (st : HS) (a C k : Nat) : Option Value := match st.1 a with
  | some (.inl (ci, fs)) => if ci % 100 = C then fs[k]? else none
  | _ => none
def hI (st : HS) (a C k : Nat) : Option Int32 := match hG st a C k with
  | some (.int v) => some v
  | _ => none
def hJ (st : HS) (a C k : Nat) : Option Int64 := match hG st a C k with
  | some (.long v) => some v
  | _ => none
def hR (st : HS) (a C k : Nat) : Option (Option Nat) := match hG st a C k with
  | some (.ref b) => some (some b)
  | some .null => some none
  | _ => none
def hP (st : HS) (a C k : Nat) (v : Value) : Option HS := match st.1 a with
  | some (.inl (ci, fs)) => if ci = C ∧ k < fs.length then some (hSet st a (.inl (ci, fs.set k v))) else none
  | _ => none
/-- the object at a is of class C -/
def hIs (st : HS) (a C : Nat) : Option Unit := match st.1 a with
  | some (.inl (ci, _)) => if ci % 100 = C then some () else none
  | _ => none
def hAi (st : HS) (a ty : Nat) (i : Int32) : Option Int32 := match st.1 a with
  | some (.inr (k, n, .inl f)) => if k % 100 = ty then (ix i n).map f else none
  | _ => none
def hAl (st : HS) (a : Nat) (i : Int32) : Option Int64 := match st.1 a with
  | some (.inr (k, n, .inr (.inl f))) => if k = 3 then (ix i n).map f else none
  | _ => none
def hAr (st : HS) (a ty : Nat) (i : Int32) : Option (Option Nat) := match st.1 a with
  | some (.inr (k, n, .inr (.inr (.inr (.inr f))))) => if k = ty then (ix i n).map f else none
  | _ => none
def hWi (st : HS) (a ty : Nat) (i : Int32) (v : Int32) : Option HS := match st.1 a with
  | some (.inr (k, n, .inl f)) => if k = ty then (ix i n).map (fun j => hSet st a (.inr (k, n, .inl (upd f j v)))) else none
  | _ => none
def hWl (st : HS) (a : Nat) (i : Int32) (v : Int64) : Option HS := match st.1 a with
  | some (.inr (k, n, .inr (.inl f))) => if k = 3 then (ix i n).map (fun j => hSet st a (.inr (k, n, .inr (.inl (vp_updL f j v))))) else none
  | _ => none
/-- the class whose objects an array of kind ty may hold -/
def hco (ty : Nat) : Nat := if ty = 4 then 1 else 8
def hWr (st : HS) (a ty : Nat) (i : Int32) (v : Nat) : Option HS := match st.1 a, hIs st v (hco ty) with
  | some (.inr (k, n, .inr (.inr (.inr (.inr f))))), some _ => if k = ty ∧ 4 ≤ ty ∧ ty ≤ 5 then (ix i n).map (fun j => hSet st a (.inr (k, n, .inr (.inr (.inr (.inr (va_up f j (some v)))))))) else none
  | _, _ => none
def hLen (st : HS) (a : Nat) : Option Int32 := match st.1 a with
  | some (.inr (k, n, _)) => if k % 100 ≤ 5 then some (nI n) else none
  | _ => none
/-- a new cell -/
def hPush (st : HS) (e : Ent) (n : Nat) : HS := (fun q => if q = st.2.1 then some e else st.1 q, st.2.1 + 1, st.2.2.1 + n, st.2.2.2)
def hNew (st : HS) (ci : Nat) : HS := hPush st (.inl (ci, hdf ci)) (hsl ci)
def hsz (n : Int32) : Option Nat := if n < 0 ∨ 100000 < n.toNatClampNeg then none else some n.toNatClampNeg
/-- what a new array of a kind holds -/
def hz (ty N : Nat) : vp_A := if ty = 3 then (N, .inr (.inl (fun _ => 0))) else if 4 ≤ ty then (N, .inr (.inr (.inr (.inr (fun _ => none))))) else (N, .inl (fun _ => 0))
def hNewA (st : HS) (ty : Nat) (n : Int32) : Option HS := (hsz n).map (fun N => hPush st (.inr (ty, hz ty N)) N)
/-- System.arraycopy between byte arrays -/
def hCpy (st : HS) (a : Nat) (sp : Int32) (b : Nat) (dp n : Int32) : Option HS := match st.1 a, st.1 b with
  | some (.inr (1, n0, .inl f)), some (.inr (1, n1, .inl g)) => if a ≠ b ∧ ¬ sp < 0 ∧ ¬ dp < 0 ∧ ¬ n < 0 ∧ sp.toNatClampNeg + n.toNatClampNeg ≤ n0 ∧ dp.toNatClampNeg + n.toNatClampNeg ≤ n1 ∧ (List.range n.toNatClampNeg).all (fun i => fits .byte (.int (f (sp.toNatClampNeg + i)))) then some (hSet st b (.inr (1, n1, .inl (va_cpy f g sp.toNatClampNeg dp.toNatClampNeg n.toNatClampNeg)))) else none
  | _, _ => none
/-- the clone of a byte array -/
def hCln (st : HS) (a : Nat) : Option HS := match st.1 a with
  | some (.inr (1, n, .inl f)) => if (List.range n).all (fun i => fits .byte (.int (f i))) then some (hPush st (.inr (1, n, .inl f)) n) else none
  | _ => none
/-- a byte array -/
def hB (st : HS) (a : Nat) : Option Unit := match st.1 a with
  | some (.inr (1, _, .inl _)) => some ()
  | _ => none
def bchk (v : Int32) : Option Int32 := if v = 0 ∨ v = 1 then some v else none
theorem bchk_spec {v w : Int32} (h : bchk v = some w) : w = v ∧ (v = 0 ∨ v = 1) := by
  unfold bchk at h
  by_cases c : v = 0 ∨ v = 1
  · rw [if_pos c] at h; cases h; exact ⟨rfl, c⟩
  · rw [if_neg c] at h; cases h
/-- the room grows, or stays -/
def hle (a b : HS) : Prop := hNx a ≤ hNx b ∧ hNs a ≤ hNs b ∧ b.2.2.2 = a.2.2.2
theorem hle.rf {a : HS} : hle a a := ⟨Nat.le_refl _, Nat.le_refl _, rfl⟩
theorem hle.t {a b c : HS} (h : hle a b) (h2 : hle b c) : hle a c := ⟨Nat.le_trans h.1 h2.1, Nat.le_trans h.2.1 h2.2.1, h2.2.2.trans h.2.2⟩
def hke (a b : HS) : Prop := b.2 = a.2
theorem hke.rf {a : HS} : hke a a := rfl
theorem hke.t {a b c : HS} (h : hke a b) (h2 : hke b c) : hke a c := Eq.trans h2 h
theorem hke.le {a b : HS} (h : hke a b) : hle a b := by
  have h : b.2 = a.2 := h
  exact ⟨by unfold hNx; rw [h]; exact Nat.le_refl _, by unfold hNs; rw [h]; exact Nat.le_refl _, by rw [h]⟩
theorem hle.ke {a b r : HS} (h : hle a r) (k : hke a b) : hle b r := by
  have k : b.2 = a.2 := k
  unfold hle hNx hNs at *
  rw [k]
  exact h
theorem hP_ke {st st' : HS} {a C k : Nat} {v : Value} (h : hP st a C k v = some st') : hke st st' := by
  unfold hP at h
  split at h
  · split at h
    · cases h; rfl
    · cases h
  · cases h
theorem hWi_ke {st st' : HS} {a ty : Nat} {i v : Int32} (h : hWi st a ty i v = some st') : hke st st' := by
  unfold hWi at h
  split at h
  · split at h
    · obtain ⟨j, -, rfl⟩ := Option.map_eq_some_iff.mp h; rfl
    · cases h
  · cases h
theorem hWl_ke {st st' : HS} {a : Nat} {i : Int32} {v : Int64} (h : hWl st a i v = some st') : hke st st' := by
  unfold hWl at h
  split at h
  · split at h
    · obtain ⟨j, -, rfl⟩ := Option.map_eq_some_iff.mp h; rfl
    · cases h
  · cases h
theorem hWr_ke {st st' : HS} {a ty v : Nat} {i : Int32} (h : hWr st a ty i v = some st') : hke st st' := by
  unfold hWr at h
  split at h
  · split at h
    · obtain ⟨j, -, rfl⟩ := Option.map_eq_some_iff.mp h; rfl
    · cases h
  · cases h
theorem hCpy_ke {st st' : HS} {a b : Nat} {sp dp n : Int32} (h : hCpy st a sp b dp n = some st') : hke st st' := by
  unfold hCpy at h
  split at h
  · split at h
    · cases h; rfl
    · cases h
  · cases h
theorem hPush_le {st : HS} {e : Ent} {n : Nat} : hle st (hPush st e n) := ⟨Nat.le_succ _, Nat.le_add_right _ _, rfl⟩
theorem hNew_le {st st' : HS} {ci : Nat} (h : some (hNew st ci) = some st') : hle st st' := by cases h; exact hPush_le
theorem hNewA_le {st st' : HS} {ty : Nat} {n : Int32} (h : hNewA st ty n = some st') : hle st st' := by
  obtain ⟨j, -, rfl⟩ := Option.map_eq_some_iff.mp h; exact hPush_le
theorem hCln_le {st st' : HS} {a : Nat} (h : hCln st a = some st') : hle st st' := by
  unfold hCln at h
  split at h
  · split at h
    · cases h; exact hPush_le
    · cases h
  · cases h
