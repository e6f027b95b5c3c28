theorem omi {α β : Type} {x : Option α} {f : α → β} {b : β} (h : x.map f = some b) : ∃ a, x = some a ∧ f a = b := by
  cases x with
  | none => cases h
  | some a => exact ⟨a, rfl, by simpa using h⟩
/-! the abstract sheet: columns of numbers, of ints, the values, the reads, the texts, the code of the cells (columns by the model's field numbers) -/
abbrev S : Type := (Nat → Nat → Nat) × (Nat → Nat → Int32) × (Nat → Int64) × (Nat → List Nat) × (Nat → List Nat) × (Nat → List (Nat × Nat))
def sN (σ : S) (k c : Nat) : Nat := σ.1 k c
def sI (σ : S) (k c : Nat) : Int32 := σ.2.1 k c
def sL (σ : S) (c : Nat) : Int64 := σ.2.2.1 c
def sR (σ : S) (c : Nat) : List Nat := σ.2.2.2.1 c
def sT (σ : S) (c : Nat) : List Nat := σ.2.2.2.2.1 c
def sC (σ : S) (c : Nat) : List (Nat × Nat) := σ.2.2.2.2.2 c
def sNs (σ : S) (k c v : Nat) : S := (fun k' c' => if k' = k ∧ c' = c then v else σ.1 k' c', σ.2)
def sIs (σ : S) (k c : Nat) (v : Int32) : S := (σ.1, fun k' c' => if k' = k ∧ c' = c then v else σ.2.1 k' c', σ.2.2)
def sLs (σ : S) (c : Nat) (v : Int64) : S := (σ.1, σ.2.1, fun c' => if c' = c then v else σ.2.2.1 c', σ.2.2.2)
def sRs (σ : S) (c : Nat) (v : List Nat) : S := (σ.1, σ.2.1, σ.2.2.1, fun c' => if c' = c then v else σ.2.2.2.1 c', σ.2.2.2.2)
theorem sN_sNs (σ : S) (k c v k' c' : Nat) : sN (sNs σ k c v) k' c' = if k' = k ∧ c' = c then v else sN σ k' c' := rfl
theorem sN_sIs (σ : S) (k c k' c' : Nat) (v : Int32) : sN (sIs σ k c v) k' c' = sN σ k' c' := rfl
theorem sN_sLs (σ : S) (c k' c' : Nat) (v : Int64) : sN (sLs σ c v) k' c' = sN σ k' c' := rfl
theorem sN_sRs (σ : S) (c k' c' : Nat) (v : List Nat) : sN (sRs σ c v) k' c' = sN σ k' c' := rfl
theorem sI_sNs (σ : S) (k c v k' c' : Nat) : sI (sNs σ k c v) k' c' = sI σ k' c' := rfl
theorem sI_sIs (σ : S) (k c k' c' : Nat) (v : Int32) : sI (sIs σ k c v) k' c' = if k' = k ∧ c' = c then v else sI σ k' c' := rfl
theorem sI_sLs (σ : S) (c k' c' : Nat) (v : Int64) : sI (sLs σ c v) k' c' = sI σ k' c' := rfl
theorem sI_sRs (σ : S) (c k' c' : Nat) (v : List Nat) : sI (sRs σ c v) k' c' = sI σ k' c' := rfl
theorem sL_sNs (σ : S) (k c v c' : Nat) : sL (sNs σ k c v) c' = sL σ c' := rfl
theorem sL_sIs (σ : S) (k c c' : Nat) (v : Int32) : sL (sIs σ k c v) c' = sL σ c' := rfl
theorem sL_sLs (σ : S) (c c' : Nat) (v : Int64) : sL (sLs σ c v) c' = if c' = c then v else sL σ c' := rfl
theorem sL_sRs (σ : S) (c c' : Nat) (v : List Nat) : sL (sRs σ c v) c' = sL σ c' := rfl
theorem sR_sNs (σ : S) (k c v c' : Nat) : sR (sNs σ k c v) c' = sR σ c' := rfl
theorem sR_sIs (σ : S) (k c c' : Nat) (v : Int32) : sR (sIs σ k c v) c' = sR σ c' := rfl
theorem sR_sLs (σ : S) (c c' : Nat) (v : Int64) : sR (sLs σ c v) c' = sR σ c' := rfl
theorem sR_sRs (σ : S) (c c' : Nat) (v : List Nat) : sR (sRs σ c v) c' = if c' = c then v else sR σ c' := rfl
theorem sT_sNs (σ : S) (k c v c' : Nat) : sT (sNs σ k c v) c' = sT σ c' := rfl
theorem sT_sIs (σ : S) (k c c' : Nat) (v : Int32) : sT (sIs σ k c v) c' = sT σ c' := rfl
theorem sT_sLs (σ : S) (c c' : Nat) (v : Int64) : sT (sLs σ c v) c' = sT σ c' := rfl
theorem sT_sRs (σ : S) (c c' : Nat) (v : List Nat) : sT (sRs σ c v) c' = sT σ c' := rfl
theorem sC_sNs (σ : S) (k c v c' : Nat) : sC (sNs σ k c v) c' = sC σ c' := rfl
theorem sC_sIs (σ : S) (k c c' : Nat) (v : Int32) : sC (sIs σ k c v) c' = sC σ c' := rfl
theorem sC_sLs (σ : S) (c c' : Nat) (v : Int64) : sC (sLs σ c v) c' = sC σ c' := rfl
theorem sC_sRs (σ : S) (c c' : Nat) (v : List Nat) : sC (sRs σ c v) c' = sC σ c' := rfl
/-- columns: 3 revision (at 0), 4 changes, 5 formula, 11 altered, 13 durable, 14 born, 15 noted, 16 valued, 18 verified, 19 since, 20 noteDurable, 35 atWork; ints: 12 number, 23 used, 24 clock (at 0), 25 often, 26 lately -/
def rev (σ : S) : Nat := sN σ 3 0
def BAD : Int64 := 1099511627776
def enc (x : Option Int32) : Int64 := match x with
  | none => BAD
  | some v => v.toInt64
def a_cnt (σ : S) (c w : Nat) : S := sIs (sIs σ 25 (3 * c + w) (sI σ 25 (3 * c + w) + 1)) 26 w (sI σ 26 w + 1)
def a_use (σ : S) (c : Nat) : S := sIs (sIs σ 24 0 (sI σ 24 0 + 1)) 23 c (sI σ 24 0 + 1)
def a_since (σ : S) (r : Nat) : Nat := if sN σ 5 r = 0 then sN σ 14 r else if sN σ 15 r = 0 then 0 else sN σ 19 r
def a_steady (σ : S) (r : Nat) : Nat := if sN σ 5 r = 0 then sN σ 13 r else if sN σ 15 r = 0 then 0 else sN σ 20 r
/-- nothing is to be done for it -/
def a_done (σ : S) (c : Nat) : Prop := sN σ 5 c = 0 ∨ (sN σ 15 c ≠ 0 ∧ sN σ 18 c = rev σ)
def a_fin (σ : S) (c w : Nat) : S := sNs (sNs (a_cnt σ c w) 18 c (rev σ)) 35 c 0
def a_bring (un : S → Nat → Option (Bool × S)) (wo : S → Nat → Option S) (σ : S) (c : Nat) : Option S :=
  if sN σ 5 c = 0 ∨ sN σ 35 c ≠ 0 ∨ (sN σ 15 c ≠ 0 ∧ sN σ 18 c = rev σ) then some σ
  else if sN σ 15 c ≠ 0 ∧ sN σ 4 (sN σ 20 c) ≤ sN σ 18 c then some (a_fin (sNs σ 35 c 1) c 2)
  else if sN σ 15 c ≠ 0 ∧ sN σ 11 c ≤ sN σ 18 c then
    (un (sNs σ 35 c 1) c).bind fun q => if q.1 = true then some (a_fin q.2 c 1) else (wo q.2 c).map fun τ => sNs τ 35 c 0
  else (wo (sNs σ 35 c 1) c).map fun τ => sNs τ 35 c 0
def a_unchL (br : S → Nat → Option S) (c : Nat) : List Nat → Nat → S → Option (Bool × S)
  | [], least, σ => some (true, sNs σ 20 c least)
  | r :: rs, least, σ => (br σ r).bind fun τ => if sN τ 35 r ≠ 0 ∨ sN τ 18 c < a_since τ r then some (false, τ) else a_unchL br c rs (min least (a_steady τ r)) τ
def a_unch (br : S → Nat → Option S) (σ : S) (c : Nat) : Option (Bool × S) := a_unchL br c (sR σ c) 2 σ
/-- a note is made: value, reads, durability -/
def a_note (σ : S) (c was : Nat) (v : Int64) (rs : List Nat) (d : Nat) : S :=
  sNs (sRs (sNs (sNs (sLs (sNs (sNs (sNs (a_use (a_cnt σ c 0) c) 19 c (if sN σ 15 c ≠ 0 ∧ (sN σ 18 c = rev σ ∨ (sN σ 16 c ≠ 0 ∧ sL σ c = v)) then sN σ 19 c else rev σ)) 15 c 1) 16 c 1) c v) 18 c (rev σ)) 20 c d) c rs) 35 c was
def a_work (res : S → Nat → Option (Int64 × List Nat × Nat × S)) (σ : S) (c : Nat) : Option S :=
  (res (sNs σ 35 c 1) c).map fun q => a_note q.2.2.2 c (sN σ 35 c) q.1 q.2.1 q.2.2.1
def a_add (rs : List Nat) (r : Nat) : List Nat := if r ∈ rs then rs else rs ++ [r]
def a_given (val : S → Nat → Option (Int64 × S)) (σ : S) (r : Nat) (rs : List Nat) (d : Nat) : Option (Int64 × List Nat × Nat × S) :=
  if sN σ 35 r ≠ 0 then some (BAD, a_add rs r, 0, σ) else (val σ r).map fun q => (q.1, a_add rs r, min d (a_steady q.2 r), q.2)
def a_value (br wo : S → Nat → Option S) (σ : S) (c : Nat) : Option (Int64 × S) :=
  if sN σ 5 c = 0 then some ((sI σ 12 c).toInt64, σ)
  else (br σ c).bind fun τ => (if sN τ 16 c = 0 then wo τ c else some τ).map fun ρ => (sL ρ c, a_use ρ c)
/-- code: 0 NUMBER 1 READ 2 AT 3 NEGATE 4 TIMES 5 PLUS 6 MINUS 7 LESS 8 SAME 9 JUMP 10 ZERO -/
def o_bin (op : Nat) (x y : Int32) : Int32 := if op = 4 then x * y else if op = 5 then x + y else if op = 6 then x - y else if op = 7 then (if x < y then 1 else 0) else if x = y then 1 else 0
/-- the cell that a fetched number names -/
def o_cell (x : Int32) : Nat := (x.toInt % 12).toNat
/-- one step that reads no cell: place and stack (top first) -/
def o_step (op n pc : Nat) (st : List Int32) : Option (Nat × List Int32) :=
  if op = 0 then some (pc + 1, nI n :: st)
  else if op = 3 then match st with
    | x :: r => some (pc + 1, -x :: r)
    | _ => none
  else if op = 9 then some (n, st)
  else if op = 10 then match st with
    | x :: r => some (if x = 0 then n else pc + 1, r)
    | _ => none
  else match st with
    | y :: x :: r => some (pc + 1, o_bin op x y :: r)
    | _ => none
/-- a read: the cell, and the stack without what named it -/
def o_read (op n : Nat) (st : List Int32) : Option (Nat × List Int32) :=
  if op = 1 then some (n, st) else match st with
    | x :: r => some (o_cell x, r)
    | _ => none
def o_end (st : List Int32) : Option Int32 := match st with
  | [x] => some x
  | _ => none
def a_run (giv : S → Nat → List Nat → Nat → Option (Int64 × List Nat × Nat × S)) (code : List (Nat × Nat)) : Nat → Nat → List Int32 → List Nat → Nat → S → Option (Int64 × List Nat × Nat × S)
  | 0, _, _, _, _, _ => none
  | k + 1, pc, st, rs, d, σ => match code[pc]? with
    | none => (o_end st).map fun x => (x.toInt64, rs, d, σ)
    | some (op, n) =>
      if op = 1 ∨ op = 2 then
        (o_read op n st).bind fun q => (giv σ q.1 rs d).bind fun g =>
          if g.1 = BAD then some g else a_run giv code k (pc + 1) (g.1.toInt32 :: q.2) g.2.1 g.2.2.1 g.2.2.2
      else (o_step op n pc st).bind fun q => a_run giv code k q.1 q.2 rs d σ
def a_res (giv : S → Nat → List Nat → Nat → Option (Int64 × List Nat × Nat × S)) (σ : S) (c : Nat) : Option (Int64 × List Nat × Nat × S) := a_run giv (sC σ c) 100 0 [] [] 2 σ
def ag : Nat → (S → Nat → Option S) × (S → Nat → Option S)
  | 0 => (fun _ _ => none, fun _ _ => none)
  | n + 1 => (a_bring (a_unch (ag n).1) (ag n).2, a_work (a_res (a_given (a_value (ag n).1 (ag n).2))))
