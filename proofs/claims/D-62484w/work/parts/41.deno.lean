/-! the denotation of a formula: run over an oracle of the cells' values (none: bad) -/
def d_run (o : Nat → Option Int32) (code : List (Nat × Nat)) : Nat → Nat → List Int32 → List Nat → Option (Option Int32 × List Nat)
  | 0, _, _, _ => none
  | k + 1, pc, st, rs => match code[pc]? with
    | none => (o_end st).map fun x => (some x, rs)
    | some (op, n) =>
      if op = 1 ∨ op = 2 then
        (o_read op n st).bind fun q => match o q.1 with
          | none => some (none, a_add rs q.1)
          | some v => d_run o code k (pc + 1) (v :: q.2) (a_add rs q.1)
      else (o_step op n pc st).bind fun q => d_run o code k q.1 q.2 rs
/-- well-made code: the height of the stack at every place -/
def wt (code : List (Nat × Nat)) : Prop := ∃ h : Nat → Nat, h 0 = 0 ∧ h code.length = 1 ∧ code.length ≤ 40 ∧ (∀ pc, pc ≤ code.length → h pc ≤ 15) ∧ ∀ pc op n, code[pc]? = some (op, n) → op ≤ 10 ∧ n ≤ 9999 ∧
  (op = 0 → h (pc + 1) = h pc + 1) ∧ (op = 1 → n < 12 ∧ h (pc + 1) = h pc + 1) ∧ (op = 2 ∨ op = 3 → 1 ≤ h pc ∧ h (pc + 1) = h pc) ∧ (4 ≤ op ∧ op ≤ 8 → 2 ≤ h pc ∧ h (pc + 1) + 1 = h pc) ∧
  (op = 9 → pc < n ∧ n ≤ code.length ∧ h n = h pc) ∧ (op = 10 → 1 ≤ h pc ∧ h (pc + 1) + 1 = h pc ∧ pc < n ∧ n ≤ code.length ∧ h n + 1 = h pc)
theorem o_cell_lt (x : Int32) : o_cell x < 12 := by
  unfold o_cell
  have h1 := Int.emod_nonneg x.toInt (show (12 : Int) ≠ 0 by decide)
  have h2 := Int.emod_lt_of_pos x.toInt (show (0 : Int) < 12 by decide)
  omega
theorem a_add_mem {rs : List Nat} {r : Nat} : r ∈ a_add rs r := by
  unfold a_add
  split
  · assumption
  · simp
theorem a_add_sub {rs : List Nat} {r q : Nat} (h : q ∈ rs) : q ∈ a_add rs r := by
  unfold a_add
  split
  · exact h
  · simp [h]
theorem a_add_iff {rs : List Nat} {r q : Nat} : q ∈ a_add rs r ↔ q ∈ rs ∨ q = r := by
  unfold a_add
  split
  · constructor
    · exact Or.inl
    · rintro (h | h)
      · exact h
      · subst h; assumption
  · simp
theorem a_add_pre {rs : List Nat} {r : Nat} : rs <+: a_add rs r := by
  unfold a_add
  split
  · exact List.prefix_refl _
  · exact List.prefix_append _ _
/-- the reads only grow at their end -/
theorem d_pre {o : Nat → Option Int32} {code : List (Nat × Nat)} : ∀ (k pc : Nat) (st : List Int32) (rs : List Nat) (x : Option Int32) (rs' : List Nat), d_run o code k pc st rs = some (x, rs') → rs <+: rs' := by
  intro k
  induction k with
  | zero => intro pc st rs x rs' h; cases h
  | succ k ih =>
    intro pc st rs x rs' h
    rw [d_run] at h
    split at h
    · obtain ⟨y, -, h⟩ := omi h
      cases h; exact List.prefix_refl _
    · split at h
      · obtain ⟨q, -, h⟩ := obi h
        split at h
        · cases h; exact a_add_pre
        · exact List.IsPrefix.trans a_add_pre (ih _ _ _ _ _ h)
      · obtain ⟨q, -, h⟩ := obi h
        exact ih _ _ _ _ _ h
/-- only the cells that are read matter -/
theorem d_agree {o o' : Nat → Option Int32} {code : List (Nat × Nat)} : ∀ (k pc : Nat) (st : List Int32) (rs : List Nat) (x : Option Int32) (rs' : List Nat), d_run o code k pc st rs = some (x, rs') → (∀ r ∈ rs', o' r = o r) → d_run o' code k pc st rs = some (x, rs') := by
  intro k
  induction k with
  | zero => intro pc st rs x rs' h; cases h
  | succ k ih =>
    intro pc st rs x rs' h ha
    rw [d_run] at h ⊢
    split at h
    · exact h
    · split at h
      · rename_i hop
        obtain ⟨q, hq, h⟩ := obi h
        rw [if_pos hop, hq]
        show (match o' q.1 with | none => _ | some v => _) = _
        have hm : q.1 ∈ rs' := by
          split at h
          · cases h; exact a_add_mem
          · exact (d_pre _ _ _ _ _ _ h).subset a_add_mem
        rw [ha _ hm]
        split at h
        · exact h
        · exact ih _ _ _ _ _ h ha
      · rename_i hop
        obtain ⟨q, hq, h⟩ := obi h
        rw [if_neg hop, hq]
        exact ih _ _ _ _ _ h ha
/-- a good answer read good cells alone -/
theorem d_good {o : Nat → Option Int32} {code : List (Nat × Nat)} : ∀ (k pc : Nat) (st : List Int32) (rs : List Nat) (v : Int32) (rs' : List Nat), d_run o code k pc st rs = some (some v, rs') → ∀ r ∈ rs', r ∈ rs ∨ ∃ w, o r = some w := by
  intro k
  induction k with
  | zero => intro pc st rs x rs' h; cases h
  | succ k ih =>
    intro pc st rs x rs' h r hr
    rw [d_run] at h
    split at h
    · obtain ⟨y, -, h⟩ := omi h
      cases h; exact Or.inl hr
    · split at h
      · obtain ⟨q, -, h⟩ := obi h
        split at h
        · cases h
        · rename_i v e
          rcases ih _ _ _ _ _ h r hr with h1 | h1
          · rcases a_add_iff.mp h1 with h2 | h2
            · exact Or.inl h2
            · subst h2; exact Or.inr ⟨v, e⟩
          · exact Or.inr h1
      · obtain ⟨q, -, h⟩ := obi h
        exact ih _ _ _ _ _ h r hr
/-- a bad answer read a bad cell -/
theorem d_bad {o : Nat → Option Int32} {code : List (Nat × Nat)} : ∀ (k pc : Nat) (st : List Int32) (rs : List Nat) (rs' : List Nat), d_run o code k pc st rs = some (none, rs') → ∃ r ∈ rs', o r = none := by
  intro k
  induction k with
  | zero => intro pc st rs rs' h; cases h
  | succ k ih =>
    intro pc st rs rs' h
    rw [d_run] at h
    split at h
    · obtain ⟨y, -, h⟩ := omi h
      cases h
    · split at h
      · obtain ⟨q, -, h⟩ := obi h
        split at h
        · rename_i e; cases h; exact ⟨q.1, a_add_mem, e⟩
        · exact ih _ _ _ _ h
      · obtain ⟨q, -, h⟩ := obi h
        exact ih _ _ _ _ h
/-- two runs go together as long as the cells that are read agree -/
theorem d_same {w o : Nat → Option Int32} {code : List (Nat × Nat)} : ∀ (k pc : Nat) (st : List Int32) (rs : List Nat) (x y : Option Int32) (r1 r2 : List Nat), d_run w code k pc st rs = some (x, r1) → d_run o code k pc st rs = some (y, r2) →
    ∀ i : Nat, (∀ j : Nat, j < i → ∀ r, r1[j]? = some r → o r = w r) → ∀ r, r1[i]? = some r → r2[i]? = some r := by
  intro k
  induction k with
  | zero => intro pc st rs x y r1 r2 h; cases h
  | succ k ih =>
    intro pc st rs x y r1 r2 h h' i ha r hr
    have p1 := d_pre _ _ _ _ _ _ h
    have p2 := d_pre _ _ _ _ _ _ h'
    rw [d_run] at h h'
    split at h
    · rename_i e
      obtain ⟨z, -, h⟩ := omi h
      cases h
      rw [e] at h'
      obtain ⟨z, -, h'⟩ := omi h'
      cases h'
      exact hr
    · rename_i op n e
      rw [e] at h'
      dsimp only at h'
      split at h
      · rename_i hop
        rw [if_pos hop] at h'
        obtain ⟨q, hq, h⟩ := obi h
        rw [hq] at h'
        have h' : (match o q.1 with | none => some (none, a_add rs q.1) | some v => d_run o code k (pc + 1) (v :: q.2) (a_add rs q.1)) = some (y, r2) := h'
        have s1 : a_add rs q.1 <+: r1 := by
          split at h
          · cases h; exact List.prefix_refl _
          · exact d_pre _ _ _ _ _ _ h
        have s2 : a_add rs q.1 <+: r2 := by
          split at h'
          · cases h'; exact List.prefix_refl _
          · exact d_pre _ _ _ _ _ _ h'
        obtain ⟨t1, rfl⟩ := s1
        obtain ⟨t2, rfl⟩ := s2
        by_cases hi : i < (a_add rs q.1).length
        · rw [List.getElem?_append_left hi] at hr ⊢
          exact hr
        · have hqw : o q.1 = w q.1 := by
            obtain ⟨j, hj⟩ := List.getElem?_of_mem (a_add_mem (rs := rs) (r := q.1))
            have hjl : j < (a_add rs q.1).length := (List.getElem?_eq_some_iff.mp hj).1
            exact ha j (by omega) q.1 (by rw [List.getElem?_append_left hjl]; exact hj)
          rw [hqw] at h'
          split at h
          · rename_i e2
            simp only [Option.some.injEq, Prod.mk.injEq] at h
            rw [← h.2] at hr
            exact absurd (List.getElem?_eq_some_iff.mp hr).1 hi
          · rename_i v e2
            rw [e2] at h'
            exact ih _ _ _ _ _ _ _ h h' i ha r hr
      · rename_i hop
        rw [if_neg hop] at h'
        obtain ⟨q, hq, h⟩ := obi h
        rw [hq] at h'
        exact ih _ _ _ _ _ _ _ h h' i ha r hr
/-- well-made code runs to its end -/
theorem d_total {o : Nat → Option Int32} {code : List (Nat × Nat)} {h : Nat → Nat} (hl : h code.length = 1)
    (hs : ∀ pc op n, code[pc]? = some (op, n) → op ≤ 10 ∧ n ≤ 9999 ∧ (op = 0 → h (pc + 1) = h pc + 1) ∧ (op = 1 → n < 12 ∧ h (pc + 1) = h pc + 1) ∧ (op = 2 ∨ op = 3 → 1 ≤ h pc ∧ h (pc + 1) = h pc) ∧ (4 ≤ op ∧ op ≤ 8 → 2 ≤ h pc ∧ h (pc + 1) + 1 = h pc) ∧
      (op = 9 → pc < n ∧ n ≤ code.length ∧ h n = h pc) ∧ (op = 10 → 1 ≤ h pc ∧ h (pc + 1) + 1 = h pc ∧ pc < n ∧ n ≤ code.length ∧ h n + 1 = h pc)) :
    ∀ (k pc : Nat) (st : List Int32) (rs : List Nat), pc ≤ code.length → st.length = h pc → code.length - pc < k → (∀ r ∈ rs, r < 12) → ∃ x rs', d_run o code k pc st rs = some (x, rs') ∧ ∀ r ∈ rs', r < 12 := by
  intro k
  induction k with
  | zero => intro pc st rs h1 h2 h3; omega
  | succ k ih =>
    intro pc st rs h1 h2 h3 h4
    rw [d_run]
    cases e : code[pc]? with
    | none =>
      have : pc = code.length := by
        have := List.getElem?_eq_none_iff.mp e
        omega
      subst this
      rw [hl] at h2
      match st, h2 with
      | [x], _ => exact ⟨some x, rs, rfl, h4⟩
    | some p =>
      obtain ⟨op, n⟩ := p
      have hlt : pc < code.length := (List.getElem?_eq_some_iff.mp e).1
      obtain ⟨g1, g2, g3, g4, g5, g6, g7, g8⟩ := hs pc op n e
      dsimp only
      have read : ∀ (r : Nat) (st' : List Int32), r < 12 → st'.length + 1 = h (pc + 1) → ∃ x rs', (match o r with | none => some (none, a_add rs r) | some v => d_run o code k (pc + 1) (v :: st') (a_add rs r)) = some (x, rs') ∧ ∀ q ∈ rs', q < 12 := by
        intro r st' hr hst
        have h4' : ∀ q ∈ a_add rs r, q < 12 := fun q hq => by
          rcases a_add_iff.mp hq with hq | hq
          · exact h4 q hq
          · omega
        cases o r with
        | none => exact ⟨none, _, rfl, h4'⟩
        | some v => exact ih (pc + 1) (v :: st') (a_add rs r) (by omega) (by simp; omega) (by omega) h4'
      by_cases hop : op = 1 ∨ op = 2
      · rw [if_pos hop]
        rcases hop with rfl | rfl
        · obtain ⟨g41, g42⟩ := g4 rfl
          simp only [o_read]
          exact read n st g41 (by omega)
        · obtain ⟨g51, g52⟩ := g5 (Or.inl rfl)
          match st, h2 with
          | x :: r, h2 =>
            simp only [List.length_cons] at h2
            exact read (o_cell x) r (o_cell_lt x) (by omega)
          | [], h2 => simp at h2; omega
      · rw [if_neg hop]
        rcases (show op = 0 ∨ op = 3 ∨ op = 9 ∨ op = 10 ∨ (4 ≤ op ∧ op ≤ 8) by omega) with rfl | rfl | rfl | rfl | hb
        · exact ih (pc + 1) (nI n :: st) rs (by omega) (by simp; have := g3 rfl; omega) (by omega) h4
        · obtain ⟨g51, g52⟩ := g5 (Or.inr rfl)
          match st, h2 with
          | x :: r, h2 => exact ih (pc + 1) (-x :: r) rs (by omega) (by simp at h2 ⊢; omega) (by omega) h4
          | [], h2 => simp at h2; omega
        · obtain ⟨g71, g72, g73⟩ := g7 rfl
          exact ih n st rs g72 (by omega) (by omega) h4
        · obtain ⟨g81, g82, g83, g84, g85⟩ := g8 rfl
          match st, h2 with
          | x :: r, h2 =>
            simp only [List.length_cons] at h2
            by_cases hx : x = 0
            · have := ih n r rs g84 (by omega) (by omega) h4
              simpa [o_step, hx] using this
            · have := ih (pc + 1) r rs (by omega) (by omega) (by omega) h4
              simpa [o_step, hx] using this
          | [], h2 => simp at h2; omega
        · obtain ⟨g61, g62⟩ := g6 hb
          match st, h2 with
          | y :: x :: r, h2 =>
            simp only [List.length_cons] at h2
            have := ih (pc + 1) (o_bin op x y :: r) rs (by omega) (by simp; omega) (by omega) h4
            have e2 : o_step op n pc (y :: x :: r) = some (pc + 1, o_bin op x y :: r) := by
              unfold o_step
              rw [if_neg (by omega), if_neg (by omega), if_neg (by omega), if_neg (by omega)]
            rw [e2]
            exact this
          | [x], h2 => simp at h2; omega
          | [], h2 => simp at h2; omega
theorem wt_total {o : Nat → Option Int32} {code : List (Nat × Nat)} (hw : wt code) : ∃ x rs, d_run o code 100 0 [] [] = some (x, rs) ∧ ∀ r ∈ rs, r < 12 := by
  obtain ⟨h, h0, h1, h2, h3, h4⟩ := hw
  exact d_total h1 h4 100 0 [] [] (by omega) (by simp [h0]) (by omega) (fun r hr => by cases hr)
