/-- how many more digits belong to a number -/
def y_ex (t : List Nat) : Nat → Nat → Nat
  | 0, _ => 0
  | f + 1, i => if 48 ≤ t.getD i 0 ∧ t.getD i 0 ≤ 57 then 1 + y_ex t f (i + 1) else 0
def y_one (t : List Nat) (u : Bool) (k c : Nat) (G C : GS) : Option (GS × GS) := if u = true then y_begin t k c G C else y_go c G C
def y_u (u : Bool) (c : Nat) : Bool := if u = true then c == 40 || c == 45 || c == 64 else c != 41
def y_k (t : List Nat) (u : Bool) (k c : Nat) : Nat := if u = true ∧ 48 ≤ c ∧ c ≤ 57 then k + 1 + y_ex t 3 (k + 1) else k + 1
/-- the loop over the text: the place of the fault, or the steps -/
def y_f (t : List Nat) : Nat → Bool → Nat → GS → GS → Option (Nat ⊕ GS)
  | 0, _, _, _, _ => none
  | n + 1, u, k, G, C => if t.length ≤ k then (if u = true ∨ y_aw G ≠ 0 then some (.inl t.length) else some (.inr (y_cl G C).2))
    else match y_one t u k (t.getD k 0) G C with
      | none => some (.inl k)
      | some q => y_f t n (y_u u (t.getD k 0)) (y_k t u k (t.getD k 0)) q.1 q.2
theorem y_ex_le (t : List Nat) : ∀ (f i : Nat), i ≤ t.length → i + y_ex t f i ≤ t.length ∧ y_ex t f i ≤ f := by
  intro f
  induction f with
  | zero => intro i h; exact ⟨h, Nat.le_refl _⟩
  | succ f ih =>
    intro i h
    rw [y_ex]
    split
    · rename_i q
      have : i < t.length := by
        by_cases z : i < t.length
        · exact z
        · rw [List.getD_eq_getElem?_getD, List.getElem?_eq_none (by omega)] at q
          simp at q
      obtain ⟨h1, h2⟩ := ih (i + 1) (by omega)
      omega
    · omega
