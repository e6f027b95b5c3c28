def exitC (t : List Nat) (s : PS) (G : GS) : Prop := pk t s ≠ 42 ∧ pk t s ≠ 43 ∧ pk t s ≠ 45 ∧ pk t s ≠ 63 ∧ (pk t s = 60 ∨ pk t s = 61 → y_cmpd G = true)
def YU (t : List Nat) (n : Nat) : Prop := ∀ (s s' : PS) (d : Nat) (U G0 : GS), s.2.1 = false → s.1 ≤ t.length → (pn t n).2 s d = some s' → y_deep (U ++ G0) = d → d ≤ 5 → (∀ q ∈ U, rk q.1 = 4) → tR G0 4 →
  (s'.2.1 = false → ∃ m, YRun t m true s.1 (U ++ G0) s.2.2 false s'.1 G0 (fl U s'.2.2)) ∧ (s'.2.1 = true → ∃ m, ∀ n, y_f t (n + m) true s.1 (U ++ G0) s.2.2 = some (.inl s'.1))
def YF (t : List Nat) (n : Nat) : Prop := ∀ (s s' : PS) (d : Nat) (G : GS), s.2.1 = false → s.1 ≤ t.length → (pn t n).1 s d = some s' → y_deep G = d → d ≤ 5 → tR G 1 →
  s'.1 ≤ t.length ∧ (s'.2.1 = false → ∃ m P Cm, YRun t m true s.1 G s.2.2 false s'.1 (P ++ G) Cm ∧ (∀ q ∈ P, 1 ≤ rk q.1 ∨ q.1 = 58) ∧ fl P Cm = s'.2.2 ∧ exitC t s' (P ++ G)) ∧ (s'.2.1 = true → ∃ m, ∀ n, y_f t (n + m) true s.1 G s.2.2 = some (.inl s'.1))
theorem dig_eq {t : List Nat} : ∀ (f : Nat) (s : PS) (n : Nat), s.2.1 = false → p_dig t f s n = ((s.1 + y_ex t f s.1, s.2), y_nF t f s.1 n) := by
  intro f
  induction f with
  | zero => intro s n h; rfl
  | succ f ih =>
    intro s n h
    have hp : pk t s = t.getD s.1 0 := by unfold pk; rw [if_neg (by rw [h]; decide)]
    rw [p_dig, y_ex, y_nF, hp]
    by_cases q : 48 ≤ t.getD s.1 0 ∧ t.getD s.1 0 ≤ 57
    · rw [if_pos q, if_pos q, if_pos q, ih (pA s) _ h]
      show ((s.1 + 1 + y_ex t f (s.1 + 1), s.2), _) = _
      rw [show s.1 + 1 + y_ex t f (s.1 + 1) = s.1 + (1 + y_ex t f (s.1 + 1)) by omega]
      rfl
    · rw [if_neg q, if_neg q, if_neg q]
      rfl
/-- what can't go on behind a part -/
theorem go_none {c : Nat} {P G C : GS} (hok : okc c) (h42 : c ≠ 42) (h43 : c ≠ 43) (h45 : c ≠ 45) (h63 : c ≠ 63) (hcmp : c = 60 ∨ c = 61 → y_cmpd (P ++ G) = true) (hP : ∀ q ∈ P, 1 ≤ rk q.1 ∨ q.1 = 58) (h41 : c = 41 → y_aw G ≠ 40) (h58 : c = 58 → y_aw G ≠ 63) : y_go c (P ++ G) C = none := by
  unfold y_go
  by_cases a : (rk c = 1 ∧ y_cmpd (P ++ G) = true) ∨ rk c = 4 ∨ c = 40 ∨ (65 ≤ c ∧ c ≤ 76) ∨ (48 ≤ c ∧ c ≤ 57)
  · rw [if_pos a]
  · rw [if_neg a]
    have hc : c = 41 ∨ c = 58 := by
      by_cases b : c = 60 ∨ c = 61
      · exact absurd (Or.inl ⟨by rcases b with b | b <;> subst b <;> decide, hcmp b⟩) a
      · by_cases b2 : c = 64
        · exact absurd (Or.inr (Or.inl (by subst b2; decide))) a
        · have n1 : ¬ c = 40 := fun e => a (Or.inr (Or.inr (Or.inl e)))
          have n2 : ¬ (65 ≤ c ∧ c ≤ 76) := fun e => a (Or.inr (Or.inr (Or.inr (Or.inl e))))
          have n3 : ¬ (48 ≤ c ∧ c ≤ 57) := fun e => a (Or.inr (Or.inr (Or.inr (Or.inr e))))
          omega
    rw [y_aw_app P G hP]
    rcases hc with e | e
    · subst e
      rw [if_neg (by decide), if_neg (by decide), if_pos (by rw [if_neg (by decide)]; exact h41 rfl)]
    · subst e
      rw [if_neg (by decide), if_neg (by decide), if_pos (by rw [if_pos rfl]; exact h58 rfl)]
