/-- every text is read; its steps are well-made when it is a formula -/
theorem read_ok {t : List Nat} (ht : t.length ≤ 30) : ∃ s, p_read t = some s ∧ s.1 ≤ t.length ∧ s.2.2.length ≤ 60 ∧ (s.2.1 = false → s.2.2.length ≤ 30 ∧ wt s.2.2) := by
  obtain ⟨s, h1, h2⟩ := (g_all ht 100).1 (0, false, []) 0 rfl (Nat.zero_le _) (Nat.le_refl _) (by omega)
  obtain ⟨a1, a2, a3, a4, a5⟩ := h2
  have a4 : s.2.2.length ≤ 0 + 2 * (s.1 - 0) := a4
  unfold p_read
  refine ⟨s, h1, a2, by omega, fun hs => ?_⟩
  obtain ⟨c1, c2, c3, c4⟩ := a5 hs
  have c2 : s.2.2.length ≤ 0 + (s.1 - 0) := c2
  have c4 : tw s.2.2 0 s.2.2.length 0 (0 + (s.1 - 0 + 1) / 2) := c4 0
  exact ⟨by omega, c4.wt (by omega) (by omega)⟩
