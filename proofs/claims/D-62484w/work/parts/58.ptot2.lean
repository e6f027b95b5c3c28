theorem PR.cl {t : List Nat} {s s' : PS} (h : PR t s s') (hc : s.2.2.length ≤ 2 * s.1) : s'.2.2.length ≤ 2 * s'.1 := by
  obtain ⟨a1, a2, a3, a4, -⟩ := h
  omega
/-- units joined by * -/
theorem g_prod {t : List Nat} {n : Nat} (hU : GU t n) (ht : t.length ≤ 30) (s : PS) (d : Nat) (hs : s.2.1 = false) (ha : s.1 ≤ t.length) (hc : s.2.2.length ≤ 2 * s.1) (hn : 2 * (t.length - s.1) + 1 ≤ n) : ∃ s', p_prod t (p_one (pn t n).2) s d = some s' ∧ PR t s s' := by
  have un : ∀ z : PS, z.2.1 = false → z.1 ≤ t.length → z.2.2.length ≤ 2 * z.1 → s.1 ≤ z.1 → ∃ s', p_one (pn t n).2 z d = some s' ∧ PR t z s' := fun z z1 z2 z3 z4 => by
    unfold p_one
    rw [if_neg (by rw [z1]; decide)]
    exact hU z d z1 z2 z3 (by omega)
  have loop : ∀ (N : Nat) (z : PS), PR t s z → t.length - z.1 < N → ∃ s', p_prodL t (p_one (pn t n).2) N z d = some s' ∧ PR t s s' := by
    intro N
    induction N with
    | zero => intro z _ h; omega
    | succ N ih =>
      intro z hz hN
      rw [p_prodL]
      by_cases q : pk t z = 42
      · rw [if_pos q]
        obtain ⟨k1, k2⟩ := pkk_lt (t := t) (s := z) (by omega)
        obtain ⟨s2, g1, g2⟩ := un (pA z) k1 (by show z.1 + 1 ≤ _; omega) (by have := hz.cl hc; show z.2.2.length ≤ 2 * (z.1 + 1); omega) (by have := hz.1; show s.1 ≤ z.1 + 1; omega)
        rw [g1]
        simp only [Option.bind_some]
        have b1 : z.1 + 1 ≤ s2.1 := g2.1
        exact ih _ (PR_bin hz k1 g2 (by omega)) (by show t.length - s2.1 < N; omega)
      · rw [if_neg q]; exact ⟨z, rfl, hz⟩
  obtain ⟨s1, g1, g2⟩ := un s hs ha hc (Nat.le_refl _)
  unfold p_prod
  rw [g1]
  simp only [Option.bind_some]
  exact loop 1000 s1 g2 (by omega)
theorem g_sum {t : List Nat} {n : Nat} (hU : GU t n) (ht : t.length ≤ 30) (s : PS) (d : Nat) (hs : s.2.1 = false) (ha : s.1 ≤ t.length) (hc : s.2.2.length ≤ 2 * s.1) (hn : 2 * (t.length - s.1) + 1 ≤ n) : ∃ s', p_sum t (p_prod t (p_one (pn t n).2)) s d = some s' ∧ PR t s s' := by
  have loop : ∀ (N : Nat) (z : PS), PR t s z → t.length - z.1 < N → ∃ s', p_sumL t (p_prod t (p_one (pn t n).2)) N z d = some s' ∧ PR t s s' := by
    intro N
    induction N with
    | zero => intro z _ h; omega
    | succ N ih =>
      intro z hz hN
      rw [p_sumL]
      by_cases q : pk t z = 43 ∨ pk t z = 45
      · rw [if_pos q]
        obtain ⟨k1, k2⟩ := pkk_lt (t := t) (s := z) (by omega)
        have hz1 := hz.1
        obtain ⟨s2, g1, g2⟩ := g_prod hU ht (pA z) d k1 (by show z.1 + 1 ≤ _; omega) (by have := hz.cl hc; show z.2.2.length ≤ 2 * (z.1 + 1); omega) (by show 2 * (t.length - (z.1 + 1)) + 1 ≤ n; omega)
        rw [g1]
        simp only [Option.bind_some]
        have b1 : z.1 + 1 ≤ s2.1 := g2.1
        exact ih _ (PR_bin hz k1 g2 (by split <;> omega)) (by show t.length - s2.1 < N; omega)
      · rw [if_neg q]; exact ⟨z, rfl, hz⟩
  obtain ⟨s1, g1, g2⟩ := g_prod hU ht s d hs ha hc hn
  unfold p_sum
  rw [g1]
  simp only [Option.bind_some]
  exact loop 1000 s1 g2 (by omega)
theorem g_cmp {t : List Nat} {n : Nat} (hU : GU t n) (ht : t.length ≤ 30) (s : PS) (d : Nat) (hs : s.2.1 = false) (ha : s.1 ≤ t.length) (hc : s.2.2.length ≤ 2 * s.1) (hn : 2 * (t.length - s.1) + 1 ≤ n) : ∃ s', p_cmp t (p_sum t (p_prod t (p_one (pn t n).2))) s d = some s' ∧ PR t s s' := by
  obtain ⟨z, g1, hz⟩ := g_sum hU ht s d hs ha hc hn
  unfold p_cmp
  rw [g1]
  show ∃ s', (if pk t z = 60 ∨ pk t z = 61 then _ else some z) = some s' ∧ _
  by_cases q : pk t z = 60 ∨ pk t z = 61
  · rw [if_pos q]
    obtain ⟨k1, k2⟩ := pkk_lt (t := t) (s := z) (by omega)
    have hz1 := hz.1
    obtain ⟨s2, g1, g2⟩ := g_sum hU ht (pA z) d k1 (by show z.1 + 1 ≤ _; omega) (by have := hz.cl hc; show z.2.2.length ≤ 2 * (z.1 + 1); omega) (by show 2 * (t.length - (z.1 + 1)) + 1 ≤ n; omega)
    rw [g1]
    exact ⟨_, rfl, PR_bin hz k1 g2 (by split <;> omega)⟩
  · rw [if_neg q]; exact ⟨z, rfl, hz⟩
