/-! what can be seen of the class' sheet -/
theorem X_note_bad {st : HS} {K : Nat → Nat → Nat} {σ : S} {kept : Nat} {p : Int32} {o : Nat → Int32} {pad : List Nat} (h : RX st K σ kept p o pad) {a1 a2 : Int32} (hb : m_isCell a1 = 0 ∨ a2 < 0 ∨ ¬ a2 ≤ 7) : x_NS_note st (K 0 0) a1 a2 = some (-1) := by
  unfold x_NS_note
  rw [h.rs.1]
  simp only [Option.bind_some]
  rcases isC_cases a1 with q | ⟨c, hc, rfl, hq⟩
  · rw [(X_cell h).2 a1 q]
    simp only [Option.bind_some]
    rw [if_pos trivial]
  · have h2 : a2 < 0 ∨ ¬ a2 ≤ 7 := hb.resolve_left hq
    have ne : ∀ k : Int32, ¬ k < 0 → k ≤ 7 → ¬ a2 = k := fun k k1 k2 e => by
      subst e
      rcases h2 with z | z
      · exact k1 z
      · exact z k2
    rw [(X_cell h).1 c hc]
    simp only [Option.bind_some]
    rw [if_neg (by simp), (h.rc hc).2.2.2.2.2.2.2.2.1]
    simp only [Option.bind_some]
    rw [if_neg (ne 0 (by decide) (by decide)), if_neg (ne 1 (by decide) (by decide)), if_neg (ne 2 (by decide) (by decide)), if_neg (ne 3 (by decide) (by decide)), if_neg (ne 4 (by decide) (by decide)), if_neg (ne 5 (by decide) (by decide)), if_neg (ne 6 (by decide) (by decide)), if_neg (ne 7 (by decide) (by decide))]
theorem X_note {st : HS} {K : Nat → Nat → Nat} {σ : S} {kept : Nat} {pad : List Nat} {p : Int32} {c w : Nat} (h : RX st K σ kept p o0 pad) (hI : Inv σ) (hc : c < 12) (hw : w ≤ 7) : x_NS_note st (K 0 0) (nI c) (nI w) = some (q_note σ c w) := by
  obtain ⟨c0, c1, c2, c3, c4, c5, c6, c7, c8, c9, c10, c11, c12⟩ := h.rc hc
  obtain ⟨s1, s2⟩ := X_since h hc
  obtain ⟨d1, d2⟩ := X_steady h hc
  have i16 := (hI.no c hc).1
  have z0 : sI σ 25 (3 * c) + 0 = sI σ 25 (3 * c) := Int32.add_zero _
  unfold x_NS_note q_note
  rw [h.rs.1]
  simp only [Option.bind_some, (X_cell h).1 c hc]
  rw [if_neg (by simp), c8]
  simp only [Option.bind_some]
  rcases (show w = 0 ∨ w = 1 ∨ w = 2 ∨ w = 3 ∨ w = 4 ∨ w = 5 ∨ w = 6 ∨ w = 7 by omega) with e | e | e | e | e | e | e | e <;> subst e
  · rw [if_pos (show nI 0 = (0 : Int32) from rfl), c9, if_pos (by decide)]
    show some (sI σ 25 (3 * c) + 0) = _
    rw [z0]
    rfl
  · rw [if_neg (show ¬ nI 1 = (0 : Int32) by decide +kernel), if_pos (show nI 1 = (1 : Int32) from rfl), c10, if_pos (by decide)]
    rfl
  · rw [if_neg (show ¬ nI 2 = (0 : Int32) by decide +kernel), if_neg (show ¬ nI 2 = (1 : Int32) by decide +kernel), if_pos (show nI 2 = (2 : Int32) from rfl), c11, if_pos (by decide)]
    rfl
  · rw [if_neg (show ¬ nI 3 = (0 : Int32) by decide +kernel), if_neg (show ¬ nI 3 = (1 : Int32) by decide +kernel), if_neg (show ¬ nI 3 = (2 : Int32) by decide +kernel), if_pos (show nI 3 = (3 : Int32) from rfl), c0, s1, if_neg (by decide), if_pos rfl]
    rfl
  · rw [if_neg (show ¬ nI 4 = (0 : Int32) by decide +kernel), if_neg (show ¬ nI 4 = (1 : Int32) by decide +kernel), if_neg (show ¬ nI 4 = (2 : Int32) by decide +kernel), if_neg (show ¬ nI 4 = (3 : Int32) by decide +kernel), if_pos (show nI 4 = (4 : Int32) from rfl), if_neg (show ¬ (4 : Nat) < 3 by decide), if_neg (show ¬ (4 : Nat) = 3 by decide), if_pos (show (4 : Nat) = 4 from rfl)]
    by_cases q : sN σ 15 c = 0
    · rw [if_pos q, if_pos rfl, if_pos q]
    · rw [if_neg q, if_neg (by simp), if_neg q]
      simp only [Option.bind_some, (h.rn hc q).2.2.2.1]
  · rw [if_neg (show ¬ nI 5 = (0 : Int32) by decide +kernel), if_neg (show ¬ nI 5 = (1 : Int32) by decide +kernel), if_neg (show ¬ nI 5 = (2 : Int32) by decide +kernel), if_neg (show ¬ nI 5 = (3 : Int32) by decide +kernel), if_neg (show ¬ nI 5 = (4 : Int32) by decide +kernel), if_pos (show nI 5 = (5 : Int32) from rfl), c0, d1, if_neg (by decide), if_neg (by decide), if_neg (by decide), if_pos rfl]
    rfl
  · rw [if_neg (show ¬ nI 6 = (0 : Int32) by decide +kernel), if_neg (show ¬ nI 6 = (1 : Int32) by decide +kernel), if_neg (show ¬ nI 6 = (2 : Int32) by decide +kernel), if_neg (show ¬ nI 6 = (3 : Int32) by decide +kernel), if_neg (show ¬ nI 6 = (4 : Int32) by decide +kernel), if_neg (show ¬ nI 6 = (5 : Int32) by decide +kernel), if_pos (show nI 6 = (6 : Int32) from rfl), if_neg (show ¬ (6 : Nat) < 3 by decide), if_neg (show ¬ (6 : Nat) = 3 by decide), if_neg (show ¬ (6 : Nat) = 4 by decide), if_neg (show ¬ (6 : Nat) = 5 by decide), if_pos (show (6 : Nat) = 6 from rfl)]
    by_cases q : sN σ 15 c = 0
    · rw [if_pos q, if_pos rfl, if_pos q]
    · rw [if_neg q, if_neg (by simp), if_neg q]
      simp only [Option.bind_some, (h.rn hc q).2.2.2.2.2.2.2.2]
  · rw [if_neg (show ¬ nI 7 = (0 : Int32) by decide +kernel), if_neg (show ¬ nI 7 = (1 : Int32) by decide +kernel), if_neg (show ¬ nI 7 = (2 : Int32) by decide +kernel), if_neg (show ¬ nI 7 = (3 : Int32) by decide +kernel), if_neg (show ¬ nI 7 = (4 : Int32) by decide +kernel), if_neg (show ¬ nI 7 = (5 : Int32) by decide +kernel), if_neg (show ¬ nI 7 = (6 : Int32) by decide +kernel), if_pos (show nI 7 = (7 : Int32) from rfl), if_neg (show ¬ (7 : Nat) < 3 by decide), if_neg (show ¬ (7 : Nat) = 3 by decide), if_neg (show ¬ (7 : Nat) = 4 by decide), if_neg (show ¬ (7 : Nat) = 5 by decide), if_neg (show ¬ (7 : Nat) = 6 by decide), c2]
    simp only [Option.bind_some]
    unfold x_NS_note_J139
    by_cases q5 : sN σ 5 c = 0
    · rw [if_pos q5, if_neg (by decide), if_pos (Or.inl q5)]
    · rw [if_neg q5, if_pos rfl]
      by_cases q : sN σ 15 c = 0
      · have q16 : sN σ 16 c = 0 := by
          by_cases z : sN σ 16 c = 0
          · exact z
          · exact absurd q (i16 z)
        rw [if_pos q, if_pos rfl, if_neg (by rintro (z | z); exact q5 z; exact z q16)]
      · have b16 := (h.nE hc q).2.1
        rw [if_neg q, if_neg (by simp)]
        simp only [Option.bind_some, (h.rn hc q).2.1, nI0 (show sN σ 16 c < 2 ^ 31 by omega)]
        by_cases q16 : sN σ 16 c = 0
        · rw [if_pos q16, if_neg (by rintro (z | z); exact q5 z; exact z q16)]
        · rw [if_neg q16, if_pos (Or.inr q16)]
theorem X_read_bad {st : HS} {K : Nat → Nat → Nat} {σ : S} {kept : Nat} {p : Int32} {o : Nat → Int32} {pad : List Nat} (h : RX st K σ kept p o pad) {a1 a2 : Int32} (ha : m_isCell a1 = 0) : x_NS_read st (K 0 0) a1 a2 = some (-1) := by
  unfold x_NS_read x_NS_read_J32
  rw [h.rs.1]
  simp only [Option.bind_some, (X_cell h).2 a1 ha]
  rw [if_pos trivial]
theorem X_read {st : HS} {K : Nat → Nat → Nat} {σ : S} {kept : Nat} {p : Int32} {o : Nat → Int32} {pad : List Nat} {c : Nat} {a2 : Int32} (h : RX st K σ kept p o pad) (hc : c < 12) : x_NS_read st (K 0 0) (nI c) a2 = some (if a2 < 0 then -1 else q_read σ c a2.toNatClampNeg) := by
  unfold x_NS_read x_NS_read_J32 q_read
  rw [h.rs.1]
  simp only [Option.bind_some, (X_cell h).1 c hc]
  rw [if_neg (by simp), (h.rc hc).2.2.2.2.2.2.2.2.1]
  simp only [Option.bind_some]
  by_cases q15 : sN σ 15 c = 0
  · rw [if_pos q15, if_pos rfl, if_pos q15]
    simp
  · obtain ⟨r1, r2, r3, r4⟩ := h.rrd hc q15
    obtain ⟨n0, n1, n2, n3, n4, n5, n6, n7, n8⟩ := h.rn hc q15
    rw [if_neg q15, if_neg (by simp), if_neg q15]
    by_cases qa : a2 < 0
    · rw [if_pos qa, if_pos qa]
    · rw [if_neg qa, if_neg qa]
      obtain ⟨j, hj, rfl⟩ := nI_of qa
      simp only [Option.bind_some, n8, n7]
      rw [nI_clamp hj]
      by_cases ql : (sR σ c).length ≤ j
      · rw [if_neg (nI_nlt ql hj), List.getElem?_eq_none ql]
      · have hlt : j < (sR σ c).length := by omega
        have hg : (sR σ c)[j]? = some (sR σ c)[j] := List.getElem?_eq_getElem hlt
        have h12 := r1 _ (List.getElem_mem hlt)
        rw [if_pos (nI_lt hlt (by omega)), hg, r4 j _ hg]
        simp only [Option.bind_some, (h.rc h12).2.1]
theorem X_count {st : HS} {K : Nat → Nat → Nat} {σ : S} {kept : Nat} {o : Nat → Int32} {pad : List Nat} (h : RX st K σ kept 0 o pad) (h16 : ∀ a, a < 12 → sN σ 16 a ≠ 0 → sN σ 15 a ≠ 0) (a : Int32) : x_NS_count st (K 0 0) a = some (if ¬ a < 0 ∧ a < 3 then sI σ 26 a.toNatClampNeg else if a = 3 then nI (a_held σ) else -1) := by
  obtain ⟨s0, s1, s2, s3, s4, s5, s6, s7, s8, s9, s10⟩ := h.rs
  unfold x_NS_count
  rw [s7, s8, s9, s0, X_held h h16]
  simp only [Option.bind_some, Int32.add_zero]
  by_cases e0 : a = 0
  · subst e0; rfl
  by_cases e1 : a = 1
  · subst e1; rfl
  by_cases e2 : a = 2
  · subst e2; rfl
  rw [if_neg e0, if_neg e1, if_neg e2, if_neg (show ¬ (¬ a < 0 ∧ a < 3) from by
    rintro ⟨z1, z2⟩
    obtain ⟨j, hj, rfl⟩ := nI_of z1
    have hj3 : j < 3 := by
      by_cases z : j < 3
      · exact z
      · exact absurd (Int32.lt_of_lt_of_le z2 (show (3 : Int32) ≤ nI j from nI_le (a := 3) (by omega) hj)) Int32.lt_irrefl
    rcases (show j = 0 ∨ j = 1 ∨ j = 2 by omega) with q | q | q <;> subst q
    · exact e0 rfl
    · exact e1 rfl
    · exact e2 rfl)]
  split <;> rfl
theorem X_changed {st : HS} {K : Nat → Nat → Nat} {σ : S} {kept : Nat} {p : Int32} {o : Nat → Int32} {pad : List Nat} (h : RX st K σ kept p o pad) (a : Int32) : x_NS_changed st (K 0 0) a = some (if ¬ a < 0 ∧ a ≤ 2 then nI (sN σ 4 a.toNatClampNeg) else -1) := by
  unfold x_NS_changed x_NS_changed_J9
  by_cases q : a < 0
  · rw [if_pos q, if_neg (fun z => z.1 q)]
  · rw [if_neg q]
    by_cases q3 : a ≤ 2
    · rw [if_pos q3, if_pos ⟨q, q3⟩]
      obtain ⟨j, hj, e⟩ := nI_of2 (n := 2) (show (2 : Int32).toInt = 2 by decide) q q3
      subst e
      rw [nI_clamp (by omega), h.rs.2.2.2.2.2.2.2.2.2.2]
      simp only [Option.bind_some, (h.rch hj).1]
    · rw [if_neg q3, if_neg (fun z => q3 z.2)]
theorem X_revision {st : HS} {K : Nat → Nat → Nat} {σ : S} {kept : Nat} {p : Int32} {o : Nat → Int32} {pad : List Nat} (h : RX st K σ kept p o pad) : x_NS_revision st (K 0 0) = some (nI (rev σ)) := by
  unfold x_NS_revision
  rw [h.rs.2.2.2.2.2.1]
  rfl
