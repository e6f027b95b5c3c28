/-! what can be seen -/
def q_note (σ : S) (c w : Nat) : Int32 := if w < 3 then sI σ 25 (3 * c + w) else if w = 3 then nI (a_since σ c) else if w = 4 then (if sN σ 15 c = 0 then 0 else nI (sN σ 18 c)) else if w = 5 then nI (a_steady σ c) else if w = 6 then (if sN σ 15 c = 0 then 0 else nI (sR σ c).length) else if sN σ 5 c = 0 ∨ sN σ 16 c ≠ 0 then 1 else 0
def q_read (σ : S) (c i : Nat) : Int32 := if sN σ 15 c = 0 then -1 else match (sR σ c)[i]? with
  | some r => nI r
  | none => -1
theorem M_note_bad {ms : MS} {a1 a2 : Int32} (h : m_isCell a1 = 0 ∨ a2 < 0 ∨ ¬ a2 ≤ 7) : m_note ms a1 a2 = some (-1) := by
  unfold m_note
  by_cases q1 : m_isCell a1 = 0
  · rw [if_pos q1]
  · rw [if_neg q1]
    by_cases q2 : a2 < 0
    · rw [if_pos q2]
    · rw [if_neg q2, if_neg (by
        rcases h with h | h | h
        · exact absurd h q1
        · exact absurd h q2
        · exact h)]
theorem M_note {ms : MS} {σ : S} {c w : Nat} (h : RM ms σ) (hI : Inv σ) (hc : c < 12) (hw : w ≤ 7) : m_note ms (nI c) (nI w) = some (q_note σ c w) := by
  unfold m_note
  rw [if_neg (isC_n hc), if_neg (nI_pos (by omega)), if_pos (show nI w ≤ (7 : Int32) from nI_le (b := 7) hw (by decide))]
  obtain ⟨i1, i2⟩ := hI.no c hc
  have e25 : (3 : Int32) * nI c + nI w = nI (3 * c + w) := by rw [nI_mk 3 3 rfl, nI_add]
  have ne : ∀ k : Nat, k ≤ 7 → w ≠ k → ¬ nI w = nI k := fun k hk hn e => hn ((nI_eq (by omega) (by omega)).mp e)
  unfold q_note
  by_cases w3 : w < 3
  · rw [if_pos w3, if_neg (show ¬ (3 : Int32) ≤ nI w from nI_ge (b := 3) w3 (by decide)), e25, mrd_n (show 3 * c + w < mn 25 from (by omega : 3 * c + w < 36)), h.2.1.2.2.2.1 _ (by omega)]
    rfl
  · rw [if_neg w3, if_pos (show (3 : Int32) ≤ nI w from nI_le (a := 3) (by omega) (by omega))]
    simp only [mrd_n (k := 5) (show c < mn 5 from hc), mrd_n (k := 15) (show c < mn 15 from hc), Option.bind_some, h.n hc c5, h.n hc c15, nI0 (h.b hc c5), nI0 (h.b hc c15)]
    have j57 : (sN σ 5 c ≠ 0 → sN σ 15 c ≠ 0) → m_note_J57 ms (nI c) (nI w) (nI (sN σ 5 c)) = some (if w = 3 then nI (a_since σ c) else if w = 4 then (if sN σ 15 c = 0 then 0 else nI (sN σ 18 c)) else if w = 5 then nI (a_steady σ c) else if w = 6 then (if sN σ 15 c = 0 then 0 else nI (sR σ c).length) else if sN σ 5 c = 0 ∨ sN σ 16 c ≠ 0 then 1 else 0) := fun hn => by
      unfold m_note_J57 m_note_J143
      simp only [nI0 (h.b hc c5)]
      have hn15 : sN σ 5 c = 0 → sN σ 15 c = 0 := fun q => by
        by_cases z : sN σ 15 c = 0
        · exact z
        · exact absurd q (i2 z).1
      by_cases w3 : w = 3
      · subst w3
        rw [if_pos (show nI 3 = (3 : Int32) from rfl), if_pos rfl, (L_since h hc hn).1]; rfl
      rw [if_neg (show ¬ nI w = (3 : Int32) from ne 3 (by decide) w3), if_neg w3]
      by_cases w4 : w = 4
      · subst w4
        rw [if_pos (show nI 4 = (4 : Int32) from rfl), if_pos rfl]
        by_cases q : sN σ 5 c = 0
        · rw [if_pos q, if_pos (hn15 q)]
        · rw [if_neg q, if_neg (hn q), mrd_n (show c < mn 18 from hc), h.n hc c18]; rfl
      rw [if_neg (show ¬ nI w = (4 : Int32) from ne 4 (by decide) w4), if_neg w4]
      by_cases w5 : w = 5
      · subst w5
        rw [if_pos (show nI 5 = (5 : Int32) from rfl), if_pos rfl, L_dur h hc hn]; rfl
      rw [if_neg (show ¬ nI w = (5 : Int32) from ne 5 (by decide) w5), if_neg w5]
      by_cases w6 : w = 6
      · subst w6
        rw [if_pos (show nI 6 = (6 : Int32) from rfl), if_pos rfl]
        by_cases q : sN σ 5 c = 0
        · rw [if_pos q, if_pos (hn15 q)]
        · rw [if_neg q, if_neg (hn q), mrd_n (show c < mn 21 from hc), (h.2.2.1 c hc).2.1]; rfl
      rw [if_neg (show ¬ nI w = (6 : Int32) from ne 6 (by decide) w6), if_neg w6]
      by_cases q : sN σ 5 c = 0
      · rw [if_pos q, if_pos (Or.inl q)]
      · rw [if_neg q, mrd_n (show c < mn 16 from hc), h.n hc c16]
        simp only [Option.bind_some, nI0 (h.b hc c16)]
        by_cases q2 : sN σ 16 c = 0
        · rw [if_pos q2, if_neg (fun z => by rcases z with z | z; exact q z; exact z q2)]
        · rw [if_neg q2, if_pos (Or.inr q2)]
    by_cases q : sN σ 5 c = 0
    · rw [if_pos q]; exact j57 (fun z => absurd q z)
    · rw [if_neg q]
      by_cases q2 : sN σ 15 c = 0
      · rw [if_pos q2]
        have q16 : sN σ 16 c = 0 := by
          by_cases z : sN σ 16 c = 0
          · exact z
          · exact absurd q2 (i1 z)
        rcases (show w = 3 ∨ w = 4 ∨ w = 5 ∨ w = 6 ∨ w = 7 by omega) with e | e | e | e | e <;> subst e <;> simp [a_since, a_steady, q, q2, q16] <;> (try rfl)
      · rw [if_neg q2]; exact j57 (fun _ => q2)
theorem M_read_bad {ms : MS} {a1 a2 : Int32} (h : m_isCell a1 = 0) : m_read ms a1 a2 = some (-1) := by
  unfold m_read
  rw [if_pos h]
theorem M_read {ms : MS} {σ : S} {c : Nat} {a2 : Int32} (h : RM ms σ) (hI : Inv σ) (hc : c < 12) : m_read ms (nI c) a2 = some (if a2 < 0 then -1 else q_read σ c a2.toNatClampNeg) := by
  obtain ⟨i1, i2⟩ := hI.no c hc
  obtain ⟨r1, r2, r3⟩ := h.2.2.1 c hc
  unfold m_read m_read_J23 m_read_J43 m_read_J68
  simp only [if_neg (isC_n hc), mrd_n (k := 5) (show c < mn 5 from hc), mrd_n (k := 15) (show c < mn 15 from hc), mrd_n (k := 21) (show c < mn 21 from hc), Option.bind_some, h.n hc c5, h.n hc c15, nI0 (h.b hc c5), nI0 (h.b hc c15), r2]
  unfold q_read
  by_cases q15 : sN σ 15 c = 0
  · rw [if_pos q15, if_pos q15]
    simp
  · have q5 := (i2 q15).1
    rw [if_neg q5, if_neg q15, if_neg q15]
    by_cases qa : a2 < 0
    · rw [if_pos qa, if_pos qa]
    · rw [if_neg qa, if_neg qa]
      obtain ⟨j, hj, rfl⟩ := nI_of qa
      rw [nI_clamp hj]
      simp only [nI_leI (show (sR σ c).length < 2 ^ 31 by omega) hj]
      by_cases ql : (sR σ c).length ≤ j
      · rw [if_pos ql, List.getElem?_eq_none ql]
      · have hlt : j < (sR σ c).length := by omega
        have hg : (sR σ c)[j]? = some (sR σ c)[j] := List.getElem?_eq_getElem hlt
        have e1 : (12 : Int32) * nI c + nI j = nI (12 * c + j) := by rw [nI_mk 12 12 rfl, nI_add]
        rw [if_neg ql, hg, e1, mrd_n (show 12 * c + j < mn 22 from (by omega : 12 * c + j < 144)), r3 j _ hg]
        rfl
theorem M_count {ms : MS} {σ : S} (h : RM ms σ) (a : Int32) : m_count ms a = some (if ¬ a < 0 ∧ a < 3 then sI σ 26 a.toNatClampNeg else if a = 3 then nI (a_held σ) else -1) := by
  unfold m_count m_count_J18
  rw [L_values h]
  simp only [Option.bind_some]
  have e3 : (if a = 3 then some (nI (a_held σ)) else some (-1)) = some (if a = 3 then nI (a_held σ) else -1) := by split <;> rfl
  rw [e3]
  by_cases q : a < 0
  · rw [if_pos q, if_neg (show ¬ (¬ a < 0 ∧ a < 3) from fun z => z.1 q)]
  · rw [if_neg q]
    by_cases q3 : 3 ≤ a
    · rw [if_pos q3, if_neg (show ¬ (¬ a < 0 ∧ a < 3) from fun z => absurd (Int32.lt_of_lt_of_le z.2 q3) Int32.lt_irrefl)]
    · have q3' : a < 3 := Int32.not_le.mp q3
      rw [if_neg q3, if_pos ⟨q, q3'⟩]
      obtain ⟨j, hj, rfl⟩ := nI_of q
      have hj3 : j < 3 := by
        by_cases z : j < 3
        · exact z
        · exact absurd (show (3 : Int32) ≤ nI j from nI_le (a := 3) (by omega) hj) q3
      rw [mrd_n (show j < mn 26 from hj3), nI_clamp hj, h.2.1.2.2.2.2.1 j hj3]
      rfl
theorem M_changed {ms : MS} {σ : S} (h : RM ms σ) (a : Int32) : m_changed ms a = some (if ¬ a < 0 ∧ a ≤ 2 then nI (sN σ 4 a.toNatClampNeg) else -1) := by
  unfold m_changed m_changed_J9
  by_cases q : a < 0
  · rw [if_pos q, if_neg (fun z => z.1 q)]
  · rw [if_neg q]
    by_cases q3 : a ≤ 2
    · rw [if_pos q3, if_pos ⟨q, q3⟩]
      obtain ⟨j, hj, e⟩ := nI_of2 (n := 2) (show (2 : Int32).toInt = 2 by decide) q q3
      subst e
      rw [mrd_n (show j < mn 4 from (by omega : j < 3)), nI_clamp (by omega), (h.chg hj).1]
      rfl
    · rw [if_neg q3, if_neg (fun z => q3 z.2)]
theorem M_revision {ms : MS} {σ : S} (h : RM ms σ) : m_revision ms = some (nI (rev σ)) := by
  unfold m_revision
  rw [h.rv]
/-- the characters that can be typed -/
abbrev okc (c : Nat) : Prop := c = 40 ∨ c = 41 ∨ c = 42 ∨ c = 43 ∨ c = 45 ∨ c = 58 ∨ c = 60 ∨ c = 61 ∨ c = 63 ∨ c = 64 ∨ (65 ≤ c ∧ c ≤ 76) ∨ (48 ≤ c ∧ c ≤ 57)
/-- what lies on the pad -/
def rP (ms : MS) (pad : List Nat) : Prop := pad.length ≤ 30 ∧ mI ms 2 = nI pad.length ∧ ∀ i t, pad[i]? = some t → mA ms 1 i = nI t
theorem M_type {ms : MS} {σ : S} {pad : List Nat} {c : Nat} (h : RM ms σ) (hp : rP ms pad) (hc : c < 65536) :
    (okc c ∧ pad.length < 30 → ∃ ms', m_type ms (nI c) = some (1, ms') ∧ RM ms' σ ∧ rP ms' (pad ++ [c]) ∧ mI ms' 0 = mI ms 0) ∧ (¬ (okc c ∧ pad.length < 30) → m_type ms (nI c) = some (0, ms)) := by
  obtain ⟨p1, p2, p3⟩ := hp
  have eq : ∀ k : Nat, k < 65536 → (nI c = nI k ↔ c = k) := fun k hk => nI_eq (by omega) (by omega)
  have J84 : m_type_J84 ms (nI c) = if pad.length = 30 then some (0, ms) else some (1, mIs (mAs ms 1 pad.length (nI c)) 2 (nI (pad.length + 1))) := by
    unfold m_type_J84
    rw [p2]
    by_cases q : pad.length = 30
    · rw [if_pos (show nI pad.length = (30 : Int32) by rw [q]; rfl), if_pos q]
    · rw [if_neg (show ¬ nI pad.length = (30 : Int32) from fun e => q ((nI_eq (b := 30) (by omega) (by decide)).mp e)), if_neg q]
      simp only [mwr_n (k := 1) (show pad.length < mn 1 from (by omega : pad.length < 30)), Option.bind_some, mI_mAs, p2, nI_1]
  have isL : m_isLetter (nI c) = 0 ↔ ¬ (65 ≤ c ∧ c ≤ 76) := by
    unfold m_isLetter
    by_cases q1 : c < 65
    · rw [if_pos (show nI c < (65 : Int32) from nI_lt (b := 65) q1 (by decide))]; simp; omega
    · rw [if_neg (show ¬ nI c < (65 : Int32) from nI_nlt (b := 65) (by omega) (by omega))]
      by_cases q2 : 76 < c
      · rw [if_pos (show (76 : Int32) < nI c from nI_lt (a := 76) q2 (by omega))]; simp; omega
      · rw [if_neg (show ¬ (76 : Int32) < nI c from nI_nlt (a := 76) (by omega) (by decide))]; simp; omega
  have isD : m_isDigit (nI c) = 0 ↔ ¬ (48 ≤ c ∧ c ≤ 57) := by
    unfold m_isDigit
    by_cases q1 : c < 48
    · rw [if_pos (show nI c < (48 : Int32) from nI_lt (b := 48) q1 (by decide))]; simp; omega
    · rw [if_neg (show ¬ nI c < (48 : Int32) from nI_nlt (b := 48) (by omega) (by omega))]
      by_cases q2 : 57 < c
      · rw [if_pos (show (57 : Int32) < nI c from nI_lt (a := 57) q2 (by omega))]; simp; omega
      · rw [if_neg (show ¬ (57 : Int32) < nI c from nI_nlt (a := 57) (by omega) (by decide))]; simp; omega
  have main : m_type ms (nI c) = if okc c then m_type_J84 ms (nI c) else some (0, ms) := by
    unfold m_type m_type_J60 m_type_J65
    simp only [isL, isD, show (40 : Int32) = nI 40 from rfl, show (41 : Int32) = nI 41 from rfl, show (42 : Int32) = nI 42 from rfl, show (43 : Int32) = nI 43 from rfl, show (45 : Int32) = nI 45 from rfl, show (58 : Int32) = nI 58 from rfl, show (60 : Int32) = nI 60 from rfl, show (61 : Int32) = nI 61 from rfl, show (63 : Int32) = nI 63 from rfl, show (64 : Int32) = nI 64 from rfl, eq 40 (by decide), eq 41 (by decide), eq 42 (by decide), eq 43 (by decide), eq 45 (by decide), eq 58 (by decide), eq 60 (by decide), eq 61 (by decide), eq 63 (by decide), eq 64 (by decide)]
    rw [if_neg (show ¬ (1 : Int32) = 0 by decide), if_pos trivial]
    by_cases ok : okc c
    · rw [if_pos ok]
      by_cases e40 : c = 40
      · rw [if_pos e40]
      rw [if_neg e40]
      by_cases e41 : c = 41
      · rw [if_pos e41]
      rw [if_neg e41]
      by_cases e42 : c = 42
      · rw [if_pos e42]
      rw [if_neg e42]
      by_cases e43 : c = 43
      · rw [if_pos e43]
      rw [if_neg e43]
      by_cases e45 : c = 45
      · rw [if_pos e45]
      rw [if_neg e45]
      by_cases e58 : c = 58
      · rw [if_pos e58]
      rw [if_neg e58]
      by_cases e60 : c = 60
      · rw [if_pos e60]
      rw [if_neg e60]
      by_cases e61 : c = 61
      · rw [if_pos e61]
      rw [if_neg e61]
      by_cases e63 : c = 63
      · rw [if_pos e63]
      rw [if_neg e63]
      by_cases e64 : c = 64
      · rw [if_pos e64]
      rw [if_neg e64]
      by_cases eL : 65 ≤ c ∧ c ≤ 76
      · rw [if_neg (fun q => q eL)]
      · rw [if_pos eL, if_neg (fun q => q (by omega))]
    · rw [if_neg ok, if_neg (by omega), if_neg (by omega), if_neg (by omega), if_neg (by omega), if_neg (by omega), if_neg (by omega), if_neg (by omega), if_neg (by omega), if_neg (by omega), if_neg (by omega), if_pos (by omega), if_pos (by omega)]
  rw [main, J84]
  refine ⟨fun q => ?_, fun q => ?_⟩
  · rw [if_pos q.1, if_neg (by omega)]
    refine ⟨_, rfl, (h.frA (by unfold cF; omega)).frI (by decide) (by decide), ⟨by simp; omega, ?_, fun i t hi => ?_⟩, rfl⟩
    · show nI (pad.length + 1) = _
      simp
    · rw [mA_mIs, mA_mAs]
      by_cases e : i = pad.length
      · subst e
        rw [if_pos ⟨rfl, rfl⟩]
        rw [List.getElem?_append_right (Nat.le_refl _)] at hi
        simp at hi
        rw [hi]
      · rw [if_neg (by omega)]
        have hlt := (List.getElem?_eq_some_iff.mp hi).1
        simp at hlt
        rw [List.getElem?_append_left (by omega)] at hi
        exact p3 i t hi
  · by_cases r : okc c
    · rw [if_pos r, if_pos (by
        by_cases z : pad.length = 30
        · exact z
        · exact absurd ⟨r, by omega⟩ q)]
    · rw [if_neg r]
