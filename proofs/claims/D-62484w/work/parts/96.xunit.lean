theorem lx_unit {R R1 R2 sa sb : Nat} {t : List Nat} {po pu : PF} {xo xu : HS → Nat → Int32 → Option HS} (ho : LX R R1 R2 sa sb t po xo) (hu : LX R R1 R2 sa sb t pu xu) : LX R R1 R2 sa sb t (p_unit t po pu) (x_Rdr_unit xo xu) := by
  -- the digits
  have digs : ∀ (k j n N : Nat) (s : PS), j + k = 4 → k < N → (pPut (p_dig t k s n).1 0 (p_dig t k s n).2).2.2.length = s.2.2.length + 1 ∧ (s.2.2.length ≤ 59 → ∀ st, RR st R R1 R2 sa sb t s → ∃ st', x_Rdr_unit_L59 xo xu N st R (nI n) (nI j) = some st' ∧ RR st' R R1 R2 sa sb t (pPut (p_dig t k s n).1 0 (p_dig t k s n).2) ∧ RF st st' R R1 R2) := by
    have put : ∀ (s : PS) (n : Nat) (st : HS), s.2.2.length ≤ 59 → RR st R R1 R2 sa sb t s → ∃ st', x_Rdr_unit_J112 xo xu st R (nI n) = some st' ∧ RR st' R R1 R2 sa sb t (pPut s 0 n) ∧ RF st st' R R1 R2 := fun s n st hl hr => by
      obtain ⟨st', a1, a2, a3⟩ := hr.put (op := 0) (n := n) (by decide) (by omega)
      refine ⟨st', ?_, a2, a3⟩
      unfold x_Rdr_unit_J112
      rw [hr.peek.2.2]
      simp only [Option.bind_some]
      rw [show hKc st 0 = hKc st (opX 0) from rfl, a1]
      rfl
    intro k
    induction k with
    | zero =>
      intro j n N s hj hN
      obtain ⟨N, rfl⟩ : ∃ m, N = m + 1 := ⟨N - 1, by omega⟩
      refine ⟨put_l, fun hl st hr => ?_⟩
      rw [x_Rdr_unit_L59, if_pos (show (4 : Int32) ≤ nI j from nI_le (a := 4) (by omega) (by omega))]
      exact put s n st hl hr
    | succ k ih =>
      intro j n N s hj hN
      obtain ⟨N, rfl⟩ : ∃ m, N = m + 1 := ⟨N - 1, by omega⟩
      rw [p_dig]
      by_cases q : 48 ≤ pk t s ∧ pk t s ≤ 57
      · rw [if_pos q]
        obtain ⟨i1, i2⟩ := ih (j + 1) (10 * n + pk t s - 48) N (pA s) (by omega) (by omega)
        refine ⟨i1, fun hl st hr => ?_⟩
        obtain ⟨p1, p2, p3⟩ := hr.peek
        obtain ⟨st1, a1, a2, a3⟩ := hr.set (k := 1) (v := .int (nI (s.1 + 1))) (s' := pA s) (by decide) rfl (pk_room (t := t) (s := s) (by omega)) rfl
        obtain ⟨st2, b1, b2, b3⟩ := i2 hl st1 a2
        refine ⟨st2, ?_, b2, a3.t b3⟩
        rw [x_Rdr_unit_L59, if_neg (show ¬ (4 : Int32) ≤ nI j from nI_ge (b := 4) (by omega) (by decide)), p3]
        simp only [Option.bind_some, p1]
        rw [if_neg (show ¬ nI (pk t s) < (48 : Int32) from nI_nlt (b := 48) (by omega) (by omega)), if_neg (show ¬ (57 : Int32) < nI (pk t s) from nI_nlt (a := 57) (by omega) (by decide)), hI_of (k := 1) (v := nI s.1) hr.1 (by decide) rfl]
        have e : (10 : Int32) * nI n + nI (pk t s) - 48 = nI (10 * n + pk t s - 48) := by
          rw [nI_mk 10 10 rfl, nI_add]
          have h48 : 48 ≤ 10 * n + pk t s := by omega
          obtain ⟨z, hz⟩ : ∃ z, 10 * n + pk t s = z + 48 := ⟨10 * n + pk t s - 48, by omega⟩
          rw [hz, show (48 : Int32) = nI 48 from rfl, ← nI_add, Int32.add_sub_cancel, Nat.add_sub_cancel]
        simp only [Option.bind_some, nI_1, a1, e]
        exact b1
      · rw [if_neg q]
        refine ⟨put_l, fun hl st hr => ?_⟩
        obtain ⟨p1, p2, p3⟩ := hr.peek
        rw [x_Rdr_unit_L59, if_neg (show ¬ (4 : Int32) ≤ nI j from nI_ge (b := 4) (by omega) (by decide)), p3]
        simp only [Option.bind_some, p1]
        by_cases q1 : pk t s < 48
        · rw [if_pos (show nI (pk t s) < (48 : Int32) from nI_lt (b := 48) q1 (by decide))]
          exact put s n st hl hr
        · rw [if_neg (show ¬ nI (pk t s) < (48 : Int32) from nI_nlt (b := 48) (by omega) (by omega)), if_pos (show (57 : Int32) < nI (pk t s) from nI_lt (a := 57) (by omega) (by omega))]
          exact put s n st hl hr
  intro s s' d hd e
  -- the head
  have head : ∀ st, RR st R R1 R2 sa sb t s → ¬ (65 ≤ pk t s ∧ pk t s ≤ 76) → x_Rdr_unit xo xu st R (nI d) = if 48 ≤ pk t s ∧ pk t s ≤ 57 then x_Rdr_unit_L59 xo xu 1000 st R 0 0 else x_Rdr_unit_J124 xo xu st R (nI d) (nI (pk t s)) := fun st hr hn => by
    obtain ⟨p1, p2, p3⟩ := hr.peek
    have j42 : x_Rdr_unit_J42 xo xu st R (nI d) (nI (pk t s)) = if 48 ≤ pk t s ∧ pk t s ≤ 57 then x_Rdr_unit_L59 xo xu 1000 st R 0 0 else x_Rdr_unit_J124 xo xu st R (nI d) (nI (pk t s)) := by
      unfold x_Rdr_unit_J42
      by_cases q1 : pk t s < 48
      · rw [if_pos (show nI (pk t s) < (48 : Int32) from nI_lt (b := 48) q1 (by decide)), if_neg (by omega)]
      · rw [if_neg (show ¬ nI (pk t s) < (48 : Int32) from nI_nlt (b := 48) (by omega) (by omega))]
        by_cases q2 : 57 < pk t s
        · rw [if_pos (show (57 : Int32) < nI (pk t s) from nI_lt (a := 57) q2 (by omega)), if_neg (by omega)]
        · rw [if_neg (show ¬ (57 : Int32) < nI (pk t s) from nI_nlt (a := 57) (by omega) (by decide)), if_pos (by omega)]
    unfold x_Rdr_unit
    rw [p3, p1]
    simp only [Option.bind_some]
    by_cases q1 : pk t s < 65
    · rw [if_pos (show nI (pk t s) < (65 : Int32) from nI_lt (b := 65) q1 (by decide))]
      exact j42
    · rw [if_neg (show ¬ nI (pk t s) < (65 : Int32) from nI_nlt (b := 65) (by omega) (by omega)), if_pos (show (76 : Int32) < nI (pk t s) from nI_lt (a := 76) (by omega) (by omega))]
      exact j42
  unfold p_unit at e
  by_cases q1 : 65 ≤ pk t s ∧ pk t s ≤ 76
  · rw [if_pos q1] at e
    cases e
    rw [put_l]
    refine ⟨Nat.le_succ _, fun hl st hr => ?_⟩
    obtain ⟨p1, p2, p3⟩ := hr.peek
    obtain ⟨st1, a1, a2, a3⟩ := hr.set (k := 1) (v := .int (nI (s.1 + 1))) (s' := pA s) (by decide) rfl (pk_room (t := t) (s := s) (by omega)) rfl
    replace hl : s.2.2.length + 1 ≤ 60 := hl
    obtain ⟨st2, b1, b2, b3⟩ := a2.put (op := 1) (n := pk t s - 65) (by decide) (show s.2.2.length ≤ 60 by omega)
    refine ⟨st2, ?_, b2, a3.t b3⟩
    unfold x_Rdr_unit
    rw [p3, p1]
    simp only [Option.bind_some]
    rw [if_neg (show ¬ nI (pk t s) < (65 : Int32) from nI_nlt (b := 65) (by omega) (by omega)), if_neg (show ¬ (76 : Int32) < nI (pk t s) from nI_nlt (a := 76) (by omega) (by decide)), hI_of (k := 1) (v := nI s.1) hr.1 (by decide) rfl]
    simp only [Option.bind_some, nI_1, a1, a2.peek.2.2]
    have e : nI (pk t s) - 65 = nI (pk t s - 65) := by
      obtain ⟨z, hz⟩ : ∃ z, pk t s = z + 65 := ⟨pk t s - 65, by omega⟩
      rw [hz, show (65 : Int32) = nI 65 from rfl, ← nI_add, Int32.add_sub_cancel, Nat.add_sub_cancel]
    rw [e, show hKc st1 1 = hKc st1 (opX 1) from rfl, b1]
    rfl
  rw [if_neg q1] at e
  by_cases q2 : 48 ≤ pk t s ∧ pk t s ≤ 57
  · rw [if_pos q2] at e
    cases e
    obtain ⟨d1, d2⟩ := digs 4 0 0 1000 s (by decide) (by decide)
    rw [d1]
    refine ⟨Nat.le_succ _, fun hl st hr => ?_⟩
    obtain ⟨st', a1, a2, a3⟩ := d2 (by omega) st hr
    refine ⟨st', ?_, a2, a3⟩
    rw [head st hr q1, if_pos q2]
    exact a1
  rw [if_neg q2] at e
  have stop : ∀ st, RR st R R1 R2 sa sb t s → ∃ st', x_Rdr_unit_J208 xo xu st R = some st' ∧ RR st' R R1 R2 sa sb t (pStop s) ∧ RF st st' R R1 R2 := fun st hr => by
    obtain ⟨st', a1, a2, a3⟩ := hr.stop
    refine ⟨st', ?_, a2, a3⟩
    unfold x_Rdr_unit_J208
    rw [a1]
    rfl
  by_cases q5 : 5 ≤ d
  · rw [if_neg (by omega), if_neg (by omega)] at e
    cases e
    refine ⟨Nat.le_refl _, fun hl st hr => ?_⟩
    obtain ⟨st', a1, a2, a3⟩ := stop st hr
    refine ⟨st', ?_, a2, a3⟩
    rw [head st hr q1, if_neg q2]
    unfold x_Rdr_unit_J124 x_Rdr_unit_J154
    rw [if_pos (show (5 : Int32) ≤ nI d from nI_le (a := 5) q5 (by omega)), if_pos (show (5 : Int32) ≤ nI d from nI_le (a := 5) q5 (by omega))]
    exact a1
  have n5 : ¬ (5 : Int32) ≤ nI d := nI_ge (b := 5) (by omega) (by decide)
  by_cases q3 : pk t s = 40
  · rw [if_pos ⟨by omega, q3⟩] at e
    obtain ⟨s2, e1, e2⟩ := obi e
    obtain ⟨i1, i2⟩ := ho (pA s) s2 (d + 1) (by omega) e1
    replace i1 : s.2.2.length ≤ s2.2.2.length := i1
    cases e2
    have nl : (pNeed t s2 41).2.2 = s2.2.2 := by
      unfold pNeed
      split
      · rfl
      · split <;> rfl
    rw [nl]
    refine ⟨i1, fun hl st hr => ?_⟩
    obtain ⟨st1, a1, a2, a3⟩ := hr.takes (c := 40) (by decide) (by decide)
    rw [if_pos q3] at a1 a2
    obtain ⟨st2, b1, b2, b3⟩ := i2 hl st1 a2
    obtain ⟨st3, c1, c2, c3⟩ := b2.need (c := 41) (by decide) (by decide)
    refine ⟨st3, ?_, c2, (a3.t b3).t c3⟩
    rw [head st hr q1, if_neg q2]
    unfold x_Rdr_unit_J124
    rw [if_neg n5, hr.peek.2.2]
    simp only [Option.bind_some]
    rw [show (40 : Int32) = nI 40 from rfl, a1]
    simp only [Option.bind_some]
    rw [if_neg (by decide), a2.peek.2.2]
    simp only [Option.bind_some, nI_1, b1, b2.peek.2.2]
    rw [show (41 : Int32) = nI 41 from rfl, c1]
    rfl
  rw [if_neg (fun w => q3 w.2)] at e
  -- no bracket
  have nobr : ∀ st, RR st R R1 R2 sa sb t s → ∃ st1, x_Rdr_unit xo xu st R (nI d) = x_Rdr_unit_J154 xo xu st1 R (nI d) (nI (pk t s)) ∧ RR st1 R R1 R2 sa sb t s ∧ RF st st1 R R1 R2 := fun st hr => by
    obtain ⟨st1, a1, a2, a3⟩ := hr.takes (c := 40) (by decide) (by decide)
    rw [if_neg q3] at a1 a2
    refine ⟨st1, ?_, a2, a3⟩
    rw [head st hr q1, if_neg q2]
    unfold x_Rdr_unit_J124
    rw [if_neg n5, hr.peek.2.2]
    simp only [Option.bind_some]
    rw [show (40 : Int32) = nI 40 from rfl, a1]
    simp only [Option.bind_some]
    rw [if_pos trivial]
  by_cases q4 : pk t s = 45 ∨ pk t s = 64
  · rw [if_pos ⟨by omega, q4⟩] at e
    obtain ⟨s2, e1, e2⟩ := obi e
    obtain ⟨i1, i2⟩ := hu (pA s) s2 (d + 1) (by omega) e1
    replace i1 : s.2.2.length ≤ s2.2.2.length := i1
    cases e2
    rw [put_l]
    refine ⟨by omega, fun hl st hr => ?_⟩
    obtain ⟨st1, a1, a2, a3⟩ := nobr st hr
    have sign : ∃ st2, x_Rdr_unit_J154 xo xu st1 R (nI d) (nI (pk t s)) = x_Rdr_unit_J177 xo xu st2 R (nI d) (nI (pk t s)) ∧ RR st2 R R1 R2 sa sb t (pA s) ∧ RF st1 st2 R R1 R2 := by
      obtain ⟨st2, b1, b2, b3⟩ := a2.takes (c := 45) (by decide) (by decide)
      unfold x_Rdr_unit_J154
      rw [if_neg n5, a2.peek.2.2]
      simp only [Option.bind_some]
      rw [show (45 : Int32) = nI 45 from rfl, b1]
      simp only [Option.bind_some]
      by_cases w : pk t s = 45
      · rw [if_pos w] at b2
        rw [if_pos w, if_neg (by decide)]
        exact ⟨st2, rfl, b2, b3⟩
      · rw [if_neg w] at b2
        have w2 : pk t s = 64 := by omega
        obtain ⟨st3, c1, c2, c3⟩ := b2.takes (c := 64) (by decide) (by decide)
        rw [if_pos w2] at c1 c2
        rw [if_neg w, if_pos rfl, b2.peek.2.2]
        simp only [Option.bind_some]
        rw [show (64 : Int32) = nI 64 from rfl, c1]
        simp only [Option.bind_some]
        rw [if_neg (by decide)]
        exact ⟨st3, rfl, c2, b3.t c3⟩
    obtain ⟨st2, b1, b2, b3⟩ := sign
    obtain ⟨st3, c1, c2, c3⟩ := i2 (by omega) st2 b2
    obtain ⟨st4, d1, d2, d3⟩ := c2.put (op := if pk t s = 45 then 3 else 2) (n := 0) (by split <;> decide) (by omega)
    refine ⟨st4, ?_, d2, ((a3.t b3).t c3).t d3⟩
    rw [a1, b1]
    unfold x_Rdr_unit_J177 x_Rdr_unit_J200
    rw [b2.peek.2.2]
    simp only [Option.bind_some, nI_1, c1, c2.peek.2.2, show (45 : Int32) = nI 45 from rfl, nI_eq (show pk t s < 2 ^ 31 from by omega) (show 45 < 2 ^ 31 by decide)]
    by_cases w : pk t s = 45
    · rw [if_pos w] at d1 ⊢
      rw [show hKc st3 6 = hKc st3 (opX 3) from rfl, show (0 : Int32) = nI 0 from rfl, d1]
      rfl
    · rw [if_neg w] at d1 ⊢
      rw [show hKc st3 2 = hKc st3 (opX 2) from rfl, show (0 : Int32) = nI 0 from rfl, d1]
      rfl
  · rw [if_neg (fun w => q4 w.2)] at e
    cases e
    refine ⟨Nat.le_refl _, fun hl st hr => ?_⟩
    obtain ⟨st1, a1, a2, a3⟩ := nobr st hr
    obtain ⟨st2, b1, b2, b3⟩ := a2.takes (c := 45) (by decide) (by decide)
    rw [if_neg (by omega)] at b1 b2
    obtain ⟨st3, c1, c2, c3⟩ := b2.takes (c := 64) (by decide) (by decide)
    rw [if_neg (by omega)] at c1 c2
    obtain ⟨st4, d1, d2, d3⟩ := stop st3 c2
    refine ⟨st4, ?_, d2, ((a3.t b3).t c3).t d3⟩
    rw [a1]
    unfold x_Rdr_unit_J154
    rw [if_neg n5, a2.peek.2.2]
    simp only [Option.bind_some]
    rw [show (45 : Int32) = nI 45 from rfl, b1]
    simp only [Option.bind_some]
    rw [if_pos trivial, b2.peek.2.2]
    simp only [Option.bind_some]
    rw [show (64 : Int32) = nI 64 from rfl, c1]
    simp only [Option.bind_some]
    rw [if_pos trivial]
    exact d1
theorem lx_all {R R1 R2 sa sb : Nat} {t : List Nat} : ∀ n, LX R R1 R2 sa sb t (pn t n).1 (pg n).1 ∧ LX R R1 R2 sa sb t (pn t n).2 (pg n).2 := by
  intro n
  induction n with
  | zero => exact ⟨fun s s' d _ e => (by cases e), fun s s' d _ e => (by cases e)⟩
  | succ n ih =>
    obtain ⟨o1, -⟩ := lx_one ih.1
    obtain ⟨-, u2⟩ := lx_one ih.2
    exact ⟨lx_formula (lx_cmp (lx_sum (lx_prod u2))) o1, lx_unit o1 u2⟩
