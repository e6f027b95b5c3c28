/-! the levels of the class' reader do what p_* say -/
def LX (R R1 R2 sa sb : Nat) (t : List Nat) (pX : PF) (xX : HS → Nat → Int32 → Option HS) : Prop := ∀ (s s' : PS) (d : Nat), d ≤ 5 → pX s d = some s' → s.2.2.length ≤ s'.2.2.length ∧ (s'.2.2.length ≤ 60 → ∀ st, RR st R R1 R2 sa sb t s → ∃ st', xX st R (nI d) = some st' ∧ RR st' R R1 R2 sa sb t s' ∧ RF st st' R R1 R2)
theorem RF.kc {st st' : HS} {R R1 R2 : Nat} (h : RF st st' R R1 R2) : hKc st' = hKc st := by unfold hKc; rw [h.1]
theorem put_l {s : PS} {op n : Nat} : (pPut s op n).2.2.length = s.2.2.length + 1 := by
  show (s.2.2 ++ [(op, n)]).length = _
  simp
theorem lx_one {R R1 R2 sa sb : Nat} {t : List Nat} {pX : PF} {xX : HS → Nat → Int32 → Option HS} (h : LX R R1 R2 sa sb t pX xX) : LX R R1 R2 sa sb t (p_one pX) (x_Rdr_one xX) ∧ LX R R1 R2 sa sb t (p_one pX) (x_Rdr_unitIn xX) := by
  have key : ∀ (s s' : PS) (d : Nat), d ≤ 5 → p_one pX s d = some s' → s.2.2.length ≤ s'.2.2.length ∧ (s'.2.2.length ≤ 60 → ∀ st, RR st R R1 R2 sa sb t s → ∃ st', (if bI s.2.1 = 0 then (hIs st R 4).bind fun _ => (xX st R (nI d)).bind fun st3 => some st3 else some st) = some st' ∧ RR st' R R1 R2 sa sb t s' ∧ RF st st' R R1 R2) := by
    intro s s' d hd e
    unfold p_one at e
    by_cases q : s.2.1 = true
    · rw [if_pos q] at e
      cases e
      refine ⟨Nat.le_refl _, fun _ st hr => ⟨st, ?_, hr, RF.rf⟩⟩
      rw [q, if_neg (by decide)]
    · rw [if_neg q] at e
      obtain ⟨h1, h2⟩ := h s s' d hd e
      refine ⟨h1, fun hl st hr => ?_⟩
      obtain ⟨st', g1, g2, g3⟩ := h2 hl st hr
      refine ⟨st', ?_, g2, g3⟩
      rw [if_pos ((bI0 _).mpr (by simpa using q)), hr.peek.2.2, g1]
      rfl
  refine ⟨fun s s' d hd e => ?_, fun s s' d hd e => ?_⟩
  · obtain ⟨h1, h2⟩ := key s s' d hd e
    refine ⟨h1, fun hl st hr => ?_⟩
    obtain ⟨st', g1, g2⟩ := h2 hl st hr
    refine ⟨st', ?_, g2⟩
    unfold x_Rdr_one
    rw [hI_of (k := 3) (v := bI s.2.1) hr.1 (by decide) rfl]
    exact g1
  · obtain ⟨h1, h2⟩ := key s s' d hd e
    refine ⟨h1, fun hl st hr => ?_⟩
    obtain ⟨st', g1, g2⟩ := h2 hl st hr
    refine ⟨st', ?_, g2⟩
    unfold x_Rdr_unitIn
    rw [hI_of (k := 3) (v := bI s.2.1) hr.1 (by decide) rfl]
    exact g1
theorem lx_prod {R R1 R2 sa sb : Nat} {t : List Nat} {pX : PF} {xX : HS → Nat → Int32 → Option HS} (h : LX R R1 R2 sa sb t pX xX) : LX R R1 R2 sa sb t (p_prod t pX) (x_Rdr_product xX) := by
  have loop : ∀ (N : Nat) (s s' : PS) (d : Nat), d ≤ 5 → p_prodL t pX N s d = some s' → s.2.2.length ≤ s'.2.2.length ∧ (s'.2.2.length ≤ 60 → ∀ st, RR st R R1 R2 sa sb t s → ∃ st', x_Rdr_product_L5 xX N st R (nI d) = some st' ∧ RR st' R R1 R2 sa sb t s' ∧ RF st st' R R1 R2) := by
    intro N
    induction N with
    | zero => intro s s' d _ e; cases e
    | succ N ih =>
      intro s s' d hd e
      rw [p_prodL] at e
      by_cases q : pk t s = 42
      · rw [if_pos q] at e
        obtain ⟨s2, e1, e2⟩ := obi e
        obtain ⟨h1, h2⟩ := h (pA s) s2 d hd e1
        obtain ⟨i1, i2⟩ := ih (pPut s2 4 0) s' d hd e2
        rw [put_l] at i1
        replace h1 : s.2.2.length ≤ s2.2.2.length := h1
        refine ⟨by omega, fun hl st hr => ?_⟩
        obtain ⟨st1, a1, a2, a3⟩ := hr.takes (c := 42) (by decide) (by decide)
        rw [if_pos q] at a1 a2
        obtain ⟨st2, b1, b2, b3⟩ := h2 (by omega) st1 a2
        obtain ⟨st3, c1, c2, c3⟩ := b2.put (op := 4) (n := 0) (by decide) (by omega)
        obtain ⟨st4, d1, d2, d3⟩ := i2 hl st3 c2
        refine ⟨st4, ?_, d2, ((a3.t b3).t c3).t d3⟩
        rw [x_Rdr_product_L5, hr.peek.2.2]
        simp only [Option.bind_some]
        rw [show (42 : Int32) = nI 42 from rfl, a1]
        simp only [Option.bind_some]
        rw [if_neg (by decide), a2.peek.2.2]
        simp only [Option.bind_some, b1, b2.peek.2.2]
        rw [show hKc st2 5 = hKc st2 (opX 4) from rfl, show (0 : Int32) = nI 0 from rfl, c1]
        exact d1
      · rw [if_neg q] at e
        cases e
        refine ⟨Nat.le_refl _, fun hl st hr => ?_⟩
        obtain ⟨st1, a1, a2, a3⟩ := hr.takes (c := 42) (by decide) (by decide)
        rw [if_neg q] at a1 a2
        refine ⟨st1, ?_, a2, a3⟩
        rw [x_Rdr_product_L5, hr.peek.2.2]
        simp only [Option.bind_some]
        rw [show (42 : Int32) = nI 42 from rfl, a1]
        simp only [Option.bind_some]
        rw [if_pos trivial]
  intro s s' d hd e
  obtain ⟨s1, e1, e2⟩ := obi e
  obtain ⟨h1, h2⟩ := h s s1 d hd e1
  obtain ⟨i1, i2⟩ := loop 1000 s1 s' d hd e2
  refine ⟨by omega, fun hl st hr => ?_⟩
  obtain ⟨st1, a1, a2, a3⟩ := h2 (by omega) st hr
  obtain ⟨st2, b1, b2, b3⟩ := i2 hl st1 a2
  refine ⟨st2, ?_, b2, a3.t b3⟩
  unfold x_Rdr_product
  rw [hr.peek.2.2]
  simp only [Option.bind_some, a1]
  exact b1
theorem kc_ne {st : HS} {R R1 R2 sa sb : Nat} {t : List Nat} {s : PS} (h : RR st R R1 R2 sa sb t s) {i j : Nat} (hi : i < 11) (hj : j < 11) (hn : i ≠ j) : ¬ some (hKc st i) = some (hKc st j) := fun w => by
  have w := Option.some.inj w
  have a1 := h.2.2.2.2.2 i hi
  rw [w, h.2.2.2.2.2 j hj] at a1
  have a2 : nI j = nI i := by
    have := Sum.inl.inj (Option.some.inj a1)
    simp only [Prod.mk.injEq, List.cons.injEq, Value.int.injEq, true_and, and_true] at this
    exact this
  exact hn ((nI_eq (by omega) (by omega)).mp a2.symm)
theorem lx_sum {R R1 R2 sa sb : Nat} {t : List Nat} {pX : PF} {xX : HS → Nat → Int32 → Option HS} (h : LX R R1 R2 sa sb t pX xX) : LX R R1 R2 sa sb t (p_sum t pX) (x_Rdr_sum xX) := by
  have loop : ∀ (N : Nat) (s s' : PS) (d : Nat), d ≤ 5 → p_sumL t pX N s d = some s' → s.2.2.length ≤ s'.2.2.length ∧ (s'.2.2.length ≤ 60 → ∀ st, RR st R R1 R2 sa sb t s → ∃ st', x_Rdr_sum_L5 xX N st R (nI d) = some st' ∧ RR st' R R1 R2 sa sb t s' ∧ RF st st' R R1 R2) := by
    intro N
    induction N with
    | zero => intro s s' d _ e; cases e
    | succ N ih =>
      intro s s' d hd e
      rw [p_sumL] at e
      have head : ∀ st, RR st R R1 R2 sa sb t s → x_Rdr_sum_L5 xX (N + 1) st R (nI d) = if pk t s = 43 ∨ pk t s = 45 then x_Rdr_sum_J23 xX (x_Rdr_sum_L5 xX N) st R (nI d) else some st := fun st hr => by
        obtain ⟨p1, p2, p3⟩ := hr.peek
        rw [x_Rdr_sum_L5, p3, p1]
        simp only [Option.bind_some, show (43 : Int32) = nI 43 from rfl, show (45 : Int32) = nI 45 from rfl, nI_eq (show pk t s < 2 ^ 31 by omega) (show 43 < 2 ^ 31 by decide), nI_eq (show pk t s < 2 ^ 31 by omega) (show 45 < 2 ^ 31 by decide)]
        by_cases q1 : pk t s = 43
        · rw [if_pos q1, if_pos (Or.inl q1)]
        · rw [if_neg q1]
          by_cases q2 : pk t s = 45
          · rw [if_pos q2, if_pos (Or.inr q2)]
          · rw [if_neg q2, if_neg (by omega)]
      by_cases q : pk t s = 43 ∨ pk t s = 45
      · rw [if_pos q] at e
        obtain ⟨s2, e1, e2⟩ := obi e
        obtain ⟨h1, h2⟩ := h (pA s) s2 d hd e1
        obtain ⟨i1, i2⟩ := ih (pPut s2 _ 0) s' d hd e2
        rw [put_l] at i1
        replace h1 : s.2.2.length ≤ s2.2.2.length := h1
        refine ⟨by omega, fun hl st hr => ?_⟩
        -- the sign is taken
        have sign : ∃ st1, x_Rdr_sum_J23 xX (x_Rdr_sum_L5 xX N) st R (nI d) = x_Rdr_sum_J59 xX (x_Rdr_sum_L5 xX N) st1 R (nI d) (hKc st1 (opX (if pk t s = 43 then 5 else 6))) ∧ RR st1 R R1 R2 sa sb t (pA s) ∧ RF st st1 R R1 R2 := by
          obtain ⟨st1, a1, a2, a3⟩ := hr.takes (c := 43) (by decide) (by decide)
          unfold x_Rdr_sum_J23 x_Rdr_sum_J41
          rw [hr.peek.2.2]
          simp only [Option.bind_some]
          rw [show (43 : Int32) = nI 43 from rfl, a1]
          simp only [Option.bind_some]
          by_cases q1 : pk t s = 43
          · rw [if_pos q1] at a2
            rw [if_pos q1, if_neg (by decide), if_neg (kc_ne a2 (by decide) (by decide) (by decide)), if_pos q1]
            exact ⟨st1, rfl, a2, a3⟩
          · rw [if_neg q1] at a2
            rw [if_neg q1, if_pos rfl, if_pos trivial, if_neg q1, hI_of (k := 1) (v := nI s.1) a2.1 (by decide) rfl]
            simp only [Option.bind_some, nI_1]
            obtain ⟨st2, b1, b2, b3⟩ := a2.set (k := 1) (v := .int (nI (s.1 + 1))) (s' := pA s) (by decide) rfl (pk_room (t := t) (s := s) (by omega)) rfl
            rw [b1]
            refine ⟨st2, ?_, b2, a3.t b3⟩
            rw [b3.kc]
            rfl
        obtain ⟨st1, a1, a2, a3⟩ := sign
        obtain ⟨st2, b1, b2, b3⟩ := h2 (by omega) st1 a2
        obtain ⟨st3, c1, c2, c3⟩ := b2.put (op := if pk t s = 43 then 5 else 6) (n := 0) (by split <;> decide) (by omega)
        obtain ⟨st4, d1, d2, d3⟩ := i2 hl st3 c2
        refine ⟨st4, ?_, d2, ((a3.t b3).t c3).t d3⟩
        rw [head st hr, if_pos q, a1]
        unfold x_Rdr_sum_J59
        rw [a2.peek.2.2]
        simp only [Option.bind_some, b1, b2.peek.2.2]
        rw [← b3.kc, show (0 : Int32) = nI 0 from rfl, c1]
        exact d1
      · rw [if_neg q] at e
        cases e
        refine ⟨Nat.le_refl _, fun hl st hr => ⟨st, ?_, hr, RF.rf⟩⟩
        rw [head st hr, if_neg q]
  intro s s' d hd e
  obtain ⟨s1, e1, e2⟩ := obi e
  obtain ⟨h1, h2⟩ := h s s1 d hd e1
  obtain ⟨i1, i2⟩ := loop 1000 s1 s' d hd e2
  refine ⟨by omega, fun hl st hr => ?_⟩
  obtain ⟨st1, a1, a2, a3⟩ := h2 (by omega) st hr
  obtain ⟨st2, b1, b2, b3⟩ := i2 hl st1 a2
  refine ⟨st2, ?_, b2, a3.t b3⟩
  unfold x_Rdr_sum
  rw [hr.peek.2.2]
  simp only [Option.bind_some, a1]
  exact b1
theorem lx_cmp {R R1 R2 sa sb : Nat} {t : List Nat} {pX : PF} {xX : HS → Nat → Int32 → Option HS} (h : LX R R1 R2 sa sb t pX xX) : LX R R1 R2 sa sb t (p_cmp t pX) (x_Rdr_comparison xX) := by
  intro s s' d hd e
  obtain ⟨s1, e1, e2⟩ := obi e
  obtain ⟨h1, h2⟩ := h s s1 d hd e1
  -- the head
  have head : ∀ st st1, RR st R R1 R2 sa sb t s → RR st1 R R1 R2 sa sb t s1 → xX st R (nI d) = some st1 → x_Rdr_comparison xX st R (nI d) = x_Rdr_comparison_J23 xX st1 R (nI d) (hKc st1 (if pk t s1 = 60 then 7 else 8)) := fun st st1 hr hr1 a1 => by
    obtain ⟨p1, p2, p3⟩ := hr1.peek
    unfold x_Rdr_comparison
    rw [hr.peek.2.2]
    simp only [Option.bind_some, a1, p3, p1, show (60 : Int32) = nI 60 from rfl, nI_eq (show pk t s1 < 2 ^ 31 by omega) (show 60 < 2 ^ 31 by decide)]
    by_cases q : pk t s1 = 60
    · rw [if_pos q, if_pos q]
    · rw [if_neg q, if_neg q]
  by_cases q : pk t s1 = 60 ∨ pk t s1 = 61
  · rw [if_pos q] at e2
    obtain ⟨s2, e3, e4⟩ := obi e2
    obtain ⟨i1, i2⟩ := h (pA s1) s2 d hd e3
    replace i1 : s1.2.2.length ≤ s2.2.2.length := i1
    cases e4
    rw [put_l]
    refine ⟨by omega, fun hl st hr => ?_⟩
    obtain ⟨st1, a1, a2, a3⟩ := h2 (by omega) st hr
    have sign : ∃ st2 w, x_Rdr_comparison_J23 xX st1 R (nI d) (hKc st1 (if pk t s1 = 60 then 7 else 8)) = x_Rdr_comparison_J42 xX st2 R (nI d) w ∧ w = hKc st2 (opX (if pk t s1 = 60 then 7 else 8)) ∧ RR st2 R R1 R2 sa sb t (pA s1) ∧ RF st1 st2 R R1 R2 := by
      obtain ⟨st2, b1, b2, b3⟩ := a2.takes (c := 60) (by decide) (by decide)
      unfold x_Rdr_comparison_J23
      rw [a2.peek.2.2]
      simp only [Option.bind_some]
      rw [show (60 : Int32) = nI 60 from rfl, b1]
      simp only [Option.bind_some]
      by_cases q1 : pk t s1 = 60
      · rw [if_pos q1] at b2
        rw [if_pos q1, if_neg (by decide), if_pos q1]
        exact ⟨st2, _, rfl, by rw [b3.kc]; rfl, b2, b3⟩
      · rw [if_neg q1] at b2
        rw [if_neg q1, if_pos rfl, if_neg q1, b2.peek.2.2]
        simp only [Option.bind_some]
        obtain ⟨st3, c1, c2, c3⟩ := b2.takes (c := 61) (by decide) (by decide)
        have q2 : pk t s1 = 61 := by omega
        rw [if_pos q2] at c2
        rw [show (61 : Int32) = nI 61 from rfl, c1]
        simp only [Option.bind_some]
        rw [if_pos q2, if_neg (by decide)]
        exact ⟨st3, _, rfl, by rw [c3.kc, b3.kc]; rfl, c2, b3.t c3⟩
    obtain ⟨st2, w, b1, bw, b2, b3⟩ := sign
    obtain ⟨st3, c1, c2, c3⟩ := i2 (by omega) st2 b2
    obtain ⟨st4, d1, d2, d3⟩ := c2.put (op := if pk t s1 = 60 then 7 else 8) (n := 0) (by split <;> decide) (by omega)
    refine ⟨st4, ?_, d2, ((a3.t b3).t c3).t d3⟩
    rw [head st st1 hr a2 a1, b1]
    unfold x_Rdr_comparison_J42
    rw [b2.peek.2.2]
    simp only [Option.bind_some, c1, c2.peek.2.2]
    rw [bw, ← c3.kc, show (0 : Int32) = nI 0 from rfl, d1]
    rfl
  · rw [if_neg q] at e2
    cases e2
    refine ⟨h1, fun hl st hr => ?_⟩
    obtain ⟨st1, a1, a2, a3⟩ := h2 hl st hr
    obtain ⟨st2, b1, b2, b3⟩ := a2.takes (c := 60) (by decide) (by decide)
    rw [if_neg (by omega)] at b1 b2
    obtain ⟨st3, c1, c2, c3⟩ := b2.takes (c := 61) (by decide) (by decide)
    rw [if_neg (by omega)] at c1 c2
    refine ⟨st3, ?_, c2, (a3.t b3).t c3⟩
    rw [head st st1 hr a2 a1]
    unfold x_Rdr_comparison_J23
    rw [a2.peek.2.2]
    simp only [Option.bind_some]
    rw [show (60 : Int32) = nI 60 from rfl, b1]
    simp only [Option.bind_some]
    rw [if_pos trivial, b2.peek.2.2]
    simp only [Option.bind_some]
    rw [show (61 : Int32) = nI 61 from rfl, c1]
    simp only [Option.bind_some]
    rw [if_pos trivial]
theorem lx_formula {R R1 R2 sa sb : Nat} {t : List Nat} {pc po : PF} {xc xo : HS → Nat → Int32 → Option HS} (hc : LX R R1 R2 sa sb t pc xc) (ho : LX R R1 R2 sa sb t po xo) : LX R R1 R2 sa sb t (p_formula t pc po) (x_Rdr_formula xc xo) := by
  intro s s' d hd e
  obtain ⟨s1, e1, e2⟩ := obi e
  obtain ⟨h1, h2⟩ := hc s s1 d hd e1
  by_cases q : pk t s1 = 63
  · rw [if_pos q] at e2
    obtain ⟨s2, e3, e4⟩ := obi e2
    obtain ⟨s3, e5, e6⟩ := obi e4
    obtain ⟨i1, i2⟩ := ho (pPut (pA s1) 10 0) s2 d hd e3
    obtain ⟨j1, j2⟩ := ho _ s3 d hd e5
    rw [put_l] at i1
    replace i1 : s1.2.2.length + 1 ≤ s2.2.2.length := i1
    have nl : (pNeed t s2 58).2.2 = s2.2.2 := by
      unfold pNeed
      split
      · rfl
      · split <;> rfl
    have wl : (pW (pPut (pNeed t s2 58) 9 0) s1.2.2.length (s2.2.2.length + 1)).2.2.length = s2.2.2.length + 1 := by
      show (cW (pPut (pNeed t s2 58) 9 0).2.2 _ _).length = _
      rw [cW_len, put_l, nl]
    rw [wl] at j1
    cases e6
    have wl2 : (pW s3 s2.2.2.length s3.2.2.length).2.2.length = s3.2.2.length := cW_len
    rw [wl2]
    refine ⟨by omega, fun hl st hr => ?_⟩
    obtain ⟨st1, a1, a2, a3⟩ := h2 (by omega) st hr
    obtain ⟨st2, b1, b2, b3⟩ := a2.takes (c := 63) (by decide) (by decide)
    rw [if_pos q] at b1 b2
    obtain ⟨st3, c1, c2, c3⟩ := b2.put (op := 10) (n := 0) (by decide) (show (pA s1).2.2.length ≤ 60 from by show s1.2.2.length ≤ 60; omega)
    obtain ⟨st4, d1, d2, d3⟩ := i2 (by omega) st3 c2
    obtain ⟨st5, f1, f2, f3⟩ := d2.need (c := 58) (by decide) (by decide)
    obtain ⟨st6, g1, g2, g3⟩ := f2.put (op := 9) (n := 0) (by decide) (by rw [nl]; omega)
    rw [nl] at g1
    have p6 : (pPut (pNeed t s2 58) 9 0).2.2.length = s2.2.2.length + 1 := by rw [put_l, nl]
    obtain ⟨st7, k1, k2, k3⟩ := g2.mend (i := s1.2.2.length) (v := s2.2.2.length + 1) (by omega) (by omega)
    obtain ⟨st8, l1, l2, l3⟩ := j2 (by omega) st7 k2
    obtain ⟨st9, m1, m2, m3⟩ := l2.mend (i := s2.2.2.length) (v := s3.2.2.length) (by omega) (by omega)
    refine ⟨st9, ?_, m2, (((((((a3.t b3).t c3).t d3).t f3).t g3).t k3).t l3).t m3⟩
    unfold x_Rdr_formula
    rw [hr.peek.2.2]
    simp only [Option.bind_some, a1, a2.peek.2.2]
    rw [show (63 : Int32) = nI 63 from rfl, b1]
    simp only [Option.bind_some]
    rw [if_neg (by decide), b2.peek.2.2]
    simp only [Option.bind_some]
    rw [show hKc st2 9 = hKc st2 (opX 10) from rfl, show (0 : Int32) = nI 0 from rfl, c1]
    simp only [Option.bind_some, c2.peek.2.2, d1, d2.peek.2.2]
    rw [show (58 : Int32) = nI 58 from rfl, f1]
    simp only [Option.bind_some, f2.peek.2.2]
    rw [show hKc st5 10 = hKc st5 (opX 9) from rfl, g1]
    simp only [Option.bind_some]
    rw [hR_of (k := 5) (b := R2) g2.1 (by decide) rfl, hI_of (k := 2) (v := nI (pPut (pNeed t s2 58) 9 0).2.2.length) g2.1 (by decide) rfl, p6]
    simp only [Option.bind_some]
    rw [show (pA s1).2.2.length = s1.2.2.length from rfl, k1]
    simp only [Option.bind_some, k2.peek.2.2, l1]
    rw [hR_of (k := 5) (b := R2) l2.1 (by decide) rfl, hI_of (k := 2) (v := nI s3.2.2.length) l2.1 (by decide) rfl]
    simp only [Option.bind_some, m1]
  · rw [if_neg q] at e2
    cases e2
    refine ⟨h1, fun hl st hr => ?_⟩
    obtain ⟨st1, a1, a2, a3⟩ := h2 hl st hr
    obtain ⟨st2, b1, b2, b3⟩ := a2.takes (c := 63) (by decide) (by decide)
    rw [if_neg q] at b1 b2
    refine ⟨st2, ?_, b2, a3.t b3⟩
    unfold x_Rdr_formula
    rw [hr.peek.2.2]
    simp only [Option.bind_some, a1, a2.peek.2.2]
    rw [show (63 : Int32) = nI 63 from rfl, b1]
    simp only [Option.bind_some]
    rw [if_pos trivial]
