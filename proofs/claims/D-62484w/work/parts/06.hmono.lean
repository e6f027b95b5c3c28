theorem n_x_ASB_init_J14 {r : HS} {st : HS} {l0 : Nat} {w0 : Nat} {w1 : Nat} (h : x_ASB_init_J14 st l0 w0 w1 = some r) : hle st r := by
  unfold x_ASB_init_J14 at h
  replace h := obi h; obtain ⟨st1, est1, h⟩ := h
  replace h := obi h; obtain ⟨st2, est2, h⟩ := h
  cases h
  exact ((hP_ke est1).le).t ((hP_ke est2).le)
theorem n_x_ASB_init {r : HS} {st : HS} {this : Nat} {a1 : Int32} (h : x_ASB_init st this a1 = some r) : hle st r := by
  unfold x_ASB_init at h
  rcases Decidable.em ((1 : Int32) = 0) with c7 | c7
  · replace h := ifp c7 h
    cases h
  · replace h := ifn c7 h
    replace h := obi h; obtain ⟨ad1, ead1, h⟩ := h
    replace h := obi h; obtain ⟨st2, est2, h⟩ := h
    exact ((hNewA_le est2)).t (n_x_ASB_init_J14 h)
theorem n_x_Arr_copyOf_J17 {r : Option Nat × HS} {st : HS} {l0 : Nat} {l1 : Int32} {w0 : Nat} (h : x_Arr_copyOf_J17 st l0 l1 w0 = some r) : hle st r.2 := by
  unfold x_Arr_copyOf_J17 at h
  replace h := obi h; obtain ⟨x1, ex1, h⟩ := h
  replace h := obi h; obtain ⟨x2, ex2, h⟩ := h
  replace h := obi h; obtain ⟨st3, est3, h⟩ := h
  cases h
  exact (hCpy_ke est3).le
theorem n_x_Arr_copyOf {r : Option Nat × HS} {st : HS} {a0 : Nat} {a1 : Int32} (h : x_Arr_copyOf st a0 a1 = some r) : hle st r.2 := by
  unfold x_Arr_copyOf at h
  replace h := obi h; obtain ⟨x1, ex1, h⟩ := h
  rcases Decidable.em (a1 = x1) with c3 | c3
  · replace h := ifp c3 h
    cases h
  · replace h := ifn c3 h
    replace h := obi h; obtain ⟨ad2, ead2, h⟩ := h
    replace h := obi h; obtain ⟨st3, est3, h⟩ := h
    exact ((hNewA_le est3)).t (n_x_Arr_copyOf_J17 h)
theorem n_x_ASB_ensureCapacityInternal_J35 {r : HS} {st : HS} {w0 : Option Nat} {w1 : Nat} (h : x_ASB_ensureCapacityInternal_J35 st w0 w1 = some r) : hle st r := by
  unfold x_ASB_ensureCapacityInternal_J35 at h
  replace h := obi h; obtain ⟨st1, est1, h⟩ := h
  cases h
  exact (hP_ke est1).le
theorem n_x_ASB_ensureCapacityInternal {r : HS} {st : HS} {this : Nat} {a1 : Int32} (h : x_ASB_ensureCapacityInternal st this a1 = some r) : hle st r := by
  unfold x_ASB_ensureCapacityInternal at h
  replace h := obi h; obtain ⟨x1, ex1, h⟩ := h
  replace h := obi h; obtain ⟨ad2, rfl, h⟩ := h
  replace h := obi h; obtain ⟨x3, ex3, h⟩ := h
  replace h := obi h; obtain ⟨x4, ex4, h⟩ := h
  replace h := obi h; obtain ⟨x5, ex5, h⟩ := h
  rcases Decidable.em ((a1 - x5) ≤ 0) with c14 | c14
  · replace h := ifp c14 h
    cases h
    exact hle.rf
  · replace h := ifn c14 h
    replace h := obi h; obtain ⟨x6, ex6, h⟩ := h
    replace h := obi h; obtain ⟨u7, eu7, h⟩ := h
    replace h := obi h; obtain ⟨x8, ex8, h⟩ := h
    replace h := obi h; obtain ⟨x9, ex9, h⟩ := h
    replace h := obi h; obtain ⟨ad10, rfl, h⟩ := h
    replace h := obi h; obtain ⟨q11, eq11, h⟩ := h
    exact ((n_x_Arr_copyOf eq11)).t (n_x_ASB_ensureCapacityInternal_J35 h)
theorem n_x_ASB_append_J10 {r : Option Nat × HS} {st : HS} {l0 : Nat} {l1 : Int32} (h : x_ASB_append_J10 st l0 l1 = some r) : hle st r.2 := by
  unfold x_ASB_append_J10 at h
  replace h := obi h; obtain ⟨u1, eu1, h⟩ := h
  replace h := obi h; obtain ⟨x2, ex2, h⟩ := h
  rcases Decidable.em (x2 = 0) with c14 | c14
  · replace h := ifp c14 h
    cases h
  · replace h := ifn c14 h
    replace h := obi h; obtain ⟨x3, ex3, h⟩ := h
    rcases Decidable.em (x3 = 0) with c21 | c21
    · replace h := ifp c21 h
      cases h
    · replace h := ifn c21 h
      replace h := obi h; obtain ⟨x4, ex4, h⟩ := h
      replace h := obi h; obtain ⟨x5, ex5, h⟩ := h
      replace h := obi h; obtain ⟨st6, est6, h⟩ := h
      replace h := obi h; obtain ⟨ad7, rfl, h⟩ := h
      replace h := obi h; obtain ⟨st8, est8, h⟩ := h
      cases h
      exact ((hP_ke est6).le).t ((hWi_ke est8).le)
theorem n_x_ASB_append {r : Option Nat × HS} {st : HS} {this : Nat} {a1 : Int32} (h : x_ASB_append st this a1 = some r) : hle st r.2 := by
  unfold x_ASB_append at h
  replace h := obi h; obtain ⟨x1, ex1, h⟩ := h
  replace h := obi h; obtain ⟨u2, eu2, h⟩ := h
  replace h := obi h; obtain ⟨st3, est3, h⟩ := h
  exact ((n_x_ASB_ensureCapacityInternal est3)).t (n_x_ASB_append_J10 h)
theorem n_x_ASB_setLength_J76 {r : HS} {st : HS} {l0 : Nat} {l1 : Int32} (h : x_ASB_setLength_J76 st l0 l1 = some r) : hle st r := by
  unfold x_ASB_setLength_J76 at h
  replace h := obi h; obtain ⟨st1, est1, h⟩ := h
  cases h
  exact (hP_ke est1).le
theorem n_x_ASB_setLength_J18 {r : HS} {st : HS} {l0 : Nat} {l1 : Int32} (h : x_ASB_setLength_J18 st l0 l1 = some r) : hle st r := by
  unfold x_ASB_setLength_J18 at h
  replace h := obi h; obtain ⟨x1, ex1, h⟩ := h
  rcases Decidable.em (l1 ≤ x1) with c23 | c23
  · replace h := ifp c23 h
    replace h := obi h; obtain ⟨x2, ex2, h⟩ := h
    rcases Decidable.em (x2 ≤ l1) with c68 | c68
    · replace h := ifp c68 h
      exact n_x_ASB_setLength_J76 h
    · replace h := ifn c68 h
      replace h := obi h; obtain ⟨st3, est3, h⟩ := h
      exact ((hP_ke est3).le).t (n_x_ASB_setLength_J76 h)
  · replace h := ifn c23 h
    cases h
theorem n_x_ASB_setLength {r : HS} {st : HS} {this : Nat} {a1 : Int32} (h : x_ASB_setLength st this a1 = some r) : hle st r := by
  unfold x_ASB_setLength at h
  rcases Decidable.em (0 ≤ a1) with c1 | c1
  · replace h := ifp c1 h
    replace h := obi h; obtain ⟨u1, eu1, h⟩ := h
    replace h := obi h; obtain ⟨st2, est2, h⟩ := h
    exact ((n_x_ASB_ensureCapacityInternal est2)).t (n_x_ASB_setLength_J18 h)
  · replace h := ifn c1 h
    cases h
theorem n_x_SB_init_J6 {r : HS} {st : HS} (h : x_SB_init_J6 st = some r) : hle st r := by
  unfold x_SB_init_J6 at h
  cases h
  exact hle.rf
theorem n_x_SB_init {r : HS} {st : HS} {this : Nat} (h : x_SB_init st this = some r) : hle st r := by
  unfold x_SB_init at h
  replace h := obi h; obtain ⟨st1, est1, h⟩ := h
  exact ((n_x_ASB_init est1)).t (n_x_SB_init_J6 h)
theorem n_x_SB_append_J5 {r : Option Nat × HS} {st : HS} {l0 : Nat} {w0 : Option Nat} (h : x_SB_append_J5 st l0 w0 = some r) : hle st r.2 := by
  unfold x_SB_append_J5 at h
  cases h
  exact hle.rf
theorem n_x_SB_append {r : Option Nat × HS} {st : HS} {this : Nat} {a1 : Int32} (h : x_SB_append st this a1 = some r) : hle st r.2 := by
  unfold x_SB_append at h
  replace h := obi h; obtain ⟨u1, eu1, h⟩ := h
  replace h := obi h; obtain ⟨q2, eq2, h⟩ := h
  exact ((n_x_ASB_append eq2)).t (n_x_SB_append_J5 h)
theorem n_x_SB_setLength_J5 {r : HS} {st : HS} (h : x_SB_setLength_J5 st = some r) : hle st r := by
  unfold x_SB_setLength_J5 at h
  cases h
  exact hle.rf
theorem n_x_SB_setLength {r : HS} {st : HS} {this : Nat} {a1 : Int32} (h : x_SB_setLength st this a1 = some r) : hle st r := by
  unfold x_SB_setLength at h
  replace h := obi h; obtain ⟨u1, eu1, h⟩ := h
  replace h := obi h; obtain ⟨st2, est2, h⟩ := h
  exact ((n_x_ASB_setLength est2)).t (n_x_SB_setLength_J5 h)
theorem n_x_Arr_copyOfRangeByte_J12 {r : Option Nat × HS} {st : HS} {l0 : Nat} {l1 : Int32} {l3 : Int32} {w0 : Nat} (h : x_Arr_copyOfRangeByte_J12 st l0 l1 l3 w0 = some r) : hle st r.2 := by
  unfold x_Arr_copyOfRangeByte_J12 at h
  replace h := obi h; obtain ⟨x1, ex1, h⟩ := h
  replace h := obi h; obtain ⟨x2, ex2, h⟩ := h
  replace h := obi h; obtain ⟨st3, est3, h⟩ := h
  cases h
  exact (hCpy_ke est3).le
theorem n_x_Arr_copyOfRangeByte {r : Option Nat × HS} {st : HS} {a0 : Nat} {a1 : Int32} {a2 : Int32} (h : x_Arr_copyOfRangeByte st a0 a1 a2 = some r) : hle st r.2 := by
  unfold x_Arr_copyOfRangeByte at h
  replace h := obi h; obtain ⟨x1, ex1, h⟩ := h
  replace h := obi h; obtain ⟨x2, ex2, h⟩ := h
  replace h := obi h; obtain ⟨ad3, ead3, h⟩ := h
  replace h := obi h; obtain ⟨st4, est4, h⟩ := h
  exact ((hNewA_le est4)).t (n_x_Arr_copyOfRangeByte_J12 h)
theorem n_x_Arr_copyOfRange_J21 {r : Option Nat × HS} {st : HS} {w0 : Nat} (h : x_Arr_copyOfRange_J21 st w0 = some r) : hle st r.2 := by
  unfold x_Arr_copyOfRange_J21 at h
  replace h := obi h; obtain ⟨x1, ex1, h⟩ := h
  replace h := obi h; obtain ⟨u2, eu2, h⟩ := h
  cases h
  exact hle.rf
theorem n_x_Arr_copyOfRange_J16 {r : Option Nat × HS} {st : HS} {w0 : Option Nat} (h : x_Arr_copyOfRange_J16 st w0 = some r) : hle st r.2 := by
  unfold x_Arr_copyOfRange_J16 at h
  cases h
  exact hle.rf
theorem n_x_Arr_copyOfRange_J10 {r : Option Nat × HS} {st : HS} {l0 : Nat} {l1 : Int32} {l2 : Int32} (h : x_Arr_copyOfRange_J10 st l0 l1 l2 = some r) : hle st r.2 := by
  unfold x_Arr_copyOfRange_J10 at h
  replace h := obi h; obtain ⟨q1, eq1, h⟩ := h
  exact ((n_x_Arr_copyOfRangeByte eq1)).t (n_x_Arr_copyOfRange_J16 h)
theorem n_x_Arr_copyOfRange {r : Option Nat × HS} {st : HS} {a0 : Nat} {a1 : Int32} {a2 : Int32} (h : x_Arr_copyOfRange st a0 a1 a2 = some r) : hle st r.2 := by
  unfold x_Arr_copyOfRange at h
  rcases Decidable.em (a1 = 0) with c1 | c1
  · replace h := ifp c1 h
    replace h := obi h; obtain ⟨x1, ex1, h⟩ := h
    rcases Decidable.em (a2 = x1) with c7 | c7
    · replace h := ifp c7 h
      replace h := obi h; obtain ⟨ad3, ead3, h⟩ := h
      replace h := obi h; obtain ⟨st2, est2, h⟩ := h
      exact ((hCln_le est2)).t (n_x_Arr_copyOfRange_J21 h)
    · replace h := ifn c7 h
      exact n_x_Arr_copyOfRange_J10 h
  · replace h := ifn c1 h
    exact n_x_Arr_copyOfRange_J10 h
theorem n_x_Str_init2_J35 {r : HS} {st : HS} {w0 : Option Nat} {w1 : Nat} (h : x_Str_init2_J35 st w0 w1 = some r) : hle st r := by
  unfold x_Str_init2_J35 at h
  replace h := obi h; obtain ⟨st1, est1, h⟩ := h
  cases h
  exact (hP_ke est1).le
theorem n_x_Str_init2 {r : HS} {st : HS} {this : Nat} {a1 : Nat} {a2 : Option Nat} (h : x_Str_init2 st this a1 a2 = some r) : hle st r := by
  unfold x_Str_init2 at h
  replace h := obi h; obtain ⟨u1, eu1, h⟩ := h
  replace h := obi h; obtain ⟨x2, ex2, h⟩ := h
  replace h := obi h; obtain ⟨u3, eu3, h⟩ := h
  replace h := obi h; obtain ⟨x4, ex4, h⟩ := h
  replace h := obi h; obtain ⟨u5, eu5, h⟩ := h
  replace h := obi h; obtain ⟨x6, ex6, h⟩ := h
  rcases Decidable.em (x6 = 0) with c19 | c19
  · replace h := ifp c19 h
    cases h
  · replace h := ifn c19 h
    replace h := obi h; obtain ⟨st7, est7, h⟩ := h
    replace h := obi h; obtain ⟨ad8, rfl, h⟩ := h
    replace h := obi h; obtain ⟨q9, eq9, h⟩ := h
    exact ((hP_ke est7).le).t (((n_x_Arr_copyOfRange eq9)).t (n_x_Str_init2_J35 h))
theorem n_x_Str_init_J6 {r : HS} {st : HS} (h : x_Str_init_J6 st = some r) : hle st r := by
  unfold x_Str_init_J6 at h
  cases h
  exact hle.rf
theorem n_x_Str_init {r : HS} {st : HS} {this : Nat} {a1 : Nat} (h : x_Str_init st this a1 = some r) : hle st r := by
  unfold x_Str_init at h
  replace h := obi h; obtain ⟨st1, est1, h⟩ := h
  exact ((n_x_Str_init2 est1)).t (n_x_Str_init_J6 h)
theorem n_x_SB_toString_J8 {r : Option Nat × HS} {st : HS} {w0 : Nat} (h : x_SB_toString_J8 st w0 = some r) : hle st r.2 := by
  unfold x_SB_toString_J8 at h
  cases h
  exact hle.rf
theorem n_x_SB_toString_J3 {r : Option Nat × HS} {st : HS} {l0 : Nat} {w0 : Nat} (h : x_SB_toString_J3 st l0 w0 = some r) : hle st r.2 := by
  unfold x_SB_toString_J3 at h
  replace h := obi h; obtain ⟨st1, est1, h⟩ := h
  exact ((n_x_Str_init est1)).t (n_x_SB_toString_J8 h)
theorem n_x_SB_toString {r : Option Nat × HS} {st : HS} {this : Nat} (h : x_SB_toString st this = some r) : hle st r.2 := by
  unfold x_SB_toString at h
  replace h := obi h; obtain ⟨ad1, ead1, h⟩ := h
  replace h := obi h; obtain ⟨st2, est2, h⟩ := h
  exact ((hNew_le est2)).t (n_x_SB_toString_J3 h)
theorem n_x_Rdr_init_J18 {r : HS} {st : HS} {w0 : Nat} {w1 : Nat} (h : x_Rdr_init_J18 st w0 w1 = some r) : hle st r := by
  unfold x_Rdr_init_J18 at h
  replace h := obi h; obtain ⟨st1, est1, h⟩ := h
  cases h
  exact (hP_ke est1).le
theorem n_x_Rdr_init_J10 {r : HS} {st : HS} {l0 : Nat} {w0 : Nat} {w1 : Nat} (h : x_Rdr_init_J10 st l0 w0 w1 = some r) : hle st r := by
  unfold x_Rdr_init_J10 at h
  replace h := obi h; obtain ⟨st1, est1, h⟩ := h
  replace h := obi h; obtain ⟨ad2, ead2, h⟩ := h
  replace h := obi h; obtain ⟨st3, est3, h⟩ := h
  exact ((hP_ke est1).le).t (((hNewA_le est3)).t (n_x_Rdr_init_J18 h))
theorem n_x_Rdr_init {r : HS} {st : HS} {this : Nat} (h : x_Rdr_init st this = some r) : hle st r := by
  unfold x_Rdr_init at h
  replace h := obi h; obtain ⟨ad1, ead1, h⟩ := h
  replace h := obi h; obtain ⟨st2, est2, h⟩ := h
  exact ((hNewA_le est2)).t (n_x_Rdr_init_J10 h)
theorem n_x_Cell_init {r : HS} {st : HS} {this : Nat} {a1 : Int32} (h : x_Cell_init st this a1 = some r) : hke st r := by
  unfold x_Cell_init at h
  replace h := obi h; obtain ⟨st1, est1, h⟩ := h
  replace h := obi h; obtain ⟨st2, est2, h⟩ := h
  cases h
  exact ((hP_ke est1)).t ((hP_ke est2))
theorem n_x_NS_init_J88 {r : HS} {st : HS} {l0 : Nat} {l2 : Int32} {w0 : Nat} {w1 : Int32} {w2 : Option Nat} {k_74 : HS → Nat → Int32 → Option HS} (hm_74 : ∀ (st : HS) (l0 : Nat) (l2 : Int32), k_74 st l0 l2 = some r → hle st r) (h : x_NS_init_J88 k_74 st l0 l2 w0 w1 w2 = some r) : hle st r := by
  unfold x_NS_init_J88 at h
  replace h := obi h; obtain ⟨st1, est1, h⟩ := h
  replace h := obi h; obtain ⟨ad2, rfl, h⟩ := h
  replace h := obi h; obtain ⟨st3, est3, h⟩ := h
  replace h := obi h; obtain ⟨x4, ex4, h⟩ := h
  exact ((n_x_Cell_init est1).le).t (((hWr_ke est3).le).t (hm_74 _ _ _ h))
theorem n_x_NS_init_L74 {r : HS} : ∀ (n : Nat), ∀ (st : HS) (l0 : Nat) (l2 : Int32), x_NS_init_L74 n st l0 l2 = some r → hle st r := by
  intro n
  induction n with
  | zero => intro st l0 l2 h; exact absurd h (by simp [x_NS_init_L74])
  | succ n ih =>
    intro st l0 l2 h
    rw [x_NS_init_L74] at h
    rcases Decidable.em (12 ≤ l2) with c77 | c77
    · replace h := ifp c77 h
      cases h
      exact hle.rf
    · replace h := ifn c77 h
      replace h := obi h; obtain ⟨x1, ex1, h⟩ := h
      replace h := obi h; obtain ⟨ad2, ead2, h⟩ := h
      replace h := obi h; obtain ⟨st3, est3, h⟩ := h
      exact ((hNew_le est3)).t (n_x_NS_init_J88 ih h)
theorem n_x_NS_init_J69 {r : HS} {st : HS} {l0 : Nat} {w0 : Int32} {w1 : Nat} (h : x_NS_init_J69 st l0 w0 w1 = some r) : hle st r := by
  unfold x_NS_init_J69 at h
  replace h := obi h; obtain ⟨st1, est1, h⟩ := h
  exact ((hP_ke est1).le).t (n_x_NS_init_L74 1000 _ _ _ h)
theorem n_x_NS_init_J44 {r : HS} {st : HS} {l0 : Nat} {l1 : Int32} {w0 : Nat} {w1 : Nat} (h : x_NS_init_J44 st l0 l1 w0 w1 = some r) : hle st r := by
  unfold x_NS_init_J44 at h
  replace h := obi h; obtain ⟨st1, est1, h⟩ := h
  rcases Decidable.em (1 ≤ l1) with c50 | c50
  · replace h := ifp c50 h
    rcases Decidable.em (l1 ≤ 12) with c60 | c60
    · replace h := ifp c60 h
      exact ((hP_ke est1).le).t (n_x_NS_init_J69 h)
    · replace h := ifn c60 h
      exact ((hP_ke est1).le).t (n_x_NS_init_J69 h)
  · replace h := ifn c50 h
    exact ((hP_ke est1).le).t (n_x_NS_init_J69 h)
theorem n_x_NS_init_J32 {r : HS} {st : HS} {l0 : Nat} {l1 : Int32} {w0 : Nat} {w1 : Nat} (h : x_NS_init_J32 st l0 l1 w0 w1 = some r) : hle st r := by
  unfold x_NS_init_J32 at h
  replace h := obi h; obtain ⟨st1, est1, h⟩ := h
  replace h := obi h; obtain ⟨st2, est2, h⟩ := h
  replace h := obi h; obtain ⟨ad3, ead3, h⟩ := h
  replace h := obi h; obtain ⟨st4, est4, h⟩ := h
  exact ((hP_ke est1).le).t (((hP_ke est2).le).t (((hNewA_le est4)).t (n_x_NS_init_J44 h)))
theorem n_x_NS_init_J28 {r : HS} {st : HS} {l0 : Nat} {l1 : Int32} {w0 : Nat} {w1 : Nat} (h : x_NS_init_J28 st l0 l1 w0 w1 = some r) : hle st r := by
  unfold x_NS_init_J28 at h
  replace h := obi h; obtain ⟨st1, est1, h⟩ := h
  exact ((n_x_Rdr_init est1)).t (n_x_NS_init_J32 h)
theorem n_x_NS_init_J21 {r : HS} {st : HS} {l0 : Nat} {l1 : Int32} {w0 : Nat} {w1 : Nat} (h : x_NS_init_J21 st l0 l1 w0 w1 = some r) : hle st r := by
  unfold x_NS_init_J21 at h
  replace h := obi h; obtain ⟨st1, est1, h⟩ := h
  replace h := obi h; obtain ⟨ad2, ead2, h⟩ := h
  replace h := obi h; obtain ⟨st3, est3, h⟩ := h
  exact ((hP_ke est1).le).t (((hNew_le est3)).t (n_x_NS_init_J28 h))
theorem n_x_NS_init_J17 {r : HS} {st : HS} {l0 : Nat} {l1 : Int32} {w0 : Nat} {w1 : Nat} (h : x_NS_init_J17 st l0 l1 w0 w1 = some r) : hle st r := by
  unfold x_NS_init_J17 at h
  replace h := obi h; obtain ⟨st1, est1, h⟩ := h
  exact ((n_x_SB_init est1)).t (n_x_NS_init_J21 h)
theorem n_x_NS_init_J10 {r : HS} {st : HS} {l0 : Nat} {l1 : Int32} {w0 : Nat} {w1 : Nat} (h : x_NS_init_J10 st l0 l1 w0 w1 = some r) : hle st r := by
  unfold x_NS_init_J10 at h
  replace h := obi h; obtain ⟨st1, est1, h⟩ := h
  replace h := obi h; obtain ⟨ad2, ead2, h⟩ := h
  replace h := obi h; obtain ⟨st3, est3, h⟩ := h
  exact ((hP_ke est1).le).t (((hNew_le est3)).t (n_x_NS_init_J17 h))
theorem n_x_NS_init {r : HS} {st : HS} {this : Nat} {a1 : Int32} (h : x_NS_init st this a1 = some r) : hle st r := by
  unfold x_NS_init at h
  replace h := obi h; obtain ⟨ad1, ead1, h⟩ := h
  replace h := obi h; obtain ⟨st2, est2, h⟩ := h
  exact ((hNewA_le est2)).t (n_x_NS_init_J10 h)
theorem n_x_NS_type_J69 {r : Int32 × HS} {st : HS} {w0 : Option Nat} (h : x_NS_type_J69 st w0 = some r) : hle st r.2 := by
  unfold x_NS_type_J69 at h
  cases h
  exact hle.rf
theorem n_x_NS_type_J42 {r : Int32 × HS} {st : HS} {l0 : Nat} {l1 : Int32} {w0 : Int32} (h : x_NS_type_J42 st l0 l1 w0 = some r) : hle st r.2 := by
  unfold x_NS_type_J42 at h
  rcases Decidable.em (w0 = 0) with c44 | c44
  · replace h := ifp c44 h
    cases h
    exact hle.rf
  · replace h := ifn c44 h
    replace h := obi h; obtain ⟨x1, ex1, h⟩ := h
    replace h := obi h; obtain ⟨ad2, rfl, h⟩ := h
    replace h := obi h; obtain ⟨u3, eu3, h⟩ := h
    replace h := obi h; obtain ⟨x4, ex4, h⟩ := h
    rcases Decidable.em (x4 < 30) with c56 | c56
    · replace h := ifp c56 h
      replace h := obi h; obtain ⟨x5, ex5, h⟩ := h
      replace h := obi h; obtain ⟨ad6, rfl, h⟩ := h
      replace h := obi h; obtain ⟨u7, eu7, h⟩ := h
      replace h := obi h; obtain ⟨q8, eq8, h⟩ := h
      exact ((n_x_SB_append eq8)).t (n_x_NS_type_J69 h)
    · replace h := ifn c56 h
      cases h
      exact hle.rf
theorem n_x_NS_type_J41 {r : Int32 × HS} {st : HS} {l0 : Nat} {l1 : Int32} (h : x_NS_type_J41 st l0 l1 = some r) : hle st r.2 := by
  unfold x_NS_type_J41 at h
  exact n_x_NS_type_J42 h
theorem n_x_NS_type_J37 {r : Int32 × HS} {st : HS} {l0 : Nat} {l1 : Int32} (h : x_NS_type_J37 st l0 l1 = some r) : hle st r.2 := by
  unfold x_NS_type_J37 at h
  exact n_x_NS_type_J42 h
theorem n_x_NS_type_J24 {r : Int32 × HS} {st : HS} {l0 : Nat} {l1 : Int32} (h : x_NS_type_J24 st l0 l1 = some r) : hle st r.2 := by
  unfold x_NS_type_J24 at h
  rcases Decidable.em (l1 ≤ 0) with c25 | c25
  · replace h := ifp c25 h
    exact n_x_NS_type_J41 h
  · replace h := ifn c25 h
    replace h := obi h; obtain ⟨u1, eu1, h⟩ := h
    replace h := obi h; obtain ⟨x2, ex2, h⟩ := h
    rcases Decidable.em (x2 < 0) with c34 | c34
    · replace h := ifp c34 h
      exact n_x_NS_type_J41 h
    · replace h := ifn c34 h
      exact n_x_NS_type_J37 h
theorem n_x_NS_type_J12 {r : Int32 × HS} {st : HS} {l0 : Nat} {l1 : Int32} (h : x_NS_type_J12 st l0 l1 = some r) : hle st r.2 := by
  unfold x_NS_type_J12 at h
  rcases Decidable.em (l1 < 48) with c15 | c15
  · replace h := ifp c15 h
    exact n_x_NS_type_J24 h
  · replace h := ifn c15 h
    rcases Decidable.em (l1 ≤ 57) with c21 | c21
    · replace h := ifp c21 h
      exact n_x_NS_type_J37 h
    · replace h := ifn c21 h
      exact n_x_NS_type_J24 h
theorem n_x_NS_type {r : Int32 × HS} {st : HS} {this : Nat} {a1 : Int32} (h : x_NS_type st this a1 = some r) : hle st r.2 := by
  unfold x_NS_type at h
  rcases Decidable.em (a1 < 65) with c3 | c3
  · replace h := ifp c3 h
    exact n_x_NS_type_J12 h
  · replace h := ifn c3 h
    rcases Decidable.em (a1 ≤ 76) with c9 | c9
    · replace h := ifp c9 h
      exact n_x_NS_type_J37 h
    · replace h := ifn c9 h
      exact n_x_NS_type_J12 h
theorem n_x_NS_change_L12 {r : HS} : ∀ (n : Nat), ∀ (st : HS) (l0 : Nat) (l1 : Int32) (l2 : Int32), x_NS_change_L12 n st l0 l1 l2 = some r → hke st r := by
  intro n
  induction n with
  | zero => intro st l0 l1 l2 h; exact absurd h (by simp [x_NS_change_L12])
  | succ n ih =>
    intro st l0 l1 l2 h
    rw [x_NS_change_L12] at h
    rcases Decidable.em (l1 < l2) with c14 | c14
    · replace h := ifp c14 h
      cases h
      exact hke.rf
    · replace h := ifn c14 h
      replace h := obi h; obtain ⟨x1, ex1, h⟩ := h
      replace h := obi h; obtain ⟨x2, ex2, h⟩ := h
      replace h := obi h; obtain ⟨ad3, rfl, h⟩ := h
      replace h := obi h; obtain ⟨st4, est4, h⟩ := h
      replace h := obi h; obtain ⟨x5, ex5, h⟩ := h
      exact ((hWi_ke est4)).t (ih _ _ _ _ h)
theorem n_x_NS_change {r : HS} {st : HS} {this : Nat} {a1 : Int32} (h : x_NS_change st this a1 = some r) : hke st r := by
  unfold x_NS_change at h
  replace h := obi h; obtain ⟨x1, ex1, h⟩ := h
  replace h := obi h; obtain ⟨st2, est2, h⟩ := h
  exact ((hP_ke est2)).t (n_x_NS_change_L12 1000 _ _ _ _ h)
theorem n_x_Rdr_takes_J28 {r : Int32 × HS} {st : HS} {l2 : Int32} {w0 : Int32} {w1 : Int32} {w2 : Nat} (h : x_Rdr_takes_J28 st l2 w0 w1 w2 = some r) : hke st r.2 := by
  unfold x_Rdr_takes_J28 at h
  replace h := obi h; obtain ⟨st1, est1, h⟩ := h
  replace h := obi h; obtain ⟨x2, ex2, h⟩ := h
  cases h
  exact (hP_ke est1)
theorem n_x_Rdr_takes_J13 {r : Int32 × HS} {st : HS} {l0 : Nat} {w0 : Int32} (h : x_Rdr_takes_J13 st l0 w0 = some r) : hke st r.2 := by
  unfold x_Rdr_takes_J13 at h
  replace h := obi h; obtain ⟨x1, ex1, h⟩ := h
  rcases Decidable.em (w0 = 0) with c20 | c20
  · replace h := ifp c20 h
    exact n_x_Rdr_takes_J28 h
  · replace h := ifn c20 h
    exact n_x_Rdr_takes_J28 h
theorem n_x_Rdr_takes {r : Int32 × HS} {st : HS} {this : Nat} {a1 : Int32} (h : x_Rdr_takes st this a1 = some r) : hke st r.2 := by
  unfold x_Rdr_takes at h
  replace h := obi h; obtain ⟨u1, eu1, h⟩ := h
  replace h := obi h; obtain ⟨x2, ex2, h⟩ := h
  rcases Decidable.em (x2 = a1) with c5 | c5
  · replace h := ifp c5 h
    exact n_x_Rdr_takes_J13 h
  · replace h := ifn c5 h
    exact n_x_Rdr_takes_J13 h
theorem n_x_Rdr_put {r : Int32 × HS} {st : HS} {this : Nat} {a1 : Nat} {a2 : Int32} (h : x_Rdr_put st this a1 a2 = some r) : hke st r.2 := by
  unfold x_Rdr_put at h
  replace h := obi h; obtain ⟨x1, ex1, h⟩ := h
  replace h := obi h; obtain ⟨x2, ex2, h⟩ := h
  replace h := obi h; obtain ⟨ad3, rfl, h⟩ := h
  replace h := obi h; obtain ⟨st4, est4, h⟩ := h
  replace h := obi h; obtain ⟨x5, ex5, h⟩ := h
  replace h := obi h; obtain ⟨x6, ex6, h⟩ := h
  replace h := obi h; obtain ⟨ad7, rfl, h⟩ := h
  replace h := obi h; obtain ⟨st8, est8, h⟩ := h
  replace h := obi h; obtain ⟨x9, ex9, h⟩ := h
  replace h := obi h; obtain ⟨st10, est10, h⟩ := h
  replace h := obi h; obtain ⟨x11, ex11, h⟩ := h
  cases h
  exact ((hWr_ke est4)).t (((hWi_ke est8)).t ((hP_ke est10)))
theorem n_x_Rdr_need_J21 {r : HS} {st : HS} {w0 : Int32} {w1 : Nat} (h : x_Rdr_need_J21 st w0 w1 = some r) : hke st r := by
  unfold x_Rdr_need_J21 at h
  replace h := obi h; obtain ⟨x1, ex1, h⟩ := h
  replace h := obi h; obtain ⟨st2, est2, h⟩ := h
  cases h
  exact (hP_ke est2)
theorem n_x_Rdr_need_J16 {r : HS} {st : HS} {w0 : Nat} (h : x_Rdr_need_J16 st w0 = some r) : hke st r := by
  unfold x_Rdr_need_J16 at h
  exact n_x_Rdr_need_J21 h
theorem n_x_Rdr_need {r : HS} {st : HS} {this : Nat} {a1 : Int32} (h : x_Rdr_need st this a1 = some r) : hke st r := by
  unfold x_Rdr_need at h
  replace h := obi h; obtain ⟨x1, ex1, h⟩ := h
  rcases Decidable.em (x1 = 0) with c5 | c5
  · replace h := ifp c5 h
    replace h := obi h; obtain ⟨u2, eu2, h⟩ := h
    replace h := obi h; obtain ⟨q3, eq3, h⟩ := h
    rcases Decidable.em (q3.1 = 0) with c13 | c13
    · replace h := ifp c13 h
      exact ((n_x_Rdr_takes eq3)).t (n_x_Rdr_need_J16 h)
    · replace h := ifn c13 h
      exact ((n_x_Rdr_takes eq3)).t (n_x_Rdr_need_J21 h)
  · replace h := ifn c5 h
    exact n_x_Rdr_need_J16 h
theorem n_x_Rdr_formula {r : HS} {g_comparison : HS → Nat → Int32 → Option HS} {g_one : HS → Nat → Int32 → Option HS} {st : HS} {this : Nat} {a1 : Int32} (nm_comparison : ∀ {st : HS} {this : Nat} {a1 : Int32} {r : HS}, g_comparison st this a1 = some r → hke st r) (nm_one : ∀ {st : HS} {this : Nat} {a1 : Int32} {r : HS}, g_one st this a1 = some r → hke st r) (h : x_Rdr_formula g_comparison g_one st this a1 = some r) : hke st r := by
  unfold x_Rdr_formula at h
  replace h := obi h; obtain ⟨u1, eu1, h⟩ := h
  replace h := obi h; obtain ⟨st2, est2, h⟩ := h
  replace h := obi h; obtain ⟨u3, eu3, h⟩ := h
  replace h := obi h; obtain ⟨q4, eq4, h⟩ := h
  rcases Decidable.em (q4.1 = 0) with c11 | c11
  · replace h := ifp c11 h
    cases h
    exact ((nm_comparison est2)).t ((n_x_Rdr_takes eq4))
  · replace h := ifn c11 h
    replace h := obi h; obtain ⟨u5, eu5, h⟩ := h
    replace h := obi h; obtain ⟨q6, eq6, h⟩ := h
    replace h := obi h; obtain ⟨u7, eu7, h⟩ := h
    replace h := obi h; obtain ⟨st8, est8, h⟩ := h
    replace h := obi h; obtain ⟨u9, eu9, h⟩ := h
    replace h := obi h; obtain ⟨st10, est10, h⟩ := h
    replace h := obi h; obtain ⟨u11, eu11, h⟩ := h
    replace h := obi h; obtain ⟨q12, eq12, h⟩ := h
    replace h := obi h; obtain ⟨x13, ex13, h⟩ := h
    replace h := obi h; obtain ⟨x14, ex14, h⟩ := h
    replace h := obi h; obtain ⟨ad15, rfl, h⟩ := h
    replace h := obi h; obtain ⟨st16, est16, h⟩ := h
    replace h := obi h; obtain ⟨u17, eu17, h⟩ := h
    replace h := obi h; obtain ⟨st18, est18, h⟩ := h
    replace h := obi h; obtain ⟨x19, ex19, h⟩ := h
    replace h := obi h; obtain ⟨x20, ex20, h⟩ := h
    replace h := obi h; obtain ⟨ad21, rfl, h⟩ := h
    replace h := obi h; obtain ⟨st22, est22, h⟩ := h
    cases h
    exact ((nm_comparison est2)).t (((n_x_Rdr_takes eq4)).t (((n_x_Rdr_put eq6)).t (((nm_one est8)).t (((n_x_Rdr_need est10)).t (((n_x_Rdr_put eq12)).t (((hWi_ke est16)).t (((nm_one est18)).t ((hWi_ke est22)))))))))
theorem n_x_Form_init_L29 {r : HS} : ∀ (n : Nat), ∀ (st : HS) (l0 : Nat) (l2 : Nat) (l3 : Nat) (l4 : Int32) (l5 : Int32), x_Form_init_L29 n st l0 l2 l3 l4 l5 = some r → hle st r := by
  intro n
  induction n with
  | zero => intro st l0 l2 l3 l4 l5 h; exact absurd h (by simp [x_Form_init_L29])
  | succ n ih =>
    intro st l0 l2 l3 l4 l5 h
    rw [x_Form_init_L29] at h
    rcases Decidable.em (l4 ≤ l5) with c33 | c33
    · replace h := ifp c33 h
      cases h
      exact hle.rf
    · replace h := ifn c33 h
      replace h := obi h; obtain ⟨x1, ex1, h⟩ := h
      replace h := obi h; obtain ⟨x2, ex2, h⟩ := h
      replace h := obi h; obtain ⟨ad3, rfl, h⟩ := h
      replace h := obi h; obtain ⟨ad4, rfl, h⟩ := h
      replace h := obi h; obtain ⟨st5, est5, h⟩ := h
      replace h := obi h; obtain ⟨x6, ex6, h⟩ := h
      replace h := obi h; obtain ⟨x7, ex7, h⟩ := h
      replace h := obi h; obtain ⟨ad8, rfl, h⟩ := h
      replace h := obi h; obtain ⟨st9, est9, h⟩ := h
      replace h := obi h; obtain ⟨x10, ex10, h⟩ := h
      exact ((hWr_ke est5).le).t (((hWi_ke est9).le).t (ih _ _ _ _ _ _ h))
theorem n_x_Form_init_J23 {r : HS} {st : HS} {l0 : Nat} {l2 : Nat} {l3 : Nat} {l4 : Int32} {w0 : Nat} {w1 : Nat} (h : x_Form_init_J23 st l0 l2 l3 l4 w0 w1 = some r) : hle st r := by
  unfold x_Form_init_J23 at h
  replace h := obi h; obtain ⟨st1, est1, h⟩ := h
  exact ((hP_ke est1).le).t (n_x_Form_init_L29 1000 _ _ _ _ _ _ h)
theorem n_x_Form_init_J15 {r : HS} {st : HS} {l0 : Nat} {l2 : Nat} {l3 : Nat} {l4 : Int32} {w0 : Nat} {w1 : Nat} (h : x_Form_init_J15 st l0 l2 l3 l4 w0 w1 = some r) : hle st r := by
  unfold x_Form_init_J15 at h
  replace h := obi h; obtain ⟨st1, est1, h⟩ := h
  replace h := obi h; obtain ⟨ad2, ead2, h⟩ := h
  replace h := obi h; obtain ⟨st3, est3, h⟩ := h
  exact ((hP_ke est1).le).t (((hNewA_le est3)).t (n_x_Form_init_J23 h))
theorem n_x_Form_init {r : HS} {st : HS} {this : Nat} {a1 : Nat} {a2 : Nat} {a3 : Nat} {a4 : Int32} (h : x_Form_init st this a1 a2 a3 a4 = some r) : hle st r := by
  unfold x_Form_init at h
  replace h := obi h; obtain ⟨st1, est1, h⟩ := h
  replace h := obi h; obtain ⟨ad2, ead2, h⟩ := h
  replace h := obi h; obtain ⟨st3, est3, h⟩ := h
  exact ((hP_ke est1).le).t (((hNewA_le est3)).t (n_x_Form_init_J15 h))
theorem n_x_NS_set_J98 {r : Int32 × HS} {st : HS} {l2 : Int32} {l3 : Int32} {l4 : Nat} (h : x_NS_set_J98 st l2 l3 l4 = some r) : hke st r.2 := by
  unfold x_NS_set_J98 at h
  replace h := obi h; obtain ⟨st1, est1, h⟩ := h
  replace h := obi h; obtain ⟨st2, est2, h⟩ := h
  replace h := obi h; obtain ⟨st3, est3, h⟩ := h
  replace h := obi h; obtain ⟨st4, est4, h⟩ := h
  cases h
  exact ((hP_ke est1)).t (((hP_ke est2)).t (((hP_ke est3)).t ((hP_ke est4))))
theorem n_x_NS_set_J89 {r : Int32 × HS} {st : HS} {l0 : Nat} {l2 : Int32} {l3 : Int32} {l4 : Nat} (h : x_NS_set_J89 st l0 l2 l3 l4 = some r) : hke st r.2 := by
  unfold x_NS_set_J89 at h
  replace h := obi h; obtain ⟨x1, ex1, h⟩ := h
  replace h := obi h; obtain ⟨st2, est2, h⟩ := h
  exact ((hP_ke est2)).t (n_x_NS_set_J98 h)
theorem n_x_NS_set_J69 {r : Int32 × HS} {st : HS} {l0 : Nat} {l2 : Int32} {l3 : Int32} {l4 : Nat} {w0 : Int32} {w1 : Nat} (h : x_NS_set_J69 st l0 l2 l3 l4 w0 w1 = some r) : hke st r.2 := by
  unfold x_NS_set_J69 at h
  replace h := obi h; obtain ⟨u1, eu1, h⟩ := h
  replace h := obi h; obtain ⟨st2, est2, h⟩ := h
  replace h := obi h; obtain ⟨x3, ex3, h⟩ := h
  rcases Decidable.em (x3 = 0) with c77 | c77
  · replace h := ifp c77 h
    exact ((n_x_NS_change est2)).t (n_x_NS_set_J89 h)
  · replace h := ifn c77 h
    replace h := obi h; obtain ⟨x4, ex4, h⟩ := h
    rcases Decidable.em (x4 = l2) with c86 | c86
    · replace h := ifp c86 h
      exact ((n_x_NS_change est2)).t (n_x_NS_set_J98 h)
    · replace h := ifn c86 h
      exact ((n_x_NS_change est2)).t (n_x_NS_set_J89 h)
theorem n_x_NS_set_J51 {r : Int32 × HS} {st : HS} {l0 : Nat} {l2 : Int32} {l3 : Int32} {l4 : Nat} (h : x_NS_set_J51 st l0 l2 l3 l4 = some r) : hke st r.2 := by
  unfold x_NS_set_J51 at h
  replace h := obi h; obtain ⟨x1, ex1, h⟩ := h
  rcases Decidable.em (x1 = 0) with c57 | c57
  · replace h := ifp c57 h
    exact n_x_NS_set_J69 h
  · replace h := ifn c57 h
    replace h := obi h; obtain ⟨x2, ex2, h⟩ := h
    exact n_x_NS_set_J69 h
theorem n_x_NS_set {r : Int32 × HS} {st : HS} {this : Nat} {a1 : Int32} {a2 : Int32} {a3 : Int32} (h : x_NS_set st this a1 a2 a3 = some r) : hke st r.2 := by
  unfold x_NS_set at h
  replace h := obi h; obtain ⟨u1, eu1, h⟩ := h
  replace h := obi h; obtain ⟨x2, ex2, h⟩ := h
  rcases Decidable.em (x2 = none) with c9 | c9
  · replace h := ifp c9 h
    cases h
    exact hke.rf
  · replace h := ifn c9 h
    rcases Decidable.em (a3 < 0) with c13 | c13
    · replace h := ifp c13 h
      cases h
      exact hke.rf
    · replace h := ifn c13 h
      rcases Decidable.em (a3 ≤ 2) with c18 | c18
      · replace h := ifp c18 h
        replace h := obi h; obtain ⟨ad3, rfl, h⟩ := h
        replace h := obi h; obtain ⟨x4, ex4, h⟩ := h
        rcases Decidable.em (x4 = 0) with c28 | c28
        · replace h := ifp c28 h
          exact n_x_NS_set_J51 h
        · replace h := ifn c28 h
          replace h := obi h; obtain ⟨x5, ex5, h⟩ := h
          rcases Decidable.em (x5 = a2) with c37 | c37
          · replace h := ifp c37 h
            replace h := obi h; obtain ⟨x6, ex6, h⟩ := h
            rcases Decidable.em (x6 = a3) with c46 | c46
            · replace h := ifp c46 h
              cases h
              exact hke.rf
            · replace h := ifn c46 h
              exact n_x_NS_set_J51 h
          · replace h := ifn c37 h
            exact n_x_NS_set_J51 h
      · replace h := ifn c18 h
        cases h
        exact hke.rf
theorem n_x_NS_bring_J175 {r : HS} {g_unchanged : HS → Nat → Nat → Option (Int32 × HS)} {g_workOut : HS → Nat → Nat → Option HS} {st : HS} {l1 : Nat} (nm_unchanged : ∀ {st : HS} {this : Nat} {a1 : Nat} {r : Int32 × HS}, g_unchanged st this a1 = some r → hle st r.2) (nm_workOut : ∀ {st : HS} {this : Nat} {a1 : Nat} {r : HS}, g_workOut st this a1 = some r → hle st r) (h : x_NS_bring_J175 g_unchanged g_workOut st l1 = some r) : hle st r := by
  unfold x_NS_bring_J175 at h
  replace h := obi h; obtain ⟨st1, est1, h⟩ := h
  cases h
  exact (hP_ke est1).le
theorem n_x_NS_bring_J170 {r : HS} {g_unchanged : HS → Nat → Nat → Option (Int32 × HS)} {g_workOut : HS → Nat → Nat → Option HS} {st : HS} {l0 : Nat} {l1 : Nat} (nm_unchanged : ∀ {st : HS} {this : Nat} {a1 : Nat} {r : Int32 × HS}, g_unchanged st this a1 = some r → hle st r.2) (nm_workOut : ∀ {st : HS} {this : Nat} {a1 : Nat} {r : HS}, g_workOut st this a1 = some r → hle st r) (h : x_NS_bring_J170 g_unchanged g_workOut st l0 l1 = some r) : hle st r := by
  unfold x_NS_bring_J170 at h
  replace h := obi h; obtain ⟨u1, eu1, h⟩ := h
  replace h := obi h; obtain ⟨st2, est2, h⟩ := h
  exact ((nm_workOut est2)).t (n_x_NS_bring_J175 nm_unchanged nm_workOut h)
theorem n_x_NS_bring_J133 {r : HS} {g_unchanged : HS → Nat → Nat → Option (Int32 × HS)} {g_workOut : HS → Nat → Nat → Option HS} {st : HS} {l0 : Nat} {l1 : Nat} {w0 : Int32} (nm_unchanged : ∀ {st : HS} {this : Nat} {a1 : Nat} {r : Int32 × HS}, g_unchanged st this a1 = some r → hle st r.2) (nm_workOut : ∀ {st : HS} {this : Nat} {a1 : Nat} {r : HS}, g_workOut st this a1 = some r → hle st r) (h : x_NS_bring_J133 g_unchanged g_workOut st l0 l1 w0 = some r) : hle st r := by
  unfold x_NS_bring_J133 at h
  rcases Decidable.em (w0 = 0) with c133 | c133
  · replace h := ifp c133 h
    exact n_x_NS_bring_J170 nm_unchanged nm_workOut h
  · replace h := ifn c133 h
    replace h := obi h; obtain ⟨x1, ex1, h⟩ := h
    replace h := obi h; obtain ⟨st2, est2, h⟩ := h
    replace h := obi h; obtain ⟨x3, ex3, h⟩ := h
    replace h := obi h; obtain ⟨st4, est4, h⟩ := h
    replace h := obi h; obtain ⟨x5, ex5, h⟩ := h
    replace h := obi h; obtain ⟨x6, ex6, h⟩ := h
    replace h := obi h; obtain ⟨ad7, rfl, h⟩ := h
    replace h := obi h; obtain ⟨st8, est8, h⟩ := h
    exact ((hP_ke est2).le).t (((hP_ke est4).le).t (((hP_ke est8).le).t (n_x_NS_bring_J175 nm_unchanged nm_workOut h)))
theorem n_x_NS_bring_J104 {r : HS} {g_unchanged : HS → Nat → Nat → Option (Int32 × HS)} {g_workOut : HS → Nat → Nat → Option HS} {st : HS} {l0 : Nat} {l1 : Nat} (nm_unchanged : ∀ {st : HS} {this : Nat} {a1 : Nat} {r : Int32 × HS}, g_unchanged st this a1 = some r → hle st r.2) (nm_workOut : ∀ {st : HS} {this : Nat} {a1 : Nat} {r : HS}, g_workOut st this a1 = some r → hle st r) (h : x_NS_bring_J104 g_unchanged g_workOut st l0 l1 = some r) : hle st r := by
  unfold x_NS_bring_J104 at h
  replace h := obi h; obtain ⟨x1, ex1, h⟩ := h
  rcases Decidable.em (x1 = none) with c108 | c108
  · replace h := ifp c108 h
    exact n_x_NS_bring_J170 nm_unchanged nm_workOut h
  · replace h := ifn c108 h
    replace h := obi h; obtain ⟨x2, ex2, h⟩ := h
    replace h := obi h; obtain ⟨x3, ex3, h⟩ := h
    replace h := obi h; obtain ⟨ad4, rfl, h⟩ := h
    replace h := obi h; obtain ⟨x5, ex5, h⟩ := h
    rcases Decidable.em (x5 < x2) with c122 | c122
    · replace h := ifp c122 h
      exact n_x_NS_bring_J170 nm_unchanged nm_workOut h
    · replace h := ifn c122 h
      replace h := obi h; obtain ⟨x6, ex6, h⟩ := h
      replace h := obi h; obtain ⟨ad7, rfl, h⟩ := h
      replace h := obi h; obtain ⟨u8, eu8, h⟩ := h
      replace h := obi h; obtain ⟨q9, eq9, h⟩ := h
      exact ((nm_unchanged eq9)).t (n_x_NS_bring_J133 nm_unchanged nm_workOut h)
theorem n_x_NS_bring_J36 {r : HS} {g_unchanged : HS → Nat → Nat → Option (Int32 × HS)} {g_workOut : HS → Nat → Nat → Option HS} {st : HS} {l0 : Nat} {l1 : Nat} (nm_unchanged : ∀ {st : HS} {this : Nat} {a1 : Nat} {r : Int32 × HS}, g_unchanged st this a1 = some r → hle st r.2) (nm_workOut : ∀ {st : HS} {this : Nat} {a1 : Nat} {r : HS}, g_workOut st this a1 = some r → hle st r) (h : x_NS_bring_J36 g_unchanged g_workOut st l0 l1 = some r) : hle st r := by
  unfold x_NS_bring_J36 at h
  replace h := obi h; obtain ⟨st1, est1, h⟩ := h
  replace h := obi h; obtain ⟨x2, ex2, h⟩ := h
  rcases Decidable.em (x2 = none) with c45 | c45
  · replace h := ifp c45 h
    exact ((hP_ke est1).le).t (n_x_NS_bring_J104 nm_unchanged nm_workOut h)
  · replace h := ifn c45 h
    replace h := obi h; obtain ⟨x3, ex3, h⟩ := h
    replace h := obi h; obtain ⟨x4, ex4, h⟩ := h
    replace h := obi h; obtain ⟨ad5, rfl, h⟩ := h
    replace h := obi h; obtain ⟨x6, ex6, h⟩ := h
    replace h := obi h; obtain ⟨ad7, rfl, h⟩ := h
    replace h := obi h; obtain ⟨x8, ex8, h⟩ := h
    replace h := obi h; obtain ⟨x9, ex9, h⟩ := h
    replace h := obi h; obtain ⟨ad10, rfl, h⟩ := h
    replace h := obi h; obtain ⟨x11, ex11, h⟩ := h
    rcases Decidable.em (x11 < x8) with c67 | c67
    · replace h := ifp c67 h
      exact ((hP_ke est1).le).t (n_x_NS_bring_J104 nm_unchanged nm_workOut h)
    · replace h := ifn c67 h
      replace h := obi h; obtain ⟨x12, ex12, h⟩ := h
      replace h := obi h; obtain ⟨st13, est13, h⟩ := h
      replace h := obi h; obtain ⟨x14, ex14, h⟩ := h
      replace h := obi h; obtain ⟨st15, est15, h⟩ := h
      replace h := obi h; obtain ⟨x16, ex16, h⟩ := h
      replace h := obi h; obtain ⟨x17, ex17, h⟩ := h
      replace h := obi h; obtain ⟨ad18, rfl, h⟩ := h
      replace h := obi h; obtain ⟨st19, est19, h⟩ := h
      exact ((hP_ke est1).le).t (((hP_ke est13).le).t (((hP_ke est15).le).t (((hP_ke est19).le).t (n_x_NS_bring_J175 nm_unchanged nm_workOut h))))
theorem n_x_NS_bring {r : HS} {g_unchanged : HS → Nat → Nat → Option (Int32 × HS)} {g_workOut : HS → Nat → Nat → Option HS} {st : HS} {this : Nat} {a1 : Nat} (nm_unchanged : ∀ {st : HS} {this : Nat} {a1 : Nat} {r : Int32 × HS}, g_unchanged st this a1 = some r → hle st r.2) (nm_workOut : ∀ {st : HS} {this : Nat} {a1 : Nat} {r : HS}, g_workOut st this a1 = some r → hle st r) (h : x_NS_bring g_unchanged g_workOut st this a1 = some r) : hle st r := by
  unfold x_NS_bring at h
  replace h := obi h; obtain ⟨x1, ex1, h⟩ := h
  rcases Decidable.em (x1 = 0) with c4 | c4
  · replace h := ifp c4 h
    replace h := obi h; obtain ⟨x2, ex2, h⟩ := h
    rcases Decidable.em (x2 = 0) with c11 | c11
    · replace h := ifp c11 h
      replace h := obi h; obtain ⟨x3, ex3, h⟩ := h
      rcases Decidable.em (x3 = none) with c18 | c18
      · replace h := ifp c18 h
        exact n_x_NS_bring_J36 nm_unchanged nm_workOut h
      · replace h := ifn c18 h
        replace h := obi h; obtain ⟨x4, ex4, h⟩ := h
        replace h := obi h; obtain ⟨ad5, rfl, h⟩ := h
        replace h := obi h; obtain ⟨x6, ex6, h⟩ := h
        replace h := obi h; obtain ⟨x7, ex7, h⟩ := h
        rcases Decidable.em (x6 = x7) with c32 | c32
        · replace h := ifp c32 h
          cases h
          exact hle.rf
        · replace h := ifn c32 h
          exact n_x_NS_bring_J36 nm_unchanged nm_workOut h
    · replace h := ifn c11 h
      cases h
      exact hle.rf
  · replace h := ifn c4 h
    cases h
    exact hle.rf
theorem n_x_NS_unchanged_J26 {r : Int32 × HS} {g_bring : HS → Nat → Nat → Option HS} {st : HS} {l0 : Nat} {l1 : Nat} {l2 : Int32} {l3 : Int32} {l4 : Nat} {k_4 : HS → Nat → Nat → Int32 → Int32 → Option (Int32 × HS)} (nm_bring : ∀ {st : HS} {this : Nat} {a1 : Nat} {r : HS}, g_bring st this a1 = some r → hle st r) (hm_4 : ∀ (st : HS) (l0 : Nat) (l1 : Nat) (l2 : Int32) (l3 : Int32), k_4 st l0 l1 l2 l3 = some r → hle st r.2) (h : x_NS_unchanged_J26 g_bring k_4 st l0 l1 l2 l3 l4 = some r) : hle st r.2 := by
  unfold x_NS_unchanged_J26 at h
  replace h := obi h; obtain ⟨x1, ex1, h⟩ := h
  rcases Decidable.em (x1 = 0) with c31 | c31
  · replace h := ifp c31 h
    replace h := obi h; obtain ⟨u2, eu2, h⟩ := h
    replace h := obi h; obtain ⟨x3, ex3, h⟩ := h
    replace h := obi h; obtain ⟨x4, ex4, h⟩ := h
    rcases Decidable.em (x3 ≤ x4) with c43 | c43
    · replace h := ifp c43 h
      replace h := obi h; obtain ⟨u5, eu5, h⟩ := h
      replace h := obi h; obtain ⟨x6, ex6, h⟩ := h
      replace h := obi h; obtain ⟨x7, ex7, h⟩ := h
      replace h := obi h; obtain ⟨x8, ex8, h⟩ := h
      exact hm_4 _ _ _ _ _ h
    · replace h := ifn c43 h
      cases h
      exact hle.rf
  · replace h := ifn c31 h
    cases h
    exact hle.rf
theorem n_x_NS_unchanged_L4 {r : Int32 × HS} {g_bring : HS → Nat → Nat → Option HS} (nm_bring : ∀ {st : HS} {this : Nat} {a1 : Nat} {r : HS}, g_bring st this a1 = some r → hle st r) : ∀ (n : Nat), ∀ (st : HS) (l0 : Nat) (l1 : Nat) (l2 : Int32) (l3 : Int32), x_NS_unchanged_L4 g_bring n st l0 l1 l2 l3 = some r → hle st r.2 := by
  intro n
  induction n with
  | zero => intro st l0 l1 l2 l3 h; exact absurd h (by simp [x_NS_unchanged_L4])
  | succ n ih =>
    intro st l0 l1 l2 l3 h
    rw [x_NS_unchanged_L4] at h
    replace h := obi h; obtain ⟨x1, ex1, h⟩ := h
    rcases Decidable.em (x1 ≤ l3) with c9 | c9
    · replace h := ifp c9 h
      replace h := obi h; obtain ⟨st2, est2, h⟩ := h
      cases h
      exact (hP_ke est2).le
    · replace h := ifn c9 h
      replace h := obi h; obtain ⟨x3, ex3, h⟩ := h
      replace h := obi h; obtain ⟨ad4, rfl, h⟩ := h
      replace h := obi h; obtain ⟨x5, ex5, h⟩ := h
      replace h := obi h; obtain ⟨ad6, rfl, h⟩ := h
      replace h := obi h; obtain ⟨u7, eu7, h⟩ := h
      replace h := obi h; obtain ⟨st8, est8, h⟩ := h
      exact ((nm_bring est8)).t (n_x_NS_unchanged_J26 nm_bring ih h)
theorem n_x_NS_unchanged {r : Int32 × HS} {g_bring : HS → Nat → Nat → Option HS} {st : HS} {this : Nat} {a1 : Nat} (nm_bring : ∀ {st : HS} {this : Nat} {a1 : Nat} {r : HS}, g_bring st this a1 = some r → hle st r) (h : x_NS_unchanged g_bring st this a1 = some r) : hle st r.2 := by
  unfold x_NS_unchanged at h
  exact n_x_NS_unchanged_L4 nm_bring 1000 _ _ _ _ _ h
theorem n_x_Note_init_J10 {r : HS} {st : HS} {w0 : Nat} {w1 : Nat} (h : x_Note_init_J10 st w0 w1 = some r) : hle st r := by
  unfold x_Note_init_J10 at h
  replace h := obi h; obtain ⟨st1, est1, h⟩ := h
  cases h
  exact (hP_ke est1).le
theorem n_x_Note_init {r : HS} {st : HS} {this : Nat} (h : x_Note_init st this = some r) : hle st r := by
  unfold x_Note_init at h
  replace h := obi h; obtain ⟨ad1, ead1, h⟩ := h
  replace h := obi h; obtain ⟨st2, est2, h⟩ := h
  exact ((hNewA_le est2)).t (n_x_Note_init_J10 h)
theorem n_x_NS_workOut_J131 {r : HS} {g_result : HS → Nat → Nat → Nat → Option (Int64 × HS)} {st : HS} {l0 : Nat} {l1 : Nat} {l2 : Int32} {l4 : Nat} {w0 : Int32} {w1 : Nat} (nm_result : ∀ {st : HS} {this : Nat} {a1 : Nat} {a2 : Nat} {r : Int64 × HS}, g_result st this a1 a2 = some r → hle st r.2) (h : x_NS_workOut_J131 g_result st l0 l1 l2 l4 w0 w1 = some r) : hle st r := by
  unfold x_NS_workOut_J131 at h
  replace h := obi h; obtain ⟨st1, est1, h⟩ := h
  replace h := obi h; obtain ⟨x2, ex2, h⟩ := h
  replace h := obi h; obtain ⟨st3, est3, h⟩ := h
  replace h := obi h; obtain ⟨x4, ex4, h⟩ := h
  replace h := obi h; obtain ⟨st5, est5, h⟩ := h
  replace h := obi h; obtain ⟨x6, ex6, h⟩ := h
  replace h := obi h; obtain ⟨st7, est7, h⟩ := h
  replace h := obi h; obtain ⟨st8, est8, h⟩ := h
  replace h := obi h; obtain ⟨x9, ex9, h⟩ := h
  replace h := obi h; obtain ⟨st10, est10, h⟩ := h
  cases h
  exact ((hP_ke est1).le).t (((hP_ke est3).le).t (((hP_ke est5).le).t (((hP_ke est7).le).t (((hP_ke est8).le).t ((hP_ke est10).le)))))
theorem n_x_NS_workOut_J111 {r : HS} {g_result : HS → Nat → Nat → Nat → Option (Int64 × HS)} {st : HS} {l0 : Nat} {l1 : Nat} {l2 : Int32} {l3 : Option Nat} {l4 : Nat} {w0 : Int32} (nm_result : ∀ {st : HS} {this : Nat} {a1 : Nat} {a2 : Nat} {r : Int64 × HS}, g_result st this a1 a2 = some r → hle st r.2) (h : x_NS_workOut_J111 g_result st l0 l1 l2 l3 l4 w0 = some r) : hle st r := by
  unfold x_NS_workOut_J111 at h
  rcases Decidable.em (w0 = 0) with c117 | c117
  · replace h := ifp c117 h
    replace h := obi h; obtain ⟨x1, ex1, h⟩ := h
    exact n_x_NS_workOut_J131 nm_result h
  · replace h := ifn c117 h
    replace h := obi h; obtain ⟨ad2, rfl, h⟩ := h
    replace h := obi h; obtain ⟨x3, ex3, h⟩ := h
    exact n_x_NS_workOut_J131 nm_result h
theorem n_x_NS_workOut_J110 {r : HS} {g_result : HS → Nat → Nat → Nat → Option (Int64 × HS)} {st : HS} {l0 : Nat} {l1 : Nat} {l2 : Int32} {l3 : Option Nat} {l4 : Nat} (nm_result : ∀ {st : HS} {this : Nat} {a1 : Nat} {a2 : Nat} {r : Int64 × HS}, g_result st this a1 a2 = some r → hle st r.2) (h : x_NS_workOut_J110 g_result st l0 l1 l2 l3 l4 = some r) : hle st r := by
  unfold x_NS_workOut_J110 at h
  exact n_x_NS_workOut_J111 nm_result h
theorem n_x_NS_workOut_J106 {r : HS} {g_result : HS → Nat → Nat → Nat → Option (Int64 × HS)} {st : HS} {l0 : Nat} {l1 : Nat} {l2 : Int32} {l3 : Nat} {l4 : Nat} (nm_result : ∀ {st : HS} {this : Nat} {a1 : Nat} {a2 : Nat} {r : Int64 × HS}, g_result st this a1 a2 = some r → hle st r.2) (h : x_NS_workOut_J106 g_result st l0 l1 l2 l3 l4 = some r) : hle st r := by
  unfold x_NS_workOut_J106 at h
  exact n_x_NS_workOut_J111 nm_result h
theorem n_x_NS_workOut_J62 {r : HS} {g_result : HS → Nat → Nat → Nat → Option (Int64 × HS)} {st : HS} {l0 : Nat} {l1 : Nat} {l2 : Int32} {l3 : Option Nat} {l4 : Nat} {w0 : Int64} {w1 : Nat} (nm_result : ∀ {st : HS} {this : Nat} {a1 : Nat} {a2 : Nat} {r : Int64 × HS}, g_result st this a1 a2 = some r → hle st r.2) (h : x_NS_workOut_J62 g_result st l0 l1 l2 l3 l4 w0 w1 = some r) : hle st r := by
  unfold x_NS_workOut_J62 at h
  replace h := obi h; obtain ⟨st1, est1, h⟩ := h
  replace h := obi h; obtain ⟨st2, est2, h⟩ := h
  rcases Decidable.em (l3 = none) with c72 | c72
  · replace h := ifp c72 h
    exact ((hP_ke est1).le).t (((hP_ke est2).le).t (n_x_NS_workOut_J110 nm_result h))
  · replace h := ifn c72 h
    replace h := obi h; obtain ⟨ad3, rfl, h⟩ := h
    replace h := obi h; obtain ⟨x4, ex4, h⟩ := h
    replace h := obi h; obtain ⟨x5, ex5, h⟩ := h
    rcases Decidable.em (x4 = x5) with c83 | c83
    · replace h := ifp c83 h
      exact ((hP_ke est1).le).t (((hP_ke est2).le).t (n_x_NS_workOut_J106 nm_result h))
    · replace h := ifn c83 h
      replace h := obi h; obtain ⟨x6, ex6, h⟩ := h
      rcases Decidable.em (x6 = 0) with c90 | c90
      · replace h := ifp c90 h
        exact ((hP_ke est1).le).t (((hP_ke est2).le).t (n_x_NS_workOut_J110 nm_result h))
      · replace h := ifn c90 h
        replace h := obi h; obtain ⟨x7, ex7, h⟩ := h
        replace h := obi h; obtain ⟨x8, ex8, h⟩ := h
        rcases Decidable.em ((lg_cmp x7 x8) = 0) with c103 | c103
        · replace h := ifp c103 h
          exact ((hP_ke est1).le).t (((hP_ke est2).le).t (n_x_NS_workOut_J106 nm_result h))
        · replace h := ifn c103 h
          exact ((hP_ke est1).le).t (((hP_ke est2).le).t (n_x_NS_workOut_J110 nm_result h))
theorem n_x_NS_workOut_J42 {r : HS} {g_result : HS → Nat → Nat → Nat → Option (Int64 × HS)} {st : HS} {l0 : Nat} {l1 : Nat} {l2 : Int32} {l3 : Option Nat} {w0 : Nat} (nm_result : ∀ {st : HS} {this : Nat} {a1 : Nat} {a2 : Nat} {r : Int64 × HS}, g_result st this a1 a2 = some r → hle st r.2) (h : x_NS_workOut_J42 g_result st l0 l1 l2 l3 w0 = some r) : hle st r := by
  unfold x_NS_workOut_J42 at h
  replace h := obi h; obtain ⟨st1, est1, h⟩ := h
  replace h := obi h; obtain ⟨x2, ex2, h⟩ := h
  replace h := obi h; obtain ⟨ad3, rfl, h⟩ := h
  replace h := obi h; obtain ⟨u4, eu4, h⟩ := h
  replace h := obi h; obtain ⟨q5, eq5, h⟩ := h
  exact ((hP_ke est1).le).t (((nm_result eq5)).t (n_x_NS_workOut_J62 nm_result h))
theorem n_x_NS_workOut_J38 {r : HS} {g_result : HS → Nat → Nat → Nat → Option (Int64 × HS)} {st : HS} {l0 : Nat} {l1 : Nat} {l2 : Int32} {l3 : Option Nat} {w0 : Nat} (nm_result : ∀ {st : HS} {this : Nat} {a1 : Nat} {a2 : Nat} {r : Int64 × HS}, g_result st this a1 a2 = some r → hle st r.2) (h : x_NS_workOut_J38 g_result st l0 l1 l2 l3 w0 = some r) : hle st r := by
  unfold x_NS_workOut_J38 at h
  replace h := obi h; obtain ⟨st1, est1, h⟩ := h
  exact ((n_x_Note_init est1)).t (n_x_NS_workOut_J42 nm_result h)
theorem n_x_NS_workOut {r : HS} {g_result : HS → Nat → Nat → Nat → Option (Int64 × HS)} {st : HS} {this : Nat} {a1 : Nat} (nm_result : ∀ {st : HS} {this : Nat} {a1 : Nat} {a2 : Nat} {r : Int64 × HS}, g_result st this a1 a2 = some r → hle st r.2) (h : x_NS_workOut g_result st this a1 = some r) : hle st r := by
  unfold x_NS_workOut at h
  replace h := obi h; obtain ⟨x1, ex1, h⟩ := h
  replace h := obi h; obtain ⟨st2, est2, h⟩ := h
  replace h := obi h; obtain ⟨x3, ex3, h⟩ := h
  replace h := obi h; obtain ⟨st4, est4, h⟩ := h
  replace h := obi h; obtain ⟨x5, ex5, h⟩ := h
  replace h := obi h; obtain ⟨st6, est6, h⟩ := h
  replace h := obi h; obtain ⟨x7, ex7, h⟩ := h
  replace h := obi h; obtain ⟨ad8, ead8, h⟩ := h
  replace h := obi h; obtain ⟨st9, est9, h⟩ := h
  exact ((hP_ke est2).le).t (((hP_ke est4).le).t (((hP_ke est6).le).t (((hNew_le est9)).t (n_x_NS_workOut_J38 nm_result h))))
theorem n_x_Note_add_L2 {r : HS} : ∀ (n : Nat), ∀ (st : HS) (l0 : Nat) (l1 : Nat) (l2 : Int32), x_Note_add_L2 n st l0 l1 l2 = some r → hke st r := by
  intro n
  induction n with
  | zero => intro st l0 l1 l2 h; exact absurd h (by simp [x_Note_add_L2])
  | succ n ih =>
    intro st l0 l1 l2 h
    rw [x_Note_add_L2] at h
    replace h := obi h; obtain ⟨x1, ex1, h⟩ := h
    rcases Decidable.em (x1 ≤ l2) with c7 | c7
    · replace h := ifp c7 h
      replace h := obi h; obtain ⟨x2, ex2, h⟩ := h
      replace h := obi h; obtain ⟨x3, ex3, h⟩ := h
      replace h := obi h; obtain ⟨ad4, rfl, h⟩ := h
      replace h := obi h; obtain ⟨st5, est5, h⟩ := h
      replace h := obi h; obtain ⟨x6, ex6, h⟩ := h
      replace h := obi h; obtain ⟨st7, est7, h⟩ := h
      cases h
      exact ((hWr_ke est5)).t ((hP_ke est7))
    · replace h := ifn c7 h
      replace h := obi h; obtain ⟨x8, ex8, h⟩ := h
      replace h := obi h; obtain ⟨ad9, rfl, h⟩ := h
      replace h := obi h; obtain ⟨x10, ex10, h⟩ := h
      rcases Decidable.em (x10 = (some l1)) with c17 | c17
      · replace h := ifp c17 h
        cases h
        exact hke.rf
      · replace h := ifn c17 h
        replace h := obi h; obtain ⟨x11, ex11, h⟩ := h
        exact ih _ _ _ _ h
theorem n_x_Note_add {r : HS} {st : HS} {this : Nat} {a1 : Nat} (h : x_Note_add st this a1 = some r) : hke st r := by
  unfold x_Note_add at h
  exact n_x_Note_add_L2 1000 _ _ _ _ h
theorem n_x_NS_given_J26 {r : Int64 × HS} {g_value : HS → Nat → Nat → Option (Int64 × HS)} {st : HS} {l1 : Nat} {l2 : Nat} {w0 : Int64} (nm_value : ∀ {st : HS} {this : Nat} {a1 : Nat} {r : Int64 × HS}, g_value st this a1 = some r → hle st r.2) (h : x_NS_given_J26 g_value st l1 l2 w0 = some r) : hle st r.2 := by
  unfold x_NS_given_J26 at h
  replace h := obi h; obtain ⟨x1, ex1, h⟩ := h
  replace h := obi h; obtain ⟨u2, eu2, h⟩ := h
  replace h := obi h; obtain ⟨x3, ex3, h⟩ := h
  replace h := obi h; obtain ⟨x4, ex4, h⟩ := h
  replace h := obi h; obtain ⟨st5, est5, h⟩ := h
  cases h
  exact (hP_ke est5).le
theorem n_x_NS_given {r : Int64 × HS} {g_value : HS → Nat → Nat → Option (Int64 × HS)} {st : HS} {this : Nat} {a1 : Nat} {a2 : Nat} (nm_value : ∀ {st : HS} {this : Nat} {a1 : Nat} {r : Int64 × HS}, g_value st this a1 = some r → hle st r.2) (h : x_NS_given g_value st this a1 a2 = some r) : hle st r.2 := by
  unfold x_NS_given at h
  replace h := obi h; obtain ⟨u1, eu1, h⟩ := h
  replace h := obi h; obtain ⟨st2, est2, h⟩ := h
  replace h := obi h; obtain ⟨x3, ex3, h⟩ := h
  rcases Decidable.em (x3 = 0) with c9 | c9
  · replace h := ifp c9 h
    replace h := obi h; obtain ⟨u4, eu4, h⟩ := h
    replace h := obi h; obtain ⟨q5, eq5, h⟩ := h
    exact ((n_x_Note_add est2).le).t (((nm_value eq5)).t (n_x_NS_given_J26 nm_value h))
  · replace h := ifn c9 h
    replace h := obi h; obtain ⟨st6, est6, h⟩ := h
    cases h
    exact ((n_x_Note_add est2).le).t ((hP_ke est6).le)
theorem n_x_NS_value_J33 {r : Int64 × HS} {g_bring : HS → Nat → Nat → Option HS} {g_workOut : HS → Nat → Nat → Option HS} {st : HS} {l0 : Nat} {l1 : Nat} (nm_bring : ∀ {st : HS} {this : Nat} {a1 : Nat} {r : HS}, g_bring st this a1 = some r → hle st r) (nm_workOut : ∀ {st : HS} {this : Nat} {a1 : Nat} {r : HS}, g_workOut st this a1 = some r → hle st r) (h : x_NS_value_J33 g_bring g_workOut st l0 l1 = some r) : hle st r.2 := by
  unfold x_NS_value_J33 at h
  replace h := obi h; obtain ⟨x1, ex1, h⟩ := h
  replace h := obi h; obtain ⟨st2, est2, h⟩ := h
  replace h := obi h; obtain ⟨x3, ex3, h⟩ := h
  replace h := obi h; obtain ⟨x4, ex4, h⟩ := h
  replace h := obi h; obtain ⟨ad5, rfl, h⟩ := h
  replace h := obi h; obtain ⟨st6, est6, h⟩ := h
  replace h := obi h; obtain ⟨x7, ex7, h⟩ := h
  replace h := obi h; obtain ⟨ad8, rfl, h⟩ := h
  replace h := obi h; obtain ⟨x9, ex9, h⟩ := h
  cases h
  exact ((hP_ke est2).le).t ((hP_ke est6).le)
theorem n_x_NS_value_J18 {r : Int64 × HS} {g_bring : HS → Nat → Nat → Option HS} {g_workOut : HS → Nat → Nat → Option HS} {st : HS} {l0 : Nat} {l1 : Nat} (nm_bring : ∀ {st : HS} {this : Nat} {a1 : Nat} {r : HS}, g_bring st this a1 = some r → hle st r) (nm_workOut : ∀ {st : HS} {this : Nat} {a1 : Nat} {r : HS}, g_workOut st this a1 = some r → hle st r) (h : x_NS_value_J18 g_bring g_workOut st l0 l1 = some r) : hle st r.2 := by
  unfold x_NS_value_J18 at h
  replace h := obi h; obtain ⟨x1, ex1, h⟩ := h
  replace h := obi h; obtain ⟨ad2, rfl, h⟩ := h
  replace h := obi h; obtain ⟨x3, ex3, h⟩ := h
  rcases Decidable.em (x3 = 0) with c25 | c25
  · replace h := ifp c25 h
    replace h := obi h; obtain ⟨u4, eu4, h⟩ := h
    replace h := obi h; obtain ⟨st5, est5, h⟩ := h
    exact ((nm_workOut est5)).t (n_x_NS_value_J33 nm_bring nm_workOut h)
  · replace h := ifn c25 h
    exact n_x_NS_value_J33 nm_bring nm_workOut h
theorem n_x_NS_value {r : Int64 × HS} {g_bring : HS → Nat → Nat → Option HS} {g_workOut : HS → Nat → Nat → Option HS} {st : HS} {this : Nat} {a1 : Nat} (nm_bring : ∀ {st : HS} {this : Nat} {a1 : Nat} {r : HS}, g_bring st this a1 = some r → hle st r) (nm_workOut : ∀ {st : HS} {this : Nat} {a1 : Nat} {r : HS}, g_workOut st this a1 = some r → hle st r) (h : x_NS_value g_bring g_workOut st this a1 = some r) : hle st r.2 := by
  unfold x_NS_value at h
  replace h := obi h; obtain ⟨x1, ex1, h⟩ := h
  rcases Decidable.em (x1 = 0) with c4 | c4
  · replace h := ifp c4 h
    replace h := obi h; obtain ⟨u2, eu2, h⟩ := h
    replace h := obi h; obtain ⟨st3, est3, h⟩ := h
    exact ((nm_bring est3)).t (n_x_NS_value_J18 nm_bring nm_workOut h)
  · replace h := ifn c4 h
    replace h := obi h; obtain ⟨x4, ex4, h⟩ := h
    cases h
    exact hle.rf
theorem n_x_NS_result_J263 {r : Int64 × HS} {g_given : HS → Nat → Nat → Nat → Option (Int64 × HS)} {st : HS} {l0 : Nat} {l1 : Nat} {l2 : Nat} {l3 : Nat} {l4 : Int32} {l5 : Int32} {k_11 : HS → Nat → Nat → Nat → Nat → Int32 → Int32 → Option (Int64 × HS)} (nm_given : ∀ {st : HS} {this : Nat} {a1 : Nat} {a2 : Nat} {r : Int64 × HS}, g_given st this a1 a2 = some r → hle st r.2) (hm_11 : ∀ (st : HS) (l0 : Nat) (l1 : Nat) (l2 : Nat) (l3 : Nat) (l4 : Int32) (l5 : Int32), k_11 st l0 l1 l2 l3 l4 l5 = some r → hle st r.2) (h : x_NS_result_J263 g_given k_11 st l0 l1 l2 l3 l4 l5 = some r) : hle st r.2 := by
  unfold x_NS_result_J263 at h
  exact hm_11 _ _ _ _ _ _ _ h
theorem n_x_NS_result_J227 {r : Int64 × HS} {g_given : HS → Nat → Nat → Nat → Option (Int64 × HS)} {st : HS} {l0 : Nat} {l1 : Nat} {l2 : Nat} {l3 : Nat} {l4 : Int32} {w0 : Int32} {k_11 : HS → Nat → Nat → Nat → Nat → Int32 → Int32 → Option (Int64 × HS)} (nm_given : ∀ {st : HS} {this : Nat} {a1 : Nat} {a2 : Nat} {r : Int64 × HS}, g_given st this a1 a2 = some r → hle st r.2) (hm_11 : ∀ (st : HS) (l0 : Nat) (l1 : Nat) (l2 : Nat) (l3 : Nat) (l4 : Int32) (l5 : Int32), k_11 st l0 l1 l2 l3 l4 l5 = some r → hle st r.2) (h : x_NS_result_J227 g_given k_11 st l0 l1 l2 l3 l4 w0 = some r) : hle st r.2 := by
  unfold x_NS_result_J227 at h
  exact n_x_NS_result_J263 nm_given hm_11 h
theorem n_x_NS_result_J163 {r : Int64 × HS} {g_given : HS → Nat → Nat → Nat → Option (Int64 × HS)} {st : HS} {l0 : Nat} {l1 : Nat} {l2 : Nat} {l3 : Nat} {l4 : Int32} {l5 : Int32} {w0 : Int64} {k_11 : HS → Nat → Nat → Nat → Nat → Int32 → Int32 → Option (Int64 × HS)} (nm_given : ∀ {st : HS} {this : Nat} {a1 : Nat} {a2 : Nat} {r : Int64 × HS}, g_given st this a1 a2 = some r → hle st r.2) (hm_11 : ∀ (st : HS) (l0 : Nat) (l1 : Nat) (l2 : Nat) (l3 : Nat) (l4 : Int32) (l5 : Int32), k_11 st l0 l1 l2 l3 l4 l5 = some r → hle st r.2) (h : x_NS_result_J163 g_given k_11 st l0 l1 l2 l3 l4 l5 w0 = some r) : hle st r.2 := by
  unfold x_NS_result_J163 at h
  rcases Decidable.em ((lg_cmp w0 (1099511627776 : Int64)) = 0) with c171 | c171
  · replace h := ifp c171 h
    cases h
    exact hle.rf
  · replace h := ifn c171 h
    replace h := obi h; obtain ⟨x1, ex1, h⟩ := h
    replace h := obi h; obtain ⟨st2, est2, h⟩ := h
    exact ((hWl_ke est2).le).t (n_x_NS_result_J263 nm_given hm_11 h)
theorem n_x_NS_result_J137 {r : Int64 × HS} {g_given : HS → Nat → Nat → Nat → Option (Int64 × HS)} {st : HS} {l0 : Nat} {l1 : Nat} {l2 : Nat} {l3 : Nat} {l4 : Int32} {l5 : Int32} {w0 : Int64} {k_11 : HS → Nat → Nat → Nat → Nat → Int32 → Int32 → Option (Int64 × HS)} (nm_given : ∀ {st : HS} {this : Nat} {a1 : Nat} {a2 : Nat} {r : Int64 × HS}, g_given st this a1 a2 = some r → hle st r.2) (hm_11 : ∀ (st : HS) (l0 : Nat) (l1 : Nat) (l2 : Nat) (l3 : Nat) (l4 : Int32) (l5 : Int32), k_11 st l0 l1 l2 l3 l4 l5 = some r → hle st r.2) (h : x_NS_result_J137 g_given k_11 st l0 l1 l2 l3 l4 l5 w0 = some r) : hle st r.2 := by
  unfold x_NS_result_J137 at h
  exact n_x_NS_result_J163 nm_given hm_11 h
theorem n_x_NS_result_L11 {r : Int64 × HS} {g_given : HS → Nat → Nat → Nat → Option (Int64 × HS)} (nm_given : ∀ {st : HS} {this : Nat} {a1 : Nat} {a2 : Nat} {r : Int64 × HS}, g_given st this a1 a2 = some r → hle st r.2) : ∀ (n : Nat), ∀ (st : HS) (l0 : Nat) (l1 : Nat) (l2 : Nat) (l3 : Nat) (l4 : Int32) (l5 : Int32), x_NS_result_L11 g_given n st l0 l1 l2 l3 l4 l5 = some r → hle st r.2 := by
  intro n
  induction n with
  | zero => intro st l0 l1 l2 l3 l4 l5 h; exact absurd h (by simp [x_NS_result_L11])
  | succ n ih =>
    intro st l0 l1 l2 l3 l4 l5 h
    rw [x_NS_result_L11] at h
    replace h := obi h; obtain ⟨x1, ex1, h⟩ := h
    replace h := obi h; obtain ⟨ad2, rfl, h⟩ := h
    replace h := obi h; obtain ⟨x3, ex3, h⟩ := h
    rcases Decidable.em (x3 ≤ l5) with c18 | c18
    · replace h := ifp c18 h
      replace h := obi h; obtain ⟨x4, ex4, h⟩ := h
      cases h
      exact hle.rf
    · replace h := ifn c18 h
      replace h := obi h; obtain ⟨x5, ex5, h⟩ := h
      replace h := obi h; obtain ⟨ad6, rfl, h⟩ := h
      replace h := obi h; obtain ⟨x7, ex7, h⟩ := h
      replace h := obi h; obtain ⟨x8, ex8, h⟩ := h
      replace h := obi h; obtain ⟨ad9, rfl, h⟩ := h
      replace h := obi h; obtain ⟨x10, ex10, h⟩ := h
      replace h := obi h; obtain ⟨x11, ex11, h⟩ := h
      replace h := obi h; obtain ⟨ad12, rfl, h⟩ := h
      replace h := obi h; obtain ⟨u13, eu13, h⟩ := h
      replace h := obi h; obtain ⟨x14, ex14, h⟩ := h
      rcases Decidable.em (x14 = 0) with c47_0 | c47_0
      · replace h := ifp c47_0 h
        replace h := obi h; obtain ⟨x15, ex15, h⟩ := h
        replace h := obi h; obtain ⟨st16, est16, h⟩ := h
        exact ((hWl_ke est16).le).t (n_x_NS_result_J263 nm_given ih h)
      replace h := ifn c47_0 h
      rcases Decidable.em (x14 = 1) with c47_1 | c47_1
      · replace h := ifp c47_1 h
        rcases Decidable.em ((some ad12) = (some (hKc st 1))) with c122 | c122
        · replace h := ifp c122 h
          replace h := obi h; obtain ⟨x26, ex26, h⟩ := h
          replace h := obi h; obtain ⟨ad27, rfl, h⟩ := h
          replace h := obi h; obtain ⟨x28, ex28, h⟩ := h
          replace h := obi h; obtain ⟨ad29, rfl, h⟩ := h
          replace h := obi h; obtain ⟨u30, eu30, h⟩ := h
          replace h := obi h; obtain ⟨q31, eq31, h⟩ := h
          exact ((nm_given eq31)).t (n_x_NS_result_J137 nm_given ih h)
        · replace h := ifn c122 h
          replace h := obi h; obtain ⟨x17, ex17, h⟩ := h
          replace h := obi h; obtain ⟨x18, ex18, h⟩ := h
          replace h := obi h; obtain ⟨x19, ex19, h⟩ := h
          replace h := obi h; obtain ⟨x20, ex20, h⟩ := h
          replace h := obi h; obtain ⟨ad21, rfl, h⟩ := h
          replace h := obi h; obtain ⟨x22, ex22, h⟩ := h
          replace h := obi h; obtain ⟨ad23, rfl, h⟩ := h
          replace h := obi h; obtain ⟨u24, eu24, h⟩ := h
          replace h := obi h; obtain ⟨q25, eq25, h⟩ := h
          exact ((nm_given eq25)).t (n_x_NS_result_J163 nm_given ih h)
      replace h := ifn c47_1 h
      rcases Decidable.em (x14 = 2) with c47_2 | c47_2
      · replace h := ifp c47_2 h
        rcases Decidable.em ((some ad12) = (some (hKc st 1))) with c122 | c122
        · replace h := ifp c122 h
          replace h := obi h; obtain ⟨x41, ex41, h⟩ := h
          replace h := obi h; obtain ⟨ad42, rfl, h⟩ := h
          replace h := obi h; obtain ⟨x43, ex43, h⟩ := h
          replace h := obi h; obtain ⟨ad44, rfl, h⟩ := h
          replace h := obi h; obtain ⟨u45, eu45, h⟩ := h
          replace h := obi h; obtain ⟨q46, eq46, h⟩ := h
          exact ((nm_given eq46)).t (n_x_NS_result_J137 nm_given ih h)
        · replace h := ifn c122 h
          replace h := obi h; obtain ⟨x32, ex32, h⟩ := h
          replace h := obi h; obtain ⟨x33, ex33, h⟩ := h
          replace h := obi h; obtain ⟨x34, ex34, h⟩ := h
          replace h := obi h; obtain ⟨x35, ex35, h⟩ := h
          replace h := obi h; obtain ⟨ad36, rfl, h⟩ := h
          replace h := obi h; obtain ⟨x37, ex37, h⟩ := h
          replace h := obi h; obtain ⟨ad38, rfl, h⟩ := h
          replace h := obi h; obtain ⟨u39, eu39, h⟩ := h
          replace h := obi h; obtain ⟨q40, eq40, h⟩ := h
          exact ((nm_given eq40)).t (n_x_NS_result_J163 nm_given ih h)
      replace h := ifn c47_2 h
      rcases Decidable.em (x14 = 3) with c47_3 | c47_3
      · replace h := ifp c47_3 h
        replace h := obi h; obtain ⟨x47, ex47, h⟩ := h
        replace h := obi h; obtain ⟨x48, ex48, h⟩ := h
        replace h := obi h; obtain ⟨x49, ex49, h⟩ := h
        replace h := obi h; obtain ⟨x50, ex50, h⟩ := h
        replace h := obi h; obtain ⟨st51, est51, h⟩ := h
        exact ((hWl_ke est51).le).t (n_x_NS_result_J263 nm_given ih h)
      replace h := ifn c47_3 h
      rcases Decidable.em (x14 = 4) with c47_4 | c47_4
      · replace h := ifp c47_4 h
        replace h := obi h; obtain ⟨x52, ex52, h⟩ := h
        replace h := obi h; obtain ⟨x53, ex53, h⟩ := h
        replace h := obi h; obtain ⟨x54, ex54, h⟩ := h
        replace h := obi h; obtain ⟨x55, ex55, h⟩ := h
        replace h := obi h; obtain ⟨st56, est56, h⟩ := h
        exact ((hWl_ke est56).le).t (n_x_NS_result_J263 nm_given ih h)
      replace h := ifn c47_4 h
      rcases Decidable.em (x14 = 5) with c47_5 | c47_5
      · replace h := ifp c47_5 h
        replace h := obi h; obtain ⟨x57, ex57, h⟩ := h
        replace h := obi h; obtain ⟨x58, ex58, h⟩ := h
        replace h := obi h; obtain ⟨x59, ex59, h⟩ := h
        replace h := obi h; obtain ⟨x60, ex60, h⟩ := h
        replace h := obi h; obtain ⟨st61, est61, h⟩ := h
        exact ((hWl_ke est61).le).t (n_x_NS_result_J263 nm_given ih h)
      replace h := ifn c47_5 h
      rcases Decidable.em (x14 = 6) with c47_6 | c47_6
      · replace h := ifp c47_6 h
        replace h := obi h; obtain ⟨x62, ex62, h⟩ := h
        replace h := obi h; obtain ⟨st63, est63, h⟩ := h
        exact ((hWl_ke est63).le).t (n_x_NS_result_J263 nm_given ih h)
      replace h := ifn c47_6 h
      rcases Decidable.em (x14 = 7) with c47_7 | c47_7
      · replace h := ifp c47_7 h
        replace h := obi h; obtain ⟨x64, ex64, h⟩ := h
        replace h := obi h; obtain ⟨x65, ex65, h⟩ := h
        replace h := obi h; obtain ⟨x66, ex66, h⟩ := h
        replace h := obi h; obtain ⟨x67, ex67, h⟩ := h
        replace h := obi h; obtain ⟨st68, est68, h⟩ := h
        exact ((hWl_ke est68).le).t (n_x_NS_result_J263 nm_given ih h)
      replace h := ifn c47_7 h
      rcases Decidable.em (x14 = 8) with c47_8 | c47_8
      · replace h := ifp c47_8 h
        replace h := obi h; obtain ⟨x69, ex69, h⟩ := h
        replace h := obi h; obtain ⟨x70, ex70, h⟩ := h
        replace h := obi h; obtain ⟨x71, ex71, h⟩ := h
        replace h := obi h; obtain ⟨x72, ex72, h⟩ := h
        replace h := obi h; obtain ⟨st73, est73, h⟩ := h
        exact ((hWl_ke est73).le).t (n_x_NS_result_J263 nm_given ih h)
      replace h := ifn c47_8 h
      rcases Decidable.em (x14 = 9) with c47_9 | c47_9
      · replace h := ifp c47_9 h
        replace h := obi h; obtain ⟨x74, ex74, h⟩ := h
        replace h := obi h; obtain ⟨x75, ex75, h⟩ := h
        rcases Decidable.em ((lg_cmp x75 (0 : Int64)) = 0) with c217 | c217
        · replace h := ifp c217 h
          exact n_x_NS_result_J227 nm_given ih h
        · replace h := ifn c217 h
          exact n_x_NS_result_J227 nm_given ih h
      replace h := ifn c47_9 h
      rcases Decidable.em (x14 = 10) with c47_10 | c47_10
      · replace h := ifp c47_10 h
        exact n_x_NS_result_J263 nm_given ih h
      replace h := ifn c47_10 h
      replace h := obi h; obtain ⟨x76, ex76, h⟩ := h
      replace h := obi h; obtain ⟨x77, ex77, h⟩ := h
      replace h := obi h; obtain ⟨x78, ex78, h⟩ := h
      replace h := obi h; obtain ⟨x79, ex79, h⟩ := h
      replace h := obi h; obtain ⟨st80, est80, h⟩ := h
      exact ((hWl_ke est80).le).t (n_x_NS_result_J263 nm_given ih h)
theorem n_x_NS_result_J4 {r : Int64 × HS} {g_given : HS → Nat → Nat → Nat → Option (Int64 × HS)} {st : HS} {l0 : Nat} {l1 : Nat} {l2 : Nat} {w0 : Nat} (nm_given : ∀ {st : HS} {this : Nat} {a1 : Nat} {a2 : Nat} {r : Int64 × HS}, g_given st this a1 a2 = some r → hle st r.2) (h : x_NS_result_J4 g_given st l0 l1 l2 w0 = some r) : hle st r.2 := by
  unfold x_NS_result_J4 at h
  exact n_x_NS_result_L11 nm_given 1000 _ _ _ _ _ _ _ h
theorem n_x_NS_result {r : Int64 × HS} {g_given : HS → Nat → Nat → Nat → Option (Int64 × HS)} {st : HS} {this : Nat} {a1 : Nat} {a2 : Nat} (nm_given : ∀ {st : HS} {this : Nat} {a1 : Nat} {a2 : Nat} {r : Int64 × HS}, g_given st this a1 a2 = some r → hle st r.2) (h : x_NS_result g_given st this a1 a2 = some r) : hle st r.2 := by
  unfold x_NS_result at h
  replace h := obi h; obtain ⟨ad1, ead1, h⟩ := h
  replace h := obi h; obtain ⟨st2, est2, h⟩ := h
  exact ((hNewA_le est2)).t (n_x_NS_result_J4 nm_given h)
theorem n_x_NS_dropOne_J48 {r : HS} {st : HS} {l0 : Nat} {l1 : Option Nat} {l2 : Int32} {k_4 : HS → Nat → Option Nat → Int32 → Option HS} (hm_4 : ∀ (st : HS) (l0 : Nat) (l1 : Option Nat) (l2 : Int32), k_4 st l0 l1 l2 = some r → hke st r) (h : x_NS_dropOne_J48 k_4 st l0 l1 l2 = some r) : hke st r := by
  unfold x_NS_dropOne_J48 at h
  replace h := obi h; obtain ⟨x1, ex1, h⟩ := h
  exact hm_4 _ _ _ _ h
theorem n_x_NS_dropOne_J46 {r : HS} {st : HS} {l0 : Nat} {l2 : Int32} {l3 : Nat} {k_4 : HS → Nat → Option Nat → Int32 → Option HS} (hm_4 : ∀ (st : HS) (l0 : Nat) (l1 : Option Nat) (l2 : Int32), k_4 st l0 l1 l2 = some r → hke st r) (h : x_NS_dropOne_J46 k_4 st l0 l2 l3 = some r) : hke st r := by
  unfold x_NS_dropOne_J46 at h
  exact n_x_NS_dropOne_J48 hm_4 h
theorem n_x_NS_dropOne_L4 {r : HS} : ∀ (n : Nat), ∀ (st : HS) (l0 : Nat) (l1 : Option Nat) (l2 : Int32), x_NS_dropOne_L4 n st l0 l1 l2 = some r → hke st r := by
  intro n
  induction n with
  | zero => intro st l0 l1 l2 h; exact absurd h (by simp [x_NS_dropOne_L4])
  | succ n ih =>
    intro st l0 l1 l2 h
    rw [x_NS_dropOne_L4] at h
    rcases Decidable.em (12 ≤ l2) with c7 | c7
    · replace h := ifp c7 h
      rcases Decidable.em (l1 = none) with c55 | c55
      · replace h := ifp c55 h
        cases h
        exact hke.rf
      · replace h := ifn c55 h
        replace h := obi h; obtain ⟨ad1, rfl, h⟩ := h
        replace h := obi h; obtain ⟨st2, est2, h⟩ := h
        cases h
        exact (hP_ke est2)
    · replace h := ifn c7 h
      replace h := obi h; obtain ⟨x3, ex3, h⟩ := h
      replace h := obi h; obtain ⟨ad4, rfl, h⟩ := h
      replace h := obi h; obtain ⟨x5, ex5, h⟩ := h
      replace h := obi h; obtain ⟨ad6, rfl, h⟩ := h
      replace h := obi h; obtain ⟨x7, ex7, h⟩ := h
      rcases Decidable.em (x7 = none) with c21 | c21
      · replace h := ifp c21 h
        exact n_x_NS_dropOne_J48 ih h
      · replace h := ifn c21 h
        replace h := obi h; obtain ⟨ad8, rfl, h⟩ := h
        replace h := obi h; obtain ⟨x9, ex9, h⟩ := h
        rcases Decidable.em (x9 = 0) with c28 | c28
        · replace h := ifp c28 h
          exact n_x_NS_dropOne_J48 ih h
        · replace h := ifn c28 h
          rcases Decidable.em (l1 = none) with c32 | c32
          · replace h := ifp c32 h
            exact n_x_NS_dropOne_J46 ih h
          · replace h := ifn c32 h
            replace h := obi h; obtain ⟨x10, ex10, h⟩ := h
            replace h := obi h; obtain ⟨ad11, rfl, h⟩ := h
            replace h := obi h; obtain ⟨x12, ex12, h⟩ := h
            rcases Decidable.em (x12 ≤ x10) with c43 | c43
            · replace h := ifp c43 h
              exact n_x_NS_dropOne_J48 ih h
            · replace h := ifn c43 h
              exact n_x_NS_dropOne_J46 ih h
theorem n_x_NS_dropOne {r : HS} {st : HS} {this : Nat} (h : x_NS_dropOne st this = some r) : hke st r := by
  unfold x_NS_dropOne at h
  exact n_x_NS_dropOne_L4 1000 _ _ _ _ h
theorem n_x_Rdr_one {r : HS} {g_formula : HS → Nat → Int32 → Option HS} {st : HS} {this : Nat} {a1 : Int32} (nm_formula : ∀ {st : HS} {this : Nat} {a1 : Int32} {r : HS}, g_formula st this a1 = some r → hke st r) (h : x_Rdr_one g_formula st this a1 = some r) : hke st r := by
  unfold x_Rdr_one at h
  replace h := obi h; obtain ⟨x1, ex1, h⟩ := h
  rcases Decidable.em (x1 = 0) with c4 | c4
  · replace h := ifp c4 h
    replace h := obi h; obtain ⟨u2, eu2, h⟩ := h
    replace h := obi h; obtain ⟨st3, est3, h⟩ := h
    cases h
    exact (nm_formula est3)
  · replace h := ifn c4 h
    cases h
    exact hke.rf
theorem n_x_Rdr_comparison_J42 {r : HS} {g_sum : HS → Nat → Int32 → Option HS} {st : HS} {l0 : Nat} {l1 : Int32} {l2 : Nat} (nm_sum : ∀ {st : HS} {this : Nat} {a1 : Int32} {r : HS}, g_sum st this a1 = some r → hke st r) (h : x_Rdr_comparison_J42 g_sum st l0 l1 l2 = some r) : hke st r := by
  unfold x_Rdr_comparison_J42 at h
  replace h := obi h; obtain ⟨u1, eu1, h⟩ := h
  replace h := obi h; obtain ⟨st2, est2, h⟩ := h
  replace h := obi h; obtain ⟨u3, eu3, h⟩ := h
  replace h := obi h; obtain ⟨q4, eq4, h⟩ := h
  cases h
  exact ((nm_sum est2)).t ((n_x_Rdr_put eq4))
theorem n_x_Rdr_comparison_J23 {r : HS} {g_sum : HS → Nat → Int32 → Option HS} {st : HS} {l0 : Nat} {l1 : Int32} {w0 : Nat} (nm_sum : ∀ {st : HS} {this : Nat} {a1 : Int32} {r : HS}, g_sum st this a1 = some r → hke st r) (h : x_Rdr_comparison_J23 g_sum st l0 l1 w0 = some r) : hke st r := by
  unfold x_Rdr_comparison_J23 at h
  replace h := obi h; obtain ⟨u1, eu1, h⟩ := h
  replace h := obi h; obtain ⟨q2, eq2, h⟩ := h
  rcases Decidable.em (q2.1 = 0) with c30 | c30
  · replace h := ifp c30 h
    replace h := obi h; obtain ⟨u3, eu3, h⟩ := h
    replace h := obi h; obtain ⟨q4, eq4, h⟩ := h
    rcases Decidable.em (q4.1 = 0) with c39 | c39
    · replace h := ifp c39 h
      cases h
      exact ((n_x_Rdr_takes eq2)).t ((n_x_Rdr_takes eq4))
    · replace h := ifn c39 h
      exact ((n_x_Rdr_takes eq2)).t (((n_x_Rdr_takes eq4)).t (n_x_Rdr_comparison_J42 nm_sum h))
  · replace h := ifn c30 h
    exact ((n_x_Rdr_takes eq2)).t (n_x_Rdr_comparison_J42 nm_sum h)
theorem n_x_Rdr_comparison {r : HS} {g_sum : HS → Nat → Int32 → Option HS} {st : HS} {this : Nat} {a1 : Int32} (nm_sum : ∀ {st : HS} {this : Nat} {a1 : Int32} {r : HS}, g_sum st this a1 = some r → hke st r) (h : x_Rdr_comparison g_sum st this a1 = some r) : hke st r := by
  unfold x_Rdr_comparison at h
  replace h := obi h; obtain ⟨u1, eu1, h⟩ := h
  replace h := obi h; obtain ⟨st2, est2, h⟩ := h
  replace h := obi h; obtain ⟨u3, eu3, h⟩ := h
  replace h := obi h; obtain ⟨x4, ex4, h⟩ := h
  rcases Decidable.em (x4 = 60) with c11 | c11
  · replace h := ifp c11 h
    exact ((nm_sum est2)).t (n_x_Rdr_comparison_J23 nm_sum h)
  · replace h := ifn c11 h
    exact ((nm_sum est2)).t (n_x_Rdr_comparison_J23 nm_sum h)
theorem n_x_Rdr_sum_J59 {r : HS} {g_product : HS → Nat → Int32 → Option HS} {st : HS} {l0 : Nat} {l1 : Int32} {l2 : Nat} {k_5 : HS → Nat → Int32 → Option HS} (nm_product : ∀ {st : HS} {this : Nat} {a1 : Int32} {r : HS}, g_product st this a1 = some r → hke st r) (hm_5 : ∀ (st : HS) (l0 : Nat) (l1 : Int32), k_5 st l0 l1 = some r → hke st r) (h : x_Rdr_sum_J59 g_product k_5 st l0 l1 l2 = some r) : hke st r := by
  unfold x_Rdr_sum_J59 at h
  replace h := obi h; obtain ⟨u1, eu1, h⟩ := h
  replace h := obi h; obtain ⟨st2, est2, h⟩ := h
  replace h := obi h; obtain ⟨u3, eu3, h⟩ := h
  replace h := obi h; obtain ⟨q4, eq4, h⟩ := h
  exact ((nm_product est2)).t (((n_x_Rdr_put eq4)).t (hm_5 _ _ _ h))
theorem n_x_Rdr_sum_J41 {r : HS} {g_product : HS → Nat → Int32 → Option HS} {st : HS} {l0 : Nat} {l1 : Int32} {w0 : Nat} {k_5 : HS → Nat → Int32 → Option HS} (nm_product : ∀ {st : HS} {this : Nat} {a1 : Int32} {r : HS}, g_product st this a1 = some r → hke st r) (hm_5 : ∀ (st : HS) (l0 : Nat) (l1 : Int32), k_5 st l0 l1 = some r → hke st r) (h : x_Rdr_sum_J41 g_product k_5 st l0 l1 w0 = some r) : hke st r := by
  unfold x_Rdr_sum_J41 at h
  rcases Decidable.em ((some w0) = (some (hKc st 4))) with c46 | c46
  · replace h := ifp c46 h
    replace h := obi h; obtain ⟨x1, ex1, h⟩ := h
    replace h := obi h; obtain ⟨st2, est2, h⟩ := h
    exact ((hP_ke est2)).t (n_x_Rdr_sum_J59 nm_product hm_5 h)
  · replace h := ifn c46 h
    exact n_x_Rdr_sum_J59 nm_product hm_5 h
theorem n_x_Rdr_sum_J23 {r : HS} {g_product : HS → Nat → Int32 → Option HS} {st : HS} {l0 : Nat} {l1 : Int32} {k_5 : HS → Nat → Int32 → Option HS} (nm_product : ∀ {st : HS} {this : Nat} {a1 : Int32} {r : HS}, g_product st this a1 = some r → hke st r) (hm_5 : ∀ (st : HS) (l0 : Nat) (l1 : Int32), k_5 st l0 l1 = some r → hke st r) (h : x_Rdr_sum_J23 g_product k_5 st l0 l1 = some r) : hke st r := by
  unfold x_Rdr_sum_J23 at h
  replace h := obi h; obtain ⟨u1, eu1, h⟩ := h
  replace h := obi h; obtain ⟨q2, eq2, h⟩ := h
  rcases Decidable.em (q2.1 = 0) with c29 | c29
  · replace h := ifp c29 h
    exact ((n_x_Rdr_takes eq2)).t (n_x_Rdr_sum_J41 nm_product hm_5 h)
  · replace h := ifn c29 h
    exact ((n_x_Rdr_takes eq2)).t (n_x_Rdr_sum_J41 nm_product hm_5 h)
theorem n_x_Rdr_sum_L5 {r : HS} {g_product : HS → Nat → Int32 → Option HS} (nm_product : ∀ {st : HS} {this : Nat} {a1 : Int32} {r : HS}, g_product st this a1 = some r → hke st r) : ∀ (n : Nat), ∀ (st : HS) (l0 : Nat) (l1 : Int32), x_Rdr_sum_L5 g_product n st l0 l1 = some r → hke st r := by
  intro n
  induction n with
  | zero => intro st l0 l1 h; exact absurd h (by simp [x_Rdr_sum_L5])
  | succ n ih =>
    intro st l0 l1 h
    rw [x_Rdr_sum_L5] at h
    replace h := obi h; obtain ⟨u1, eu1, h⟩ := h
    replace h := obi h; obtain ⟨x2, ex2, h⟩ := h
    rcases Decidable.em (x2 = 43) with c11 | c11
    · replace h := ifp c11 h
      exact n_x_Rdr_sum_J23 nm_product ih h
    · replace h := ifn c11 h
      replace h := obi h; obtain ⟨u3, eu3, h⟩ := h
      replace h := obi h; obtain ⟨x4, ex4, h⟩ := h
      rcases Decidable.em (x4 = 45) with c20 | c20
      · replace h := ifp c20 h
        exact n_x_Rdr_sum_J23 nm_product ih h
      · replace h := ifn c20 h
        cases h
        exact hke.rf
theorem n_x_Rdr_sum {r : HS} {g_product : HS → Nat → Int32 → Option HS} {st : HS} {this : Nat} {a1 : Int32} (nm_product : ∀ {st : HS} {this : Nat} {a1 : Int32} {r : HS}, g_product st this a1 = some r → hke st r) (h : x_Rdr_sum g_product st this a1 = some r) : hke st r := by
  unfold x_Rdr_sum at h
  replace h := obi h; obtain ⟨u1, eu1, h⟩ := h
  replace h := obi h; obtain ⟨st2, est2, h⟩ := h
  exact ((nm_product est2)).t (n_x_Rdr_sum_L5 nm_product 1000 _ _ _ h)
theorem n_x_Rdr_product_L5 {r : HS} {g_unitIn : HS → Nat → Int32 → Option HS} (nm_unitIn : ∀ {st : HS} {this : Nat} {a1 : Int32} {r : HS}, g_unitIn st this a1 = some r → hke st r) : ∀ (n : Nat), ∀ (st : HS) (l0 : Nat) (l1 : Int32), x_Rdr_product_L5 g_unitIn n st l0 l1 = some r → hke st r := by
  intro n
  induction n with
  | zero => intro st l0 l1 h; exact absurd h (by simp [x_Rdr_product_L5])
  | succ n ih =>
    intro st l0 l1 h
    rw [x_Rdr_product_L5] at h
    replace h := obi h; obtain ⟨u1, eu1, h⟩ := h
    replace h := obi h; obtain ⟨q2, eq2, h⟩ := h
    rcases Decidable.em (q2.1 = 0) with c11 | c11
    · replace h := ifp c11 h
      cases h
      exact (n_x_Rdr_takes eq2)
    · replace h := ifn c11 h
      replace h := obi h; obtain ⟨u3, eu3, h⟩ := h
      replace h := obi h; obtain ⟨st4, est4, h⟩ := h
      replace h := obi h; obtain ⟨u5, eu5, h⟩ := h
      replace h := obi h; obtain ⟨q6, eq6, h⟩ := h
      exact ((n_x_Rdr_takes eq2)).t (((nm_unitIn est4)).t (((n_x_Rdr_put eq6)).t (ih _ _ _ h)))
theorem n_x_Rdr_product {r : HS} {g_unitIn : HS → Nat → Int32 → Option HS} {st : HS} {this : Nat} {a1 : Int32} (nm_unitIn : ∀ {st : HS} {this : Nat} {a1 : Int32} {r : HS}, g_unitIn st this a1 = some r → hke st r) (h : x_Rdr_product g_unitIn st this a1 = some r) : hke st r := by
  unfold x_Rdr_product at h
  replace h := obi h; obtain ⟨u1, eu1, h⟩ := h
  replace h := obi h; obtain ⟨st2, est2, h⟩ := h
  exact ((nm_unitIn est2)).t (n_x_Rdr_product_L5 nm_unitIn 1000 _ _ _ h)
theorem n_x_Rdr_unitIn {r : HS} {g_unit : HS → Nat → Int32 → Option HS} {st : HS} {this : Nat} {a1 : Int32} (nm_unit : ∀ {st : HS} {this : Nat} {a1 : Int32} {r : HS}, g_unit st this a1 = some r → hke st r) (h : x_Rdr_unitIn g_unit st this a1 = some r) : hke st r := by
  unfold x_Rdr_unitIn at h
  replace h := obi h; obtain ⟨x1, ex1, h⟩ := h
  rcases Decidable.em (x1 = 0) with c4 | c4
  · replace h := ifp c4 h
    replace h := obi h; obtain ⟨u2, eu2, h⟩ := h
    replace h := obi h; obtain ⟨st3, est3, h⟩ := h
    cases h
    exact (nm_unit est3)
  · replace h := ifn c4 h
    cases h
    exact hke.rf
theorem n_x_Rdr_unit_J208 {r : HS} {g_one : HS → Nat → Int32 → Option HS} {g_unitIn : HS → Nat → Int32 → Option HS} {st : HS} {l0 : Nat} (nm_one : ∀ {st : HS} {this : Nat} {a1 : Int32} {r : HS}, g_one st this a1 = some r → hke st r) (nm_unitIn : ∀ {st : HS} {this : Nat} {a1 : Int32} {r : HS}, g_unitIn st this a1 = some r → hke st r) (h : x_Rdr_unit_J208 g_one g_unitIn st l0 = some r) : hke st r := by
  unfold x_Rdr_unit_J208 at h
  replace h := obi h; obtain ⟨st1, est1, h⟩ := h
  cases h
  exact (hP_ke est1)
theorem n_x_Rdr_unit_J200 {r : HS} {g_one : HS → Nat → Int32 → Option HS} {g_unitIn : HS → Nat → Int32 → Option HS} {st : HS} {w0 : Nat} {w1 : Nat} (nm_one : ∀ {st : HS} {this : Nat} {a1 : Int32} {r : HS}, g_one st this a1 = some r → hke st r) (nm_unitIn : ∀ {st : HS} {this : Nat} {a1 : Int32} {r : HS}, g_unitIn st this a1 = some r → hke st r) (h : x_Rdr_unit_J200 g_one g_unitIn st w0 w1 = some r) : hke st r := by
  unfold x_Rdr_unit_J200 at h
  replace h := obi h; obtain ⟨u1, eu1, h⟩ := h
  replace h := obi h; obtain ⟨q2, eq2, h⟩ := h
  cases h
  exact (n_x_Rdr_put eq2)
theorem n_x_Rdr_unit_J177 {r : HS} {g_one : HS → Nat → Int32 → Option HS} {g_unitIn : HS → Nat → Int32 → Option HS} {st : HS} {l0 : Nat} {l1 : Int32} {l2 : Int32} (nm_one : ∀ {st : HS} {this : Nat} {a1 : Int32} {r : HS}, g_one st this a1 = some r → hke st r) (nm_unitIn : ∀ {st : HS} {this : Nat} {a1 : Int32} {r : HS}, g_unitIn st this a1 = some r → hke st r) (h : x_Rdr_unit_J177 g_one g_unitIn st l0 l1 l2 = some r) : hke st r := by
  unfold x_Rdr_unit_J177 at h
  replace h := obi h; obtain ⟨u1, eu1, h⟩ := h
  replace h := obi h; obtain ⟨st2, est2, h⟩ := h
  rcases Decidable.em (l2 = 45) with c188 | c188
  · replace h := ifp c188 h
    exact ((nm_unitIn est2)).t (n_x_Rdr_unit_J200 nm_one nm_unitIn h)
  · replace h := ifn c188 h
    exact ((nm_unitIn est2)).t (n_x_Rdr_unit_J200 nm_one nm_unitIn h)
theorem n_x_Rdr_unit_J154 {r : HS} {g_one : HS → Nat → Int32 → Option HS} {g_unitIn : HS → Nat → Int32 → Option HS} {st : HS} {l0 : Nat} {l1 : Int32} {l2 : Int32} (nm_one : ∀ {st : HS} {this : Nat} {a1 : Int32} {r : HS}, g_one st this a1 = some r → hke st r) (nm_unitIn : ∀ {st : HS} {this : Nat} {a1 : Int32} {r : HS}, g_unitIn st this a1 = some r → hke st r) (h : x_Rdr_unit_J154 g_one g_unitIn st l0 l1 l2 = some r) : hke st r := by
  unfold x_Rdr_unit_J154 at h
  rcases Decidable.em (5 ≤ l1) with c156 | c156
  · replace h := ifp c156 h
    exact n_x_Rdr_unit_J208 nm_one nm_unitIn h
  · replace h := ifn c156 h
    replace h := obi h; obtain ⟨u1, eu1, h⟩ := h
    replace h := obi h; obtain ⟨q2, eq2, h⟩ := h
    rcases Decidable.em (q2.1 = 0) with c165 | c165
    · replace h := ifp c165 h
      replace h := obi h; obtain ⟨u3, eu3, h⟩ := h
      replace h := obi h; obtain ⟨q4, eq4, h⟩ := h
      rcases Decidable.em (q4.1 = 0) with c174 | c174
      · replace h := ifp c174 h
        exact ((n_x_Rdr_takes eq2)).t (((n_x_Rdr_takes eq4)).t (n_x_Rdr_unit_J208 nm_one nm_unitIn h))
      · replace h := ifn c174 h
        exact ((n_x_Rdr_takes eq2)).t (((n_x_Rdr_takes eq4)).t (n_x_Rdr_unit_J177 nm_one nm_unitIn h))
    · replace h := ifn c165 h
      exact ((n_x_Rdr_takes eq2)).t (n_x_Rdr_unit_J177 nm_one nm_unitIn h)
theorem n_x_Rdr_unit_J124 {r : HS} {g_one : HS → Nat → Int32 → Option HS} {g_unitIn : HS → Nat → Int32 → Option HS} {st : HS} {l0 : Nat} {l1 : Int32} {l2 : Int32} (nm_one : ∀ {st : HS} {this : Nat} {a1 : Int32} {r : HS}, g_one st this a1 = some r → hke st r) (nm_unitIn : ∀ {st : HS} {this : Nat} {a1 : Int32} {r : HS}, g_unitIn st this a1 = some r → hke st r) (h : x_Rdr_unit_J124 g_one g_unitIn st l0 l1 l2 = some r) : hke st r := by
  unfold x_Rdr_unit_J124 at h
  rcases Decidable.em (5 ≤ l1) with c126 | c126
  · replace h := ifp c126 h
    exact n_x_Rdr_unit_J154 nm_one nm_unitIn h
  · replace h := ifn c126 h
    replace h := obi h; obtain ⟨u1, eu1, h⟩ := h
    replace h := obi h; obtain ⟨q2, eq2, h⟩ := h
    rcases Decidable.em (q2.1 = 0) with c135 | c135
    · replace h := ifp c135 h
      exact ((n_x_Rdr_takes eq2)).t (n_x_Rdr_unit_J154 nm_one nm_unitIn h)
    · replace h := ifn c135 h
      replace h := obi h; obtain ⟨u3, eu3, h⟩ := h
      replace h := obi h; obtain ⟨st4, est4, h⟩ := h
      replace h := obi h; obtain ⟨u5, eu5, h⟩ := h
      replace h := obi h; obtain ⟨st6, est6, h⟩ := h
      cases h
      exact ((n_x_Rdr_takes eq2)).t (((nm_one est4)).t ((n_x_Rdr_need est6)))
theorem n_x_Rdr_unit_J112 {r : HS} {g_one : HS → Nat → Int32 → Option HS} {g_unitIn : HS → Nat → Int32 → Option HS} {st : HS} {l0 : Nat} {l3 : Int32} (nm_one : ∀ {st : HS} {this : Nat} {a1 : Int32} {r : HS}, g_one st this a1 = some r → hke st r) (nm_unitIn : ∀ {st : HS} {this : Nat} {a1 : Int32} {r : HS}, g_unitIn st this a1 = some r → hke st r) (h : x_Rdr_unit_J112 g_one g_unitIn st l0 l3 = some r) : hke st r := by
  unfold x_Rdr_unit_J112 at h
  replace h := obi h; obtain ⟨u1, eu1, h⟩ := h
  replace h := obi h; obtain ⟨q2, eq2, h⟩ := h
  cases h
  exact (n_x_Rdr_put eq2)
theorem n_x_Rdr_unit_L59 {r : HS} {g_one : HS → Nat → Int32 → Option HS} {g_unitIn : HS → Nat → Int32 → Option HS} (nm_one : ∀ {st : HS} {this : Nat} {a1 : Int32} {r : HS}, g_one st this a1 = some r → hke st r) (nm_unitIn : ∀ {st : HS} {this : Nat} {a1 : Int32} {r : HS}, g_unitIn st this a1 = some r → hke st r) : ∀ (n : Nat), ∀ (st : HS) (l0 : Nat) (l3 : Int32) (l4 : Int32), x_Rdr_unit_L59 g_one g_unitIn n st l0 l3 l4 = some r → hke st r := by
  intro n
  induction n with
  | zero => intro st l0 l3 l4 h; exact absurd h (by simp [x_Rdr_unit_L59])
  | succ n ih =>
    intro st l0 l3 l4 h
    rw [x_Rdr_unit_L59] at h
    rcases Decidable.em (4 ≤ l4) with c62 | c62
    · replace h := ifp c62 h
      exact n_x_Rdr_unit_J112 nm_one nm_unitIn h
    · replace h := ifn c62 h
      replace h := obi h; obtain ⟨u1, eu1, h⟩ := h
      replace h := obi h; obtain ⟨x2, ex2, h⟩ := h
      rcases Decidable.em (x2 < 48) with c71 | c71
      · replace h := ifp c71 h
        exact n_x_Rdr_unit_J112 nm_one nm_unitIn h
      · replace h := ifn c71 h
        replace h := obi h; obtain ⟨u3, eu3, h⟩ := h
        replace h := obi h; obtain ⟨x4, ex4, h⟩ := h
        rcases Decidable.em (57 < x4) with c80 | c80
        · replace h := ifp c80 h
          exact n_x_Rdr_unit_J112 nm_one nm_unitIn h
        · replace h := ifn c80 h
          replace h := obi h; obtain ⟨u5, eu5, h⟩ := h
          replace h := obi h; obtain ⟨x6, ex6, h⟩ := h
          replace h := obi h; obtain ⟨x7, ex7, h⟩ := h
          replace h := obi h; obtain ⟨x8, ex8, h⟩ := h
          replace h := obi h; obtain ⟨st9, est9, h⟩ := h
          replace h := obi h; obtain ⟨x10, ex10, h⟩ := h
          exact ((hP_ke est9)).t (ih _ _ _ _ h)
theorem n_x_Rdr_unit_J42 {r : HS} {g_one : HS → Nat → Int32 → Option HS} {g_unitIn : HS → Nat → Int32 → Option HS} {st : HS} {l0 : Nat} {l1 : Int32} {l2 : Int32} (nm_one : ∀ {st : HS} {this : Nat} {a1 : Int32} {r : HS}, g_one st this a1 = some r → hke st r) (nm_unitIn : ∀ {st : HS} {this : Nat} {a1 : Int32} {r : HS}, g_unitIn st this a1 = some r → hke st r) (h : x_Rdr_unit_J42 g_one g_unitIn st l0 l1 l2 = some r) : hke st r := by
  unfold x_Rdr_unit_J42 at h
  rcases Decidable.em (l2 < 48) with c45 | c45
  · replace h := ifp c45 h
    exact n_x_Rdr_unit_J124 nm_one nm_unitIn h
  · replace h := ifn c45 h
    rcases Decidable.em (57 < l2) with c51 | c51
    · replace h := ifp c51 h
      exact n_x_Rdr_unit_J124 nm_one nm_unitIn h
    · replace h := ifn c51 h
      exact n_x_Rdr_unit_L59 nm_one nm_unitIn 1000 _ _ _ _ h
theorem n_x_Rdr_unit {r : HS} {g_one : HS → Nat → Int32 → Option HS} {g_unitIn : HS → Nat → Int32 → Option HS} {st : HS} {this : Nat} {a1 : Int32} (nm_one : ∀ {st : HS} {this : Nat} {a1 : Int32} {r : HS}, g_one st this a1 = some r → hke st r) (nm_unitIn : ∀ {st : HS} {this : Nat} {a1 : Int32} {r : HS}, g_unitIn st this a1 = some r → hke st r) (h : x_Rdr_unit g_one g_unitIn st this a1 = some r) : hke st r := by
  unfold x_Rdr_unit at h
  replace h := obi h; obtain ⟨u1, eu1, h⟩ := h
  replace h := obi h; obtain ⟨x2, ex2, h⟩ := h
  rcases Decidable.em (x2 < 65) with c8 | c8
  · replace h := ifp c8 h
    exact n_x_Rdr_unit_J42 nm_one nm_unitIn h
  · replace h := ifn c8 h
    rcases Decidable.em (76 < x2) with c14 | c14
    · replace h := ifp c14 h
      exact n_x_Rdr_unit_J42 nm_one nm_unitIn h
    · replace h := ifn c14 h
      replace h := obi h; obtain ⟨x3, ex3, h⟩ := h
      replace h := obi h; obtain ⟨st4, est4, h⟩ := h
      replace h := obi h; obtain ⟨u5, eu5, h⟩ := h
      replace h := obi h; obtain ⟨q6, eq6, h⟩ := h
      cases h
      exact ((hP_ke est4)).t ((n_x_Rdr_put eq6))
theorem n_x_Mod_init_J323 {r : HS} {st : HS} {w0 : Int32} {w1 : Nat} (h : x_Mod_init_J323 st w0 w1 = some r) : hle st r := by
  unfold x_Mod_init_J323 at h
  replace h := obi h; obtain ⟨st1, est1, h⟩ := h
  cases h
  exact (hP_ke est1).le
theorem n_x_Mod_init_J298 {r : HS} {st : HS} {l0 : Nat} {l1 : Int32} {w0 : Nat} {w1 : Nat} (h : x_Mod_init_J298 st l0 l1 w0 w1 = some r) : hle st r := by
  unfold x_Mod_init_J298 at h
  replace h := obi h; obtain ⟨st1, est1, h⟩ := h
  rcases Decidable.em (1 ≤ l1) with c304 | c304
  · replace h := ifp c304 h
    rcases Decidable.em (l1 ≤ 12) with c314 | c314
    · replace h := ifp c314 h
      exact ((hP_ke est1).le).t (n_x_Mod_init_J323 h)
    · replace h := ifn c314 h
      exact ((hP_ke est1).le).t (n_x_Mod_init_J323 h)
  · replace h := ifn c304 h
    exact ((hP_ke est1).le).t (n_x_Mod_init_J323 h)
theorem n_x_Mod_init_J290 {r : HS} {st : HS} {l0 : Nat} {l1 : Int32} {w0 : Nat} {w1 : Nat} (h : x_Mod_init_J290 st l0 l1 w0 w1 = some r) : hle st r := by
  unfold x_Mod_init_J290 at h
  replace h := obi h; obtain ⟨st1, est1, h⟩ := h
  replace h := obi h; obtain ⟨ad2, ead2, h⟩ := h
  replace h := obi h; obtain ⟨st3, est3, h⟩ := h
  exact ((hP_ke est1).le).t (((hNewA_le est3)).t (n_x_Mod_init_J298 h))
theorem n_x_Mod_init_J282 {r : HS} {st : HS} {l0 : Nat} {l1 : Int32} {w0 : Nat} {w1 : Nat} (h : x_Mod_init_J282 st l0 l1 w0 w1 = some r) : hle st r := by
  unfold x_Mod_init_J282 at h
  replace h := obi h; obtain ⟨st1, est1, h⟩ := h
  replace h := obi h; obtain ⟨ad2, ead2, h⟩ := h
  replace h := obi h; obtain ⟨st3, est3, h⟩ := h
  exact ((hP_ke est1).le).t (((hNewA_le est3)).t (n_x_Mod_init_J290 h))
theorem n_x_Mod_init_J274 {r : HS} {st : HS} {l0 : Nat} {l1 : Int32} {w0 : Nat} {w1 : Nat} (h : x_Mod_init_J274 st l0 l1 w0 w1 = some r) : hle st r := by
  unfold x_Mod_init_J274 at h
  replace h := obi h; obtain ⟨st1, est1, h⟩ := h
  replace h := obi h; obtain ⟨ad2, ead2, h⟩ := h
  replace h := obi h; obtain ⟨st3, est3, h⟩ := h
  exact ((hP_ke est1).le).t (((hNewA_le est3)).t (n_x_Mod_init_J282 h))
theorem n_x_Mod_init_J266 {r : HS} {st : HS} {l0 : Nat} {l1 : Int32} {w0 : Nat} {w1 : Nat} (h : x_Mod_init_J266 st l0 l1 w0 w1 = some r) : hle st r := by
  unfold x_Mod_init_J266 at h
  replace h := obi h; obtain ⟨st1, est1, h⟩ := h
  replace h := obi h; obtain ⟨ad2, ead2, h⟩ := h
  replace h := obi h; obtain ⟨st3, est3, h⟩ := h
  exact ((hP_ke est1).le).t (((hNewA_le est3)).t (n_x_Mod_init_J274 h))
theorem n_x_Mod_init_J258 {r : HS} {st : HS} {l0 : Nat} {l1 : Int32} {w0 : Nat} {w1 : Nat} (h : x_Mod_init_J258 st l0 l1 w0 w1 = some r) : hle st r := by
  unfold x_Mod_init_J258 at h
  replace h := obi h; obtain ⟨st1, est1, h⟩ := h
  replace h := obi h; obtain ⟨ad2, ead2, h⟩ := h
  replace h := obi h; obtain ⟨st3, est3, h⟩ := h
  exact ((hP_ke est1).le).t (((hNewA_le est3)).t (n_x_Mod_init_J266 h))
theorem n_x_Mod_init_J250 {r : HS} {st : HS} {l0 : Nat} {l1 : Int32} {w0 : Nat} {w1 : Nat} (h : x_Mod_init_J250 st l0 l1 w0 w1 = some r) : hle st r := by
  unfold x_Mod_init_J250 at h
  replace h := obi h; obtain ⟨st1, est1, h⟩ := h
  replace h := obi h; obtain ⟨ad2, ead2, h⟩ := h
  replace h := obi h; obtain ⟨st3, est3, h⟩ := h
  exact ((hP_ke est1).le).t (((hNewA_le est3)).t (n_x_Mod_init_J258 h))
theorem n_x_Mod_init_J241 {r : HS} {st : HS} {l0 : Nat} {l1 : Int32} {w0 : Nat} {w1 : Nat} (h : x_Mod_init_J241 st l0 l1 w0 w1 = some r) : hle st r := by
  unfold x_Mod_init_J241 at h
  replace h := obi h; obtain ⟨st1, est1, h⟩ := h
  replace h := obi h; obtain ⟨ad2, ead2, h⟩ := h
  replace h := obi h; obtain ⟨st3, est3, h⟩ := h
  exact ((hP_ke est1).le).t (((hNewA_le est3)).t (n_x_Mod_init_J250 h))
theorem n_x_Mod_init_J233 {r : HS} {st : HS} {l0 : Nat} {l1 : Int32} {w0 : Nat} {w1 : Nat} (h : x_Mod_init_J233 st l0 l1 w0 w1 = some r) : hle st r := by
  unfold x_Mod_init_J233 at h
  replace h := obi h; obtain ⟨st1, est1, h⟩ := h
  replace h := obi h; obtain ⟨ad2, ead2, h⟩ := h
  replace h := obi h; obtain ⟨st3, est3, h⟩ := h
  exact ((hP_ke est1).le).t (((hNewA_le est3)).t (n_x_Mod_init_J241 h))
theorem n_x_Mod_init_J224 {r : HS} {st : HS} {l0 : Nat} {l1 : Int32} {w0 : Nat} {w1 : Nat} (h : x_Mod_init_J224 st l0 l1 w0 w1 = some r) : hle st r := by
  unfold x_Mod_init_J224 at h
  replace h := obi h; obtain ⟨st1, est1, h⟩ := h
  replace h := obi h; obtain ⟨ad2, ead2, h⟩ := h
  replace h := obi h; obtain ⟨st3, est3, h⟩ := h
  exact ((hP_ke est1).le).t (((hNewA_le est3)).t (n_x_Mod_init_J233 h))
theorem n_x_Mod_init_J216 {r : HS} {st : HS} {l0 : Nat} {l1 : Int32} {w0 : Nat} {w1 : Nat} (h : x_Mod_init_J216 st l0 l1 w0 w1 = some r) : hle st r := by
  unfold x_Mod_init_J216 at h
  replace h := obi h; obtain ⟨st1, est1, h⟩ := h
  replace h := obi h; obtain ⟨ad2, ead2, h⟩ := h
  replace h := obi h; obtain ⟨st3, est3, h⟩ := h
  exact ((hP_ke est1).le).t (((hNewA_le est3)).t (n_x_Mod_init_J224 h))
theorem n_x_Mod_init_J208 {r : HS} {st : HS} {l0 : Nat} {l1 : Int32} {w0 : Nat} {w1 : Nat} (h : x_Mod_init_J208 st l0 l1 w0 w1 = some r) : hle st r := by
  unfold x_Mod_init_J208 at h
  replace h := obi h; obtain ⟨st1, est1, h⟩ := h
  replace h := obi h; obtain ⟨ad2, ead2, h⟩ := h
  replace h := obi h; obtain ⟨st3, est3, h⟩ := h
  exact ((hP_ke est1).le).t (((hNewA_le est3)).t (n_x_Mod_init_J216 h))
theorem n_x_Mod_init_J200 {r : HS} {st : HS} {l0 : Nat} {l1 : Int32} {w0 : Nat} {w1 : Nat} (h : x_Mod_init_J200 st l0 l1 w0 w1 = some r) : hle st r := by
  unfold x_Mod_init_J200 at h
  replace h := obi h; obtain ⟨st1, est1, h⟩ := h
  replace h := obi h; obtain ⟨ad2, ead2, h⟩ := h
  replace h := obi h; obtain ⟨st3, est3, h⟩ := h
  exact ((hP_ke est1).le).t (((hNewA_le est3)).t (n_x_Mod_init_J208 h))
theorem n_x_Mod_init_J192 {r : HS} {st : HS} {l0 : Nat} {l1 : Int32} {w0 : Nat} {w1 : Nat} (h : x_Mod_init_J192 st l0 l1 w0 w1 = some r) : hle st r := by
  unfold x_Mod_init_J192 at h
  replace h := obi h; obtain ⟨st1, est1, h⟩ := h
  replace h := obi h; obtain ⟨ad2, ead2, h⟩ := h
  replace h := obi h; obtain ⟨st3, est3, h⟩ := h
  exact ((hP_ke est1).le).t (((hNewA_le est3)).t (n_x_Mod_init_J200 h))
theorem n_x_Mod_init_J185 {r : HS} {st : HS} {l0 : Nat} {l1 : Int32} {w0 : Nat} {w1 : Nat} (h : x_Mod_init_J185 st l0 l1 w0 w1 = some r) : hle st r := by
  unfold x_Mod_init_J185 at h
  replace h := obi h; obtain ⟨st1, est1, h⟩ := h
  replace h := obi h; obtain ⟨ad2, ead2, h⟩ := h
  replace h := obi h; obtain ⟨st3, est3, h⟩ := h
  exact ((hP_ke est1).le).t (((hNewA_le est3)).t (n_x_Mod_init_J192 h))
theorem n_x_Mod_init_J177 {r : HS} {st : HS} {l0 : Nat} {l1 : Int32} {w0 : Nat} {w1 : Nat} (h : x_Mod_init_J177 st l0 l1 w0 w1 = some r) : hle st r := by
  unfold x_Mod_init_J177 at h
  replace h := obi h; obtain ⟨st1, est1, h⟩ := h
  replace h := obi h; obtain ⟨ad2, ead2, h⟩ := h
  replace h := obi h; obtain ⟨st3, est3, h⟩ := h
  exact ((hP_ke est1).le).t (((hNewA_le est3)).t (n_x_Mod_init_J185 h))
theorem n_x_Mod_init_J169 {r : HS} {st : HS} {l0 : Nat} {l1 : Int32} {w0 : Nat} {w1 : Nat} (h : x_Mod_init_J169 st l0 l1 w0 w1 = some r) : hle st r := by
  unfold x_Mod_init_J169 at h
  replace h := obi h; obtain ⟨st1, est1, h⟩ := h
  replace h := obi h; obtain ⟨ad2, ead2, h⟩ := h
  replace h := obi h; obtain ⟨st3, est3, h⟩ := h
  exact ((hP_ke est1).le).t (((hNewA_le est3)).t (n_x_Mod_init_J177 h))
theorem n_x_Mod_init_J160 {r : HS} {st : HS} {l0 : Nat} {l1 : Int32} {w0 : Nat} {w1 : Nat} (h : x_Mod_init_J160 st l0 l1 w0 w1 = some r) : hle st r := by
  unfold x_Mod_init_J160 at h
  replace h := obi h; obtain ⟨st1, est1, h⟩ := h
  replace h := obi h; obtain ⟨ad2, ead2, h⟩ := h
  replace h := obi h; obtain ⟨st3, est3, h⟩ := h
  exact ((hP_ke est1).le).t (((hNewA_le est3)).t (n_x_Mod_init_J169 h))
theorem n_x_Mod_init_J152 {r : HS} {st : HS} {l0 : Nat} {l1 : Int32} {w0 : Nat} {w1 : Nat} (h : x_Mod_init_J152 st l0 l1 w0 w1 = some r) : hle st r := by
  unfold x_Mod_init_J152 at h
  replace h := obi h; obtain ⟨st1, est1, h⟩ := h
  replace h := obi h; obtain ⟨ad2, ead2, h⟩ := h
  replace h := obi h; obtain ⟨st3, est3, h⟩ := h
  exact ((hP_ke est1).le).t (((hNewA_le est3)).t (n_x_Mod_init_J160 h))
theorem n_x_Mod_init_J144 {r : HS} {st : HS} {l0 : Nat} {l1 : Int32} {w0 : Nat} {w1 : Nat} (h : x_Mod_init_J144 st l0 l1 w0 w1 = some r) : hle st r := by
  unfold x_Mod_init_J144 at h
  replace h := obi h; obtain ⟨st1, est1, h⟩ := h
  replace h := obi h; obtain ⟨ad2, ead2, h⟩ := h
  replace h := obi h; obtain ⟨st3, est3, h⟩ := h
  exact ((hP_ke est1).le).t (((hNewA_le est3)).t (n_x_Mod_init_J152 h))
theorem n_x_Mod_init_J136 {r : HS} {st : HS} {l0 : Nat} {l1 : Int32} {w0 : Nat} {w1 : Nat} (h : x_Mod_init_J136 st l0 l1 w0 w1 = some r) : hle st r := by
  unfold x_Mod_init_J136 at h
  replace h := obi h; obtain ⟨st1, est1, h⟩ := h
  replace h := obi h; obtain ⟨ad2, ead2, h⟩ := h
  replace h := obi h; obtain ⟨st3, est3, h⟩ := h
  exact ((hP_ke est1).le).t (((hNewA_le est3)).t (n_x_Mod_init_J144 h))
theorem n_x_Mod_init_J128 {r : HS} {st : HS} {l0 : Nat} {l1 : Int32} {w0 : Nat} {w1 : Nat} (h : x_Mod_init_J128 st l0 l1 w0 w1 = some r) : hle st r := by
  unfold x_Mod_init_J128 at h
  replace h := obi h; obtain ⟨st1, est1, h⟩ := h
  replace h := obi h; obtain ⟨ad2, ead2, h⟩ := h
  replace h := obi h; obtain ⟨st3, est3, h⟩ := h
  exact ((hP_ke est1).le).t (((hNewA_le est3)).t (n_x_Mod_init_J136 h))
theorem n_x_Mod_init_J120 {r : HS} {st : HS} {l0 : Nat} {l1 : Int32} {w0 : Nat} {w1 : Nat} (h : x_Mod_init_J120 st l0 l1 w0 w1 = some r) : hle st r := by
  unfold x_Mod_init_J120 at h
  replace h := obi h; obtain ⟨st1, est1, h⟩ := h
  replace h := obi h; obtain ⟨ad2, ead2, h⟩ := h
  replace h := obi h; obtain ⟨st3, est3, h⟩ := h
  exact ((hP_ke est1).le).t (((hNewA_le est3)).t (n_x_Mod_init_J128 h))
theorem n_x_Mod_init_J112 {r : HS} {st : HS} {l0 : Nat} {l1 : Int32} {w0 : Nat} {w1 : Nat} (h : x_Mod_init_J112 st l0 l1 w0 w1 = some r) : hle st r := by
  unfold x_Mod_init_J112 at h
  replace h := obi h; obtain ⟨st1, est1, h⟩ := h
  replace h := obi h; obtain ⟨ad2, ead2, h⟩ := h
  replace h := obi h; obtain ⟨st3, est3, h⟩ := h
  exact ((hP_ke est1).le).t (((hNewA_le est3)).t (n_x_Mod_init_J120 h))
theorem n_x_Mod_init_J104 {r : HS} {st : HS} {l0 : Nat} {l1 : Int32} {w0 : Nat} {w1 : Nat} (h : x_Mod_init_J104 st l0 l1 w0 w1 = some r) : hle st r := by
  unfold x_Mod_init_J104 at h
  replace h := obi h; obtain ⟨st1, est1, h⟩ := h
  replace h := obi h; obtain ⟨ad2, ead2, h⟩ := h
  replace h := obi h; obtain ⟨st3, est3, h⟩ := h
  exact ((hP_ke est1).le).t (((hNewA_le est3)).t (n_x_Mod_init_J112 h))
theorem n_x_Mod_init_J96 {r : HS} {st : HS} {l0 : Nat} {l1 : Int32} {w0 : Nat} {w1 : Nat} (h : x_Mod_init_J96 st l0 l1 w0 w1 = some r) : hle st r := by
  unfold x_Mod_init_J96 at h
  replace h := obi h; obtain ⟨st1, est1, h⟩ := h
  replace h := obi h; obtain ⟨ad2, ead2, h⟩ := h
  replace h := obi h; obtain ⟨st3, est3, h⟩ := h
  exact ((hP_ke est1).le).t (((hNewA_le est3)).t (n_x_Mod_init_J104 h))
theorem n_x_Mod_init_J88 {r : HS} {st : HS} {l0 : Nat} {l1 : Int32} {w0 : Nat} {w1 : Nat} (h : x_Mod_init_J88 st l0 l1 w0 w1 = some r) : hle st r := by
  unfold x_Mod_init_J88 at h
  replace h := obi h; obtain ⟨st1, est1, h⟩ := h
  replace h := obi h; obtain ⟨ad2, ead2, h⟩ := h
  replace h := obi h; obtain ⟨st3, est3, h⟩ := h
  exact ((hP_ke est1).le).t (((hNewA_le est3)).t (n_x_Mod_init_J96 h))
theorem n_x_Mod_init_J80 {r : HS} {st : HS} {l0 : Nat} {l1 : Int32} {w0 : Nat} {w1 : Nat} (h : x_Mod_init_J80 st l0 l1 w0 w1 = some r) : hle st r := by
  unfold x_Mod_init_J80 at h
  replace h := obi h; obtain ⟨st1, est1, h⟩ := h
  replace h := obi h; obtain ⟨ad2, ead2, h⟩ := h
  replace h := obi h; obtain ⟨st3, est3, h⟩ := h
  exact ((hP_ke est1).le).t (((hNewA_le est3)).t (n_x_Mod_init_J88 h))
theorem n_x_Mod_init_J72 {r : HS} {st : HS} {l0 : Nat} {l1 : Int32} {w0 : Nat} {w1 : Nat} (h : x_Mod_init_J72 st l0 l1 w0 w1 = some r) : hle st r := by
  unfold x_Mod_init_J72 at h
  replace h := obi h; obtain ⟨st1, est1, h⟩ := h
  replace h := obi h; obtain ⟨ad2, ead2, h⟩ := h
  replace h := obi h; obtain ⟨st3, est3, h⟩ := h
  exact ((hP_ke est1).le).t (((hNewA_le est3)).t (n_x_Mod_init_J80 h))
theorem n_x_Mod_init_J63 {r : HS} {st : HS} {l0 : Nat} {l1 : Int32} {w0 : Nat} {w1 : Nat} (h : x_Mod_init_J63 st l0 l1 w0 w1 = some r) : hle st r := by
  unfold x_Mod_init_J63 at h
  replace h := obi h; obtain ⟨st1, est1, h⟩ := h
  replace h := obi h; obtain ⟨ad2, ead2, h⟩ := h
  replace h := obi h; obtain ⟨st3, est3, h⟩ := h
  exact ((hP_ke est1).le).t (((hNewA_le est3)).t (n_x_Mod_init_J72 h))
theorem n_x_Mod_init_J54 {r : HS} {st : HS} {l0 : Nat} {l1 : Int32} {w0 : Nat} {w1 : Nat} (h : x_Mod_init_J54 st l0 l1 w0 w1 = some r) : hle st r := by
  unfold x_Mod_init_J54 at h
  replace h := obi h; obtain ⟨st1, est1, h⟩ := h
  replace h := obi h; obtain ⟨ad2, ead2, h⟩ := h
  replace h := obi h; obtain ⟨st3, est3, h⟩ := h
  exact ((hP_ke est1).le).t (((hNewA_le est3)).t (n_x_Mod_init_J63 h))
theorem n_x_Mod_init_J46 {r : HS} {st : HS} {l0 : Nat} {l1 : Int32} {w0 : Nat} {w1 : Nat} (h : x_Mod_init_J46 st l0 l1 w0 w1 = some r) : hle st r := by
  unfold x_Mod_init_J46 at h
  replace h := obi h; obtain ⟨st1, est1, h⟩ := h
  replace h := obi h; obtain ⟨ad2, ead2, h⟩ := h
  replace h := obi h; obtain ⟨st3, est3, h⟩ := h
  exact ((hP_ke est1).le).t (((hNewA_le est3)).t (n_x_Mod_init_J54 h))
theorem n_x_Mod_init_J38 {r : HS} {st : HS} {l0 : Nat} {l1 : Int32} {w0 : Nat} {w1 : Nat} (h : x_Mod_init_J38 st l0 l1 w0 w1 = some r) : hle st r := by
  unfold x_Mod_init_J38 at h
  replace h := obi h; obtain ⟨st1, est1, h⟩ := h
  replace h := obi h; obtain ⟨ad2, ead2, h⟩ := h
  replace h := obi h; obtain ⟨st3, est3, h⟩ := h
  exact ((hP_ke est1).le).t (((hNewA_le est3)).t (n_x_Mod_init_J46 h))
theorem n_x_Mod_init_J29 {r : HS} {st : HS} {l0 : Nat} {l1 : Int32} {w0 : Nat} {w1 : Nat} (h : x_Mod_init_J29 st l0 l1 w0 w1 = some r) : hle st r := by
  unfold x_Mod_init_J29 at h
  replace h := obi h; obtain ⟨st1, est1, h⟩ := h
  replace h := obi h; obtain ⟨ad2, ead2, h⟩ := h
  replace h := obi h; obtain ⟨st3, est3, h⟩ := h
  exact ((hP_ke est1).le).t (((hNewA_le est3)).t (n_x_Mod_init_J38 h))
theorem n_x_Mod_init_J21 {r : HS} {st : HS} {l0 : Nat} {l1 : Int32} {w0 : Nat} {w1 : Nat} (h : x_Mod_init_J21 st l0 l1 w0 w1 = some r) : hle st r := by
  unfold x_Mod_init_J21 at h
  replace h := obi h; obtain ⟨st1, est1, h⟩ := h
  replace h := obi h; obtain ⟨ad2, ead2, h⟩ := h
  replace h := obi h; obtain ⟨st3, est3, h⟩ := h
  exact ((hP_ke est1).le).t (((hNewA_le est3)).t (n_x_Mod_init_J29 h))
theorem n_x_Mod_init_J9 {r : HS} {st : HS} {l0 : Nat} {l1 : Int32} {w0 : Nat} {w1 : Nat} (h : x_Mod_init_J9 st l0 l1 w0 w1 = some r) : hle st r := by
  unfold x_Mod_init_J9 at h
  replace h := obi h; obtain ⟨st1, est1, h⟩ := h
  replace h := obi h; obtain ⟨st2, est2, h⟩ := h
  replace h := obi h; obtain ⟨ad3, ead3, h⟩ := h
  replace h := obi h; obtain ⟨st4, est4, h⟩ := h
  exact ((hP_ke est1).le).t (((hP_ke est2).le).t (((hNewA_le est4)).t (n_x_Mod_init_J21 h)))
theorem n_x_Mod_init {r : HS} {st : HS} {this : Nat} {a1 : Int32} (h : x_Mod_init st this a1 = some r) : hle st r := by
  unfold x_Mod_init at h
  replace h := obi h; obtain ⟨ad1, ead1, h⟩ := h
  replace h := obi h; obtain ⟨st2, est2, h⟩ := h
  exact ((hNewA_le est2)).t (n_x_Mod_init_J9 h)
theorem pg_ke : ∀ n : Nat, (∀ {st : HS} {this : Nat} {a1 : Int32} {r : HS}, (pg n).1 st this a1 = some r → hke st r) ∧ (∀ {st : HS} {this : Nat} {a1 : Int32} {r : HS}, (pg n).2 st this a1 = some r → hke st r) := by
  intro n
  induction n with
  | zero => exact ⟨fun h => (by cases h), fun h => (by cases h)⟩
  | succ n ih =>
    have uI : ∀ {st : HS} {this : Nat} {a1 : Int32} {r : HS}, x_Rdr_unitIn (pg n).2 st this a1 = some r → hke st r := fun h => n_x_Rdr_unitIn ih.2 h
    have on : ∀ {st : HS} {this : Nat} {a1 : Int32} {r : HS}, x_Rdr_one (pg n).1 st this a1 = some r → hke st r := fun h => n_x_Rdr_one ih.1 h
    have pr : ∀ {st : HS} {this : Nat} {a1 : Int32} {r : HS}, x_Rdr_product (x_Rdr_unitIn (pg n).2) st this a1 = some r → hke st r := fun h => n_x_Rdr_product uI h
    have su : ∀ {st : HS} {this : Nat} {a1 : Int32} {r : HS}, x_Rdr_sum (x_Rdr_product (x_Rdr_unitIn (pg n).2)) st this a1 = some r → hke st r := fun h => n_x_Rdr_sum pr h
    have co : ∀ {st : HS} {this : Nat} {a1 : Int32} {r : HS}, x_Rdr_comparison (x_Rdr_sum (x_Rdr_product (x_Rdr_unitIn (pg n).2))) st this a1 = some r → hke st r := fun h => n_x_Rdr_comparison su h
    exact ⟨fun h => n_x_Rdr_formula (g_comparison := x_Rdr_comparison (x_Rdr_sum (x_Rdr_product (x_Rdr_unitIn (pg n).2)))) (g_one := x_Rdr_one (pg n).1) co on h, fun h => n_x_Rdr_unit (g_one := x_Rdr_one (pg n).1) (g_unitIn := x_Rdr_unitIn (pg n).2) on uI h⟩
theorem n_x_Rdr_formulaK {st : HS} {this : Nat} {a1 : Int32} {r : HS} (h : x_Rdr_formulaK st this a1 = some r) : hke st r := (pg_ke 100).1 h
theorem eg_le : ∀ n : Nat, (∀ {st : HS} {this a1 : Nat} {r : HS}, (eg n).1 st this a1 = some r → hle st r) ∧ (∀ {st : HS} {this a1 : Nat} {r : HS}, (eg n).2 st this a1 = some r → hle st r) := by
  intro n
  induction n with
  | zero => exact ⟨fun h => (by cases h), fun h => (by cases h)⟩
  | succ n ih =>
    have un : ∀ {st : HS} {this a1 : Nat} {r : Int32 × HS}, x_NS_unchanged (eg n).1 st this a1 = some r → hle st r.2 := fun h => n_x_NS_unchanged ih.1 h
    have va : ∀ {st : HS} {this a1 : Nat} {r : Int64 × HS}, x_NS_value (eg n).1 (eg n).2 st this a1 = some r → hle st r.2 := fun h => n_x_NS_value ih.1 ih.2 h
    have gi : ∀ {st : HS} {this a1 a2 : Nat} {r : Int64 × HS}, x_NS_given (x_NS_value (eg n).1 (eg n).2) st this a1 a2 = some r → hle st r.2 := fun h => n_x_NS_given va h
    have re : ∀ {st : HS} {this a1 a2 : Nat} {r : Int64 × HS}, x_NS_result (x_NS_given (x_NS_value (eg n).1 (eg n).2)) st this a1 a2 = some r → hle st r.2 := fun h => n_x_NS_result gi h
    exact ⟨fun h => n_x_NS_bring (g_unchanged := x_NS_unchanged (eg n).1) (g_workOut := (eg n).2) un ih.2 h, fun h => n_x_NS_workOut (g_result := x_NS_result (x_NS_given (x_NS_value (eg n).1 (eg n).2))) re h⟩
theorem n_x_NS_valueK {st : HS} {this a1 : Nat} {r : Int64 × HS} (h : x_NS_valueK st this a1 = some r) : hle st r.2 := n_x_NS_value (eg_le 60).1 (eg_le 60).2 h
theorem n_x_Rdr_read_J73 {r : Option Nat × HS} {st : HS} {w0 : Option Nat} (h : x_Rdr_read_J73 st w0 = some r) : hle st r.2 := by
  unfold x_Rdr_read_J73 at h
  cases h
  exact hle.rf
theorem n_x_Rdr_read_J53 {r : Option Nat × HS} {st : HS} {l0 : Nat} {w0 : Nat} (h : x_Rdr_read_J53 st l0 w0 = some r) : hle st r.2 := by
  unfold x_Rdr_read_J53 at h
  replace h := obi h; obtain ⟨x1, ex1, h⟩ := h
  replace h := obi h; obtain ⟨x2, ex2, h⟩ := h
  replace h := obi h; obtain ⟨x3, ex3, h⟩ := h
  replace h := obi h; obtain ⟨x4, ex4, h⟩ := h
  replace h := obi h; obtain ⟨ad5, rfl, h⟩ := h
  replace h := obi h; obtain ⟨ad6, rfl, h⟩ := h
  replace h := obi h; obtain ⟨ad7, rfl, h⟩ := h
  replace h := obi h; obtain ⟨st8, est8, h⟩ := h
  exact ((n_x_Form_init est8)).t (n_x_Rdr_read_J73 h)
theorem n_x_Rdr_read_J46 {r : Option Nat × HS} {st : HS} (h : x_Rdr_read_J46 st = some r) : hle st r.2 := by
  unfold x_Rdr_read_J46 at h
  exact n_x_Rdr_read_J73 h
theorem n_x_Rdr_read {r : Option Nat × HS} {st : HS} {this : Nat} {a1 : Nat} (h : x_Rdr_read st this a1 = some r) : hle st r.2 := by
  unfold x_Rdr_read at h
  replace h := obi h; obtain ⟨st1, est1, h⟩ := h
  replace h := obi h; obtain ⟨st2, est2, h⟩ := h
  replace h := obi h; obtain ⟨st3, est3, h⟩ := h
  replace h := obi h; obtain ⟨st4, est4, h⟩ := h
  replace h := obi h; obtain ⟨u5, eu5, h⟩ := h
  replace h := obi h; obtain ⟨st6, est6, h⟩ := h
  replace h := obi h; obtain ⟨x7, ex7, h⟩ := h
  rcases Decidable.em (x7 = 0) with c29 | c29
  · replace h := ifp c29 h
    replace h := obi h; obtain ⟨x8, ex8, h⟩ := h
    replace h := obi h; obtain ⟨x9, ex9, h⟩ := h
    replace h := obi h; obtain ⟨ad10, rfl, h⟩ := h
    replace h := obi h; obtain ⟨u11, eu11, h⟩ := h
    replace h := obi h; obtain ⟨x12, ex12, h⟩ := h
    rcases Decidable.em (x12 ≤ x8) with c43 | c43
    · replace h := ifp c43 h
      replace h := obi h; obtain ⟨ad13, ead13, h⟩ := h
      replace h := obi h; obtain ⟨st14, est14, h⟩ := h
      exact ((hP_ke est1).le).t (((hP_ke est2).le).t (((hP_ke est3).le).t (((hP_ke est4).le).t (((n_x_Rdr_formulaK est6).le).t (((hNew_le est14)).t (n_x_Rdr_read_J53 h))))))
    · replace h := ifn c43 h
      exact ((hP_ke est1).le).t (((hP_ke est2).le).t (((hP_ke est3).le).t (((hP_ke est4).le).t (((n_x_Rdr_formulaK est6).le).t (n_x_Rdr_read_J46 h)))))
  · replace h := ifn c29 h
    exact ((hP_ke est1).le).t (((hP_ke est2).le).t (((hP_ke est3).le).t (((hP_ke est4).le).t (((n_x_Rdr_formulaK est6).le).t (n_x_Rdr_read_J46 h)))))
theorem n_x_NS_define_J107 {r : Int32 × HS} {st : HS} {l0 : Nat} {l2 : Nat} {l4 : Option Nat} (h : x_NS_define_J107 st l0 l2 l4 = some r) : hle st r.2 := by
  unfold x_NS_define_J107 at h
  replace h := obi h; obtain ⟨st1, est1, h⟩ := h
  replace h := obi h; obtain ⟨st2, est2, h⟩ := h
  replace h := obi h; obtain ⟨x3, ex3, h⟩ := h
  replace h := obi h; obtain ⟨st4, est4, h⟩ := h
  cases h
  exact ((hP_ke est1).le).t (((hP_ke est2).le).t ((hP_ke est4).le))
theorem n_x_NS_define_J92 {r : Int32 × HS} {st : HS} {l0 : Nat} {l2 : Nat} {l4 : Option Nat} {w0 : Int32} {w1 : Nat} (h : x_NS_define_J92 st l0 l2 l4 w0 w1 = some r) : hle st r.2 := by
  unfold x_NS_define_J92 at h
  replace h := obi h; obtain ⟨u1, eu1, h⟩ := h
  replace h := obi h; obtain ⟨st2, est2, h⟩ := h
  replace h := obi h; obtain ⟨x3, ex3, h⟩ := h
  rcases Decidable.em (x3 = 0) with c99 | c99
  · replace h := ifp c99 h
    exact ((n_x_NS_change est2).le).t (n_x_NS_define_J107 h)
  · replace h := ifn c99 h
    replace h := obi h; obtain ⟨st4, est4, h⟩ := h
    exact ((n_x_NS_change est2).le).t (((hP_ke est4).le).t (n_x_NS_define_J107 h))
theorem n_x_NS_define_J76 {r : Int32 × HS} {st : HS} {l0 : Nat} {l2 : Nat} {l4 : Option Nat} (h : x_NS_define_J76 st l0 l2 l4 = some r) : hle st r.2 := by
  unfold x_NS_define_J76 at h
  replace h := obi h; obtain ⟨x1, ex1, h⟩ := h
  rcases Decidable.em (x1 = 0) with c81 | c81
  · replace h := ifp c81 h
    exact n_x_NS_define_J92 h
  · replace h := ifn c81 h
    replace h := obi h; obtain ⟨x2, ex2, h⟩ := h
    exact n_x_NS_define_J92 h
theorem n_x_NS_define_J36 {r : Int32 × HS} {st : HS} {l0 : Nat} {l2 : Option Nat} {l3 : Nat} {w0 : Option Nat} (h : x_NS_define_J36 st l0 l2 l3 w0 = some r) : hle st r.2 := by
  unfold x_NS_define_J36 at h
  rcases Decidable.em (w0 = none) with c40 | c40
  · replace h := ifp c40 h
    replace h := obi h; obtain ⟨x9, ex9, h⟩ := h
    replace h := obi h; obtain ⟨ad10, rfl, h⟩ := h
    replace h := obi h; obtain ⟨x11, ex11, h⟩ := h
    cases h
    exact hle.rf
  · replace h := ifn c40 h
    replace h := obi h; obtain ⟨ad1, rfl, h⟩ := h
    replace h := obi h; obtain ⟨x2, ex2, h⟩ := h
    rcases Decidable.em (x2 = 0) with c57 | c57
    · replace h := ifp c57 h
      replace h := obi h; obtain ⟨x3, ex3, h⟩ := h
      replace h := obi h; obtain ⟨ad4, rfl, h⟩ := h
      replace h := obi h; obtain ⟨x5, ex5, h⟩ := h
      replace h := obi h; obtain ⟨ad6, rfl, h⟩ := h
      replace h := obi h; obtain ⟨u7, eu7, h⟩ := h
      replace h := obi h; obtain ⟨x8, ex8, h⟩ := h
      rcases Decidable.em (x8 = 0) with c71 | c71
      · replace h := ifp c71 h
        exact n_x_NS_define_J76 h
      · replace h := ifn c71 h
        cases h
        exact hle.rf
    · replace h := ifn c57 h
      exact n_x_NS_define_J76 h
theorem n_x_NS_define_J22 {r : Int32 × HS} {st : HS} {l0 : Nat} {l2 : Option Nat} {l3 : Option Nat} (h : x_NS_define_J22 st l0 l2 l3 = some r) : hle st r.2 := by
  unfold x_NS_define_J22 at h
  rcases Decidable.em (l2 = none) with c23 | c23
  · replace h := ifp c23 h
    cases h
    exact hle.rf
  · replace h := ifn c23 h
    replace h := obi h; obtain ⟨x1, ex1, h⟩ := h
    replace h := obi h; obtain ⟨ad2, rfl, h⟩ := h
    replace h := obi h; obtain ⟨ad3, rfl, h⟩ := h
    replace h := obi h; obtain ⟨u4, eu4, h⟩ := h
    replace h := obi h; obtain ⟨q5, eq5, h⟩ := h
    exact ((n_x_Rdr_read eq5)).t (n_x_NS_define_J36 h)
theorem n_x_NS_define_J13 {r : Int32 × HS} {st : HS} {l0 : Nat} {l2 : Option Nat} {w0 : Option Nat} (h : x_NS_define_J13 st l0 l2 w0 = some r) : hle st r.2 := by
  unfold x_NS_define_J13 at h
  replace h := obi h; obtain ⟨x1, ex1, h⟩ := h
  replace h := obi h; obtain ⟨ad2, rfl, h⟩ := h
  replace h := obi h; obtain ⟨u3, eu3, h⟩ := h
  replace h := obi h; obtain ⟨st4, est4, h⟩ := h
  exact ((n_x_SB_setLength est4)).t (n_x_NS_define_J22 h)
theorem n_x_NS_define {r : Int32 × HS} {st : HS} {this : Nat} {a1 : Int32} (h : x_NS_define st this a1 = some r) : hle st r.2 := by
  unfold x_NS_define at h
  replace h := obi h; obtain ⟨u1, eu1, h⟩ := h
  replace h := obi h; obtain ⟨x2, ex2, h⟩ := h
  replace h := obi h; obtain ⟨x3, ex3, h⟩ := h
  replace h := obi h; obtain ⟨ad4, rfl, h⟩ := h
  replace h := obi h; obtain ⟨u5, eu5, h⟩ := h
  replace h := obi h; obtain ⟨q6, eq6, h⟩ := h
  exact ((n_x_SB_toString eq6)).t (n_x_NS_define_J13 h)
theorem n_x_NS_ask_L41 {r : Int64 × HS} : ∀ (n : Nat), ∀ (st : HS) (l0 : Nat) (l3 : Int64) (l5 : Int32), x_NS_ask_L41 n st l0 l3 l5 = some r → hle st r.2 := by
  intro n
  induction n with
  | zero => intro st l0 l3 l5 h; exact absurd h (by simp [x_NS_ask_L41])
  | succ n ih =>
    intro st l0 l3 l5 h
    rw [x_NS_ask_L41] at h
    replace h := obi h; obtain ⟨x1, ex1, h⟩ := h
    rcases Decidable.em (l5 ≤ x1) with c47 | c47
    · replace h := ifp c47 h
      cases h
      exact hle.rf
    · replace h := ifn c47 h
      replace h := obi h; obtain ⟨u2, eu2, h⟩ := h
      replace h := obi h; obtain ⟨st3, est3, h⟩ := h
      replace h := obi h; obtain ⟨x4, ex4, h⟩ := h
      exact ((n_x_NS_dropOne est3).le).t (ih _ _ _ _ h)
theorem n_x_NS_ask_J34 {r : Int64 × HS} {st : HS} {l0 : Nat} {w0 : Int64} (h : x_NS_ask_J34 st l0 w0 = some r) : hle st r.2 := by
  unfold x_NS_ask_J34 at h
  replace h := obi h; obtain ⟨u1, eu1, h⟩ := h
  replace h := obi h; obtain ⟨x2, ex2, h⟩ := h
  exact n_x_NS_ask_L41 1000 _ _ _ _ h
theorem n_x_NS_ask {r : Int64 × HS} {st : HS} {this : Nat} {a1 : Int32} (h : x_NS_ask st this a1 = some r) : hle st r.2 := by
  unfold x_NS_ask at h
  replace h := obi h; obtain ⟨u1, eu1, h⟩ := h
  replace h := obi h; obtain ⟨x2, ex2, h⟩ := h
  rcases Decidable.em (x2 = none) with c7 | c7
  · replace h := ifp c7 h
    cases h
    exact hle.rf
  · replace h := ifn c7 h
    replace h := obi h; obtain ⟨st3, est3, h⟩ := h
    replace h := obi h; obtain ⟨st4, est4, h⟩ := h
    replace h := obi h; obtain ⟨st5, est5, h⟩ := h
    replace h := obi h; obtain ⟨ad6, rfl, h⟩ := h
    replace h := obi h; obtain ⟨u7, eu7, h⟩ := h
    replace h := obi h; obtain ⟨q8, eq8, h⟩ := h
    exact ((hP_ke est3).le).t (((hP_ke est4).le).t (((hP_ke est5).le).t (((n_x_NS_valueK eq8)).t (n_x_NS_ask_J34 h))))
