noncomputable def x_Law_law_J332 (k_28 : HS → Nat → Nat → Nat → Int32 → Option (Int32 × HS)) (st : HS) (l0 : Nat) (l1 : Nat) (l2 : Nat) (l3 : Int32) : Option (Int32 × HS) :=
  (some (l3 + 4)).bind fun x1 =>
  k_28 st l0 l1 l2 x1
noncomputable def x_Law_law_J192 (k_28 : HS → Nat → Nat → Nat → Int32 → Option (Int32 × HS)) (st : HS) (l0 : Nat) (l1 : Nat) (l2 : Nat) (l3 : Int32) (w0 : Int64) : Option (Int32 × HS) :=
  (hAi st l0 0 (l3 + 1)).bind fun x1 =>
  (hIs st l2 7).bind fun u2 =>
  (xm_ask st l2 x1).bind fun q3 =>
  if (lg_cmp w0 (q3.1)) = 0 then
    x_Law_law_J332 k_28 q3.2 l0 l1 l2 l3
  else
    some (0, q3.2)
noncomputable def x_Law_law_J126 (k_28 : HS → Nat → Nat → Nat → Int32 → Option (Int32 × HS)) (st : HS) (l0 : Nat) (l1 : Nat) (l2 : Nat) (l3 : Int32) (w0 : Int32) : Option (Int32 × HS) :=
  (hAi st l0 0 (l3 + 1)).bind fun x1 =>
  (hIs st l2 7).bind fun u2 =>
  (xm_define st l2 x1).bind fun q3 =>
  if w0 = q3.1 then
    x_Law_law_J332 k_28 q3.2 l0 l1 l2 l3
  else
    some (0, q3.2)
noncomputable def x_Law_law_J102 (k_28 : HS → Nat → Nat → Nat → Int32 → Option (Int32 × HS)) (st : HS) (l0 : Nat) (l1 : Nat) (l2 : Nat) (l3 : Int32) (w0 : Int32) : Option (Int32 × HS) :=
  (hAi st l0 0 (l3 + 1)).bind fun x1 =>
  (hIs st l2 7).bind fun u2 =>
  (xm_type st l2 (((x1 : Int32).toUInt32 % 65536).toInt32)).bind fun q3 =>
  if w0 = q3.1 then
    x_Law_law_J332 k_28 q3.2 l0 l1 l2 l3
  else
    some (0, q3.2)
noncomputable def x_Law_law_L28 : Nat → HS → Nat → Nat → Nat → Int32 → Option (Int32 × HS)
  | 0, _, _, _, _, _ => none
  | n + 1, st, l0, l1, l2, l3 =>
    (hLen st l0).bind fun x1 =>
    if (x1 - 4) < l3 then
      some (1, st)
    else
      (hAi st l0 0 l3).bind fun x2 =>
      (some ((x2 &&& 15))).bind fun x3 =>
      if x3 = 0 then
        (hAi st l0 0 (l3 + 1)).bind fun x4 =>
        (hIs st l1 0).bind fun u5 =>
        (x_NS_type st l1 (((x4 : Int32).toUInt32 % 65536).toInt32)).bind fun q6 =>
        x_Law_law_J102 (x_Law_law_L28 n) q6.2 l0 l1 l2 l3 q6.1
      else
      if x3 = 1 then
        (hAi st l0 0 (l3 + 1)).bind fun x7 =>
        (hIs st l1 0).bind fun u8 =>
        (x_NS_define st l1 x7).bind fun q9 =>
        x_Law_law_J126 (x_Law_law_L28 n) q9.2 l0 l1 l2 l3 q9.1
      else
      if x3 = 2 then
        (hAi st l0 0 (l3 + 1)).bind fun x10 =>
        (hAi st l0 0 (l3 + 2)).bind fun x11 =>
        (hAi st l0 0 (l3 + 3)).bind fun x12 =>
        (hIs st l1 0).bind fun u13 =>
        (x_NS_set st l1 x10 x11 x12).bind fun q14 =>
        (hAi q14.2 l0 0 (l3 + 1)).bind fun x15 =>
        (hAi q14.2 l0 0 (l3 + 2)).bind fun x16 =>
        (hAi q14.2 l0 0 (l3 + 3)).bind fun x17 =>
        (hIs q14.2 l2 7).bind fun u18 =>
        (xm_set q14.2 l2 x15 x16 x17).bind fun q19 =>
        if q14.1 = q19.1 then
          x_Law_law_J332 (x_Law_law_L28 n) q19.2 l0 l1 l2 l3
        else
          some (0, q19.2)
      else
      if x3 = 3 then
        (hAi st l0 0 (l3 + 1)).bind fun x20 =>
        (hIs st l1 0).bind fun u21 =>
        (x_NS_ask st l1 x20).bind fun q22 =>
        x_Law_law_J192 (x_Law_law_L28 n) q22.2 l0 l1 l2 l3 q22.1
      else
      if x3 = 4 then
        (hIs st l1 0).bind fun u23 =>
        (x_NS_revision st l1).bind fun x24 =>
        (hIs st l2 7).bind fun u25 =>
        (xm_revision st l2).bind fun x26 =>
        if x24 = x26 then
          x_Law_law_J332 (x_Law_law_L28 n) st l0 l1 l2 l3
        else
          some (0, st)
      else
      if x3 = 5 then
        (hAi st l0 0 (l3 + 1)).bind fun x27 =>
        (hIs st l1 0).bind fun u28 =>
        (x_NS_changed st l1 x27).bind fun x29 =>
        (hAi st l0 0 (l3 + 1)).bind fun x30 =>
        (hIs st l2 7).bind fun u31 =>
        (xm_changed st l2 x30).bind fun x32 =>
        if x29 = x32 then
          x_Law_law_J332 (x_Law_law_L28 n) st l0 l1 l2 l3
        else
          some (0, st)
      else
      if x3 = 6 then
        (hAi st l0 0 (l3 + 1)).bind fun x33 =>
        (hAi st l0 0 (l3 + 2)).bind fun x34 =>
        (hIs st l1 0).bind fun u35 =>
        (x_NS_note st l1 x33 x34).bind fun x36 =>
        (hAi st l0 0 (l3 + 1)).bind fun x37 =>
        (hAi st l0 0 (l3 + 2)).bind fun x38 =>
        (hIs st l2 7).bind fun u39 =>
        (xm_note st l2 x37 x38).bind fun x40 =>
        if x36 = x40 then
          x_Law_law_J332 (x_Law_law_L28 n) st l0 l1 l2 l3
        else
          some (0, st)
      else
      if x3 = 7 then
        (hAi st l0 0 (l3 + 1)).bind fun x41 =>
        (hAi st l0 0 (l3 + 2)).bind fun x42 =>
        (hIs st l1 0).bind fun u43 =>
        (x_NS_read st l1 x41 x42).bind fun x44 =>
        (hAi st l0 0 (l3 + 1)).bind fun x45 =>
        (hAi st l0 0 (l3 + 2)).bind fun x46 =>
        (hIs st l2 7).bind fun u47 =>
        (xm_read st l2 x45 x46).bind fun x48 =>
        if x44 = x48 then
          x_Law_law_J332 (x_Law_law_L28 n) st l0 l1 l2 l3
        else
          some (0, st)
      else
      if x3 = 8 then
        (hAi st l0 0 (l3 + 1)).bind fun x49 =>
        (hIs st l1 0).bind fun u50 =>
        (x_NS_count st l1 x49).bind fun x51 =>
        (hAi st l0 0 (l3 + 1)).bind fun x52 =>
        (hIs st l2 7).bind fun u53 =>
        (xm_count st l2 x52).bind fun x54 =>
        if x51 = x54 then
          x_Law_law_J332 (x_Law_law_L28 n) st l0 l1 l2 l3
        else
          some (0, st)
      else
        x_Law_law_J332 (x_Law_law_L28 n) st l0 l1 l2 l3
noncomputable def x_Law_law_J25 (st : HS) (l0 : Nat) (l1 : Nat) (w0 : Nat) : Option (Int32 × HS) :=
  x_Law_law_L28 1000 st l0 l1 w0 1
noncomputable def x_Law_law_J16 (st : HS) (l0 : Nat) (l1 : Nat) (w0 : Nat) : Option (Int32 × HS) :=
  (x_Law_cell st l0 0).bind fun x1 =>
  (x_Mod_init st w0 x1).bind fun st2 =>
  x_Law_law_J25 st2 l0 l1 w0
noncomputable def x_Law_law_J12 (st : HS) (l0 : Nat) (w0 : Nat) : Option (Int32 × HS) :=
  (some (hNx st)).bind fun ad1 =>
  (some (hNew st 7)).bind fun st2 =>
  x_Law_law_J16 st2 l0 w0 ad1
noncomputable def x_Law_law_J3 (st : HS) (l0 : Nat) (w0 : Nat) : Option (Int32 × HS) :=
  (x_Law_cell st l0 0).bind fun x1 =>
  (x_NS_init st w0 x1).bind fun st2 =>
  x_Law_law_J12 st2 l0 w0
noncomputable def x_Law_law (st : HS) (a0 : Nat) : Option (Int32 × HS) :=
  (some (hNx st)).bind fun ad1 =>
  (some (hNew st 0)).bind fun st2 =>
  x_Law_law_J3 st2 a0 ad1
theorem n_x_Law_law_J332 {r : Int32 × HS} {st : HS} {l0 : Nat} {l1 : Nat} {l2 : Nat} {l3 : Int32} {k_28 : HS → Nat → Nat → Nat → Int32 → Option (Int32 × HS)} (hm_28 : ∀ (st : HS) (l0 : Nat) (l1 : Nat) (l2 : Nat) (l3 : Int32), k_28 st l0 l1 l2 l3 = some r → hle st r.2) (h : x_Law_law_J332 k_28 st l0 l1 l2 l3 = some r) : hle st r.2 := by
  unfold x_Law_law_J332 at h
  replace h := obi h; obtain ⟨x1, ex1, h⟩ := h
  exact hm_28 _ _ _ _ _ h
theorem n_x_Law_law_J192 {r : Int32 × HS} {st : HS} {l0 : Nat} {l1 : Nat} {l2 : Nat} {l3 : Int32} {w0 : Int64} {k_28 : HS → Nat → Nat → Nat → Int32 → Option (Int32 × HS)} (hm_28 : ∀ (st : HS) (l0 : Nat) (l1 : Nat) (l2 : Nat) (l3 : Int32), k_28 st l0 l1 l2 l3 = some r → hle st r.2) (h : x_Law_law_J192 k_28 st l0 l1 l2 l3 w0 = some r) : hle st r.2 := by
  unfold x_Law_law_J192 at h
  replace h := obi h; obtain ⟨x1, ex1, h⟩ := h
  replace h := obi h; obtain ⟨u2, eu2, h⟩ := h
  replace h := obi h; obtain ⟨q3, eq3, h⟩ := h
  rcases Decidable.em ((lg_cmp w0 (q3.1)) = 0) with c202 | c202
  · replace h := ifp c202 h
    exact ((n_xm_ask eq3).le).t (n_x_Law_law_J332 hm_28 h)
  · replace h := ifn c202 h
    cases h
    exact (n_xm_ask eq3).le
theorem n_x_Law_law_J126 {r : Int32 × HS} {st : HS} {l0 : Nat} {l1 : Nat} {l2 : Nat} {l3 : Int32} {w0 : Int32} {k_28 : HS → Nat → Nat → Nat → Int32 → Option (Int32 × HS)} (hm_28 : ∀ (st : HS) (l0 : Nat) (l1 : Nat) (l2 : Nat) (l3 : Int32), k_28 st l0 l1 l2 l3 = some r → hle st r.2) (h : x_Law_law_J126 k_28 st l0 l1 l2 l3 w0 = some r) : hle st r.2 := by
  unfold x_Law_law_J126 at h
  replace h := obi h; obtain ⟨x1, ex1, h⟩ := h
  replace h := obi h; obtain ⟨u2, eu2, h⟩ := h
  replace h := obi h; obtain ⟨q3, eq3, h⟩ := h
  rcases Decidable.em (w0 = q3.1) with c135 | c135
  · replace h := ifp c135 h
    exact ((n_xm_define eq3).le).t (n_x_Law_law_J332 hm_28 h)
  · replace h := ifn c135 h
    cases h
    exact (n_xm_define eq3).le
theorem n_x_Law_law_J102 {r : Int32 × HS} {st : HS} {l0 : Nat} {l1 : Nat} {l2 : Nat} {l3 : Int32} {w0 : Int32} {k_28 : HS → Nat → Nat → Nat → Int32 → Option (Int32 × HS)} (hm_28 : ∀ (st : HS) (l0 : Nat) (l1 : Nat) (l2 : Nat) (l3 : Int32), k_28 st l0 l1 l2 l3 = some r → hle st r.2) (h : x_Law_law_J102 k_28 st l0 l1 l2 l3 w0 = some r) : hle st r.2 := by
  unfold x_Law_law_J102 at h
  replace h := obi h; obtain ⟨x1, ex1, h⟩ := h
  replace h := obi h; obtain ⟨u2, eu2, h⟩ := h
  replace h := obi h; obtain ⟨q3, eq3, h⟩ := h
  rcases Decidable.em (w0 = q3.1) with c112 | c112
  · replace h := ifp c112 h
    exact ((n_xm_type eq3).le).t (n_x_Law_law_J332 hm_28 h)
  · replace h := ifn c112 h
    cases h
    exact (n_xm_type eq3).le
theorem n_x_Law_law_L28 {r : Int32 × HS} : ∀ (n : Nat), ∀ (st : HS) (l0 : Nat) (l1 : Nat) (l2 : Nat) (l3 : Int32), x_Law_law_L28 n st l0 l1 l2 l3 = some r → hle st r.2 := by
  intro n
  induction n with
  | zero => intro st l0 l1 l2 l3 h; exact absurd h (by simp [x_Law_law_L28])
  | succ n ih =>
    intro st l0 l1 l2 l3 h
    rw [x_Law_law_L28] at h
    replace h := obi h; obtain ⟨x1, ex1, h⟩ := h
    rcases Decidable.em ((x1 - 4) < l3) with c33 | c33
    · replace h := ifp c33 h
      cases h
      exact hle.rf
    · replace h := ifn c33 h
      replace h := obi h; obtain ⟨x2, ex2, h⟩ := h
      replace h := obi h; obtain ⟨x3, ex3, h⟩ := h
      rcases Decidable.em (x3 = 0) with c42_0 | c42_0
      · replace h := ifp c42_0 h
        replace h := obi h; obtain ⟨x4, ex4, h⟩ := h
        replace h := obi h; obtain ⟨u5, eu5, h⟩ := h
        replace h := obi h; obtain ⟨q6, eq6, h⟩ := h
        exact ((n_x_NS_type eq6)).t (n_x_Law_law_J102 ih h)
      replace h := ifn c42_0 h
      rcases Decidable.em (x3 = 1) with c42_1 | c42_1
      · replace h := ifp c42_1 h
        replace h := obi h; obtain ⟨x7, ex7, h⟩ := h
        replace h := obi h; obtain ⟨u8, eu8, h⟩ := h
        replace h := obi h; obtain ⟨q9, eq9, h⟩ := h
        exact ((n_x_NS_define eq9)).t (n_x_Law_law_J126 ih h)
      replace h := ifn c42_1 h
      rcases Decidable.em (x3 = 2) with c42_2 | c42_2
      · replace h := ifp c42_2 h
        replace h := obi h; obtain ⟨x10, ex10, h⟩ := h
        replace h := obi h; obtain ⟨x11, ex11, h⟩ := h
        replace h := obi h; obtain ⟨x12, ex12, h⟩ := h
        replace h := obi h; obtain ⟨u13, eu13, h⟩ := h
        replace h := obi h; obtain ⟨q14, eq14, h⟩ := h
        replace h := obi h; obtain ⟨x15, ex15, h⟩ := h
        replace h := obi h; obtain ⟨x16, ex16, h⟩ := h
        replace h := obi h; obtain ⟨x17, ex17, h⟩ := h
        replace h := obi h; obtain ⟨u18, eu18, h⟩ := h
        replace h := obi h; obtain ⟨q19, eq19, h⟩ := h
        rcases Decidable.em (q14.1 = q19.1) with c178 | c178
        · replace h := ifp c178 h
          exact ((n_x_NS_set eq14).le).t (((n_xm_set eq19).le).t (n_x_Law_law_J332 ih h))
        · replace h := ifn c178 h
          cases h
          exact ((n_x_NS_set eq14).le).t ((n_xm_set eq19).le)
      replace h := ifn c42_2 h
      rcases Decidable.em (x3 = 3) with c42_3 | c42_3
      · replace h := ifp c42_3 h
        replace h := obi h; obtain ⟨x20, ex20, h⟩ := h
        replace h := obi h; obtain ⟨u21, eu21, h⟩ := h
        replace h := obi h; obtain ⟨q22, eq22, h⟩ := h
        exact ((n_x_NS_ask eq22)).t (n_x_Law_law_J192 ih h)
      replace h := ifn c42_3 h
      rcases Decidable.em (x3 = 4) with c42_4 | c42_4
      · replace h := ifp c42_4 h
        replace h := obi h; obtain ⟨u23, eu23, h⟩ := h
        replace h := obi h; obtain ⟨x24, ex24, h⟩ := h
        replace h := obi h; obtain ⟨u25, eu25, h⟩ := h
        replace h := obi h; obtain ⟨x26, ex26, h⟩ := h
        rcases Decidable.em (x24 = x26) with c215 | c215
        · replace h := ifp c215 h
          exact n_x_Law_law_J332 ih h
        · replace h := ifn c215 h
          cases h
          exact hle.rf
      replace h := ifn c42_4 h
      rcases Decidable.em (x3 = 5) with c42_5 | c42_5
      · replace h := ifp c42_5 h
        replace h := obi h; obtain ⟨x27, ex27, h⟩ := h
        replace h := obi h; obtain ⟨u28, eu28, h⟩ := h
        replace h := obi h; obtain ⟨x29, ex29, h⟩ := h
        replace h := obi h; obtain ⟨x30, ex30, h⟩ := h
        replace h := obi h; obtain ⟨u31, eu31, h⟩ := h
        replace h := obi h; obtain ⟨x32, ex32, h⟩ := h
        rcases Decidable.em (x29 = x32) with c238 | c238
        · replace h := ifp c238 h
          exact n_x_Law_law_J332 ih h
        · replace h := ifn c238 h
          cases h
          exact hle.rf
      replace h := ifn c42_5 h
      rcases Decidable.em (x3 = 6) with c42_6 | c42_6
      · replace h := ifp c42_6 h
        replace h := obi h; obtain ⟨x33, ex33, h⟩ := h
        replace h := obi h; obtain ⟨x34, ex34, h⟩ := h
        replace h := obi h; obtain ⟨u35, eu35, h⟩ := h
        replace h := obi h; obtain ⟨x36, ex36, h⟩ := h
        replace h := obi h; obtain ⟨x37, ex37, h⟩ := h
        replace h := obi h; obtain ⟨x38, ex38, h⟩ := h
        replace h := obi h; obtain ⟨u39, eu39, h⟩ := h
        replace h := obi h; obtain ⟨x40, ex40, h⟩ := h
        rcases Decidable.em (x36 = x40) with c271 | c271
        · replace h := ifp c271 h
          exact n_x_Law_law_J332 ih h
        · replace h := ifn c271 h
          cases h
          exact hle.rf
      replace h := ifn c42_6 h
      rcases Decidable.em (x3 = 7) with c42_7 | c42_7
      · replace h := ifp c42_7 h
        replace h := obi h; obtain ⟨x41, ex41, h⟩ := h
        replace h := obi h; obtain ⟨x42, ex42, h⟩ := h
        replace h := obi h; obtain ⟨u43, eu43, h⟩ := h
        replace h := obi h; obtain ⟨x44, ex44, h⟩ := h
        replace h := obi h; obtain ⟨x45, ex45, h⟩ := h
        replace h := obi h; obtain ⟨x46, ex46, h⟩ := h
        replace h := obi h; obtain ⟨u47, eu47, h⟩ := h
        replace h := obi h; obtain ⟨x48, ex48, h⟩ := h
        rcases Decidable.em (x44 = x48) with c304 | c304
        · replace h := ifp c304 h
          exact n_x_Law_law_J332 ih h
        · replace h := ifn c304 h
          cases h
          exact hle.rf
      replace h := ifn c42_7 h
      rcases Decidable.em (x3 = 8) with c42_8 | c42_8
      · replace h := ifp c42_8 h
        replace h := obi h; obtain ⟨x49, ex49, h⟩ := h
        replace h := obi h; obtain ⟨u50, eu50, h⟩ := h
        replace h := obi h; obtain ⟨x51, ex51, h⟩ := h
        replace h := obi h; obtain ⟨x52, ex52, h⟩ := h
        replace h := obi h; obtain ⟨u53, eu53, h⟩ := h
        replace h := obi h; obtain ⟨x54, ex54, h⟩ := h
        rcases Decidable.em (x51 = x54) with c327 | c327
        · replace h := ifp c327 h
          exact n_x_Law_law_J332 ih h
        · replace h := ifn c327 h
          cases h
          exact hle.rf
      replace h := ifn c42_8 h
      exact n_x_Law_law_J332 ih h
theorem n_x_Law_law_J25 {r : Int32 × HS} {st : HS} {l0 : Nat} {l1 : Nat} {w0 : Nat} (h : x_Law_law_J25 st l0 l1 w0 = some r) : hle st r.2 := by
  unfold x_Law_law_J25 at h
  exact n_x_Law_law_L28 1000 _ _ _ _ _ h
theorem n_x_Law_law_J16 {r : Int32 × HS} {st : HS} {l0 : Nat} {l1 : Nat} {w0 : Nat} (h : x_Law_law_J16 st l0 l1 w0 = some r) : hle st r.2 := by
  unfold x_Law_law_J16 at h
  replace h := obi h; obtain ⟨x1, ex1, h⟩ := h
  replace h := obi h; obtain ⟨st2, est2, h⟩ := h
  exact ((n_x_Mod_init est2)).t (n_x_Law_law_J25 h)
theorem n_x_Law_law_J12 {r : Int32 × HS} {st : HS} {l0 : Nat} {w0 : Nat} (h : x_Law_law_J12 st l0 w0 = some r) : hle st r.2 := by
  unfold x_Law_law_J12 at h
  replace h := obi h; obtain ⟨ad1, ead1, h⟩ := h
  replace h := obi h; obtain ⟨st2, est2, h⟩ := h
  exact ((hNew_le est2)).t (n_x_Law_law_J16 h)
theorem n_x_Law_law_J3 {r : Int32 × HS} {st : HS} {l0 : Nat} {w0 : Nat} (h : x_Law_law_J3 st l0 w0 = some r) : hle st r.2 := by
  unfold x_Law_law_J3 at h
  replace h := obi h; obtain ⟨x1, ex1, h⟩ := h
  replace h := obi h; obtain ⟨st2, est2, h⟩ := h
  exact ((n_x_NS_init est2)).t (n_x_Law_law_J12 h)
theorem n_x_Law_law {r : Int32 × HS} {st : HS} {a0 : Nat} (h : x_Law_law st a0 = some r) : hle st r.2 := by
  unfold x_Law_law at h
  replace h := obi h; obtain ⟨ad1, ead1, h⟩ := h
  replace h := obi h; obtain ⟨st2, est2, h⟩ := h
  exact ((hNew_le est2)).t (n_x_Law_law_J3 h)
