/-! the pad's text becomes a string -/
theorem hCln_of {st : HS} {a n : Nat} {f : Nat → Int32} (e : st.1 a = some (.inr (1, n, .inl f))) (hf : ∀ i, i < n → fits .byte (.int (f i)) = true) : hCln st a = some (hPush st (.inr (1, n, .inl f)) n) := by
  unfold hCln
  rw [e]
  show (if (List.range n).all (fun i => fits .byte (.int (f i))) = true then _ else none) = _
  rw [if_pos]
  rw [List.all_eq_true]
  intro i hi
  exact hf i (List.mem_range.mp hi)
theorem hNewA_of {st : HS} {ty n : Nat} (h : n ≤ 100000) : hNewA st ty (nI n) = some (hPush st (.inr (ty, hz ty n)) n) := by
  unfold hNewA
  rw [hsz_n h]
  rfl
theorem X_toStr {st : HS} {K : Nat → Nat → Nat} {σ : S} {kept : Nat} {p : Int32} {o : Nat → Int32} {pad : List Nat} (h : RX st K σ kept p o pad) (hok : ∀ x ∈ pad, x < 128) (hl : pad.length ≤ 30) :
    ∃ st', x_SB_toString st (K 10 0) = some (some (hNx st), st') ∧ RX st' K σ kept p o pad ∧ Str st' (hNx st) (hNx st + 1) pad ∧ hNx st' = hNx st + 2 ∧ hNs st' = hNs st + 4 + pad.length ∧ st'.2.2.2 = st.2.2.2 ∧ ∀ q, q < hNx st → st'.1 q = st.1 q := by
  obtain ⟨w, N, g, p1, p2, p3, p4, p5, p6⟩ := h.pE
  have lt10 := h.2.1 10 0 rfl
  have lt11 := h.2.1 11 0 rfl
  have nl : ∀ f a, lv σ f a → K f a ≠ hNx st := fun f a hf => by have := h.2.1 f a hf; omega
  have x1 := h.push (e0 := .inl (6, hdf 6)) (n := 4)
  generalize hs1 : hPush st (.inl (6, hdf 6)) 4 = s1 at x1
  have e1 : s1.1 (hNx st) = some (.inl (6, [.null, .int 0])) := by rw [← hs1, hPush_s, if_pos rfl]; rfl
  have n1 : hNx s1 = hNx st + 1 ∧ hNs s1 = hNs st + 4 ∧ s1.2.2.2 = st.2.2.2 := by rw [← hs1]; exact ⟨rfl, rfl, rfl⟩
  have g1 : ∀ q, q < hNx st → s1.1 q = st.1 q := fun q hq => by rw [← hs1, hPush_s, if_neg (by omega)]
  obtain ⟨s2, a1, a2, a3, a4⟩ := off_set 1 (.int 0) x1 e1 (by decide) (by decide : 1 < 2) nl
  have n2 : hNx s2 = hNx st + 1 ∧ hNs s2 = hNs st + 4 ∧ s2.2.2.2 = st.2.2.2 := ⟨by rw [a4.nx.1]; exact n1.1, by rw [a4.nx.2]; exact n1.2.1, by rw [a4.1]; exact n1.2.2⟩
  have g2 : ∀ q, q < hNx st → s2.1 q = st.1 q := fun q hq => by rw [a4.2 q (by omega)]; exact g1 q hq
  have p2' : s2.1 (K 11 0) = some (.inr (1, N, .inl g)) := by rw [g2 _ lt11]; exact p2
  -- the bytes
  have bytes : ∃ s3 g', x_Arr_copyOfRange s2 (K 11 0) 0 (nI pad.length) = some (some (hNx st + 1), s3) ∧ RX s3 K σ kept p o pad ∧ s3.1 (hNx st + 1) = some (.inr (1, pad.length, .inl g')) ∧ (∀ i x, pad[i]? = some x → g' i = nI x) ∧ (∀ q, q ≠ hNx st + 1 → s3.1 q = s2.1 q) ∧ hNx s3 = hNx st + 2 ∧ hNs s3 = hNs st + 4 + pad.length ∧ s3.2.2.2 = st.2.2.2 := by
    unfold x_Arr_copyOfRange
    rw [if_pos rfl, hLen_of p2' (by decide : 1 % 100 ≤ 5)]
    simp only [Option.bind_some, nI_eq (show pad.length < 2 ^ 31 by omega) (show N < 2 ^ 31 by omega)]
    by_cases q : pad.length = N
    · rw [if_pos q, hCln_of p2' p6]
      simp only [Option.bind_some]
      have y := a2.push (e0 := .inr (1, N, .inl g)) (n := N)
      generalize hs3 : hPush s2 (.inr (1, N, .inl g)) N = s3 at y
      have e3 : s3.1 (hNx st + 1) = some (.inr (1, N, .inl g)) := by rw [← hs3, hPush_s, if_pos n2.1.symm]
      refine ⟨s3, g, ?_, y, by rw [q]; exact e3, p5, fun z hz => by rw [← hs3, hPush_s, if_neg (by omega)], by rw [← hs3]; show hNx s2 + 1 = _; omega, by rw [← hs3]; show hNs s2 + N = _; omega, by rw [← hs3]; exact n2.2.2⟩
      unfold x_Arr_copyOfRange_J21
      rw [n2.1, hLen_of e3 (by decide : 1 % 100 ≤ 5)]
      simp only [Option.bind_some]
      unfold hB
      rw [e3]
      rfl
    · rw [if_neg q]
      unfold x_Arr_copyOfRange_J10 x_Arr_copyOfRangeByte x_Arr_checkLength
      rw [if_pos (show (0 : Int32) ≤ nI pad.length from nI_le (a := 0) (Nat.zero_le _) (by omega))]
      have z0 : nI pad.length - 0 = nI pad.length := Int32.sub_zero _
      have zN : nI N - 0 = nI N := Int32.sub_zero _
      simp only [Option.bind_some, z0, hNewA_of (show pad.length ≤ 100000 by omega)]
      have y := a2.push (e0 := .inr (1, hz 1 pad.length)) (n := pad.length)
      generalize hs3 : hPush s2 (.inr (1, hz 1 pad.length)) pad.length = s3 at y
      have e3 : s3.1 (hNx st + 1) = some (.inr (1, pad.length, .inl (fun _ => 0))) := by rw [← hs3, hPush_s, if_pos n2.1.symm]; rfl
      have p3' : s3.1 (K 11 0) = some (.inr (1, N, .inl g)) := by rw [← hs3, hPush_s, if_neg (by omega)]; exact p2'
      have ec : hCpy s3 (K 11 0) 0 (hNx st + 1) 0 (nI pad.length) = _ := hCpy_of p3' e3 (by omega) (by omega) (Nat.le_refl _) (by omega) (fun i hi => p6 i (by omega))
      have nl3 : ∀ f a, lv σ f a → K f a ≠ hNx st + 1 := fun f a hf => by have := h.2.1 f a hf; omega
      refine ⟨hSet s3 (hNx st + 1) (.inr (1, pad.length, .inl (va_cpy g (fun _ => 0) 0 0 pad.length))), va_cpy g (fun _ => 0) 0 0 pad.length, ?_, y.off (q := hNx st + 1) ⟨rfl, fun z hz => by rw [hSet_s, if_neg hz]⟩ nl3 e3 (Or.inr ⟨_, _, rfl, by decide⟩), by rw [hSet_s, if_pos rfl], fun i x hi => ?_, fun z hz => ?_, ?_, ?_, ?_⟩
      · unfold x_Arr_copyOfRangeByte_J12 x_Arr_copyOfRange_J16
        rw [n2.1, hLen_of p3' (by decide : 1 % 100 ≤ 5)]
        simp only [Option.bind_some, zN, X_min (show N < 2 ^ 31 by omega) (show pad.length < 2 ^ 31 by omega)]
        rw [Nat.min_eq_right p3, ec]
        rfl
      · have := (List.getElem?_eq_some_iff.mp hi).1
        unfold va_cpy
        rw [if_pos (by omega), show 0 + (i - 0) = i by omega]
        exact p5 i x hi
      · rw [hSet_s, if_neg hz, ← hs3, hPush_s, if_neg (by omega)]
      · show hNx s3 = _
        rw [← hs3]; show hNx s2 + 1 = _; omega
      · show hNs s3 = _
        rw [← hs3]; show hNs s2 + pad.length = _; omega
      · show s3.2.2.2 = _
        rw [← hs3]; exact n2.2.2
  obtain ⟨s3, g', b1, b2, b3, b4, b5, b6, b7, b8⟩ := bytes
  have e3 : s3.1 (hNx st) = some (.inl (6, [.null, .int 0])) := by rw [b5 _ (by omega), a3]; rfl
  obtain ⟨s4, c1, c2, c3, c4⟩ := off_set 0 (.ref (hNx st + 1)) b2 e3 (by decide) (by decide : 0 < 2) nl
  refine ⟨s4, ?_, c2, ⟨c3, hok, hl, g', by rw [c4.2 _ (by omega)]; exact b3, b4⟩, by rw [c4.nx.1]; exact b6, by rw [c4.nx.2]; exact b7, by rw [c4.1]; exact b8, fun q hq => by rw [c4.2 q (by omega), b5 q (by omega)]; exact g2 q hq⟩
  have p1' : s1.1 (K 10 0) = some (.inl (5, [.ref (K 11 0), .int 0, .int w, .int (nI pad.length)])) := by rw [g1 _ lt10]; exact p1
  unfold x_SB_toString x_SB_toString_J3 x_SB_toString_J8 x_Str_init x_Str_init_J6 x_Str_init2 x_Str_init2_J35 x_ASB_getValue x_SB_length x_ASB_length x_ASB_isLatin1
  rw [show hNew st 6 = s1 from hs1]
  simp only [Option.bind_some, hIs_of p1' (by decide), hR_of (k := 0) (b := K 11 0) p1' (by decide) rfl, hI_of (k := 3) (v := nI pad.length) p1' (by decide) rfl, hI_of (k := 1) (v := 0) p1' (by decide) rfl]
  rw [if_neg (by decide), if_pos trivial]
  simp only [Option.bind_some]
  rw [if_neg (by decide), a1]
  simp only [Option.bind_some, b1]
  rw [show va_rf (some (hNx st + 1)) = Value.ref (hNx st + 1) from rfl, c1]
  rfl
/-- the pad is cleared -/
theorem X_clear {st : HS} {K : Nat → Nat → Nat} {σ : S} {kept : Nat} {p : Int32} {o : Nat → Int32} {pad : List Nat} (h : RX st K σ kept p o pad) (hl : pad.length ≤ 30) : ∃ st', x_SB_setLength st (K 10 0) 0 = some st' ∧ RX st' K σ kept p o [] ∧ F1 st st' (K 10 0) := by
  obtain ⟨w, N, g, p1, p2, p3, p4, p5, p6⟩ := h.pE
  have n1 : K 10 0 ≠ K 11 0 := fun z => absurd (h.2.2.1 10 0 11 0 rfl rfl z).1 (by decide)
  have fin : ∀ (st1 : HS) (v : Int32), F1 st st1 (K 10 0) → st1.1 (K 10 0) = some (.inl (5, [.ref (K 11 0), .int 0, .int v, .int (nI pad.length)])) → ∃ st', x_ASB_setLength_J76 st1 (K 10 0) 0 = some st' ∧ RX st' K σ kept p o [] ∧ F1 st st' (K 10 0) := by
    intro st1 v f1 e1
    have ep := hP_of (k := 3) (v := .int 0) e1 (by decide : 3 < 4)
    refine ⟨hSet st1 (K 10 0) (.inl (5, [.ref (K 11 0), .int 0, .int v, .int 0])), by unfold x_ASB_setLength_J76; rw [ep]; rfl, ?_, f1.1, fun q hq => by rw [hSet_s, if_neg hq]; exact f1.2 q hq⟩
    refine h.pad (w := v) (N := N) (g := g) (fun _ _ _ => rfl) (by show st1.2.2.2 = _; rw [f1.1]) (by show hNx st ≤ hNx st1; rw [f1.nx.1]; exact Nat.le_refl _) (fun q hq q1 q2 => by rw [hSet_s, if_neg q1]; exact f1.2 q q1) (by rw [hSet_s, if_pos rfl]; rfl) ⟨by rw [hSet_s, if_neg (fun z => n1 z.symm), f1.2 _ (fun z => n1 z.symm)]; exact p2, Nat.zero_le _, p4, fun i x hi => by simp at hi, p6⟩ (Or.inl rfl) (by show K 11 0 < hNx st1; rw [f1.nx.1]; exact h.2.1 11 0 rfl)
  have room : x_ASB_ensureCapacityInternal st (K 10 0) 0 = some st := by
    have d : ∀ N, N ≤ 40 → (0 : Int32) - nI N ≤ 0 := by decide +kernel
    unfold x_ASB_ensureCapacityInternal
    rw [hR_of (k := 0) (b := K 11 0) p1 (by decide) rfl]
    simp only [Option.bind_some, hLen_of p2 (by decide : 1 % 100 ≤ 5), hI_of (k := 1) (v := 0) p1 (by decide) rfl, shr0]
    rw [if_pos (d N (by omega))]
  unfold x_SB_setLength x_ASB_setLength x_ASB_setLength_J18 x_SB_setLength_J5
  rw [hIs_of p1 (by decide)]
  simp only [Option.bind_some]
  rw [if_pos (by decide), room]
  simp only [Option.bind_some, hI_of (k := 3) (v := nI pad.length) p1 (by decide) rfl]
  rw [if_pos (show (0 : Int32) ≤ nI pad.length from nI_le (a := 0) (Nat.zero_le _) (by omega))]
  by_cases q : nI pad.length ≤ 0
  · rw [if_pos q]
    obtain ⟨st', a1, a2⟩ := fin st w ⟨rfl, fun _ _ => rfl⟩ p1
    rw [a1]
    exact ⟨st', rfl, a2⟩
  · rw [if_neg q, hP_of (k := 2) (v := .int 1) p1 (by decide : 2 < 4)]
    simp only [Option.bind_some]
    obtain ⟨st', a1, a2⟩ := fin (hSet st (K 10 0) (.inl (5, [.ref (K 11 0), .int 0, .int 1, .int (nI pad.length)]))) 1 ⟨rfl, fun q hq => by rw [hSet_s, if_neg hq]⟩ (by rw [hSet_s, if_pos rfl])
    refine ⟨st', ?_, a2⟩
    show (x_ASB_setLength_J76 (hSet st (K 10 0) (.inl (5, [.ref (K 11 0), .int 0, .int 1, .int (nI pad.length)]))) (K 10 0) 0).bind _ = _
    rw [a1]
    rfl
/-- the reader's three objects may hold anything -/
theorem RX.rdr {st st' : HS} {K : Nat → Nat → Nat} {σ : S} {kept : Nat} {p : Int32} {o : Nat → Int32} {pad : List Nat} {sa sb : Nat} {t : List Nat} {s : PS} (h : RX st K σ kept p o pad) (hf : RF st st' (K 12 0) (K 13 0) (K 14 0)) (hr : RR st' (K 12 0) (K 13 0) (K 14 0) sa sb t s) : RX st' K σ kept p o pad := by
  obtain ⟨x1, x2, x3, x5, x6⟩ := h
  have hkc : hKc st' = hKc st := hf.kc
  have hnx : hNx st' = hNx st := by unfold hNx; rw [hf.1]
  refine ⟨fun f a hl => ?_, fun f a hl => by rw [hnx]; exact x2 f a hl, x3, ?_, x6⟩
  · by_cases q12 : f = 12
    · subst q12
      have ha : a = 0 := hl
      subst ha
      exact ⟨_, hr.1, _, _, _, _, rfl⟩
    by_cases q13 : f = 13
    · subst q13
      have ha : a = 0 := hl
      subst ha
      obtain ⟨g, e, -⟩ := hr.2.1
      exact ⟨_, e, g, rfl⟩
    by_cases q14 : f = 14
    · subst q14
      have ha : a = 0 := hl
      subst ha
      obtain ⟨g, e, -⟩ := hr.2.2.1
      exact ⟨_, e, g, rfl⟩
    obtain ⟨e, k1, k2⟩ := x1 f a hl
    refine ⟨e, ?_, by rw [hkc]; exact k2⟩
    rw [hf.2 _ (fun z => q12 (x3 f a 12 0 hl rfl z).1) (fun z => q13 (x3 f a 13 0 hl rfl z).1) (fun z => q14 (x3 f a 14 0 hl rfl z).1)]
    exact k1
  · refine x5.kept (by rw [hf.1]) (by rw [hnx]; exact Nat.le_refl _) (fun q e hq hqe hw => ?_)
    have aux : ∀ f, (f = 12 ∨ f = 13 ∨ f = 14) → q ≠ K f 0 := fun f hf z => by
      subst z
      obtain ⟨e', k1, k2⟩ := x1 f 0 (by rcases hf with z | z | z <;> subst z <;> rfl)
      rw [k1] at hqe
      cases hqe
      exact hw (xE_st k2)
    rw [hf.2 q (aux 12 (by simp)) (aux 13 (by simp)) (aux 14 (by simp))]
    exact hqe
/-- the reading itself -/
theorem X_reads {st : HS} {K : Nat → Nat → Nat} {σ : S} {kept : Nat} {p : Int32} {o : Nat → Int32} {pad : List Nat} {sa sb : Nat} {t : List Nat} {s : PS} (h : RX st K σ kept p o pad) (hS : Str st sa sb t) (e : p_read t = some s) (hl : s.2.2.length ≤ 60) :
    ∃ st', ((hP st (K 12 0) 4 0 (.ref sa)).bind fun st1 => (hP st1 (K 12 0) 4 1 (.int 0)).bind fun st2 => (hP st2 (K 12 0) 4 2 (.int 0)).bind fun st3 => (hP st3 (K 12 0) 4 3 (.int 0)).bind fun st4 => (hIs st4 (K 12 0) 4).bind fun _ => x_Rdr_formulaK st4 (K 12 0) 0) = some st' ∧ RX st' K σ kept p o pad ∧ RR st' (K 12 0) (K 13 0) (K 14 0) sa sb t s ∧ RF st st' (K 12 0) (K 13 0) (K 14 0) := by
  obtain ⟨e12, h12, w1, w2, w3, w4, h12'⟩ := h.at (f := 12) (a := 0) rfl
  obtain ⟨e13, h13, g13, h13'⟩ := h.at (f := 13) (a := 0) rfl
  obtain ⟨e14, h14, g14, h14'⟩ := h.at (f := 14) (a := 0) rfl
  subst h12'
  subst h13'
  subst h14'
  have n1 : K 13 0 ≠ K 12 0 := fun z => absurd (h.2.2.1 13 0 12 0 rfl rfl z).1 (by decide)
  have n2 : K 14 0 ≠ K 12 0 := fun z => absurd (h.2.2.1 14 0 12 0 rfl rfl z).1 (by decide)
  have ns : sa ≠ K 12 0 := fun z => by
    have := hS.1
    rw [z, h12] at this
    cases this
  have nb : sb ≠ K 12 0 := fun z => by
    obtain ⟨g, e, -⟩ := hS.2.2.2
    rw [z, h12] at e
    cases e
  generalize hs4 : hSet st (K 12 0) (.inl (4, [.ref sa, .int 0, .int 0, .int 0, .ref (K 13 0), .ref (K 14 0)])) = s4
  have four : ∀ (F : HS → Option HS), ((hP st (K 12 0) 4 0 (.ref sa)).bind fun st1 => (hP st1 (K 12 0) 4 1 (.int 0)).bind fun st2 => (hP st2 (K 12 0) 4 2 (.int 0)).bind fun st3 => (hP st3 (K 12 0) 4 3 (.int 0)).bind fun st4 => F st4) = F s4 := fun F => by
    rw [hP_of h12 (by decide : 0 < 6)]
    simp only [Option.bind_some]
    rw [hP_of (fs := [.ref sa, .int w2, .int w3, .int w4, .ref (K 13 0), .ref (K 14 0)]) (by rw [hSet_s, if_pos rfl]; rfl) (by decide : 1 < 6)]
    simp only [Option.bind_some]
    rw [hP_of (fs := [.ref sa, .int 0, .int w3, .int w4, .ref (K 13 0), .ref (K 14 0)]) (by rw [hSet_s, if_pos rfl]; rfl) (by decide : 2 < 6)]
    simp only [Option.bind_some]
    rw [hP_of (fs := [.ref sa, .int 0, .int 0, .int w4, .ref (K 13 0), .ref (K 14 0)]) (by rw [hSet_s, if_pos rfl]; rfl) (by decide : 3 < 6)]
    simp only [Option.bind_some]
    congr 1
    rw [← hs4]
    refine Prod.ext (funext fun q => ?_) rfl
    show (if q = K 12 0 then _ else if q = K 12 0 then _ else if q = K 12 0 then _ else if q = K 12 0 then _ else st.1 q) = if q = K 12 0 then _ else st.1 q
    by_cases z : q = K 12 0
    · rw [if_pos z, if_pos z]; rfl
    · rw [if_neg z, if_neg z, if_neg z, if_neg z, if_neg z]
  have rf4 : RF st s4 (K 12 0) (K 13 0) (K 14 0) := by rw [← hs4]; exact ⟨rfl, fun q q1 _ _ => by rw [hSet_s, if_neg q1]⟩
  have hc := h.2.2.2.1.1
  have rr4 : RR s4 (K 12 0) (K 13 0) (K 14 0) sa sb t (0, false, []) := by
    rw [← hs4]
    refine ⟨by rw [hSet_s, if_pos rfl]; rfl, ⟨g13, by rw [hSet_s, if_neg n1]; exact h13, fun i q hi => by simp at hi⟩, ⟨g14, by rw [hSet_s, if_neg n2]; exact h14, fun i q hi => by simp at hi⟩, hS.kept (by rw [hSet_s, if_neg ns]) (by rw [hSet_s, if_neg nb]), Nat.zero_le _, fun i hi => ?_⟩
    show (hSet st (K 12 0) _).1 (hKc st i) = _
    rw [hSet_s, if_neg (fun z => by
      have := (hc i hi).2
      rw [z, h12] at this
      cases this)]
    exact (hc i hi).2
  obtain ⟨-, run⟩ := (lx_all 100).1 (0, false, []) s 0 (by decide) e
  obtain ⟨st', a1, a2, a3⟩ := run hl s4 rr4
  refine ⟨st', ?_, h.rdr (rf4.t a3) a2, a2, rf4.t a3⟩
  rw [four (fun s4 => (hIs s4 (K 12 0) 4).bind fun _ => x_Rdr_formulaK s4 (K 12 0) 0), rr4.peek.2.2]
  simp only [Option.bind_some]
  exact a1
