/-! strings -/
def Lt0 : List Nat := [43, 45, 42, 60, 61, 63, 58, 40, 41, 64]
theorem X_index {st : HS} (h : xc st) {c : Nat} (hc : c < 65536) : ∃ r, x_Str_indexOf st (hKc st 11) (nI c) = some r ∧ (r < 0 ↔ c ∉ Lt0) ∧ hIs st (hKc st 11) 6 = some () := by
  obtain ⟨-, -, b, g, -, e1, e2, e3⟩ := h
  have r0 : hR st (hKc st 11) 6 0 = some (some b) := by unfold hR hG; rw [e1]; rfl
  have r1 : hI st (hKc st 11) 6 1 = some 0 := by unfold hI hG; rw [e1]; rfl
  have ri : hIs st (hKc st 11) 6 = some () := by unfold hIs; rw [e1]; rfl
  have rl : hLen st b = some (nI 10) := by unfold hLen; rw [e2]; rfl
  have ra : ∀ j, j < 10 → hAi st b 1 (nI j) = some (g j) := fun j hj => by
    unfold hAi
    rw [e2]
    show (if 101 % 100 = 1 then (ix (nI j) 10).map g else none) = _
    rw [if_pos rfl, ix_nI hj (by decide)]
    rfl
  have len : x_Str_length st (hKc st 11) = some (nI 10) := by
    unfold x_Str_length x_Str_coder
    rw [r0]
    simp only [Option.bind_some, rl, ri]
    rw [if_neg (by decide), r1]
    simp only [Option.bind_some]
    rw [show nchk .byte 0 = some 0 by decide +kernel]
    simp only [Option.bind_some, shr0]
  have pre : x_Str_indexOf st (hKc st 11) (nI c) = x_L1_indexOf st b (nI c) 0 (nI 10) := by
    unfold x_Str_indexOf x_Str_indexOf2 x_Str_isLatin1
    rw [ri]
    simp only [Option.bind_some]
    rw [if_neg (by decide), r1]
    simp only [Option.bind_some]
    rw [if_pos trivial]
    simp only [Option.bind_some]
    rw [if_neg (by decide), r0]
    simp only [Option.bind_some, len]
    cases x_L1_indexOf st b (nI c) 0 (nI 10) <;> rfl
  rw [pre]
  have hL : ∀ x ∈ Lt0, x < 128 := by decide
  by_cases q255 : 255 < c
  · refine ⟨-1, ?_, ?_, ri⟩
    · unfold x_L1_indexOf x_L1_canEncodeI
      rw [if_neg (nI_pos (by omega)), if_pos (show (255 : Int32) < nI c from nI_lt (a := 255) q255 (by omega))]
      rfl
    · constructor
      · intro _ z
        have := hL c z
        omega
      · intro _
        decide
  · have hin : x_L1_indexOf st b (nI c) 0 (nI 10) = x_L1_indexOfChar_L7 1000 st b (nI 10) (nI c).toInt8.toInt32 (nI 0) := by
      unfold x_L1_indexOf x_L1_canEncodeI x_Math_max x_L1_indexOfChar
      rw [if_neg (nI_pos (by omega)), if_neg (show ¬ (255 : Int32) < nI c from nI_nlt (a := 255) (by omega) (by decide))]
      simp only [Option.bind_some]
      rw [if_neg (by decide), if_neg (by decide)]
      simp only [Option.bind_some, rl, X_min (show 10 < 2 ^ 31 by decide) (show 10 < 2 ^ 31 by decide)]
      rw [if_pos (by decide +kernel)]
      show (x_L1_indexOfChar_L7 1000 st b (nI 10) (nI c).toInt8.toInt32 (nI 0)).bind (fun x => some x) = _
      cases x_L1_indexOfChar_L7 1000 st b (nI 10) (nI c).toInt8.toInt32 (nI 0) <;> rfl
    have loop : ∀ (f j N : Nat), j + f = 10 → f < N → ∃ r, x_L1_indexOfChar_L7 N st b (nI 10) (nI c).toInt8.toInt32 (nI j) = some r ∧ (r < 0 ↔ ∀ k, j ≤ k → k < 10 → g k ≠ (nI c).toInt8.toInt32) := by
      intro f
      induction f with
      | zero =>
        intro j N hj hN
        obtain ⟨N, rfl⟩ : ∃ m, N = m + 1 := ⟨N - 1, by omega⟩
        refine ⟨-1, ?_, ⟨fun _ k k1 k2 => by omega, fun _ => by decide⟩⟩
        rw [x_L1_indexOfChar_L7, if_pos (nI_le (by omega) (by omega))]
      | succ f ih =>
        intro j N hj hN
        obtain ⟨N, rfl⟩ : ∃ m, N = m + 1 := ⟨N - 1, by omega⟩
        rw [x_L1_indexOfChar_L7, if_neg (nI_ge (by omega) (by decide)), ra j (by omega)]
        simp only [Option.bind_some, nI_1]
        by_cases q : g j = (nI c).toInt8.toInt32
        · rw [if_pos q]
          refine ⟨_, rfl, ⟨fun z => absurd z (nI_pos (by omega)), fun z => absurd q (z j (Nat.le_refl _) (by omega))⟩⟩
        · rw [if_neg q]
          obtain ⟨r, l1, l2⟩ := ih (j + 1) N (by omega) (by omega)
          refine ⟨r, l1, l2.trans ⟨fun z k k1 k2 => ?_, fun z k k1 k2 => z k (by omega) k2⟩⟩
          by_cases w : k = j
          · subst w; exact q
          · exact z k (by omega) k2
    obtain ⟨r, l1, l2⟩ := loop 10 0 1000 (by decide) (by decide)
    refine ⟨r, hin.trans l1, l2.trans ?_, ri⟩
    have d1 : ∀ c, c < 128 → (nI c).toInt8.toInt32 = nI c := by decide +kernel
    have d2 : ∀ c, c < 256 → ¬ c < 128 → (nI c).toInt8.toInt32 < 0 := by decide +kernel
    have gk : ∀ k, k < 10 → ∃ x, Lt0[k]? = some x ∧ g k = nI x ∧ x < 128 := fun k hk => by
      have hlt : k < Lt0.length := hk
      exact ⟨Lt0[k], List.getElem?_eq_getElem hlt, e3 k _ (List.getElem?_eq_getElem hlt), hL _ (List.getElem_mem hlt)⟩
    constructor
    · intro z w
      obtain ⟨k, k1, k2⟩ := List.mem_iff_getElem.mp w
      have hk : k < 10 := k1
      have := z k (Nat.zero_le _) hk
      rw [d1 c (hL c w)] at this
      apply this
      rw [e3 k c (by show Lt0[k]? = some c; rw [List.getElem?_eq_getElem k1, k2])]
    · intro z k _ k2 w
      obtain ⟨x, x1, x2, x3⟩ := gk k k2
      by_cases q : c < 128
      · rw [d1 c q, x2, nI_eq (by omega) (by omega)] at w
        subst w
        exact z (List.mem_of_getElem? x1)
      · have := d2 c (by omega) q
        rw [← w, x2] at this
        exact nI_pos (by omega) this
theorem okc_iff {c : Nat} : okc c ↔ (65 ≤ c ∧ c ≤ 76) ∨ (48 ≤ c ∧ c ≤ 57) ∨ c ∈ Lt0 := by
  unfold Lt0 okc
  simp only [List.mem_cons, List.not_mem_nil, or_false]
  omega
theorem X_type {st : HS} {K : Nat → Nat → Nat} {σ : S} {kept : Nat} {p : Int32} {o : Nat → Int32} {pad : List Nat} {c : Nat} (h : RX st K σ kept p o pad) (hl : pad.length ≤ 30) (hc : c < 65536) :
    (okc c ∧ pad.length < 30 → ∃ st' K', x_NS_type st (K 0 0) (nI c) = some (1, st') ∧ RX st' K' σ kept p o (pad ++ [c]) ∧ LN st K σ K' σ ∧ XT st K σ st' ∧ K' 0 0 = K 0 0 ∧ hNx st' ≤ hNx st + 1 ∧ hNs st' ≤ hNs st + 34) ∧ (¬ (okc c ∧ pad.length < 30) → x_NS_type st (K 0 0) (nI c) = some (0, st)) := by
  obtain ⟨r, i1, i2, i3⟩ := X_index h.2.2.2.1 hc
  obtain ⟨w0, N1, g1, p1', -⟩ := h.pE
  have main : x_NS_type st (K 0 0) (nI c) = if okc c then x_NS_type_J42 st (K 0 0) (nI c) 1 else some (0, st) := by
    have lt : ∀ k : Nat, k < 65536 → (nI c < nI k ↔ c < k) := fun k hk => ⟨fun z => by
      by_cases q : c < k
      · exact q
      · exact absurd z (nI_nlt (by omega) (by omega)), fun z => nI_lt z (by omega)⟩
    have le : ∀ k : Nat, k < 65536 → (nI c ≤ nI k ↔ c ≤ k) := fun k hk => ⟨fun z => by
      by_cases q : c ≤ k
      · exact q
      · exact absurd z (nI_ge (by omega) (by omega)), fun z => nI_le z (by omega)⟩
    have j24 : ¬ (65 ≤ c ∧ c ≤ 76) → ¬ (48 ≤ c ∧ c ≤ 57) → x_NS_type_J24 st (K 0 0) (nI c) = if okc c then x_NS_type_J42 st (K 0 0) (nI c) 1 else some (0, st) := fun n1 n2 => by
      unfold x_NS_type_J24 x_NS_type_J41 x_NS_type_J37
      by_cases q0 : c ≤ 0
      · rw [if_pos (show nI c ≤ (0 : Int32) from (le 0 (by decide)).mpr q0), if_neg (by
          have : c = 0 := by omega
          subst this
          decide)]
        unfold x_NS_type_J42
        rw [if_pos rfl]
      · rw [if_neg (show ¬ nI c ≤ (0 : Int32) from fun z => q0 ((le 0 (by decide)).mp z)), i3, i1]
        simp only [Option.bind_some]
        by_cases q : c ∈ Lt0
        · rw [if_neg (fun z => (i2.mp z) q), if_pos (okc_iff.mpr (Or.inr (Or.inr q)))]
        · rw [if_pos (i2.mpr q), if_neg (fun z => by
            rcases okc_iff.mp z with w | w | w
            · exact n1 w
            · exact n2 w
            · exact q w)]
          unfold x_NS_type_J42
          rw [if_pos rfl]
    have j12 : ¬ (65 ≤ c ∧ c ≤ 76) → x_NS_type_J12 st (K 0 0) (nI c) = if okc c then x_NS_type_J42 st (K 0 0) (nI c) 1 else some (0, st) := fun n1 => by
      unfold x_NS_type_J12
      by_cases q1 : c < 48
      · rw [if_pos (show nI c < (48 : Int32) from (lt 48 (by decide)).mpr q1)]
        exact j24 n1 (by omega)
      · rw [if_neg (show ¬ nI c < (48 : Int32) from fun z => q1 ((lt 48 (by decide)).mp z))]
        by_cases q2 : c ≤ 57
        · rw [if_pos (show nI c ≤ (57 : Int32) from (le 57 (by decide)).mpr q2), if_pos (okc_iff.mpr (Or.inr (Or.inl ⟨by omega, q2⟩)))]
          rfl
        · rw [if_neg (show ¬ nI c ≤ (57 : Int32) from fun z => q2 ((le 57 (by decide)).mp z))]
          exact j24 n1 (by omega)
    unfold x_NS_type
    by_cases q1 : c < 65
    · rw [if_pos (show nI c < (65 : Int32) from (lt 65 (by decide)).mpr q1)]
      exact j12 (by omega)
    · rw [if_neg (show ¬ nI c < (65 : Int32) from fun z => q1 ((lt 65 (by decide)).mp z))]
      by_cases q2 : c ≤ 76
      · rw [if_pos (show nI c ≤ (76 : Int32) from (le 76 (by decide)).mpr q2), if_pos (okc_iff.mpr (Or.inl ⟨by omega, q2⟩))]
        rfl
      · rw [if_neg (show ¬ nI c ≤ (76 : Int32) from fun z => q2 ((le 76 (by decide)).mp z))]
        exact j12 (by omega)
  have j42 : x_NS_type_J42 st (K 0 0) (nI c) 1 = if pad.length < 30 then (x_SB_append st (K 10 0) (nI c)).bind fun q8 => some (1, q8.2) else some (0, st) := by
    unfold x_NS_type_J42 x_SB_length x_ASB_length x_NS_type_J69
    rw [if_neg (by decide), h.rs.2.2.2.1]
    simp only [Option.bind_some, hIs_of p1' (by decide), hI_of (k := 3) (v := nI pad.length) p1' (by decide) rfl]
    by_cases q : pad.length < 30
    · rw [if_pos (show nI pad.length < (30 : Int32) from nI_lt (b := 30) q (by decide)), if_pos q]
    · rw [if_neg (show ¬ nI pad.length < (30 : Int32) from nI_nlt (b := 30) (by omega) (by omega)), if_neg q]
  rw [main, j42]
  refine ⟨fun hy => ?_, fun hn => ?_⟩
  · rw [if_pos hy.1, if_pos hy.2]
    obtain ⟨st', K', a1, a2, a3, a7, a4, a5, a6⟩ := X_append h hy.2 (okc_lt hy.1)
    rw [a1]
    exact ⟨st', K', rfl, a2, a7, a4, a3 0 0 (by decide), a5, a6⟩
  · by_cases q : okc c
    · rw [if_pos q, if_neg (fun z => hn ⟨q, z⟩)]
    · rw [if_neg q]
/-- a string with its bytes -/
def Str (st : HS) (a b : Nat) (t : List Nat) : Prop := st.1 a = some (.inl (6, [.ref b, .int 0])) ∧ (∀ x ∈ t, x < 128) ∧ t.length ≤ 30 ∧ ∃ g, st.1 b = some (.inr (1, t.length, .inl g)) ∧ ∀ i x, t[i]? = some x → g i = nI x
theorem Str.len {st : HS} {a b : Nat} {t : List Nat} (h : Str st a b t) : x_Str_length st a = some (nI t.length) := by
  obtain ⟨e1, -, -, g, e2, e3⟩ := h
  unfold x_Str_length x_Str_coder
  rw [hR_of (k := 0) (b := b) e1 (by decide) rfl]
  simp only [Option.bind_some, hLen_of e2 (by decide : 1 % 100 ≤ 5), hIs_of e1 (by decide)]
  rw [if_neg (by decide), hI_of (k := 1) (v := 0) e1 (by decide) rfl]
  simp only [Option.bind_some]
  rw [show nchk .byte 0 = some 0 by decide +kernel]
  simp only [Option.bind_some, shr0]
theorem Str.char {st : HS} {a b i x : Nat} {t : List Nat} (h : Str st a b t) (hi : t[i]? = some x) : x_Str_charAt st a (nI i) = some (nI x) := by
  obtain ⟨e1, e4, e5, g, e2, e3⟩ := h
  have hlt := (List.getElem?_eq_some_iff.mp hi).1
  have hx := e4 x (List.mem_of_getElem? hi)
  have d : ∀ x, x < 128 → (((nI x &&& 255) : Int32).toUInt32 % 65536).toInt32 = nI x ∧ nchk .char (nI x) = some (nI x) := by decide +kernel
  obtain ⟨d1, d2⟩ := d x hx
  unfold x_Str_charAt x_Str_isLatin1 x_L1_charAt x_Str_checkIndex x_Pre_checkIndex
  rw [hIs_of e1 (by decide)]
  simp only [Option.bind_some]
  rw [if_neg (by decide), hI_of (k := 1) (v := 0) e1 (by decide) rfl]
  simp only [Option.bind_some]
  rw [if_pos trivial]
  simp only [Option.bind_some]
  rw [if_neg (by decide), hR_of (k := 0) (b := b) e1 (by decide) rfl]
  simp only [Option.bind_some, hLen_of e2 (by decide : 1 % 100 ≤ 5)]
  rw [if_neg (nI_pos (by omega)), if_pos (nI_lt hlt (by omega))]
  simp only [Option.bind_some, hAi_of e2 (by decide) hlt (by omega), e3 i x hi, d1, d2]
theorem Str.eq {st : HS} {a b a' b' : Nat} {t t' : List Nat} (h : Str st a b t) (h' : Str st a' b' t') : x_Str_equals st a a' = some (if t = t' then 1 else 0) := by
  obtain ⟨e1, e4, e5, g, e2, e3⟩ := h
  obtain ⟨f1, f4, f5, g', f2, f3⟩ := h'
  unfold x_Str_equals
  by_cases q : some a = some a'
  · rw [if_pos q]
    have q : a = a' := Option.some.inj q
    subst q
    rw [e1] at f1
    cases f1
    rw [e2] at f2
    have f2 := Sum.inr.inj (Option.some.inj f2)
    simp only [Prod.mk.injEq, Sum.inl.injEq, true_and] at f2
    obtain ⟨hl, hg⟩ := f2
    rw [if_pos]
    refine List.ext_getElem? fun i => ?_
    by_cases z : i < t.length
    · have z' : i < t'.length := by omega
      have x1 := e3 i _ (List.getElem?_eq_getElem z)
      have x2 := f3 i _ (List.getElem?_eq_getElem z')
      rw [hg, x2] at x1
      have y1 := e4 _ (List.getElem_mem z)
      have y2 := f4 _ (List.getElem_mem z')
      rw [nI_eq (by omega) (by omega)] at x1
      rw [List.getElem?_eq_getElem z, List.getElem?_eq_getElem z', x1]
    · rw [List.getElem?_eq_none (by omega), List.getElem?_eq_none (by omega)]
  · rw [if_neg q, hIs_of f1 (by decide)]
    simp only [Option.bind_some]
    rw [if_neg (by decide), if_neg (by decide), hI_of (k := 1) (v := 0) e1 (by decide) rfl, hI_of (k := 1) (v := 0) f1 (by decide) rfl]
    simp only [Option.bind_some]
    rw [if_pos trivial]
    unfold x_Str_equals_J36 x_L1_equals
    rw [hR_of (k := 0) (b := b) e1 (by decide) rfl, hR_of (k := 0) (b := b') f1 (by decide) rfl]
    simp only [Option.bind_some, hLen_of e2 (by decide : 1 % 100 ≤ 5), hLen_of f2 (by decide : 1 % 100 ≤ 5), nI_eq (show t.length < 2 ^ 31 by omega) (show t'.length < 2 ^ 31 by omega)]
    by_cases ql : t.length = t'.length
    · rw [if_pos ql]
      have loop : ∀ (f i N : Nat), i + f = t.length → f < N → (∀ j, j < i → t[j]? = t'[j]?) → x_L1_equals_L9 N st b b' (nI i) = some (if t = t' then 1 else 0) := by
        intro f
        induction f with
        | zero =>
          intro i N hi hN hj
          obtain ⟨N, rfl⟩ : ∃ m, N = m + 1 := ⟨N - 1, by omega⟩
          rw [x_L1_equals_L9, hLen_of e2 (by decide : 1 % 100 ≤ 5)]
          simp only [Option.bind_some]
          rw [if_pos (nI_le (by omega) (by omega)), if_pos]
          refine List.ext_getElem? fun j => ?_
          by_cases z : j < i
          · exact hj j z
          · rw [List.getElem?_eq_none (by omega), List.getElem?_eq_none (by omega)]
        | succ f ih =>
          intro i N hi hN hj
          obtain ⟨N, rfl⟩ : ∃ m, N = m + 1 := ⟨N - 1, by omega⟩
          have z : i < t.length := by omega
          have z' : i < t'.length := by omega
          have y1 := e4 _ (List.getElem_mem z)
          have y2 := f4 _ (List.getElem_mem z')
          rw [x_L1_equals_L9, hLen_of e2 (by decide : 1 % 100 ≤ 5)]
          simp only [Option.bind_some]
          rw [if_neg (nI_ge z (by omega)), hAi_of e2 (by decide) z (by omega), hAi_of f2 (by decide) z' (by omega), e3 i _ (List.getElem?_eq_getElem z), f3 i _ (List.getElem?_eq_getElem z')]
          simp only [Option.bind_some, nI_1, nI_eq (show t[i] < 2 ^ 31 by omega) (show t'[i] < 2 ^ 31 by omega)]
          by_cases w : t[i] = t'[i]
          · rw [if_pos w]
            refine ih (i + 1) N (by omega) (by omega) (fun j hj2 => ?_)
            by_cases v : j < i
            · exact hj j v
            · have : j = i := by omega
              subst this
              rw [List.getElem?_eq_getElem z, List.getElem?_eq_getElem z', w]
          · rw [if_neg w, if_neg (fun v => w (by
              have : t[i]? = t'[i]? := by rw [v]
              rw [List.getElem?_eq_getElem z, List.getElem?_eq_getElem z'] at this
              exact Option.some.inj this))]
      have l0 : x_L1_equals_L9 1000 st b b' 0 = some (if t = t' then 1 else 0) := loop t.length 0 1000 (by omega) (by omega) (fun j hj => absurd hj (Nat.not_lt_zero _))
      rw [l0]
      simp only [Option.bind_some]
      by_cases w : t = t'
      · rw [if_pos w, if_neg (by decide)]
      · rw [if_neg w, if_pos (by decide)]
    · rw [if_neg ql, if_neg (fun w => ql (by rw [w]))]
      rfl
