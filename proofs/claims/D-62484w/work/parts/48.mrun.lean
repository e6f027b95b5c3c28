theorem rem12 (x : Int32) : (x - x / 12 * 12).toInt = x.toInt - x.toInt.tdiv 12 * 12 ∧ -12 < x.toInt - x.toInt.tdiv 12 * 12 ∧ x.toInt - x.toInt.tdiv 12 * 12 < 12 := by
  have hd : (x / 12).toInt = x.toInt.tdiv 12 := Int32.toInt_div_of_ne_right x 12 (by decide)
  have h1 := x.toInt_lt
  have h2 := x.le_toInt
  have hm : x.toInt.tdiv 12 * 12 ≤ x.toInt + 11 ∧ x.toInt - 11 ≤ x.toInt.tdiv 12 * 12 ∧ x.toInt.tdiv 12 * 12 < 2147483648 ∧ -2147483648 ≤ x.toInt.tdiv 12 * 12 := by
    rcases Int.le_total 0 x.toInt with h | h
    · rw [Int.tdiv_eq_ediv_of_nonneg h]; omega
    · have e : x.toInt.tdiv 12 = -((-x.toInt) / 12) := by
        rw [← Int.tdiv_eq_ediv_of_nonneg (by omega : 0 ≤ -x.toInt), Int.neg_tdiv, Int.neg_neg]
      rw [e]; omega
  have e12 : (12 : Int32).toInt = 12 := by decide
  have hmul : (x / 12 * 12).toInt = x.toInt.tdiv 12 * 12 := by
    rw [Int32.toInt_mul, hd, e12]
    rw [Int.bmod_eq_of_le (by omega) (by omega)]
  refine ⟨?_, by omega, by omega⟩
  rw [Int32.toInt_sub, hmul, Int.bmod_eq_of_le (by omega) (by omega)]
theorem rem_cell (x : Int32) : (0 ≤ x - x / 12 * 12 → x - x / 12 * 12 = nI (o_cell x)) ∧ (¬ 0 ≤ x - x / 12 * 12 → x - x / 12 * 12 + 12 = nI (o_cell x)) := by
  obtain ⟨h1, h2, h3⟩ := rem12 x
  have hc := o_cell_lt x
  have e12 : (12 : Int32).toInt = 12 := by decide
  have hco : (nI (o_cell x)).toInt = x.toInt % 12 := by
    rw [nI_toInt (by omega)]
    unfold o_cell
    have := Int.emod_nonneg x.toInt (show (12 : Int) ≠ 0 by decide)
    omega
  constructor
  · intro h
    apply Int32.toInt_inj.mp
    rw [hco, h1]
    rw [Int32.le_iff_toInt_le, h1] at h
    have h : (0 : Int) ≤ x.toInt - x.toInt.tdiv 12 * 12 := h
    omega
  · intro h
    apply Int32.toInt_inj.mp
    rw [hco, Int32.toInt_add, h1, e12, Int.bmod_eq_of_le (by omega) (by omega)]
    rw [Int32.le_iff_toInt_le, h1] at h
    have h : ¬ (0 : Int) ≤ x.toInt - x.toInt.tdiv 12 * 12 := h
    omega
/-- place and stack (top first) of open cell f -/
def Fst (ms : MS) (f pc : Nat) (st : List Int32) : Prop := mA ms 30 f = nI pc ∧ mA ms 31 f = nI st.length ∧ ∀ i x, st.reverse[i]? = some x → mL ms 32 (16 * f + i) = x.toInt64
def FX (ms : MS) (f c pc : Nat) (st : List Int32) (rs : List Nat) : Prop := FR ms f c 3 ∧ Fst ms f pc st ∧ Fnd ms f rs ∧ mA ms 36 f = nI 0
theorem FX.s {ms ms' : MS} {f c pc : Nat} {st : List Int32} {rs : List Nat} (h : FX ms f c pc st rs) (hl : st.length ≤ 15) (k : FS ms ms' (f + 1)) (h27 : mI ms' 27 = nI (f + 1)) : FX ms' f c pc st rs := by
  obtain ⟨⟨a1, a2, a3⟩, ⟨b1, b2, b3⟩, hd, h36⟩ := h
  obtain ⟨h1, h2, h3, h4, h5, h6, h7, h8⟩ := k.1 f (by omega)
  refine ⟨⟨h27, h1.trans a2, h2.trans a3⟩, ⟨h3.trans b1, h4.trans b2, fun i x hi => ?_⟩, hd.t k, h6.trans h36⟩
  have := (List.getElem?_eq_some_iff.mp hi).1
  rw [List.length_reverse] at this
  rw [h7 i (by omega)]
  exact b3 i x hi
theorem Fst.top {ms : MS} {f pc : Nat} {x : Int32} {r : List Int32} (h : Fst ms f pc (x :: r)) : mL ms 32 (16 * f + r.length) = x.toInt64 := h.2.2 _ _ (by simp)
theorem L_push {ms : MS} {f pc : Nat} {st : List Int32} {x : Int32} (hf : f < 12) (h : Fst ms f pc st) (hl : st.length ≤ 15) : m_push ms (nI f) x.toInt64 = some (mAs (mLs ms 32 (16 * f + st.length) x.toInt64) 31 f (nI (st.length + 1))) ∧ Fst (mAs (mLs ms 32 (16 * f + st.length) x.toInt64) 31 f (nI (st.length + 1))) f pc (x :: st) := by
  have e : (16 : Int32) * nI f + nI st.length = nI (16 * f + st.length) := by rw [nI_mk 16 16 rfl, nI_add]
  refine ⟨?_, ?_, ?_, fun i y hi => ?_⟩
  · unfold m_push
    simp only [mrd_n (k := 31) (show f < mn 31 from hf), Option.bind_some, h.2.1, e, mwL_n (k := 32) (show 16 * f + st.length < mn 32 from (by omega : 16 * f + st.length < 192)), mA_mLs, mwr_n (k := 31) (show f < mn 31 from hf), nI_1]
  · rw [mA_mAs, if_neg (by omega)]; exact h.1
  · rw [mA_mAs, if_pos ⟨rfl, rfl⟩]; rfl
  · rw [mL_mAs, mL_mLs]
    rw [List.reverse_cons] at hi
    by_cases q : i = st.length
    · subst q
      rw [if_pos ⟨rfl, rfl⟩]
      rw [List.getElem?_append_right (by simp)] at hi
      simp at hi
      rw [hi]
    · rw [if_neg (by omega)]
      have hlt := (List.getElem?_eq_some_iff.mp hi).1
      simp at hlt
      rw [List.getElem?_append_left (by simp; omega)] at hi
      exact h.2.2 i y hi
theorem L_pop {ms : MS} {f pc : Nat} {st : List Int32} {x : Int32} (hf : f < 12) (h : Fst ms f pc (x :: st)) (hl : st.length ≤ 15) : m_pop ms (nI f) = some (x.toInt64, mAs ms 31 f (nI st.length)) ∧ Fst (mAs ms 31 f (nI st.length)) f pc st := by
  have e : (16 : Int32) * nI f + nI st.length = nI (16 * f + st.length) := by rw [nI_mk 16 16 rfl, nI_add]
  have h31 : mA ms 31 f = nI (st.length + 1) := h.2.1
  refine ⟨?_, ?_, ?_, fun i y hi => ?_⟩
  · unfold m_pop
    simp only [mrd_n (k := 31) (show f < mn 31 from hf), Option.bind_some, h31, nI_pred, mwr_n (k := 31) (show f < mn 31 from hf), mA_mAs, and_self, if_true, e, mrL_n (k := 32) (show 16 * f + st.length < mn 32 from (by omega : 16 * f + st.length < 192)), mL_mAs, h.top]
  · rw [mA_mAs, if_neg (by omega)]; exact h.1
  · rw [mA_mAs, if_pos ⟨rfl, rfl⟩]
  · rw [mL_mAs]
    refine h.2.2 i y ?_
    rw [List.reverse_cons, List.getElem?_append_left (List.getElem?_eq_some_iff.mp hi).1]
    exact hi
theorem Fst.at {ms : MS} {f pc pc' : Nat} {st : List Int32} (h : Fst ms f pc st) : Fst (mAs ms 30 f (nI pc')) f pc' st := ⟨by rw [mA_mAs, if_pos ⟨rfl, rfl⟩], by rw [mA_mAs, if_neg (by omega)]; exact h.2.1, h.2.2⟩
theorem i64_0 (x : Int32) : x.toInt64 = 0 ↔ x = 0 := by
  constructor
  · intro h
    have := congrArg Int64.toInt32 h
    rw [Int32.toInt32_toInt64] at this
    exact this
  · intro h; subst h; rfl
/-- a step that reads no cell -/
theorem L_adv {ms : MS} {σ : S} {f c pc op n pc' : Nat} {st st' : List Int32} {rs : List Nat} (h : RM ms σ) (hc : c < 12) (hf : f < 12) (hX : FX ms f c pc st rs) (hg : (sC σ c)[pc]? = some (op, n)) (h1 : ¬ (op = 1 ∨ op = 2)) (h10 : op ≤ 10) (hl : st.length ≤ 15) (hs : o_step op n pc st = some (pc', st')) :
    ∃ ms', m_advance ms (nI f) (nI c) = some ms' ∧ RM ms' σ ∧ FX ms' f c pc' st' rs ∧ FS ms ms' f := by
  obtain ⟨q1, q2, q3⟩ := h.2.2.2.2 c hc
  have hpc := (List.getElem?_eq_some_iff.mp hg).1
  obtain ⟨w1, w2⟩ := q3 pc op n hg
  have e : (40 : Int32) * nI c + nI pc = nI (40 * c + pc) := by rw [nI_mk 40 40 rfl, nI_add]
  obtain ⟨⟨a1, a2, a3⟩, hS, hd, h36⟩ := hX
  -- what stays
  have keepA : ∀ (m : MS) (k : Nat) (v : Int32), (k = 30 ∨ k = 31) → RM m σ → FR m f c 3 → Fnd m f rs → mA m 36 f = nI 0 → FS ms m f → RM (mAs m k f v) σ ∧ FR (mAs m k f v) f c 3 ∧ Fnd (mAs m k f v) f rs ∧ mA (mAs m k f v) 36 f = nI 0 ∧ FS ms (mAs m k f v) f := fun m k v hk r1 r2 r3 r4 r5 =>
    ⟨r1.frA (by unfold cF; omega), ⟨r2.1, by rw [mA_mAs, if_neg (by omega)]; exact r2.2.1, by rw [mA_mAs, if_neg (by omega)]; exact r2.2.2⟩, ⟨r3.1, by rw [mA_mAs, if_neg (by omega)]; exact r3.2.1, fun i r hi => by rw [mA_mAs, if_neg (by omega)]; exact r3.2.2 i r hi⟩, by rw [mA_mAs, if_neg (by omega)]; exact r4, r5.frA (by omega) (by omega) (by omega)⟩
  have keepL : ∀ (m : MS) (j : Nat) (v : Int64), RM m σ → FR m f c 3 → Fnd m f rs → mA m 36 f = nI 0 → FS ms m f → RM (mLs m 32 (16 * f + j) v) σ ∧ FR (mLs m 32 (16 * f + j) v) f c 3 ∧ Fnd (mLs m 32 (16 * f + j) v) f rs ∧ mA (mLs m 32 (16 * f + j) v) 36 f = nI 0 ∧ FS ms (mLs m 32 (16 * f + j) v) f := fun m j v r1 r2 r3 r4 r5 =>
    ⟨r1.frL (by decide), r2, r3, r4, r5.frL (by omega)⟩
  obtain ⟨s1, s2, s3, s4, s5⟩ := keepA ms 30 (nI (pc + 1)) (Or.inl rfl) h ⟨a1, a2, a3⟩ hd h36 FS.rf
  have hS1 : Fst (mAs ms 30 f (nI (pc + 1))) f (pc + 1) st := hS.at
  unfold m_advance
  simp only [mrd_n (k := 30) (show f < mn 30 from hf), Option.bind_some, hS.1, e, mrd_n (k := 9) (show 40 * c + pc < mn 9 from (by omega : 40 * c + pc < 480)), mrd_n (k := 10) (show 40 * c + pc < mn 10 from (by omega : 40 * c + pc < 480)), w1, w2, nI_1, mwr_n (k := 30) (show f < mn 30 from hf)]
  have ne : ∀ k : Nat, k ≤ 10 → op ≠ k → ¬ nI op = nI k := fun k hk hn e => hn ((nI_eq (by omega) (by omega)).mp e)
  rw [if_neg (show ¬ nI op = (1 : Int32) from ne 1 (by decide) (fun q => h1 (Or.inl q))), if_neg (show ¬ nI op = (2 : Int32) from ne 2 (by decide) (fun q => h1 (Or.inr q)))]
  -- after a push
  have push : ∀ (m : MS) (p : Nat) (y : Int32) (t : List Int32), t.length ≤ 15 → Fst m f p t → RM m σ → FR m f c 3 → Fnd m f rs → mA m 36 f = nI 0 → FS ms m f → ∃ ms', m_push m (nI f) y.toInt64 = some ms' ∧ RM ms' σ ∧ FX ms' f c p (y :: t) rs ∧ FS ms ms' f := fun m p y t ht r0 r1 r2 r3 r4 r5 => by
    obtain ⟨k1, k2⟩ := L_push (x := y) hf r0 ht
    obtain ⟨l1, l2, l3, l4, l5⟩ := keepL m t.length y.toInt64 r1 r2 r3 r4 r5
    obtain ⟨n1, n2, n3, n4, n5⟩ := keepA _ 31 (nI (t.length + 1)) (Or.inr rfl) l1 l2 l3 l4 l5
    exact ⟨_, k1, n1, ⟨n2, k2, n3, n4⟩, n5⟩
  unfold o_step at hs
  by_cases o0 : op = 0
  · rw [if_pos o0] at hs
    cases hs
    subst o0
    rw [if_pos (show nI 0 = (0 : Int32) from rfl)]
    obtain ⟨ms', k1, k2⟩ := push _ _ (nI n) st hl hS1 s1 s2 s3 s4 s5
    exact ⟨ms', by rw [k1]; rfl, k2⟩
  rw [if_neg o0] at hs
  rw [if_neg (show ¬ nI op = (0 : Int32) from ne 0 (by decide) o0)]
  by_cases o3 : op = 3
  · rw [if_pos o3] at hs
    subst o3
    rw [if_pos (show nI 3 = (3 : Int32) from rfl)]
    cases st with
    | nil => cases hs
    | cons x r =>
      cases hs
      have hr : r.length ≤ 15 := by simp at hl; omega
      obtain ⟨p1, p2⟩ := L_pop hf hS1 hr
      obtain ⟨t1, t2, t3, t4, t5⟩ := keepA _ 31 (nI r.length) (Or.inr rfl) s1 s2 s3 s4 s5
      obtain ⟨ms', k1, k2⟩ := push _ _ (-x) r hr p2 t1 t2 t3 t4 t5
      refine ⟨ms', ?_, k2⟩
      rw [p1]
      simp only [Option.bind_some, Int32.toInt32_toInt64]
      rw [k1]; rfl
  rw [if_neg o3] at hs
  rw [if_neg (show ¬ nI op = (3 : Int32) from ne 3 (by decide) o3)]
  by_cases o9 : op = 9
  · rw [if_pos o9] at hs
    cases hs
    subst o9
    rw [if_pos (show nI 9 = (9 : Int32) from rfl)]
    obtain ⟨t1, t2, t3, t4, t5⟩ := keepA _ 30 (nI n) (Or.inl rfl) s1 s2 s3 s4 s5
    exact ⟨_, rfl, t1, ⟨t2, hS1.at, t3, t4⟩, t5⟩
  rw [if_neg o9] at hs
  rw [if_neg (show ¬ nI op = (9 : Int32) from ne 9 (by decide) o9)]
  by_cases o10 : op = 10
  · rw [if_pos o10] at hs
    subst o10
    rw [if_pos (show nI 10 = (10 : Int32) from rfl)]
    cases st with
    | nil => cases hs
    | cons x r =>
      replace hs : some (if x = 0 then n else pc + 1, r) = some (pc', st') := hs
      simp only [Option.some.injEq, Prod.mk.injEq] at hs
      obtain ⟨rfl, rfl⟩ := hs
      have hr : r.length ≤ 15 := by simp at hl; omega
      obtain ⟨p1, p2⟩ := L_pop hf hS1 hr
      obtain ⟨t1, t2, t3, t4, t5⟩ := keepA _ 31 (nI r.length) (Or.inr rfl) s1 s2 s3 s4 s5
      rw [p1]
      simp only [Option.bind_some, lg0, i64_0]
      unfold m_advance_J199
      by_cases qx : x = 0
      · rw [if_pos qx, if_pos qx]
        obtain ⟨u1, u2, u3, u4, u5⟩ := keepA _ 30 (nI n) (Or.inl rfl) t1 t2 t3 t4 t5
        refine ⟨_, by simp only [mwr_n (k := 30) (show f < mn 30 from hf), Option.bind_some], u1, ⟨u2, p2.at, u3, u4⟩, u5⟩
      · rw [if_neg qx, if_neg qx]
        obtain ⟨u1, u2, u3, u4, u5⟩ := keepA _ 30 (nI (pc + 1)) (Or.inl rfl) t1 t2 t3 t4 t5
        refine ⟨_, by simp only [mrd_n (k := 30) (show f < mn 30 from hf), mwr_n (k := 30) (show f < mn 30 from hf), Option.bind_some, p2.1], u1, ⟨u2, p2.at, u3, u4⟩, u5⟩
  rw [if_neg o10] at hs
  rw [if_neg (show ¬ nI op = (10 : Int32) from ne 10 (by decide) o10)]
  match st, hs with
  | y :: x :: r, hs =>
    cases hs
    have hr : (x :: r).length ≤ 15 := by simp at hl ⊢; omega
    have hr2 : r.length ≤ 15 := by simp at hl ⊢; omega
    obtain ⟨p1, p2⟩ := L_pop hf hS1 hr
    obtain ⟨t1, t2, t3, t4, t5⟩ := keepA _ 31 (nI (x :: r).length) (Or.inr rfl) s1 s2 s3 s4 s5
    obtain ⟨p3, p4⟩ := L_pop hf p2 hr2
    obtain ⟨u1, u2, u3, u4, u5⟩ := keepA _ 31 (nI r.length) (Or.inr rfl) t1 t2 t3 t4 t5
    obtain ⟨ms', k1, k2⟩ := push _ _ (o_bin op x y) r hr2 p4 u1 u2 u3 u4 u5
    refine ⟨ms', ?_, k2⟩
    have fin : m_combine (mAs ms 30 f (nI (pc + 1))) (nI f) (nI op) = some ms' := by
      unfold m_combine
      rw [p1]
      simp only [Option.bind_some, Int32.toInt32_toInt64]
      rw [p3]
      simp only [Option.bind_some, Int32.toInt32_toInt64]
      unfold m_combine_J74 m_combine_J89
      unfold o_bin at k1
      by_cases o4 : op = 4
      · subst o4
        rw [if_pos (show nI 4 = (4 : Int32) from rfl)]
        rw [if_pos rfl] at k1
        rw [k1]; rfl
      rw [if_neg (show ¬ nI op = (4 : Int32) from ne 4 (by decide) o4)]
      rw [if_neg o4] at k1
      by_cases o5 : op = 5
      · subst o5
        rw [if_pos (show nI 5 = (5 : Int32) from rfl)]
        rw [if_pos rfl] at k1
        rw [k1]; rfl
      rw [if_neg (show ¬ nI op = (5 : Int32) from ne 5 (by decide) o5)]
      rw [if_neg o5] at k1
      by_cases o6 : op = 6
      · subst o6
        rw [if_pos (show nI 6 = (6 : Int32) from rfl)]
        rw [if_pos rfl] at k1
        rw [k1]; rfl
      rw [if_neg (show ¬ nI op = (6 : Int32) from ne 6 (by decide) o6)]
      rw [if_neg o6] at k1
      by_cases o7 : op = 7
      · subst o7
        rw [if_pos (show nI 7 = (7 : Int32) from rfl)]
        rw [if_pos rfl] at k1
        by_cases lt : x < y
        · rw [if_pos lt] at k1
          rw [if_neg (show ¬ y ≤ x from fun q => absurd (Int32.lt_of_lt_of_le lt q) Int32.lt_irrefl), k1]; rfl
        · rw [if_neg lt] at k1
          rw [if_pos (show y ≤ x from Int32.not_lt.mp lt), k1]; rfl
      rw [if_neg (show ¬ nI op = (7 : Int32) from ne 7 (by decide) o7)]
      rw [if_neg o7] at k1
      by_cases eq : x = y
      · rw [if_pos eq] at k1
        rw [if_pos eq, show (1 : Int64) = (1 : Int32).toInt64 from rfl, k1]; rfl
      · rw [if_neg eq] at k1
        rw [if_neg eq, show (0 : Int64) = (0 : Int32).toInt64 from rfl, k1]; rfl
    rw [fin]; rfl
  | [x], hs => cases hs
  | [], hs => cases hs
