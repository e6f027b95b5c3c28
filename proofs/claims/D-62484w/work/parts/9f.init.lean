/-! the constructors -/
def Bst (st : HS) (es : List Ent) (sl : Nat) : HS := (fun q => if q < hNx st then st.1 q else es[q - hNx st]?, hNx st + es.length, sl, st.2.2.2)
theorem B_at {st : HS} {es : List Ent} {sl : Nat} (i : Nat) : (Bst st es sl).1 (hNx st + i) = es[i]? := by
  show (if hNx st + i < hNx st then _ else es[hNx st + i - hNx st]?) = _
  rw [if_neg (by omega), Nat.add_sub_cancel_left]
theorem B_lt {st : HS} {es : List Ent} {sl q : Nat} (h : q < hNx st) : (Bst st es sl).1 q = st.1 q := by
  show (if q < hNx st then st.1 q else _) = _
  rw [if_pos h]
theorem B_no {st : HS} {es : List Ent} {sl q : Nat} (h : hNx (Bst st es sl) ≤ q) : (Bst st es sl).1 q = none := by
  have h : hNx st + es.length ≤ q := h
  show (if q < hNx st then st.1 q else es[q - hNx st]?) = _
  rw [if_neg (by omega), List.getElem?_eq_none (by omega)]
theorem B_push {st : HS} {es : List Ent} {sl n : Nat} {e : Ent} : hPush (Bst st es sl) e n = Bst st (es ++ [e]) (sl + n) := by
  have e2 : hNx st + es.length + 1 = hNx st + (es ++ [e]).length := by rw [List.length_append, List.length_singleton]; omega
  refine Prod.ext (funext fun q => ?_) ?_
  · show (if q = hNx st + es.length then some e else if q < hNx st then st.1 q else es[q - hNx st]?) = if q < hNx st then st.1 q else (es ++ [e])[q - hNx st]?
    by_cases h1 : q < hNx st
    · rw [if_neg (by omega), if_pos h1, if_pos h1]
    · rw [if_neg h1, if_neg h1]
      by_cases h2 : q = hNx st + es.length
      · rw [if_pos h2, h2, Nat.add_sub_cancel_left]
        simp
      · rw [if_neg h2]
        by_cases h3 : q - hNx st < es.length
        · rw [List.getElem?_append_left h3]
        · rw [List.getElem?_eq_none (by omega), List.getElem?_eq_none (by rw [List.length_append, List.length_singleton]; omega)]
  · show (hNx st + es.length + 1, sl + n, st.2.2.2) = (hNx st + (es ++ [e]).length, sl + n, st.2.2.2)
    rw [e2]
theorem B_set {st : HS} {es : List Ent} {sl i : Nat} {e : Ent} (hi : i < es.length) : hSet (Bst st es sl) (hNx st + i) e = Bst st (es.set i e) sl := by
  refine Prod.ext (funext fun q => ?_) ?_
  · show (if q = hNx st + i then some e else if q < hNx st then st.1 q else es[q - hNx st]?) = if q < hNx st then st.1 q else (es.set i e)[q - hNx st]?
    by_cases h1 : q < hNx st
    · rw [if_neg (by omega), if_pos h1, if_pos h1]
    · rw [if_neg h1, if_neg h1]
      by_cases h2 : q = hNx st + i
      · rw [if_pos h2, h2, Nat.add_sub_cancel_left, List.getElem?_set_self hi]
      · rw [if_neg h2, List.getElem?_set_ne (by omega)]
  · show (hNx st + es.length, sl, st.2.2.2) = (hNx st + (es.set i e).length, sl, st.2.2.2)
    rw [List.length_set]
theorem B_P {st : HS} {es : List Ent} {sl C k : Nat} {fs : List Value} {v : Value} (i : Nat) (h : es[i]? = some (.inl (C, fs))) (hk : k < fs.length) : hP (Bst st es sl) (hNx st + i) C k v = some (Bst st (es.set i (.inl (C, fs.set k v))) sl) := by
  rw [hP_of (by rw [B_at]; exact h) hk, B_set (List.getElem?_eq_some_iff.mp h).1]
theorem B_new {st : HS} {es : List Ent} {sl ci : Nat} : hNew (Bst st es sl) ci = Bst st (es ++ [.inl (ci, hdf ci)]) (sl + hsl ci) := B_push
theorem B_A {st : HS} {es : List Ent} {sl ty n : Nat} (h : n ≤ 100000) : hNewA (Bst st es sl) ty (nI n) = some (Bst st (es ++ [.inr (ty, hz ty n)]) (sl + n)) := by rw [hNewA_of h, B_push]
theorem B_0 {st : HS} {ci : Nat} (h : ∀ q, hNx st ≤ q → st.1 q = none) : hNew st ci = Bst st [.inl (ci, hdf ci)] (hNs st + hsl ci) := by
  refine Prod.ext (funext fun q => ?_) rfl
  show (if q = hNx st then _ else st.1 q) = if q < hNx st then st.1 q else _
  by_cases h1 : q < hNx st
  · rw [if_neg (by omega), if_pos h1]
  · rw [if_neg h1]
    by_cases h2 : q = hNx st
    · rw [if_pos h2, h2, Nat.sub_self]; rfl
    · rw [if_neg h2, h q (by omega), List.getElem?_eq_none (by simp; omega)]
theorem B_Pq {st : HS} {es es' : List Ent} {sl C k a : Nat} {fs : List Value} {v : Value} (i : Nat) (ha : a = hNx st + i) (h : es[i]? = some (.inl (C, fs))) (hk : k < fs.length) (he : es.set i (.inl (C, fs.set k v)) = es') : hP (Bst st es sl) a C k v = some (Bst st es' sl) := by
  subst ha
  rw [B_P i h hk, he]
theorem B_Aq {st : HS} {es es' : List Ent} {sl sl' ty : Nat} {m : Int32} (n : Nat) (hm : m = nI n) (h : n ≤ 100000) (he : es ++ [.inr (ty, hz ty n)] = es') (hs : sl + n = sl') : hNewA (Bst st es sl) ty m = some (Bst st es' sl') := by
  subst hm
  rw [B_A h, he, hs]
theorem B_nq {st : HS} {es es' : List Ent} {sl sl' ci : Nat} (he : es ++ [.inl (ci, hdf ci)] = es') (hs : sl + hsl ci = sl') : hNew (Bst st es sl) ci = Bst st es' sl' := by
  rw [B_new, he, hs]
def kpI (x : Int32) : Int32 := if 1 ≤ x then (if x ≤ 12 then x else 12) else 1
theorem kpI_n (x : Int32) : ∃ kept, 1 ≤ kept ∧ kept ≤ 12 ∧ kpI x = nI kept := by
  unfold kpI
  by_cases h1 : 1 ≤ x
  · rw [if_pos h1]
    by_cases h2 : x ≤ 12
    · rw [if_pos h2]
      have h0 : ¬ x < 0 := fun z => absurd (Int32.lt_of_lt_of_le z (Int32.le_trans (by decide : (0 : Int32) ≤ 1) h1)) Int32.lt_irrefl
      obtain ⟨j, hj, rfl⟩ := nI_of2 (n := 12) (show (12 : Int32).toInt = 12 by decide) h0 h2
      refine ⟨j, ?_, hj, rfl⟩
      by_cases z : 1 ≤ j
      · exact z
      · have : j = 0 := by omega
        subst this
        exact absurd h1 (by decide)
    · rw [if_neg h2]
      exact ⟨12, by decide, by decide, rfl⟩
  · rw [if_neg h1]
    exact ⟨1, by decide, by decide, rfl⟩

