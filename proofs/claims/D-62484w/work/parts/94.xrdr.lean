/-! the class' reader -/
def RR (st : HS) (R R1 R2 sa sb : Nat) (t : List Nat) (s : PS) : Prop :=
  st.1 R = some (.inl (4, [.ref sa, .int (nI s.1), .int (nI s.2.2.length), .int (bI s.2.1), .ref R1, .ref R2])) ∧ (∃ g, st.1 R1 = some (.inr (5, 64, .inr (.inr (.inr (.inr g))))) ∧ ∀ i q, s.2.2[i]? = some q → g i = some (hKc st (opX q.1))) ∧ (∃ g, st.1 R2 = some (.inr (0, 64, .inl g)) ∧ ∀ i q, s.2.2[i]? = some q → g i = nI q.2) ∧ Str st sa sb t ∧ s.1 ≤ t.length ∧ ∀ i, i < 11 → st.1 (hKc st i) = some (.inl (108, [.int (nI i)]))
def RF (st st' : HS) (R R1 R2 : Nat) : Prop := st'.2 = st.2 ∧ ∀ q, q ≠ R → q ≠ R1 → q ≠ R2 → st'.1 q = st.1 q
theorem RF.rf {st : HS} {R R1 R2 : Nat} : RF st st R R1 R2 := ⟨rfl, fun _ _ _ _ => rfl⟩
theorem RF.t {a b c : HS} {R R1 R2 : Nat} (h : RF a b R R1 R2) (g : RF b c R R1 R2) : RF a c R R1 R2 := ⟨g.1.trans h.1, fun q q1 q2 q3 => (g.2 q q1 q2 q3).trans (h.2 q q1 q2 q3)⟩
theorem RR.ne {st : HS} {R R1 R2 sa sb : Nat} {t : List Nat} {s : PS} (h : RR st R R1 R2 sa sb t s) : R ≠ R1 ∧ R ≠ R2 ∧ R1 ≠ R2 ∧ sa ≠ R ∧ sa ≠ R1 ∧ sa ≠ R2 ∧ sb ≠ R ∧ sb ≠ R1 ∧ sb ≠ R2 ∧ ∀ i, i < 11 → hKc st i ≠ R ∧ hKc st i ≠ R1 ∧ hKc st i ≠ R2 := by
  obtain ⟨h1, ⟨g1, h2, -⟩, ⟨g2, h3, -⟩, ⟨h4, -, -, g3, h5, -⟩, -, h6⟩ := h
  have k : ∀ {a b : Nat} {x y : Ent}, st.1 a = some x → st.1 b = some y → x ≠ y → a ≠ b := fun ha hb hne w => by
    subst w
    rw [ha] at hb
    exact hne (Option.some.inj hb)
  refine ⟨k h1 h2 (fun w => by cases w), k h1 h3 (fun w => by cases w), k h2 h3 (fun w => by cases w), k h4 h1 (fun w => by cases w), k h4 h2 (fun w => by cases w), k h4 h3 (fun w => by cases w), k h5 h1 (fun w => by cases w), k h5 h2 (fun w => by cases w), k h5 h3 (fun w => by cases w), fun i hi => ⟨k (h6 i hi) h1 (fun w => by cases w), k (h6 i hi) h2 (fun w => by cases w), k (h6 i hi) h3 (fun w => by cases w)⟩⟩
theorem Str.kept {st st' : HS} {a b : Nat} {t : List Nat} (h : Str st a b t) (ha : st'.1 a = st.1 a) (hb : st'.1 b = st.1 b) : Str st' a b t := by
  obtain ⟨h1, h2, h3, g, h4, h5⟩ := h
  exact ⟨by rw [ha]; exact h1, h2, h3, g, by rw [hb]; exact h4, h5⟩
/-- the reader object changes -/
theorem RR.set {st : HS} {R R1 R2 sa sb k : Nat} {t : List Nat} {s s' : PS} {v : Value} (h : RR st R R1 R2 sa sb t s) (hk : k < 6) (hc : s'.2.2 = s.2.2) (hp : s'.1 ≤ t.length) (he : [Value.ref sa, .int (nI s.1), .int (nI s.2.2.length), .int (bI s.2.1), .ref R1, .ref R2].set k v = [Value.ref sa, .int (nI s'.1), .int (nI s'.2.2.length), .int (bI s'.2.1), .ref R1, .ref R2]) :
    ∃ st', hP st R 4 k v = some st' ∧ RR st' R R1 R2 sa sb t s' ∧ RF st st' R R1 R2 := by
  obtain ⟨n1, n2, n3, n4, n5, n6, n7, n8, n9, n10⟩ := h.ne
  obtain ⟨h1, ⟨g1, h2, h2'⟩, ⟨g2, h3, h3'⟩, h4, h5, h6⟩ := h
  refine ⟨_, hP_of h1 hk, ⟨?_, ⟨g1, ?_, ?_⟩, ⟨g2, ?_, ?_⟩, h4.kept ?_ ?_, hp, fun i hi => ?_⟩, rfl, fun q q1 q2 q3 => by rw [hSet_s, if_neg q1]⟩
  · rw [hSet_s, if_pos rfl, he]
  · rw [hSet_s, if_neg (fun w => n1 w.symm)]; exact h2
  · rw [hc]; exact h2'
  · rw [hSet_s, if_neg (fun w => n2 w.symm)]; exact h3
  · rw [hc]; exact h3'
  · rw [hSet_s, if_neg n4]
  · rw [hSet_s, if_neg n7]
  · show (hSet st R _).1 (hKc st i) = _
    rw [hSet_s, if_neg (n10 i hi).1]; exact h6 i hi
theorem RR.peek {st : HS} {R R1 R2 sa sb : Nat} {t : List Nat} {s : PS} (h : RR st R R1 R2 sa sb t s) : x_Rdr_peek st R = some (nI (pk t s)) ∧ pk t s < 128 ∧ hIs st R 4 = some () := by
  obtain ⟨h1, -, -, h4, h5, h6⟩ := h
  have hl := h4.2.2.1
  have n0 : nchk .char 0 = some 0 := by decide +kernel
  have hpk : pk t s < 128 := by
    unfold pk
    split
    · decide
    · rw [List.getD_eq_getElem?_getD]
      cases q : t[s.1]? with
      | none => decide
      | some x => exact h4.2.1 x (List.mem_of_getElem? q)
  refine ⟨?_, hpk, hIs_of h1 (by decide)⟩
  unfold x_Rdr_peek
  rw [hI_of (k := 1) (v := nI s.1) h1 (by decide) rfl, hR_of (k := 0) (b := sa) h1 (by decide) rfl, hI_of (k := 3) (v := bI s.2.1) h1 (by decide) rfl]
  simp only [Option.bind_some, hIs_of h4.1 (by decide), h4.len, bI0]
  by_cases q : t.length ≤ s.1
  · rw [if_pos (nI_le q (by omega)), n0]
    have : pk t s = 0 := by
      unfold pk
      split
      · rfl
      · rw [List.getD_eq_getElem?_getD, List.getElem?_eq_none q]; rfl
    rw [this]
    rfl
  · have hlt : s.1 < t.length := by omega
    have hg : t[s.1]? = some t[s.1] := List.getElem?_eq_getElem hlt
    rw [if_neg (nI_ge hlt (by omega))]
    cases hb : s.2.1 with
    | true =>
      rw [if_neg (by decide), n0]
      have : pk t s = 0 := by unfold pk; rw [if_pos hb]
      rw [this]
      rfl
    | false =>
      rw [if_pos rfl, h4.char hg]
      have e : pk t s = t[s.1] := by
        unfold pk
        rw [if_neg (by rw [hb]; decide), List.getD_eq_getElem?_getD, hg]
        rfl
      have d : ∀ x, x < 128 → nchk .char (nI x) = some (nI x) := by decide +kernel
      rw [e] at hpk
      simp only [Option.bind_some, d _ hpk, e]
theorem RR.takes {st : HS} {R R1 R2 sa sb c : Nat} {t : List Nat} {s : PS} (h : RR st R R1 R2 sa sb t s) (hc : c < 128) (h0 : c ≠ 0) : ∃ st', x_Rdr_takes st R (nI c) = some (if pk t s = c then 1 else 0, st') ∧ RR st' R R1 R2 sa sb t (if pk t s = c then pA s else s) ∧ RF st st' R R1 R2 := by
  obtain ⟨p1, p2, p3⟩ := h.peek
  have b1 : bchk 1 = some 1 := by decide
  have b0 : bchk 0 = some 0 := by decide
  have e1 := hI_of (k := 1) (v := nI s.1) h.1 (by decide) rfl
  unfold x_Rdr_takes x_Rdr_takes_J13 x_Rdr_takes_J28
  rw [p3, p1]
  simp only [Option.bind_some, nI_eq (show pk t s < 2 ^ 31 by omega) (show c < 2 ^ 31 by omega), e1]
  by_cases q : pk t s = c
  · obtain ⟨st', g1, g2, g3⟩ := h.set (k := 1) (v := .int (nI (s.1 + 1))) (s' := pA s) (by decide) rfl (pk_room (by rw [q]; exact h0)) rfl
    refine ⟨st', ?_, by rw [if_pos q]; exact g2, g3⟩
    rw [if_pos q, if_neg (by decide), nI_1, g1, if_pos q]
    simp only [Option.bind_some, b1]
  · obtain ⟨st', g1, g2, g3⟩ := h.set (k := 1) (v := .int (nI s.1)) (s' := s) (by decide) rfl h.2.2.2.2.1 rfl
    refine ⟨st', ?_, by rw [if_neg q]; exact g2, g3⟩
    have z0 : nI s.1 + 0 = nI s.1 := Int32.add_zero _
    rw [if_neg q, if_pos trivial, z0, g1, if_neg q]
    simp only [Option.bind_some, b0]
theorem RR.stop {st : HS} {R R1 R2 sa sb : Nat} {t : List Nat} {s : PS} (h : RR st R R1 R2 sa sb t s) : ∃ st', hP st R 4 3 (.int 1) = some st' ∧ RR st' R R1 R2 sa sb t (pStop s) ∧ RF st st' R R1 R2 := h.set (k := 3) (v := .int 1) (s' := pStop s) (by decide) rfl h.2.2.2.2.1 rfl
theorem RR.need {st : HS} {R R1 R2 sa sb c : Nat} {t : List Nat} {s : PS} (h : RR st R R1 R2 sa sb t s) (hc : c < 128) (h0 : c ≠ 0) : ∃ st', x_Rdr_need st R (nI c) = some st' ∧ RR st' R R1 R2 sa sb t (pNeed t s c) ∧ RF st st' R R1 R2 := by
  have b1 : bchk 1 = some 1 := by decide
  have b0 : bchk 0 = some 0 := by decide
  have e3 := hI_of (k := 3) (v := bI s.2.1) h.1 (by decide) rfl
  unfold x_Rdr_need x_Rdr_need_J16 x_Rdr_need_J21 pNeed
  rw [e3]
  simp only [Option.bind_some, bI0, b1, b0]
  cases hb : s.2.1 with
  | true =>
    rw [if_neg (by decide), if_pos rfl]
    obtain ⟨st', g1, g2, g3⟩ := h.stop
    rw [g1]
    have : pStop s = s := by
      unfold pStop
      rw [← hb]
    rw [this] at g2
    exact ⟨st', rfl, g2, g3⟩
  | false =>
    rw [if_pos rfl, if_neg (by decide), h.peek.2.2]
    simp only [Option.bind_some]
    obtain ⟨st1, g1, g2, g3⟩ := h.takes hc h0
    rw [g1]
    simp only [Option.bind_some]
    by_cases q : pk t s = c
    · rw [if_pos q] at g2 ⊢
      rw [if_pos q, if_neg (by decide)]
      obtain ⟨st2, l1, l2, l3⟩ := g2.set (k := 3) (v := .int 0) (s' := pA s) (by decide) rfl g2.2.2.2.2.1 (by
        show _ = [Value.ref sa, .int (nI (pA s).1), .int (nI (pA s).2.2.length), .int (bI (pA s).2.1), .ref R1, .ref R2]
        rw [show (pA s).2.1 = s.2.1 from rfl, hb]
        rfl)
      rw [l1]
      exact ⟨st2, rfl, l2, g3.t l3⟩
    · rw [if_neg q] at g2 ⊢
      rw [if_neg q, if_pos rfl]
      obtain ⟨st2, l1, l2, l3⟩ := g2.stop
      rw [l1]
      exact ⟨st2, rfl, l2, g3.t l3⟩
theorem RR.put {st : HS} {R R1 R2 sa sb op n : Nat} {t : List Nat} {s : PS} (h : RR st R R1 R2 sa sb t s) (hop : op ≤ 10) (hl : s.2.2.length ≤ 60) : ∃ st', x_Rdr_put st R (hKc st (opX op)) (nI n) = some (nI s.2.2.length, st') ∧ RR st' R R1 R2 sa sb t (pPut s op n) ∧ RF st st' R R1 R2 := by
  obtain ⟨n1, n2, n3, n4, n5, n6, n7, n8, n9, n10⟩ := h.ne
  obtain ⟨h1, ⟨g1, h2, h2'⟩, ⟨g2, h3, h3'⟩, h4, h5, h6⟩ := h
  have hoi : opX op < 11 := by unfold opX; repeat (first | split | omega)
  have hv : hIs st (hKc st (opX op)) (hco 5) = some () := by unfold hIs; rw [h6 _ hoi]; rfl
  have ew := hWr_of (v := hKc st (opX op)) (j := s.2.2.length) h2 hv (by decide) (by omega) (by decide)
  generalize hs1 : hSet st R1 (.inr (5, 64, .inr (.inr (.inr (.inr (va_up g1 s.2.2.length (some (hKc st (opX op))))))))) = s1 at ew
  have a1 : s1.1 R = some (.inl (4, [.ref sa, .int (nI s.1), .int (nI s.2.2.length), .int (bI s.2.1), .ref R1, .ref R2])) := by rw [← hs1, hSet_s, if_neg n1]; exact h1
  have a2 : s1.1 R2 = some (.inr (0, 64, .inl g2)) := by rw [← hs1, hSet_s, if_neg (fun w => n3 w.symm)]; exact h3
  have ew2 := hWi_of (j := s.2.2.length) (v := nI n) a2 (by omega) (by decide)
  generalize hs2 : hSet s1 R2 (.inr (0, 64, .inl (upd g2 s.2.2.length (nI n)))) = s2 at ew2
  have b1 : s2.1 R = some (.inl (4, [.ref sa, .int (nI s.1), .int (nI s.2.2.length), .int (bI s.2.1), .ref R1, .ref R2])) := by rw [← hs2, hSet_s, if_neg n2]; exact a1
  have ep := hP_of (k := 2) (v := .int (nI (s.2.2.length + 1))) b1 (by decide : 2 < 6)
  generalize hs3 : hSet s2 R (.inl (4, ([.ref sa, .int (nI s.1), .int (nI s.2.2.length), .int (bI s.2.1), .ref R1, .ref R2] : List Value).set 2 (.int (nI (s.2.2.length + 1))))) = s3 at ep
  have c1 : s3.1 R = some (.inl (4, [.ref sa, .int (nI s.1), .int (nI (s.2.2.length + 1)), .int (bI s.2.1), .ref R1, .ref R2])) := by rw [← hs3, hSet_s, if_pos rfl]; rfl
  have get : ∀ q, q ≠ R → q ≠ R1 → q ≠ R2 → s3.1 q = st.1 q := fun q q1 q2 q3 => by rw [← hs3, hSet_s, if_neg q1, ← hs2, hSet_s, if_neg q3, ← hs1, hSet_s, if_neg q2]
  have hk : s3.2 = st.2 := by rw [← hs3, ← hs2, ← hs1]; rfl
  have hkc : hKc s3 = hKc st := by unfold hKc; rw [hk]
  have app : ∀ i q, (s.2.2 ++ [(op, n)])[i]? = some q → (i = s.2.2.length ∧ q = (op, n)) ∨ (i ≠ s.2.2.length ∧ s.2.2[i]? = some q) := fun i q hi => by
    by_cases z : i = s.2.2.length
    · subst z
      simp at hi
      exact Or.inl ⟨rfl, hi.symm⟩
    · have hlt := (List.getElem?_eq_some_iff.mp hi).1
      rw [List.length_append, List.length_singleton] at hlt
      rw [List.getElem?_append_left (by omega)] at hi
      exact Or.inr ⟨z, hi⟩
  refine ⟨s3, ?_, ⟨?_, ⟨va_up g1 s.2.2.length (some (hKc st (opX op))), ?_, fun i q hi => ?_⟩, ⟨upd g2 s.2.2.length (nI n), ?_, fun i q hi => ?_⟩, h4.kept (get sa n4 n5 n6) (get sb n7 n8 n9), h5, fun i hi => ?_⟩, hk, get⟩
  · unfold x_Rdr_put
    rw [hR_of (k := 4) (b := R1) h1 (by decide) rfl, hI_of (k := 2) (v := nI s.2.2.length) h1 (by decide) rfl]
    simp only [Option.bind_some, ew, hR_of (k := 5) (b := R2) a1 (by decide) rfl, hI_of (k := 2) (v := nI s.2.2.length) a1 (by decide) rfl, ew2, hI_of (k := 2) (v := nI s.2.2.length) b1 (by decide) rfl, nI_1, ep, hI_of (k := 2) (v := nI (s.2.2.length + 1)) c1 (by decide) rfl, nI_pred]
  · rw [c1, show (pPut s op n).2.2 = s.2.2 ++ [(op, n)] from rfl, List.length_append, List.length_singleton]
    rfl
  · rw [← hs3, hSet_s, if_neg (fun w => n1 w.symm), ← hs2, hSet_s, if_neg n3, ← hs1, hSet_s, if_pos rfl]
  · rw [hkc]
    show (if i = s.2.2.length then _ else g1 i) = _
    rcases app i q hi with ⟨z1, z2⟩ | ⟨z1, z2⟩
    · rw [if_pos z1, z2]
    · rw [if_neg z1]; exact h2' i q z2
  · rw [← hs3, hSet_s, if_neg (fun w => n2 w.symm), ← hs2, hSet_s, if_pos rfl]
  · show (if i = s.2.2.length then _ else g2 i) = _
    rcases app i q hi with ⟨z1, z2⟩ | ⟨z1, z2⟩
    · rw [if_pos z1, z2]
    · rw [if_neg z1]; exact h3' i q z2
  · rw [hkc, get _ (n10 i hi).1 (n10 i hi).2.1 (n10 i hi).2.2]; exact h6 i hi
/-- a jump's number is set later -/
theorem RR.mend {st : HS} {R R1 R2 sa sb i v : Nat} {t : List Nat} {s : PS} (h : RR st R R1 R2 sa sb t s) (hi : i < s.2.2.length) (hl : s.2.2.length ≤ 60) : ∃ st', hWi st R2 0 (nI i) (nI v) = some st' ∧ RR st' R R1 R2 sa sb t (pW s i v) ∧ RF st st' R R1 R2 := by
  obtain ⟨n1, n2, n3, n4, n5, n6, n7, n8, n9, n10⟩ := h.ne
  obtain ⟨h1, ⟨g1, h2, h2'⟩, ⟨g2, h3, h3'⟩, h4, h5, h6⟩ := h
  have hg : s.2.2[i]? = some s.2.2[i] := List.getElem?_eq_getElem hi
  have get : ∀ j q, (cW s.2.2 i v)[j]? = some q → ∃ q', s.2.2[j]? = some q' ∧ q.1 = q'.1 ∧ q.2 = if j = i then v else q'.2 := fun j q hj => by
    by_cases z : j = i
    · subst z
      rw [cW_eq (op := s.2.2[j].1) (n := s.2.2[j].2) hg] at hj
      cases hj
      exact ⟨_, hg, rfl, by rw [if_pos rfl]⟩
    · rw [cW_ne z] at hj
      exact ⟨q, hj, rfl, by rw [if_neg z]⟩
  refine ⟨_, hWi_of h3 (by omega) (by decide), ⟨?_, ⟨g1, ?_, fun j q hj => ?_⟩, ⟨upd g2 i (nI v), ?_, fun j q hj => ?_⟩, h4.kept ?_ ?_, h5, fun j hj => ?_⟩, rfl, fun q q1 q2 q3 => by rw [hSet_s, if_neg q3]⟩
  · rw [hSet_s, if_neg n2, h1, show (pW s i v).2.2 = cW s.2.2 i v from rfl, cW_len]
    rfl
  · rw [hSet_s, if_neg n3]; exact h2
  · obtain ⟨q', e1, e2, -⟩ := get j q hj
    rw [e2]; exact h2' j q' e1
  · rw [hSet_s, if_pos rfl]
  · obtain ⟨q', e1, -, e2⟩ := get j q hj
    show (if j = i then _ else g2 j) = _
    rw [e2]
    by_cases z : j = i
    · rw [if_pos z, if_pos z]
    · rw [if_neg z, if_neg z]; exact h3' j q' e1
  · rw [hSet_s, if_neg n6]
  · rw [hSet_s, if_neg n9]
  · show (hSet st R2 _).1 (hKc st j) = _
    rw [hSet_s, if_neg (n10 j hj).2.2]; exact h6 j hj
