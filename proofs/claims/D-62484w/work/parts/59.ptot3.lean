theorem g_formula {t : List Nat} {n : Nat} (ht : t.length ≤ 30) (hF : GF t n) (hU : GU t n) : GF t (n + 1) := by
  intro s d hs ha hc hn
  show ∃ s', p_formula t (p_cmp t (p_sum t (p_prod t (p_one (pn t n).2)))) (p_one (pn t n).1) s d = some s' ∧ _
  obtain ⟨s1, g1, hz⟩ := g_cmp hU ht s d hs ha hc (by omega)
  unfold p_formula
  rw [g1]
  show ∃ s', (if pk t s1 = 63 then _ else some s1) = some s' ∧ _
  by_cases q : pk t s1 = 63
  · rw [if_pos q]
    obtain ⟨k1, k2⟩ := pkk_lt (t := t) (s := s1) (by omega)
    obtain ⟨a1, a2, a3, a4, a5⟩ := hz
    obtain ⟨c1, c2, c3, c4⟩ := a5 k1
    clear a5 a4
    replace c2 : s1.2.2.length + s.1 ≤ s.2.2.length + s1.1 := by clear hn hc; omega
    have hn' : 2 * t.length + 1 ≤ n + 2 * s.1 := by clear c2 c1 hc; omega
    clear hn
    have one : ∀ z : PS, z.1 ≤ t.length → z.2.2.length ≤ 2 * z.1 → s.1 + 1 ≤ z.1 → ∃ s', p_one (pn t n).1 z d = some s' ∧ ((z.2.1 = true ∧ s' = z) ∨ (z.2.1 = false ∧ PR t z s')) := fun z z2 z3 z4 => by
      unfold p_one
      by_cases q : z.2.1 = true
      · rw [if_pos q]; exact ⟨z, rfl, Or.inl ⟨q, rfl⟩⟩
      · rw [if_neg q]
        have q' : z.2.1 = false := by simpa using q
        obtain ⟨s', y1, y2⟩ := hF z d q' z2 z3 (by clear c2 hc z3; omega)
        exact ⟨s', y1, Or.inr ⟨q', y2⟩⟩
    have la : (pPut (pA s1) 10 0).2.2.length = s1.2.2.length + 1 := put_len
    obtain ⟨s2, y1, y2⟩ := one (pPut (pA s1) 10 0) (by show s1.1 + 1 ≤ _; omega) (by rw [la]; show _ ≤ 2 * (s1.1 + 1); omega) (by show s.1 + 1 ≤ s1.1 + 1; omega)
    rw [y1]
    simp only [Option.bind_some]
    have y2 : PR t (pPut (pA s1) 10 0) s2 := by
      rcases y2 with ⟨z, -⟩ | ⟨-, y2⟩
      · have : s1.2.1 = true := z
        rw [k1] at this; cases this
      · exact y2
    obtain ⟨b1, b2, b3, b4, b5⟩ := y2
    have b1 : s1.1 + 1 ≤ s2.1 := b1
    rw [la] at b3 b4 b5
    have b4 : s2.2.2.length ≤ s1.2.2.length + 1 + 2 * (s2.1 - (s1.1 + 1)) := b4
    replace b4 : s2.2.2.length + 2 * s1.1 + 1 ≤ s1.2.2.length + 2 * s2.1 := by clear c2 hc hn'; omega
    have hne : s2.1 ≤ (pNeed t s2 58).1 ∧ (pNeed t s2 58).1 ≤ t.length ∧ (pNeed t s2 58).2.2 = s2.2.2 ∧ ((pNeed t s2 58).2.1 = false → s2.2.1 = false ∧ (pNeed t s2 58).1 = s2.1 + 1) := by
      unfold pNeed
      by_cases z : s2.2.1 = true
      · rw [if_pos z]; exact ⟨Nat.le_refl _, b2, rfl, fun w => by rw [z] at w; cases w⟩
      · rw [if_neg z]
        by_cases z2 : pk t s2 = 58
        · rw [if_pos z2]
          have := (pkk_lt (t := t) (s := s2) (by omega)).2
          exact ⟨by show s2.1 ≤ s2.1 + 1; omega, by show s2.1 + 1 ≤ _; omega, rfl, fun _ => ⟨by simpa using z, rfl⟩⟩
        · rw [if_neg z2]; exact ⟨Nat.le_refl _, b2, rfl, fun w => by cases w⟩
    obtain ⟨n1, n2, n3, n4⟩ := hne
    generalize pNeed t s2 58 = b at n1 n2 n3 n4 ⊢
    have lc : (pW (pPut b 9 0) s1.2.2.length (s2.2.2.length + 1)).2.2.length = s2.2.2.length + 1 := by
      show (cW _ _ _).length = _
      rw [cW_len, put_len, n3]
    obtain ⟨s3, y3, y4⟩ := one (pW (pPut b 9 0) s1.2.2.length (s2.2.2.length + 1)) n2 (by rw [lc]; show _ ≤ 2 * b.1; omega) (by show s.1 + 1 ≤ b.1; omega)
    rw [y3]
    refine ⟨_, rfl, ?_⟩
    have l3 : b.1 ≤ s3.1 ∧ s3.1 ≤ t.length ∧ s2.2.2.length + 1 ≤ s3.2.2.length ∧ s3.2.2.length + 2 * b.1 ≤ s2.2.2.length + 1 + 2 * s3.1 := by
      rcases y4 with ⟨-, z⟩ | ⟨-, z1, z2, z3, z4, -⟩
      · subst z; rw [lc]; exact ⟨Nat.le_refl _, n2, Nat.le_refl _, Nat.le_refl _⟩
      · rw [lc] at z3 z4
        have z1 : b.1 ≤ s3.1 := z1
        have z4 : s3.2.2.length ≤ s2.2.2.length + 1 + 2 * (s3.1 - b.1) := z4
        exact ⟨z1, z2, z3, by clear c2 hc hn' b4; omega⟩
    obtain ⟨l31, l32, l33, l34⟩ := l3
    refine ⟨by show s.1 ≤ s3.1; omega, l32, by show _ ≤ (cW _ _ _).length; rw [cW_len]; omega, by show (cW _ _ _).length ≤ _ + 2 * (s3.1 - s.1); rw [cW_len]; omega, fun hst => ?_⟩
    have hst : s3.2.1 = false := hst
    rcases y4 with ⟨z, z'⟩ | ⟨zb, -, -, -, -, z5⟩
    · subst z'; rw [z] at hst; cases hst
    obtain ⟨m1, m2⟩ := n4 zb
    obtain ⟨e1, e2, e3, e4⟩ := b5 m1
    have e1 : s1.1 + 1 < s2.1 := e1
    have e2 : s2.2.2.length ≤ s1.2.2.length + 1 + (s2.1 - (s1.1 + 1)) := e2
    replace e2 : s2.2.2.length + s1.1 ≤ s1.2.2.length + s2.1 := by clear c2 hc hn' b4 l34; omega
    obtain ⟨f1, f2, f3, f4⟩ := z5 hst
    rw [lc] at f2 f3 f4
    have f1 : b.1 < s3.1 := f1
    have f2 : s3.2.2.length ≤ s2.2.2.length + 1 + (s3.1 - b.1) := f2
    replace f2 : s3.2.2.length + b.1 ≤ s2.2.2.length + 1 + s3.1 := by clear c2 hc hn' b4 l34 e2; omega
    -- the entries of the end
    have g3 : ∀ pc, pc ≤ s2.2.2.length → pc ≠ s1.2.2.length → pc ≠ s2.2.2.length → (cW s3.2.2 s2.2.2.length s3.2.2.length)[pc]? = s2.2.2[pc]? := fun pc h1 h2 h3 => by
      rw [cW_ne h3, f3 pc (by omega)]
      show (cW (b.2.2 ++ [(9, 0)]) s1.2.2.length (s2.2.2.length + 1))[pc]? = _
      rw [cW_ne h2, n3, List.getElem?_append_left (by omega)]
    have gj : (cW s3.2.2 s2.2.2.length s3.2.2.length)[s1.2.2.length]? = some (10, s2.2.2.length + 1) := by
      rw [cW_ne (by omega), f3 _ (by omega)]
      refine cW_eq (n := 0) ?_
      show (b.2.2 ++ [(9, 0)])[s1.2.2.length]? = _
      rw [n3, List.getElem?_append_left (by omega), e3 _ (by omega)]
      exact put_get (s := pA s1)
    have gk : (cW s3.2.2 s2.2.2.length s3.2.2.length)[s2.2.2.length]? = some (9, s3.2.2.length) := by
      refine cW_eq (n := 0) ?_
      rw [f3 _ (by omega)]
      show (cW (b.2.2 ++ [(9, 0)]) s1.2.2.length (s2.2.2.length + 1))[s2.2.2.length]? = _
      rw [cW_ne (by omega), n3, List.getElem?_append_right (Nat.le_refl _)]
      simp
    refine ⟨by show s.1 < s3.1; omega, by show (cW _ _ _).length ≤ _ + (s3.1 - s.1); rw [cW_len]; omega, fun pc hp => ?_, fun H => ?_⟩
    · show (cW _ _ _)[pc]? = _
      rw [g3 pc (by omega) (by omega) (by omega), e3 pc (by omega)]
      show (pPut (pA s1) 10 0).2.2[pc]? = _
      rw [put_lt (s := pA s1) (by show pc < s1.2.2.length; omega)]
      exact c3 pc hp
    · show tw (cW s3.2.2 s2.2.2.length s3.2.2.length) s.2.2.length (cW _ _ _).length H (H + (s3.1 - s.1 + 1) / 2)
      rw [cW_len]
      refine tw_if (j := s1.2.2.length) (k := s2.2.2.length) ?_ gj ?_ gk ?_ (by omega)
      · refine ((c4 H).le (by omega)).cg (fun pc x y => ?_)
        rw [g3 pc (by omega) (by omega) (by omega), e3 pc (by omega)]
        exact put_lt (s := pA s1) y
      · refine ((e4 H).le (by show H + (s2.1 - (s1.1 + 1) + 1) / 2 ≤ _; omega)).cg (fun pc x y => g3 pc (by omega) (by omega) (by omega))
      · refine ((f4 H).le (by show H + (s3.1 - b.1 + 1) / 2 ≤ _; omega)).cg (fun pc x y => cW_ne (by omega))
  · rw [if_neg q]; exact ⟨s1, rfl, hz⟩
theorem g_all {t : List Nat} (ht : t.length ≤ 30) : ∀ n, GF t n ∧ GU t n := by
  intro n
  induction n with
  | zero => exact ⟨fun s d _ _ _ h => by omega, fun s d _ _ _ h => by omega⟩
  | succ n ih => exact ⟨g_formula ht ih.1 ih.2, g_unit ih.1 ih.2⟩
