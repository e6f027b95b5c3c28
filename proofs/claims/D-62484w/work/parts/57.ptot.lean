theorem cW_len {C : List (Nat × Nat)} {i v : Nat} : (cW C i v).length = C.length := by
  unfold cW
  split
  · simp
  · rfl
theorem cW_ne {C : List (Nat × Nat)} {i v k : Nat} (h : k ≠ i) : (cW C i v)[k]? = C[k]? := by
  unfold cW
  split
  · rw [List.getElem?_set_ne (fun e => h e.symm)]
  · rfl
theorem cW_eq {C : List (Nat × Nat)} {i v op n : Nat} (h : C[i]? = some (op, n)) : (cW C i v)[i]? = some (op, v) := by
  unfold cW
  rw [h]
  dsimp only
  rw [List.getElem?_set_self (List.getElem?_eq_some_iff.mp h).1]
theorem pkk_lt {t : List Nat} {s : PS} (h : pk t s ≠ 0) : s.2.1 = false ∧ s.1 < t.length := by
  unfold pk at h
  split at h
  · exact absurd rfl h
  · rename_i q
    refine ⟨by simpa using q, ?_⟩
    by_cases z : s.1 < t.length
    · exact z
    · rw [List.getD_eq_getElem?_getD, List.getElem?_eq_none (by omega)] at h
      exact absurd rfl h
/-- what reading a part gives -/
def PR (t : List Nat) (s s' : PS) : Prop := s.1 ≤ s'.1 ∧ s'.1 ≤ t.length ∧ s.2.2.length ≤ s'.2.2.length ∧ s'.2.2.length ≤ s.2.2.length + 2 * (s'.1 - s.1) ∧ (s'.2.1 = false → s.1 < s'.1 ∧ s'.2.2.length ≤ s.2.2.length + (s'.1 - s.1) ∧ (∀ pc, pc < s.2.2.length → s'.2.2[pc]? = s.2.2[pc]?) ∧ ∀ H, tw s'.2.2 s.2.2.length s'.2.2.length H (H + (s'.1 - s.1 + 1) / 2))
theorem put_get {s : PS} {op n : Nat} : (pPut s op n).2.2[s.2.2.length]? = some (op, n) := by
  show (s.2.2 ++ [(op, n)])[s.2.2.length]? = _
  rw [List.getElem?_append_right (Nat.le_refl _)]
  simp
theorem put_lt {s : PS} {op n pc : Nat} (h : pc < s.2.2.length) : (pPut s op n).2.2[pc]? = s.2.2[pc]? := by
  show (s.2.2 ++ [(op, n)])[pc]? = _
  rw [List.getElem?_append_left h]
theorem put_len {s : PS} {op n : Nat} : (pPut s op n).2.2.length = s.2.2.length + 1 := by
  show (s.2.2 ++ [(op, n)]).length = _
  simp
theorem PR_bin {t : List Nat} {s0 s s2 : PS} {op : Nat} (h : PR t s0 s) (hs : s.2.1 = false) (g : PR t (pA s) s2) (hop : 4 ≤ op ∧ op ≤ 8) : PR t s0 (pPut s2 op 0) := by
  obtain ⟨a1, a2, a3, a4, a5⟩ := h
  obtain ⟨b1, b2, b3, b4, b5⟩ := g
  have b1 : s.1 + 1 ≤ s2.1 := b1
  have b3 : s.2.2.length ≤ s2.2.2.length := b3
  have b4 : s2.2.2.length ≤ s.2.2.length + 2 * (s2.1 - (s.1 + 1)) := b4
  obtain ⟨c1, c2, c3, c4⟩ := a5 hs
  refine ⟨by show s0.1 ≤ s2.1; omega, b2, by rw [put_len]; omega, by rw [put_len]; show _ ≤ _ + 2 * (s2.1 - s0.1); omega, fun hst => ?_⟩
  obtain ⟨d1, d2, d3, d4⟩ := b5 hst
  have d1 : s.1 + 1 < s2.1 := d1
  have d2 : s2.2.2.length ≤ s.2.2.length + (s2.1 - (s.1 + 1)) := d2
  refine ⟨by show s0.1 < s2.1; omega, by rw [put_len]; show _ ≤ _ + (s2.1 - s0.1); omega, fun pc hp => ?_, fun H => ?_⟩
  · rw [put_lt (by omega), d3 pc (by show pc < s.2.2.length; omega)]; exact c3 pc hp
  · rw [put_len]
    have e1 : tw (pPut s2 op 0).2.2 s0.2.2.length s.2.2.length H (H + (s2.1 - s0.1 + 1) / 2) := ((c4 H).le (by omega)).cg (fun pc x y => by rw [put_lt (by omega), d3 pc y]; rfl)
    have e2 : tw (pPut s2 op 0).2.2 s.2.2.length s2.2.2.length (H + 1) (H + (s2.1 - s0.1 + 1) / 2) := ((d4 (H + 1)).le (by show H + 1 + (s2.1 - (s.1 + 1) + 1) / 2 ≤ _; omega)).cg (fun pc x y => put_lt y)
    exact tw_bin e1 e2 put_get hop (by omega)
theorem dig_ok {t : List Nat} : ∀ (k : Nat) (s : PS) (n B : Nat), s.1 ≤ t.length → n < B → s.1 ≤ (p_dig t k s n).1.1 ∧ (p_dig t k s n).1.1 ≤ t.length ∧ (p_dig t k s n).1.2 = s.2 ∧ (p_dig t k s n).2 < B * 10 ^ k := by
  intro k
  induction k with
  | zero => intro s n B h1 h2; exact ⟨Nat.le_refl _, h1, rfl, by simpa [p_dig] using h2⟩
  | succ k ih =>
    intro s n B h1 h2
    rw [p_dig]
    split
    · rename_i q
      have := (pkk_lt (t := t) (s := s) (by omega)).2
      obtain ⟨r1, r2, r3, r4⟩ := ih (pA s) (10 * n + pk t s - 48) (B * 10) (by show s.1 + 1 ≤ _; omega) (by omega)
      have r1 : s.1 + 1 ≤ _ := r1
      exact ⟨by omega, r2, r3, by rw [Nat.pow_succ, Nat.mul_comm (10 ^ k) 10, ← Nat.mul_assoc]; exact r4⟩
    · refine ⟨Nat.le_refl _, h1, rfl, ?_⟩
      show n < B * 10 ^ (k + 1)
      have : 1 ≤ 10 ^ (k + 1) := Nat.one_le_pow _ _ (by decide)
      calc n < B := h2
        _ = B * 1 := by omega
        _ ≤ B * 10 ^ (k + 1) := Nat.mul_le_mul_left _ this
def GF (t : List Nat) (n : Nat) : Prop := ∀ (s : PS) (d : Nat), s.2.1 = false → s.1 ≤ t.length → s.2.2.length ≤ 2 * s.1 → 2 * (t.length - s.1) + 2 ≤ n → ∃ s', (pn t n).1 s d = some s' ∧ PR t s s'
def GU (t : List Nat) (n : Nat) : Prop := ∀ (s : PS) (d : Nat), s.2.1 = false → s.1 ≤ t.length → s.2.2.length ≤ 2 * s.1 → 2 * (t.length - s.1) + 1 ≤ n → ∃ s', (pn t n).2 s d = some s' ∧ PR t s s'
theorem g_unit {t : List Nat} {n : Nat} (hF : GF t n) (hU : GU t n) : GU t (n + 1) := by
  intro s d hs ha hc hn
  show ∃ s', p_unit t (p_one (pn t n).1) (p_one (pn t n).2) s d = some s' ∧ _
  unfold p_unit
  by_cases q1 : 65 ≤ pk t s ∧ pk t s ≤ 76
  · rw [if_pos q1]
    have hlt := (pkk_lt (t := t) (s := s) (by omega)).2
    refine ⟨_, rfl, by show s.1 ≤ s.1 + 1; omega, by show s.1 + 1 ≤ _; omega, by rw [put_len]; show s.2.2.length ≤ s.2.2.length + 1; omega, by rw [put_len]; show s.2.2.length + 1 ≤ s.2.2.length + 2 * (s.1 + 1 - s.1); omega, fun _ => ⟨by show s.1 < s.1 + 1; omega, by rw [put_len]; show s.2.2.length + 1 ≤ s.2.2.length + (s.1 + 1 - s.1); omega, fun pc hp => put_lt (s := pA s) hp, fun H => ?_⟩⟩
    rw [put_len]
    exact (tw_leaf (put_get (s := pA s)) (Or.inr ⟨rfl, by omega⟩) (by omega)).le (by show H + 1 ≤ H + (s.1 + 1 - s.1 + 1) / 2; omega)
  rw [if_neg q1]
  by_cases q2 : 48 ≤ pk t s ∧ pk t s ≤ 57
  · rw [if_pos q2]
    have hlt := (pkk_lt (t := t) (s := s) (by omega)).2
    have e : p_dig t 4 s 0 = p_dig t 3 (pA s) (10 * 0 + pk t s - 48) := by rw [p_dig, if_pos q2]
    obtain ⟨r1, r2, r3, r4⟩ := dig_ok (t := t) 3 (pA s) (10 * 0 + pk t s - 48) 10 (by show s.1 + 1 ≤ _; omega) (by omega)
    rw [← e] at r1 r2 r3 r4
    generalize p_dig t 4 s 0 = z at *
    have r1 : s.1 + 1 ≤ z.1.1 := r1
    have r3' : z.1.2.2 = s.2.2 := by rw [r3]; rfl
    have elen : (pPut z.1 0 z.2).2.2.length = s.2.2.length + 1 := by rw [put_len, r3']
    refine ⟨_, rfl, by show s.1 ≤ z.1.1; omega, r2, by rw [elen]; omega, by rw [elen]; show _ ≤ s.2.2.length + 2 * (z.1.1 - s.1); omega, fun _ => ⟨by show s.1 < z.1.1; omega, by rw [elen]; show _ ≤ s.2.2.length + (z.1.1 - s.1); omega, fun pc hp => by rw [put_lt (by rw [r3']; exact hp), r3'], fun H => ?_⟩⟩
    rw [elen]
    have g := put_get (s := z.1) (op := 0) (n := z.2)
    rw [r3'] at g
    exact (tw_leaf g (Or.inl rfl) (by omega)).le (by show H + 1 ≤ H + (z.1.1 - s.1 + 1) / 2; omega)
  rw [if_neg q2]
  by_cases q3 : d < 5 ∧ pk t s = 40
  · rw [if_pos q3]
    have hlt := (pkk_lt (t := t) (s := s) (by omega)).2
    obtain ⟨s2, g1, g2⟩ := hF (pA s) (d + 1) hs (by show s.1 + 1 ≤ _; omega) (by show s.2.2.length ≤ 2 * (s.1 + 1); omega) (by show 2 * (t.length - (s.1 + 1)) + 2 ≤ n; omega)
    have e : p_one (pn t n).1 (pA s) (d + 1) = some s2 := by
      unfold p_one
      rw [if_neg (by show ¬ s.2.1 = true; rw [hs]; decide)]; exact g1
    rw [e]
    obtain ⟨b1, b2, b3, b4, b5⟩ := g2
    have b1 : s.1 + 1 ≤ s2.1 := b1
    have b3 : s.2.2.length ≤ s2.2.2.length := b3
    have b4 : s2.2.2.length ≤ s.2.2.length + 2 * (s2.1 - (s.1 + 1)) := b4
    refine ⟨_, rfl, ?_⟩
    unfold pNeed
    by_cases z : s2.2.1 = true
    · rw [if_pos z]
      exact ⟨by omega, b2, b3, by omega, fun q => by rw [z] at q; cases q⟩
    · rw [if_neg z]
      by_cases z2 : pk t s2 = 41
      · rw [if_pos z2]
        have hlt2 := (pkk_lt (t := t) (s := s2) (by omega)).2
        obtain ⟨d1, d2, d3, d4⟩ := b5 (by simpa using z)
        have d1 : s.1 + 1 < s2.1 := d1
        have d2 : s2.2.2.length ≤ s.2.2.length + (s2.1 - (s.1 + 1)) := d2
        refine ⟨by show s.1 ≤ s2.1 + 1; omega, by show s2.1 + 1 ≤ _; omega, b3, by show _ ≤ s.2.2.length + 2 * (s2.1 + 1 - s.1); exact Nat.le_trans b4 (by omega), fun _ => ⟨by show s.1 < s2.1 + 1; omega, by show s2.2.2.length ≤ s.2.2.length + (s2.1 + 1 - s.1); omega, d3, fun H => (d4 H).le (by show H + (s2.1 - (s.1 + 1) + 1) / 2 ≤ H + (s2.1 + 1 - s.1 + 1) / 2; omega)⟩⟩
      · rw [if_neg z2]
        exact ⟨by show s.1 ≤ s2.1; omega, b2, b3, by show _ ≤ s.2.2.length + 2 * (s2.1 - s.1); exact Nat.le_trans b4 (by omega), fun q => by cases q⟩
  rw [if_neg q3]
  by_cases q4 : d < 5 ∧ (pk t s = 45 ∨ pk t s = 64)
  · rw [if_pos q4]
    have hlt := (pkk_lt (t := t) (s := s) (by omega)).2
    obtain ⟨s2, g1, g2⟩ := hU (pA s) (d + 1) hs (by show s.1 + 1 ≤ _; omega) (by show s.2.2.length ≤ 2 * (s.1 + 1); omega) (by show 2 * (t.length - (s.1 + 1)) + 1 ≤ n; omega)
    have e : p_one (pn t n).2 (pA s) (d + 1) = some s2 := by
      unfold p_one
      rw [if_neg (by show ¬ s.2.1 = true; rw [hs]; decide)]; exact g1
    rw [e]
    obtain ⟨b1, b2, b3, b4, b5⟩ := g2
    have b1 : s.1 + 1 ≤ s2.1 := b1
    have b3 : s.2.2.length ≤ s2.2.2.length := b3
    have b4 : s2.2.2.length ≤ s.2.2.length + 2 * (s2.1 - (s.1 + 1)) := b4
    refine ⟨_, rfl, by show s.1 ≤ s2.1; omega, b2, by rw [put_len]; omega, by rw [put_len]; show _ ≤ s.2.2.length + 2 * (s2.1 - s.1); omega, fun z => ?_⟩
    obtain ⟨d1, d2, d3, d4⟩ := b5 z
    have d1 : s.1 + 1 < s2.1 := d1
    have d2 : s2.2.2.length ≤ s.2.2.length + (s2.1 - (s.1 + 1)) := d2
    refine ⟨by show s.1 < s2.1; omega, by rw [put_len]; show _ ≤ s.2.2.length + (s2.1 - s.1); omega, fun pc hp => by rw [put_lt (by omega)]; exact d3 pc hp, fun H => ?_⟩
    rw [put_len]
    exact tw_un (((d4 H).le (by show H + (s2.1 - (s.1 + 1) + 1) / 2 ≤ H + (s2.1 - s.1 + 1) / 2; omega)).cg (fun pc x y => put_lt y)) put_get (by split <;> omega) (by omega)
  rw [if_neg q4]
  exact ⟨_, rfl, Nat.le_refl _, ha, Nat.le_refl _, by show s.2.2.length ≤ _; omega, fun q => by cases q⟩
