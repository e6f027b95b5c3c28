/-- the signs lie in the model's column -/
def gC (ms : MS) (G : GS) : Prop := G.length ≤ 31 ∧ (∀ i q, G.reverse[i]? = some q → mA ms 38 i = nI q.1) ∧ ∀ q ∈ G, q.1 ≤ 200
theorem rY.g {ms : MS} {t : List Nat} {G C : GS} {B : Nat} (h : rY ms t G C B) : gC ms G := ⟨by have := h.2.2.2.2.1; have := h.2.2.2.2.2.1; omega, fun i q hi => (h.2.1.2 i q hi).1, fun q hq => (h.2.2.2.2.2.2 q hq).1⟩
theorem gC.tl {ms : MS} {q : Nat × Nat} {G : GS} (h : gC ms (q :: G)) : gC ms G ∧ mA ms 38 G.length = nI q.1 ∧ G.length < 31 ∧ q.1 ≤ 200 := by
  have hl := h.1
  rw [List.length_cons] at hl
  exact ⟨⟨by omega, fun i z hi => h.2.1 i z (by rw [List.reverse_cons, List.getElem?_append_left (List.getElem?_eq_some_iff.mp hi).1]; exact hi), fun z hz => h.2.2 z (List.mem_cons_of_mem _ hz)⟩, h.2.1 G.length q (by simp), by omega, h.2.2 q (by simp)⟩
theorem y_deep_app : ∀ (a b : GS), y_deep (a ++ b) = y_deep a + y_deep b := by
  intro a
  induction a with
  | nil => intro b; show y_deep b = 0 + y_deep b; omega
  | cons q a ih => intro b; rw [List.cons_append, y_deep, y_deep, ih]; omega
theorem y_deep_rev : ∀ (G : GS), y_deep G.reverse = y_deep G := by
  intro G
  induction G with
  | nil => rfl
  | cons q G ih =>
    rw [List.reverse_cons, y_deep_app, ih, show y_deep (q :: G) = (if q.1 = 40 ∨ rk q.1 = 4 then 1 else 0) + y_deep G from rfl, show y_deep [q] = (if q.1 = 40 ∨ rk q.1 = 4 then 1 else 0) + 0 from rfl]
    omega
theorem y_deep_le : ∀ (G : GS), y_deep G ≤ G.length := by
  intro G
  induction G with
  | nil => exact Nat.le_refl _
  | cons q G ih => rw [y_deep, List.length_cons]; split <;> omega
theorem L_deep {ms : MS} {G : GS} (h : gC ms G) (h37 : mI ms 37 = nI G.length) : m_deepness ms = some (nI (y_deep G)) := by
  have hl := h.1
  have loop : ∀ (k N j a : Nat), j + k = G.length → k < N → m_deepness_L4 N ms (nI a) (nI j) = some (nI (a + y_deep (G.reverse.drop j))) := by
    intro k
    induction k with
    | zero =>
      intro N j a hj hN
      obtain ⟨N, rfl⟩ : ∃ m, N = m + 1 := ⟨N - 1, by omega⟩
      rw [m_deepness_L4, h37, if_pos (nI_le (by omega) (by omega)), List.drop_eq_nil_of_le (by simp; omega)]
      rfl
    | succ k ih =>
      intro N j a hj hN
      obtain ⟨N, rfl⟩ : ∃ m, N = m + 1 := ⟨N - 1, by omega⟩
      have hlt : j < G.reverse.length := by simp; omega
      have hg : G.reverse[j]? = some G.reverse[j] := List.getElem?_eq_getElem hlt
      have hm : G.reverse[j] ∈ G := by rw [← List.mem_reverse]; exact List.getElem_mem hlt
      have hq := h.2.2 _ hm
      have e2 := h.2.1 j _ hg
      rw [m_deepness_L4, h37, if_neg (nI_ge (by omega) (by omega))]
      unfold m_deepness_J36 m_deepness_J43
      have r3 : (m_rank (nI G.reverse[j].1) = 3 ↔ rk G.reverse[j].1 = 4) := by
        rw [rank_n (by omega)]
        have := rk_le G.reverse[j].1
        generalize rk G.reverse[j].1 = z at *
        have : ∀ a, a ≤ 4 → (nI a - 1 = 3 ↔ a = 4) := by decide +kernel
        exact this z (by omega)
      simp only [mrd_n (k := 38) (show j < mn 38 from (by omega : j < 64)), Option.bind_some, e2, nI_1, r3, show (40 : Int32) = nI 40 from rfl, nI_eq (show G.reverse[j].1 < 2 ^ 31 by omega) (show 40 < 2 ^ 31 by decide)]
      rw [List.drop_eq_getElem_cons hlt, y_deep]
      by_cases q1 : G.reverse[j].1 = 40
      · rw [if_pos q1, if_pos (Or.inl q1), ih N (j + 1) (a + 1) (by omega) (by omega)]
        congr 2; omega
      · rw [if_neg q1]
        by_cases q2 : rk G.reverse[j].1 = 4
        · rw [if_pos q2, if_pos (Or.inr q2), ih N (j + 1) (a + 1) (by omega) (by omega)]
          congr 2; omega
        · rw [if_neg q2, if_neg (fun w => by rcases w with w | w; exact q1 w; exact q2 w), ih N (j + 1) a (by omega) (by omega)]
          congr 2; omega
  have := loop G.length 1000 0 0 (by omega) (by omega)
  rw [List.drop_zero, y_deep_rev, Nat.zero_add] at this
  exact this
theorem rank_neg {c : Nat} (h : c ≤ 60000) : m_rank (nI c) < 0 ↔ rk c = 0 := by
  rw [rank_lt h (by omega) 0 (show (0 : Int32) = nI 1 - 1 by decide +kernel)]
  omega
theorem rank_zero {c : Nat} (h : c ≤ 60000) : m_rank (nI c) = 0 ↔ rk c = 1 := by
  rw [rank_n h]
  have := rk_le c
  generalize rk c = z at *
  have : ∀ a, a ≤ 4 → (nI a - 1 = 0 ↔ a = 1) := by decide +kernel
  exact this z (by omega)
theorem dec_m1 (x : Int32) : x + (-1) = x - 1 := by rw [Int32.sub_eq_add_neg]
theorem neg1 : nI 0 - 1 < 0 := by decide +kernel
theorem L_cmpd {ms : MS} : ∀ (G : GS) (N : Nat) (b : Bool), gC ms G → G.length < N → m_compared_L9 N ms (if b then 1 else 0) (nI G.length - 1) = some (if (b || y_cmpd G) = true then 1 else 0) := by
  have nb : ∀ b : Bool, nchk .boolean (if b = true then 1 else 0) = some (if b = true then 1 else 0) := by
    intro b
    cases b <;> decide +kernel
  intro G
  induction G with
  | nil =>
    intro N b h hN
    obtain ⟨N, rfl⟩ : ∃ m, N = m + 1 := ⟨N - 1, by omega⟩
    rw [m_compared_L9, if_pos (show nI ([] : GS).length - 1 < 0 from neg1), nb]
    cases b <;> rfl
  | cons q G ih =>
    intro N b h hN
    obtain ⟨N, rfl⟩ : ∃ m, N = m + 1 := ⟨N - 1, by omega⟩
    rw [List.length_cons] at hN ⊢
    obtain ⟨t1, t2, t3, t4⟩ := h.tl
    rw [m_compared_L9, nI_pred, if_neg (nI_pos (by omega))]
    unfold m_compared_J41 m_compared_J46
    have dec : nI G.length + (-1) = nI G.length - 1 := dec_m1 _
    simp only [mrd_n (k := 38) (show G.length < mn 38 from (by omega : G.length < 64)), Option.bind_some, t2, rank_neg (show q.1 ≤ 60000 by omega), rank_zero (show q.1 ≤ 60000 by omega), dec]
    rw [y_cmpd]
    by_cases q0 : rk q.1 = 0
    · rw [if_pos q0, if_pos q0, nb]
      cases b <;> rfl
    · rw [if_neg q0, if_neg q0]
      cases b with
      | true =>
        rw [if_neg (show ¬ (if true = true then (1 : Int32) else 0) = 0 by decide)]
        have := ih N true t1 (by omega)
        simp only [Bool.true_or, if_true] at this ⊢
        exact this
      | false =>
        rw [if_pos (show (if false = true then (1 : Int32) else 0) = 0 by decide)]
        by_cases q1 : rk q.1 = 1
        · rw [if_pos q1]
          have := ih N true t1 (by omega)
          simp only [Bool.true_or, if_true] at this
          rw [this]
          simp [q1]
        · rw [if_neg q1]
          have := ih N false t1 (by omega)
          simp only [Bool.false_or, if_false] at this
          have e : (rk q.1 == 1) = false := by simpa using q1
          rw [e, Bool.false_or, Bool.false_or]
          exact this
theorem L_compared {ms : MS} {G : GS} (h : gC ms G) (h37 : mI ms 37 = nI G.length) : m_compared ms = some (if y_cmpd G = true then 1 else 0) := by
  unfold m_compared
  rw [h37]
  have := L_cmpd G 1000 false h (by have := h.1; omega)
  simp only [Bool.false_or] at this
  exact this
def y_in : GS → GS
  | [] => []
  | q :: G => if rk q.1 = 0 then q :: G else y_in G
theorem y_in_ok {ms : MS} : ∀ (G : GS), gC ms G → gC ms (y_in G) ∧ y_aw (y_in G) = y_aw G := by
  intro G
  induction G with
  | nil => intro h; exact ⟨h, rfl⟩
  | cons q G ih =>
    intro h
    rw [y_in]
    split
    · exact ⟨h, rfl⟩
    · rename_i q0
      obtain ⟨h1, h2⟩ := ih h.tl.1
      refine ⟨h1, ?_⟩
      rw [h2, y_aw, if_pos (Or.inr q0)]
theorem L_inner {ms : MS} : ∀ (G : GS) (N : Nat), gC ms G → G.length < N → m_inner_L7 N ms (nI G.length - 1) = some (nI (y_in G).length - 1) := by
  intro G
  induction G with
  | nil =>
    intro N h hN
    obtain ⟨N, rfl⟩ : ∃ m, N = m + 1 := ⟨N - 1, by omega⟩
    rw [m_inner_L7, if_pos (show nI ([] : GS).length - 1 < 0 from neg1)]
    rfl
  | cons q G ih =>
    intro N h hN
    obtain ⟨N, rfl⟩ : ∃ m, N = m + 1 := ⟨N - 1, by omega⟩
    rw [List.length_cons] at hN ⊢
    obtain ⟨t1, t2, t3, t4⟩ := h.tl
    have dec : nI G.length + (-1) = nI G.length - 1 := dec_m1 _
    rw [m_inner_L7, nI_pred, if_neg (nI_pos (by omega))]
    simp only [mrd_n (k := 38) (show G.length < mn 38 from (by omega : G.length < 64)), Option.bind_some, t2, rank_neg (show q.1 ≤ 60000 by omega), dec]
    rw [y_in]
    by_cases q0 : rk q.1 = 0
    · rw [if_pos q0, if_pos q0, List.length_cons, nI_pred]
    · rw [if_neg q0, if_neg q0]; exact ih N t1 (by omega)
theorem L_aw {ms : MS} : ∀ (G : GS) (N : Nat), gC ms G → G.length < N → m_awaits_L5 N ms (nI G.length - 1) = some (nI (y_aw G)) := by
  intro G
  induction G with
  | nil =>
    intro N h hN
    obtain ⟨N, rfl⟩ : ∃ m, N = m + 1 := ⟨N - 1, by omega⟩
    rw [m_awaits_L5, if_pos (show nI ([] : GS).length - 1 < 0 from neg1)]
    unfold m_awaits_J38
    rw [if_neg (show ¬ (0 : Int32) ≤ nI ([] : GS).length - 1 by decide +kernel)]
    rfl
  | cons q G ih =>
    intro N h hN
    obtain ⟨N, rfl⟩ : ∃ m, N = m + 1 := ⟨N - 1, by omega⟩
    rw [List.length_cons] at hN ⊢
    obtain ⟨t1, t2, t3, t4⟩ := h.tl
    have dec : nI G.length + (-1) = nI G.length - 1 := dec_m1 _
    rw [m_awaits_L5, nI_pred, if_neg (nI_pos (by omega))]
    unfold m_awaits_J32 m_awaits_J38
    simp only [mrd_n (k := 38) (show G.length < mn 38 from (by omega : G.length < 64)), Option.bind_some, t2, rank_neg (show q.1 ≤ 60000 by omega), dec, show (58 : Int32) = nI 58 from rfl, nI_eq (show q.1 < 2 ^ 31 by omega) (show 58 < 2 ^ 31 by decide)]
    rw [y_aw]
    by_cases q1 : q.1 = 58
    · rw [if_pos q1, if_pos (Or.inl q1)]; exact ih N t1 (by omega)
    · rw [if_neg q1]
      by_cases q0 : rk q.1 = 0
      · rw [if_pos q0, if_pos (nI_pos' (by omega)), if_neg (show ¬ (q.1 = 58 ∨ rk q.1 ≠ 0) from fun w => by rcases w with w | w; exact q1 w; exact w q0)]
      · rw [if_neg q0, if_pos (Or.inr q0)]; exact ih N t1 (by omega)
theorem L_awaits {ms : MS} {G : GS} (h : gC ms G) (h37 : mI ms 37 = nI G.length) : m_awaits ms = some (nI (y_aw G)) := by
  unfold m_awaits m_inner
  rw [h37]
  simp only [Option.bind_some]
  rw [L_inner G 1000 h (by have := h.1; omega)]
  simp only [Option.bind_some]
  obtain ⟨h1, h2⟩ := y_in_ok G h
  rw [L_aw _ 1000 h1 (by have := h1.1; omega), h2]
