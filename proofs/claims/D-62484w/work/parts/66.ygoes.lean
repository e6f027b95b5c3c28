theorem y_cl_ok : ∀ (G C : GS), (y_cl G C).2.length + y_w (y_cl G C).1 = C.length + y_w G ∧ (y_cl G C).1.length ≤ G.length ∧ C.length ≤ (y_cl G C).2.length ∧ (y_aw G = 0 ∨ ∃ q G', (y_cl G C).1 = q :: G' ∧ q.1 = y_aw G) ∧ ∀ q ∈ (y_cl G C).1, q ∈ G := by
  intro G
  induction G with
  | nil => intro C; exact ⟨rfl, Nat.le_refl _, Nat.le_refl _, Or.inl rfl, fun q h => h⟩
  | cons q G ih =>
    intro C
    rw [show y_cl (q :: G) C = if 1 ≤ rk q.1 then y_cl G (C ++ [(opOf q.1, 0)]) else if q.1 = 58 then y_cl G (cW C q.2 C.length) else (q :: G, C) from rfl, show y_w (q :: G) = (if rk q.1 = 0 then 0 else 1) + y_w G from rfl, show y_aw (q :: G) = if q.1 = 58 ∨ rk q.1 ≠ 0 then y_aw G else q.1 from rfl, List.length_cons]
    by_cases h : 1 ≤ rk q.1
    · obtain ⟨h1, h2, h3, h4, h5⟩ := ih (C ++ [(opOf q.1, 0)])
      rw [List.length_append, List.length_singleton] at h1 h3
      rw [if_pos h, if_neg (show ¬ rk q.1 = 0 by omega), if_pos (show q.1 = 58 ∨ rk q.1 ≠ 0 from Or.inr (by omega))]
      exact ⟨by omega, by omega, by omega, h4, fun z hz => List.mem_cons_of_mem _ (h5 z hz)⟩
    · rw [if_neg h, if_pos (show rk q.1 = 0 by omega)]
      by_cases h58 : q.1 = 58
      · obtain ⟨h1, h2, h3, h4, h5⟩ := ih (cW C q.2 C.length)
        rw [cW_len] at h1 h3
        rw [if_pos h58, if_pos (show q.1 = 58 ∨ rk q.1 ≠ 0 from Or.inl h58)]
        exact ⟨by omega, by omega, by omega, h4, fun z hz => List.mem_cons_of_mem _ (h5 z hz)⟩
      · rw [if_neg h58, if_neg (show ¬ (q.1 = 58 ∨ rk q.1 ≠ 0) from fun w => by rcases w with w | w; exact h58 w; exact w (by omega))]
        refine ⟨?_, by rw [List.length_cons]; exact Nat.le_refl _, Nat.le_refl _, Or.inr ⟨q, G, rfl, rfl⟩, fun z hz => hz⟩
        show C.length + ((if rk q.1 = 0 then 0 else 1) + y_w G) = _
        rw [if_pos (show rk q.1 = 0 by omega)]
theorem L_goes {ms : MS} {σ : S} {t : List Nat} {G C : GS} {B c : Nat} (h : rY ms t G C B) (hR : RM ms σ) (hB : B ≤ 30) (hc : c < 128) :
    (∀ q, y_go c G C = some q → ∃ ms', m_goesOn ms (nI c) = some (1, ms') ∧ rY ms' t q.1 q.2 (B + 1) ∧ RM ms' σ ∧ mI ms' 0 = mI ms 0) ∧ (y_go c G C = none → ∃ ms', m_goesOn ms (nI c) = some (0, ms') ∧ RM ms' σ ∧ rP ms' t ∧ mI ms' 0 = mI ms 0) := by
  have hb := h.2.2.2.1
  have hbg := h.2.2.2.2.1
  have w01 : ∀ z : Nat, (if rk z = 0 then 0 else 1) ≤ 1 := fun z => by split <;> omega
  have eq : ∀ j : Nat, j < 65536 → (nI c = nI j ↔ c = j) := fun j hj => nI_eq (by omega) (by omega)
  have r3 : (m_rank (nI c) = 3 ↔ rk c = 4) := by
    rw [rank_n (by omega)]
    have := rk_le c
    generalize rk c = z at *
    have : ∀ a, a ≤ 4 → (nI a - 1 = 3 ↔ a = 4) := by decide +kernel
    exact this z (by omega)
  have cm := L_compared h.g h.2.1.1
  have stay : ∃ ms', some ((0 : Int32), ms) = some (0, ms') ∧ RM ms' σ ∧ rP ms' t ∧ mI ms' 0 = mI ms 0 := ⟨ms, rfl, hR, h.1, rfl⟩
  have pre : m_goesOn ms (nI c) = if rk c = 1 ∧ y_cmpd G = true then some (0, ms) else m_goesOn_J14 ms (nI c) := by
    unfold m_goesOn
    rw [cm]
    simp only [Option.bind_some, rank_zero (show c ≤ 60000 by omega)]
    by_cases q1 : rk c = 1
    · rw [if_pos q1]
      cases y_cmpd G with
      | true => rw [if_pos (show rk c = 1 ∧ true = true from ⟨q1, rfl⟩), if_neg (show ¬ (if true = true then (1 : Int32) else 0) = 0 by decide)]
      | false => rw [if_neg (show ¬ (rk c = 1 ∧ false = true) from fun w => by cases w.2), if_pos (show (if false = true then (1 : Int32) else 0) = 0 by decide)]
    · rw [if_neg q1, if_neg (show ¬ (rk c = 1 ∧ y_cmpd G = true) from fun w => q1 w.1)]
  rw [pre]
  unfold y_go
  by_cases a1 : rk c = 1 ∧ y_cmpd G = true
  · rw [if_pos a1, if_pos (Or.inl a1)]
    exact ⟨(fun q e => by cases e), fun _ => stay⟩
  rw [if_neg a1]
  unfold m_goesOn_J14
  simp only [r3, isL_n (show c < 65536 by omega), isD_n (show c < 65536 by omega), show (40 : Int32) = nI 40 from rfl, show (58 : Int32) = nI 58 from rfl, show (63 : Int32) = nI 63 from rfl, eq 40 (by decide), eq 58 (by decide), eq 63 (by decide), rank_neg (show c ≤ 60000 by omega), rank_zero (show c ≤ 60000 by omega)]
  by_cases a2 : rk c = 4
  · rw [if_pos a2, if_pos (Or.inr (Or.inl a2))]
    exact ⟨(fun q e => by cases e), fun _ => stay⟩
  rw [if_neg a2]
  by_cases a3 : c = 40
  · rw [if_pos a3, if_pos (Or.inr (Or.inr (Or.inl a3)))]
    exact ⟨(fun q e => by cases e), fun _ => stay⟩
  rw [if_neg a3]
  by_cases a4 : 65 ≤ c ∧ c ≤ 76
  · rw [if_neg (show ¬ ¬ (65 ≤ c ∧ c ≤ 76) from fun w => w a4), if_pos (Or.inr (Or.inr (Or.inr (Or.inl a4))))]
    exact ⟨(fun q e => by cases e), fun _ => stay⟩
  rw [if_pos (show ¬ (65 ≤ c ∧ c ≤ 76) from a4)]
  by_cases a5 : 48 ≤ c ∧ c ≤ 57
  · rw [if_neg (show ¬ ¬ (48 ≤ c ∧ c ≤ 57) from fun w => w a5), if_pos (Or.inr (Or.inr (Or.inr (Or.inr a5))))]
    exact ⟨(fun q e => by cases e), fun _ => stay⟩
  rw [if_pos (show ¬ (48 ≤ c ∧ c ≤ 57) from a5), if_neg (show ¬ ((rk c = 1 ∧ y_cmpd G = true) ∨ rk c = 4 ∨ c = 40 ∨ (65 ≤ c ∧ c ≤ 76) ∨ (48 ≤ c ∧ c ≤ 57)) from fun w => by
    rcases w with w | w | w | w | w
    · exact a1 w
    · exact a2 w
    · exact a3 w
    · exact a4 w
    · exact a5 w)]
  -- an operator
  have op : ∀ (r : Nat) (x : Int32), 1 ≤ r ∧ r ≤ 4 → x = nI r - 1 → c ≠ 58 → c ≠ 63 → ∃ ms', m_goesOn_J67 ms (nI c) x = some (1, ms') ∧ rY ms' t ((c, 0) :: (y_set r G C).1) (y_set r G C).2 (B + 1) ∧ RM ms' σ ∧ mI ms' 0 = mI ms 0 := fun r x hr hx n1 n2 => by
    obtain ⟨m1, k1, k2, k3, k4⟩ := L_settle hr hx G C ms 1000 h hR (by omega)
    obtain ⟨s1, s2, s3, s4⟩ := y_set_w r hr.1 G C
    obtain ⟨m2, l1, l2, l3, l4⟩ := L_put (B' := B + 1) (c := c) (n := 0) (x := nI c) (y := 0) k2 k3 (by have := w01 c; omega) (by omega) (by omega) (by omega) (fun w => by omega) rfl rfl
    refine ⟨m2, ?_, l2, l3, l4.trans k4⟩
    unfold m_goesOn_J67 m_settle
    rw [k1]
    simp only [Option.bind_some]
    rw [l1]
    rfl
  by_cases a6 : rk c = 0
  · rw [if_pos a6, if_neg (show ¬ rk c ≠ 0 from fun w => w a6)]
    by_cases a7 : c = 63
    · rw [if_pos a7, if_pos a7]
      refine ⟨fun q e => ?_, fun e => by cases e⟩
      cases e
      obtain ⟨m1, k1, k2, k3, k4⟩ := L_settle (r := 1) (x := 0) (by omega) (by decide +kernel) G C ms 1000 h hR (by omega)
      obtain ⟨s1, s2, s3, s4⟩ := y_set_w 1 (Nat.le_refl _) G C
      obtain ⟨m2, l1, l2, l3, l4⟩ := L_make (B' := B + 1) (op := 10) (n := 0) (x := 10) (y := 0) k2 k3 (by omega) (by omega) (by omega) rfl rfl
      have i40 : mI m2 40 = nI ((y_set 1 G C).2.length + 1) := by rw [l2.2.2.1.1]; simp
      obtain ⟨m3, n1, n2, n3, n4⟩ := L_put (B' := B + 1) (c := 63) (n := (y_set 1 G C).2.length) (x := 63) (y := nI ((y_set 1 G C).2.length + 1) - 1) l2 l3 (by simp [show rk 63 = 0 by decide]; omega) (by omega) (by omega) (by omega) (fun _ => by simp) rfl (nI_pred _)
      refine ⟨m3, ?_, n2, n3, n4.trans (l4.trans k4)⟩
      unfold m_settle
      rw [k1]
      simp only [Option.bind_some]
      rw [l1]
      simp only [Option.bind_some]
      rw [i40, show nI 63 = (63 : Int32) from rfl, n1]
      rfl
    · rw [if_neg a7, if_neg a7, L_awaits h.g h.2.1.1]
      simp only [Option.bind_some]
      have awl : y_aw G ≤ 200 := by
        rcases (y_cl_ok G C).2.2.2.1 with w | ⟨q, G', w1, w2⟩
        · omega
        · rw [← w2]; exact (h.2.2.2.2.2.2 q ((y_cl_ok G C).2.2.2.2 q (by rw [w1]; simp))).1
      have J : (if c = 58 then m_goesOn_J127 ms (nI c) 63 (nI (y_aw G)) else m_goesOn_J127 ms (nI c) (nI 40) (nI (y_aw G))) = m_goesOn_J127 ms (nI c) (nI (if c = 58 then 63 else 40)) (nI (y_aw G)) := by split <;> rfl
      rw [show (nI 63 : Int32) = 63 from rfl] at *
      rw [J]
      unfold m_goesOn_J127
      simp only [nI_eq (show y_aw G < 2 ^ 31 by omega) (show (if c = 58 then 63 else 40) < 2 ^ 31 by split <;> decide)]
      by_cases a8 : y_aw G = (if c = 58 then 63 else 40)
      · rw [if_pos a8, if_neg (show ¬ y_aw G ≠ (if c = 58 then 63 else 40) from fun w => w a8)]
        obtain ⟨m1, k1, k2, k3, k4⟩ := L_close h hR
        obtain ⟨y1, y2, y3, y4, y5⟩ := y_cl_ok G C
        rcases y4 with w | ⟨q, G2, w1, w2⟩
        · rw [w] at a8; split at a8 <;> omega
        rw [k1]
        simp only [Option.bind_some]
        rw [w1] at k2 y1 y2 ⊢
        dsimp only
        rw [List.length_cons] at y2
        obtain ⟨t1, t2, t3, t4⟩ := k2.top
        have hq63 := (k2.2.2.2.2.2.2 q (by simp)).2
        have hpop := k2.pop
        rw [t1, nI_pred]
        have hRp : RM (mIs m1 37 (nI G2.length)) σ := k3.frI (by decide) (by decide)
        have hyw : y_w (q :: G2) = (if rk q.1 = 0 then 0 else 1) + y_w G2 := rfl
        simp only [show (58 : Int32) = nI 58 from rfl, eq 58 (by decide)]
        by_cases a9 : c = 58
        · rw [if_pos a9, if_pos a9]
          rw [if_pos a9] at a8
          refine ⟨fun z e => ?_, fun e => by cases e⟩
          cases e
          have hq2 := hq63 (Or.inr (by omega))
          obtain ⟨m2, l1, l2, l3, l4⟩ := L_make (B' := B + 1) (op := 9) (n := 0) (x := 9) (y := 0) hpop hRp (by omega) (by omega) (by omega) rfl rfl
          have i37 : mI m2 37 = nI G2.length := l2.2.1.1
          have i40 : mI m2 40 = nI ((y_cl G C).2.length + 1) := by rw [l2.2.2.1.1]; simp
          have c39 : mA m2 39 G2.length = nI q.2 := by
            unfold m_make at l1
            simp only [hpop.2.2.1.1, mI_mAs, mwr_n (k := 41) (show (y_cl G C).2.length < mn 41 from (by omega : (y_cl G C).2.length < 40)), mwr_n (k := 42) (show (y_cl G C).2.length < mn 42 from (by omega : (y_cl G C).2.length < 40)), Option.bind_some, Option.some.injEq] at l1
            rw [← l1, mA_mIs, mA_mAs, if_neg (by omega), mA_mAs, if_neg (by omega), mA_mIs]
            exact t3
          have hme := l2.mend (m := q.2) (v := (y_cl G C).2.length + 1) (by simp; omega)
          have hRm : RM (mAs m2 42 q.2 (nI ((y_cl G C).2.length + 1))) σ := l3.frA (by unfold cF; omega)
          obtain ⟨m3, n1, n2, n3, n4⟩ := L_put (B' := B + 1) (c := 58) (n := (y_cl G C).2.length) (x := nI 58) (y := nI ((y_cl G C).2.length + 1) - 1) hme hRm (by rw [cW_len]; simp [show rk 58 = 0 by decide]; omega) (by omega) (by omega) (by omega) (fun _ => by rw [cW_len]; simp) rfl (nI_pred _)
          refine ⟨m3, ?_, n2, n3, n4.trans (l4.trans k4)⟩
          rw [l1]
          simp only [Option.bind_some, i37, mrd_n (k := 39) (show G2.length < mn 39 from (by omega : G2.length < 64)), c39, i40, mwr_n (k := 42) (show q.2 < mn 42 from (by omega : q.2 < 40)), mI_mAs]
          rw [n1]
          rfl
        · rw [if_neg a9, if_neg a9]
          refine ⟨fun z e => ?_, fun e => by cases e⟩
          cases e
          have hpop' : rY (mIs m1 37 (nI G2.length)) t G2 (y_cl G C).2 (B + 1) := by
            obtain ⟨z1, z2, z3, z4, z5, z6, z7⟩ := hpop
            exact ⟨z1, z2, z3, by omega, by omega, by omega, z7⟩
          obtain ⟨m2, l1, l2, l3, l4⟩ := L_settle (r := 4) (x := 3) (by omega) (by decide +kernel) G2 (y_cl G C).2 _ 1000 hpop' hRp (by omega)
          refine ⟨m2, ?_, l2, l3, l4.trans k4⟩
          unfold m_settle
          rw [l1]
          rfl
      · rw [if_neg a8, if_pos (show y_aw G ≠ (if c = 58 then 63 else 40) from a8)]
        exact ⟨(fun q e => by cases e), fun _ => stay⟩
  · rw [if_neg a6, if_pos (show rk c ≠ 0 from a6)]
    have n58 : c ≠ 58 := fun e => a6 (by rw [e]; decide)
    have n63 : c ≠ 63 := fun e => a6 (by rw [e]; decide)
    have hrk := rk_le c
    by_cases a7 : rk c = 1
    · rw [if_pos a7, if_pos a7]
      refine ⟨fun q e => ?_, fun e => by cases e⟩
      cases e
      exact op 2 1 (by omega) (by decide +kernel) n58 n63
    · rw [if_neg a7, if_neg a7]
      refine ⟨fun q e => ?_, fun e => by cases e⟩
      cases e
      exact op (rk c) (m_rank (nI c)) (by omega) (rank_n (by omega)) n58 n63
