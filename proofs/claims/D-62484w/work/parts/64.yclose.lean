theorem rY.mend {ms : MS} {t : List Nat} {G C : GS} {B m v : Nat} (h : rY ms t G C B) (hm : m < C.length) : rY (mAs ms 42 m (nI v)) t G (cW C m v) B := by
  obtain ⟨⟨p1, p2, p3⟩, ⟨g1, g2⟩, ⟨c1, c2⟩, b1, b2, b3, b4⟩ := h
  refine ⟨⟨p1, p2, fun i z hi => by rw [mA_mAs, if_neg (by omega)]; exact p3 i z hi⟩, ⟨g1, fun i z hi => by rw [mA_mAs, if_neg (by omega), mA_mAs, if_neg (by omega)]; exact g2 i z hi⟩, ⟨by rw [cW_len]; exact c1, fun i z hi => ?_⟩, by rw [cW_len]; exact b1, b2, b3, fun z hz => by rw [cW_len]; exact b4 z hz⟩
  rw [mA_mAs, if_neg (by omega), mA_mAs]
  have hg : C[m]? = some C[m] := List.getElem?_eq_getElem hm
  by_cases e : i = m
  · subst e
    rw [cW_eq (op := C[i].1) (n := C[i].2) hg] at hi
    cases hi
    rw [if_pos ⟨rfl, rfl⟩]
    exact ⟨(c2 i _ hg).1, rfl⟩
  · rw [cW_ne e] at hi
    rw [if_neg (by omega)]
    exact c2 i z hi
theorem y_cl_set : ∀ (G C : GS), y_cl (y_set 1 G C).1 (y_set 1 G C).2 = y_cl G C := by
  intro G
  induction G with
  | nil => intro C; rfl
  | cons q G ih =>
    intro C
    rw [y_set]
    by_cases h : 1 ≤ rk q.1
    · rw [if_pos h, ih, show y_cl (q :: G) C = if 1 ≤ rk q.1 then y_cl G (C ++ [(opOf q.1, 0)]) else if q.1 = 58 then y_cl G (cW C q.2 C.length) else (q :: G, C) from rfl, if_pos h]
    · rw [if_neg h]
theorem y_set_top (r : Nat) : ∀ (G C : GS) (q : Nat × Nat) (G' : GS), (y_set r G C).1 = q :: G' → ¬ r ≤ rk q.1 := by
  intro G
  induction G with
  | nil => intro C q G' h; cases h
  | cons z G ih =>
    intro C q G' h
    rw [y_set] at h
    split at h
    · exact ih _ _ _ h
    · rename_i hz
      cases h
      exact hz
theorem L_close5 {σ : S} {t : List Nat} {B : Nat} : ∀ (n N : Nat) (G C : GS) (ms : MS), G.length ≤ n → n < N → rY ms t G C B → RM ms σ → (∀ q G', G = q :: G' → ¬ 1 ≤ rk q.1) → ∃ ms', m_close_L5 N ms = some ms' ∧ rY ms' t (y_cl G C).1 (y_cl G C).2 B ∧ RM ms' σ ∧ mI ms' 0 = mI ms 0 := by
  intro n
  induction n with
  | zero =>
    intro N G C ms hn hN h hR ht
    obtain ⟨N, rfl⟩ : ∃ m, N = m + 1 := ⟨N - 1, by omega⟩
    cases G with
    | nil =>
      have g1 : mI ms 37 = nI 0 := h.2.1.1
      rw [m_close_L5, g1, if_pos (show nI 0 ≤ (0 : Int32) by decide +kernel)]
      exact ⟨ms, rfl, h, hR, rfl⟩
    | cons q G => simp at hn
  | succ n ih =>
    intro N G C ms hn hN h hR ht
    obtain ⟨N, rfl⟩ : ∃ m, N = m + 1 := ⟨N - 1, by omega⟩
    cases G with
    | nil =>
      have g1 : mI ms 37 = nI 0 := h.2.1.1
      rw [m_close_L5, g1, if_pos (show nI 0 ≤ (0 : Int32) by decide +kernel)]
      exact ⟨ms, rfl, h, hR, rfl⟩
    | cons q G =>
      rw [List.length_cons] at hn
      have hq0 := ht q G rfl
      obtain ⟨t1, t2, t3, t4⟩ := h.top
      have hq := (h.2.2.2.2.2.2 q (by simp)).1
      rw [m_close_L5, t1, if_neg (nI_nle (by omega) (by omega))]
      simp only [nI_pred, mrd_n (k := 38) (show G.length < mn 38 from (by omega : G.length < 64)), Option.bind_some, t2, show (58 : Int32) = nI 58 from rfl, nI_eq (show q.1 < 2 ^ 31 by omega) (show 58 < 2 ^ 31 by decide)]
      rw [show y_cl (q :: G) C = if 1 ≤ rk q.1 then y_cl G (C ++ [(opOf q.1, 0)]) else if q.1 = 58 then y_cl G (cW C q.2 C.length) else (q :: G, C) from rfl, if_neg hq0]
      by_cases q58 : q.1 = 58
      · rw [if_pos q58, if_pos q58]
        have hm := (h.2.2.2.2.2.2 q (by simp)).2 (Or.inl q58)
        have hb := h.2.2.2.1
        have hb3 := h.2.2.2.2.2.1
        have i37 : mI (mIs ms 37 (nI G.length)) 37 = nI G.length := rfl
        have i40 : mI (mIs ms 37 (nI G.length)) 40 = nI C.length := h.2.2.1.1
        simp only [i37, i40, mrd_n (k := 39) (show G.length < mn 39 from (by omega : G.length < 64)), Option.bind_some, mA_mIs, t3, mwr_n (k := 42) (show q.2 < mn 42 from (by omega : q.2 < 40))]
        have hm2 := h.pop.mend (v := C.length) hm
        have hR2 : RM (mAs (mIs ms 37 (nI G.length)) 42 q.2 (nI C.length)) σ := (hR.frI (by decide) (by decide)).frA (by unfold cF; omega)
        obtain ⟨m3, k1, k2, k3, k4⟩ := L_settle (r := 1) (x := 0) (by omega) (by decide +kernel) G (cW C q.2 C.length) _ 1000 hm2 hR2 (by omega)
        obtain ⟨-, w2, -, -⟩ := y_set_w 1 (Nat.le_refl _) G (cW C q.2 C.length)
        obtain ⟨m4, l1, l2, l3, l4⟩ := ih N _ _ m3 (by omega) (by omega) k2 k3 (y_set_top 1 _ _)
        rw [y_cl_set] at l2
        refine ⟨m4, ?_, l2, l3, l4.trans k4⟩
        unfold m_settle
        rw [k1]
        exact l1
      · rw [if_neg q58, if_neg q58]
        exact ⟨ms, rfl, h, hR, rfl⟩
theorem L_close {ms : MS} {σ : S} {t : List Nat} {G C : GS} {B : Nat} (h : rY ms t G C B) (hR : RM ms σ) : ∃ ms', m_close ms = some ms' ∧ rY ms' t (y_cl G C).1 (y_cl G C).2 B ∧ RM ms' σ ∧ mI ms' 0 = mI ms 0 := by
  have hl := h.g.1
  obtain ⟨m3, k1, k2, k3, k4⟩ := L_settle (r := 1) (x := 0) (by omega) (by decide +kernel) G C ms 1000 h hR (by omega)
  obtain ⟨-, w2, -, -⟩ := y_set_w 1 (Nat.le_refl _) G C
  obtain ⟨m4, l1, l2, l3, l4⟩ := L_close5 31 1000 _ _ m3 (by omega) (by decide) k2 k3 (y_set_top 1 _ _)
  rw [y_cl_set] at l2
  refine ⟨m4, ?_, l2, l3, l4.trans k4⟩
  unfold m_close m_settle
  rw [k1]
  exact l1
