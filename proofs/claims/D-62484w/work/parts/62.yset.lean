theorem rY.pop {ms : MS} {t : List Nat} {q : Nat × Nat} {G C : GS} {B : Nat} (h : rY ms t (q :: G) C B) : rY (mIs ms 37 (nI G.length)) t G C B := by
  obtain ⟨⟨p1, p2, p3⟩, ⟨g1, g2⟩, ⟨c1, c2⟩, b1, b2, b3, b4⟩ := h
  refine ⟨⟨p1, p2, p3⟩, ⟨rfl, fun i z hi => g2 i z ?_⟩, ⟨c1, c2⟩, ?_, by rw [List.length_cons] at b2; omega, b3, fun z hz => b4 z (List.mem_cons_of_mem _ hz)⟩
  · rw [List.reverse_cons, List.getElem?_append_left (List.getElem?_eq_some_iff.mp hi).1]; exact hi
  · rw [y_w] at b1; omega
theorem rY.top {ms : MS} {t : List Nat} {q : Nat × Nat} {G C : GS} {B : Nat} (h : rY ms t (q :: G) C B) : mI ms 37 = nI (G.length + 1) ∧ mA ms 38 G.length = nI q.1 ∧ mA ms 39 G.length = nI q.2 ∧ G.length < 31 := by
  obtain ⟨-, ⟨g1, g2⟩, -, b1, b2, b3, b4⟩ := h
  rw [List.length_cons] at b2
  exact ⟨g1, (g2 G.length q (by simp)).1, (g2 G.length q (by simp)).2, by omega⟩
theorem L_make {ms : MS} {σ : S} {t : List Nat} {G C : GS} {B B' op n : Nat} {x y : Int32} (h : rY ms t G C B) (hR : RM ms σ) (hb : C.length + y_w G + 1 ≤ B') (hg : G.length ≤ B') (hB : B' ≤ 31) (hx : x = nI op) (hy : y = nI n) : ∃ ms', m_make ms x y = some ms' ∧ rY ms' t G (C ++ [(op, n)]) B' ∧ RM ms' σ ∧ mI ms' 0 = mI ms 0 := by
  subst hx hy
  obtain ⟨⟨p1, p2, p3⟩, ⟨g1, g2⟩, ⟨c1, c2⟩, b1, b2, b3, b4⟩ := h
  have hl : C.length < 40 := by omega
  refine ⟨mIs (mAs (mAs ms 41 C.length (nI op)) 42 C.length (nI n)) 40 (nI (C.length + 1)), ?_, ⟨⟨p1, p2, fun i z hi => ?_⟩, ⟨g1, fun i z hi => ?_⟩, ⟨?_, fun i z hi => ?_⟩, ?_, hg, hB, fun z hz => ?_⟩, ((hR.frA (by unfold cF; omega)).frA (by unfold cF; omega)).frI (by decide) (by decide), rfl⟩
  · unfold m_make
    simp only [c1, mI_mAs, mwr_n (k := 41) (show C.length < mn 41 from hl), mwr_n (k := 42) (show C.length < mn 42 from hl), Option.bind_some, nI_1]
  · rw [mA_mIs, mA_mAs, if_neg (by omega), mA_mAs, if_neg (by omega)]; exact p3 i z hi
  · rw [mA_mIs, mA_mAs, if_neg (by omega), mA_mAs, if_neg (by omega), mA_mIs, mA_mAs, if_neg (by omega), mA_mAs, if_neg (by omega)]; exact g2 i z hi
  · show nI (C.length + 1) = _
    simp
  · rw [mA_mIs, mA_mAs, if_neg (by omega), mA_mAs, mA_mIs, mA_mAs]
    by_cases e : i = C.length
    · subst e
      rw [List.getElem?_append_right (Nat.le_refl _)] at hi
      simp at hi
      subst hi
      rw [if_pos ⟨rfl, rfl⟩, if_pos ⟨rfl, rfl⟩]
      exact ⟨rfl, rfl⟩
    · have hlt := (List.getElem?_eq_some_iff.mp hi).1
      simp at hlt
      rw [List.getElem?_append_left (by omega)] at hi
      rw [if_neg (by omega), if_neg (by omega), mA_mAs, if_neg (by omega)]
      exact c2 i z hi
  · simp; omega
  · have := b4 z hz
    simp
    exact ⟨this.1, fun q => by have := this.2 q; omega⟩
theorem L_put {ms : MS} {σ : S} {t : List Nat} {G C : GS} {B B' c n : Nat} {x y : Int32} (h : rY ms t G C B) (hR : RM ms σ) (hb : C.length + (if rk c = 0 then 0 else 1) + y_w G ≤ B') (hg : G.length + 1 ≤ B') (hB : B' ≤ 31) (hc : c ≤ 200) (hn : c = 58 ∨ c = 63 → n < C.length) (hx : x = nI c) (hy : y = nI n) : ∃ ms', m_put ms x y = some ms' ∧ rY ms' t ((c, n) :: G) C B' ∧ RM ms' σ ∧ mI ms' 0 = mI ms 0 := by
  subst hx hy
  obtain ⟨⟨p1, p2, p3⟩, ⟨g1, g2⟩, ⟨c1, c2⟩, b1, b2, b3, b4⟩ := h
  have hl : G.length < 64 := by omega
  refine ⟨mIs (mAs (mAs ms 38 G.length (nI c)) 39 G.length (nI n)) 37 (nI (G.length + 1)), ?_, ⟨⟨p1, p2, fun i z hi => ?_⟩, ⟨rfl, fun i z hi => ?_⟩, ⟨c1, fun i z hi => ?_⟩, ?_, hg, hB, fun z hz => ?_⟩, ((hR.frA (by unfold cF; omega)).frA (by unfold cF; omega)).frI (by decide) (by decide), rfl⟩
  · unfold m_put
    simp only [g1, mI_mAs, mwr_n (k := 38) (show G.length < mn 38 from hl), mwr_n (k := 39) (show G.length < mn 39 from hl), Option.bind_some, nI_1]
  · rw [mA_mIs, mA_mAs, if_neg (by omega), mA_mAs, if_neg (by omega)]; exact p3 i z hi
  · rw [mA_mIs, mA_mAs, if_neg (by omega), mA_mAs, mA_mIs, mA_mAs]
    rw [List.reverse_cons] at hi
    by_cases e : i = G.length
    · subst e
      rw [List.getElem?_append_right (by simp)] at hi
      simp at hi
      subst hi
      rw [if_pos ⟨rfl, rfl⟩, if_pos ⟨rfl, rfl⟩]
      exact ⟨rfl, rfl⟩
    · have hlt := (List.getElem?_eq_some_iff.mp hi).1
      simp at hlt
      rw [List.getElem?_append_left (by simp; omega)] at hi
      rw [if_neg (by omega), if_neg (by omega), mA_mAs, if_neg (by omega)]
      exact g2 i z hi
  · rw [mA_mIs, mA_mAs, if_neg (by omega), mA_mAs, if_neg (by omega), mA_mIs, mA_mAs, if_neg (by omega), mA_mAs, if_neg (by omega)]; exact c2 i z hi
  · rw [y_w]; show C.length + ((if rk c = 0 then 0 else 1) + y_w G) ≤ B'; omega
  · rcases List.mem_cons.mp hz with e | e
    · subst e; exact ⟨hc, hn⟩
    · exact b4 z e
theorem L_settle {σ : S} {t : List Nat} {B r : Nat} {x : Int32} (hr : 1 ≤ r ∧ r ≤ 4) (hx : x = nI r - 1) : ∀ (G C : GS) (ms : MS) (N : Nat), rY ms t G C B → RM ms σ → G.length < N → ∃ ms', m_settle_L0 N ms x = some ms' ∧ rY ms' t (y_set r G C).1 (y_set r G C).2 B ∧ RM ms' σ ∧ mI ms' 0 = mI ms 0 := by
  intro G
  induction G with
  | nil =>
    intro C ms N h hR hN
    obtain ⟨N, rfl⟩ : ∃ m, N = m + 1 := ⟨N - 1, by omega⟩
    have g1 : mI ms 37 = nI 0 := h.2.1.1
    rw [m_settle_L0, g1, if_pos (show nI 0 ≤ (0 : Int32) by decide +kernel)]
    exact ⟨ms, rfl, h, hR, rfl⟩
  | cons q G ih =>
    intro C ms N h hR hN
    obtain ⟨N, rfl⟩ : ∃ m, N = m + 1 := ⟨N - 1, by omega⟩
    rw [List.length_cons] at hN
    obtain ⟨t1, t2, t3, t4⟩ := h.top
    have hq := (h.2.2.2.2.2.2 q (by simp)).1
    have hb := h.2.2.2.1
    have hb2 := h.2.2.2.2.1
    have hb3 := h.2.2.2.2.2.1
    rw [m_settle_L0, t1, if_neg (nI_nle (by omega) (by omega))]
    simp only [nI_pred, mrd_n (k := 38) (show G.length < mn 38 from (by omega : G.length < 64)), Option.bind_some, t2, rank_lt (show q.1 ≤ 60000 by omega) hr.2 x hx]
    rw [y_set]
    by_cases qr : rk q.1 < r
    · rw [if_pos qr, if_neg (by omega)]; exact ⟨ms, rfl, h, hR, rfl⟩
    · rw [if_neg qr, if_pos (by omega)]
      have hp := h.pop
      rw [y_w, if_neg (by omega)] at hb
      rw [List.length_cons] at hb2
      have hRp : RM (mIs ms 37 (nI G.length)) σ := hR.frI (by decide) (by decide)
      have fin : ∀ z : Int32, z = nI (opOf q.1) → ∃ ms', m_settle_J111 (m_settle_L0 N) (mIs ms 37 (nI G.length)) x z = some ms' ∧ rY ms' t (y_set r G (C ++ [(opOf q.1, 0)])).1 (y_set r G (C ++ [(opOf q.1, 0)])).2 B ∧ RM ms' σ ∧ mI ms' 0 = mI ms 0 := fun z hz => by
        obtain ⟨m1, k1, k2, k3, k4⟩ := L_make (B' := B) (op := opOf q.1) (n := 0) (x := z) (y := 0) hp hRp (by omega) (by omega) hb3 hz rfl
        obtain ⟨m2, l1, l2, l3, l4⟩ := ih _ m1 N k2 k3 (by omega)
        refine ⟨m2, ?_, l2, l3, l4.trans k4⟩
        unfold m_settle_J111
        rw [k1]
        exact l1
      have i37 : mI (mIs ms 37 (nI G.length)) 37 = nI G.length := rfl
      simp only [i37, mrd_n (k := 38) (show G.length < mn 38 from (by omega : G.length < 64)), Option.bind_some, mA_mIs, t2]
      have eq : ∀ k : Nat, k < 65536 → (nI q.1 = nI k ↔ q.1 = k) := fun k hk => nI_eq (by omega) (by omega)
      simp only [show (200 : Int32) = nI 200 from rfl, show (64 : Int32) = nI 64 from rfl, show (42 : Int32) = nI 42 from rfl, show (43 : Int32) = nI 43 from rfl, show (45 : Int32) = nI 45 from rfl, show (60 : Int32) = nI 60 from rfl, eq 200 (by decide), eq 64 (by decide), eq 42 (by decide), eq 43 (by decide), eq 45 (by decide), eq 60 (by decide)]
      unfold opOf at fin ⊢
      by_cases a1 : q.1 = 200
      · simp only [a1, if_true] at fin ⊢; exact fin _ rfl
      by_cases a2 : q.1 = 64
      · simp only [a2] at fin ⊢; exact fin _ rfl
      by_cases a3 : q.1 = 42
      · simp only [a3] at fin ⊢; exact fin _ rfl
      by_cases a4 : q.1 = 43
      · simp only [a4] at fin ⊢; exact fin _ rfl
      by_cases a5 : q.1 = 45
      · simp only [a5] at fin ⊢; exact fin _ rfl
      by_cases a6 : q.1 = 60
      · simp only [a6] at fin ⊢; exact fin _ rfl
      · simp only [a1, a2, a3, a4, a5, a6, if_false] at fin ⊢; exact fin _ rfl
