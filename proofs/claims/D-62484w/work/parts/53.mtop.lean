/-! the model's public methods -/
theorem isC_cases (a : Int32) : m_isCell a = 0 ∨ ∃ c, c < 12 ∧ a = nI c ∧ m_isCell a ≠ 0 := by
  unfold m_isCell
  by_cases h : a < 0
  · rw [if_pos h]; exact Or.inl rfl
  · rw [if_neg h]
    by_cases h2 : 12 ≤ a
    · rw [if_pos h2]; exact Or.inl rfl
    · rw [if_neg h2]
      obtain ⟨j, hj, rfl⟩ := nI_of h
      refine Or.inr ⟨j, ?_, rfl, by decide⟩
      by_cases q : j < 12
      · exact q
      · exact absurd (show (12 : Int32) ≤ nI j from nI_le (a := 12) (by omega) hj) h2
theorem isC_n {c : Nat} (h : c < 12) : m_isCell (nI c) ≠ 0 := by
  rcases (show c = 0 ∨ c = 1 ∨ c = 2 ∨ c = 3 ∨ c = 4 ∨ c = 5 ∨ c = 6 ∨ c = 7 ∨ c = 8 ∨ c = 9 ∨ c = 10 ∨ c = 11 by omega) with e | e | e | e | e | e | e | e | e | e | e | e <;> subst e <;> decide +kernel
theorem chg4 {σ : S} {d i : Nat} : sN (a_chg σ d) 4 i = if i ≤ d then rev σ + 1 else sN σ 4 i := by
  show (if 4 = 3 ∧ i = 0 then rev σ + 1 else if 4 = 4 ∧ i ≤ d then rev σ + 1 else σ.1 4 i) = _
  rw [if_neg (by omega)]
  by_cases q : i ≤ d
  · rw [if_pos ⟨rfl, q⟩, if_pos q]
  · rw [if_neg (fun w => q w.2), if_neg q]; rfl
theorem chgo {σ : S} {d k a : Nat} (q1 : k ≠ 3) (q2 : k ≠ 4) : sN (a_chg σ d) k a = sN σ k a := by
  show (if k = 3 ∧ a = 0 then rev σ + 1 else if k = 4 ∧ a ≤ d then rev σ + 1 else σ.1 k a) = _
  rw [if_neg (fun q => q1 q.1), if_neg (fun q => q2 q.1)]; rfl
theorem RM.chgd {ms ms' : MS} {σ : S} {d : Nat} (h : RM ms σ) (hb : rev σ + 1 < B20) (h1 : ∀ k i, k ≠ 4 → mA ms' k i = mA ms k i) (h2 : ∀ k i, mL ms' k i = mL ms k i) (h3 : ∀ j, mI ms' j = if j = 3 then nI (rev σ + 1) else mI ms j) (h4 : ∀ i, i ≤ 2 → mA ms' 4 i = if i ≤ d then nI (rev σ + 1) else mA ms 4 i) : RM ms' (a_chg σ d) := by
  obtain ⟨⟨n1, n2, n3, n4⟩, ⟨i1, i2, i3, i4, i5, i6⟩, hr, ht, hc⟩ := h
  have e : ∀ k c, k ≠ 3 → k ≠ 4 → sN (a_chg σ d) k c = sN σ k c := fun k c q1 q2 => by
    show (if k = 3 ∧ c = 0 then _ else if k = 4 ∧ c ≤ d then _ else σ.1 k c) = _
    rw [if_neg (fun q => q1 q.1), if_neg (fun q => q2 q.1)]; rfl
  have er : rev (a_chg σ d) = rev σ + 1 := rfl
  refine ⟨⟨fun k c hc hk => ?_, fun i hi => ?_, by rw [h3, if_pos rfl, er], by rw [er]; exact hb⟩, ⟨fun c hc => ?_, fun c hc => ?_, ?_, fun c hc => ?_, fun c hc => ?_, fun c hc => ?_⟩, fun c hc => ?_, fun c hc => ?_, fun c hc => ?_⟩
  · rw [h1 _ _ (by unfold cN at hk; omega), e _ _ (by unfold cN at hk; omega) (by unfold cN at hk; omega)]; exact n1 k c hc hk
  · rw [h4 i hi]
    have e4 : sN (a_chg σ d) 4 i = if i ≤ d then rev σ + 1 else sN σ 4 i := by
      show (if 4 = 3 ∧ i = 0 then rev σ + 1 else if 4 = 4 ∧ i ≤ d then rev σ + 1 else σ.1 4 i) = _
      rw [if_neg (by omega)]
      by_cases q : i ≤ d
      · rw [if_pos ⟨rfl, q⟩, if_pos q]
      · rw [if_neg (fun w => q w.2), if_neg q]; rfl
    rw [e4]
    by_cases q : i ≤ d
    · rw [if_pos q, if_pos q]; exact ⟨rfl, hb⟩
    · rw [if_neg q, if_neg q]; exact n2 i hi
  · rw [h1 _ _ (by decide)]; exact i1 c hc
  · rw [h1 _ _ (by decide)]; exact i2 c hc
  · rw [h3, if_neg (by decide)]; exact i3
  · rw [h1 _ _ (by decide)]; exact i4 c hc
  · rw [h1 _ _ (by decide)]; exact i5 c hc
  · rw [h2]; exact i6 c hc
  · rw [h1 _ _ (by decide)]; obtain ⟨q1, q2, q3⟩ := hr c hc; exact ⟨q1, q2, fun i r hi => by rw [h1 _ _ (by decide)]; exact q3 i r hi⟩
  · rw [h1 _ _ (by decide)]; obtain ⟨q1, q2, q3⟩ := ht c hc; exact ⟨q1, q2, fun i r hi => by rw [h1 _ _ (by decide)]; exact q3 i r hi⟩
  · rename_i hc'; rw [h1 _ _ (by decide)]; obtain ⟨q1, q2, q3⟩ := hc' c hc; exact ⟨q1, q2, fun i r n hi => by rw [h1 _ _ (by decide), h1 _ _ (by decide)]; exact q3 i r n hi⟩
/-- what the methods don't touch: most, length, pad, and the reader's columns -/
def TO (ms ms' : MS) : Prop := mI ms' 0 = mI ms 0 ∧ mI ms' 2 = mI ms 2 ∧ (∀ i, mA ms' 1 i = mA ms 1 i) ∧ mI ms' 40 = mI ms 40 ∧ ∀ k i, 38 ≤ k → mA ms' k i = mA ms k i
theorem TO.rf {ms : MS} : TO ms ms := ⟨rfl, rfl, fun _ => rfl, rfl, fun _ _ _ => rfl⟩
theorem TO.t {a b c : MS} (h : TO a b) (k : TO b c) : TO a c := ⟨k.1.trans h.1, k.2.1.trans h.2.1, fun i => (k.2.2.1 i).trans (h.2.2.1 i), k.2.2.2.1.trans h.2.2.2.1, fun q i hq => (k.2.2.2.2 q i hq).trans (h.2.2.2.2 q i hq)⟩
theorem TO.a {ms : MS} {k i : Nat} {v : Int32} (h1 : k ≠ 1) (h2 : k < 38) : TO ms (mAs ms k i v) := ⟨rfl, rfl, fun j => by rw [mA_mAs, if_neg (by omega)], rfl, fun q j hq => by rw [mA_mAs, if_neg (by omega)]⟩
theorem TO.l {ms : MS} {k i : Nat} {v : Int64} : TO ms (mLs ms k i v) := ⟨rfl, rfl, fun _ => rfl, rfl, fun _ _ _ => rfl⟩
theorem TO.i {ms : MS} {j : Nat} {v : Int32} (h0 : j ≠ 0) (h2 : j ≠ 2) (h4 : j ≠ 40) : TO ms (mIs ms j v) := ⟨by rw [mI_mIs, if_neg (fun q => h0 q.symm)], by rw [mI_mIs, if_neg (fun q => h2 q.symm)], fun _ => rfl, by rw [mI_mIs, if_neg (fun q => h4 q.symm)], fun _ _ _ => rfl⟩
theorem L_change {ms : MS} {σ : S} {d : Nat} (h : RM ms σ) (hd : d ≤ 2) (hb : rev σ + 1 < B20) : ∃ ms', m_change ms (nI d) = some ms' ∧ RM ms' (a_chg σ d) ∧ TO ms ms' := by
  have e3 : mI ms 3 + 1 = nI (rev σ + 1) := by rw [h.rv, nI_1]
  have w : ∀ (m : MS) (i : Nat), i ≤ 2 → mwr m 4 (nI i) (nI (rev σ + 1)) = some (mAs m 4 i (nI (rev σ + 1))) := fun m i hi => mwr_n (show i < mn 4 from (by omega : i < 3))
  have key : m_change ms (nI d) = some (if d = 0 then mAs (mIs ms 3 (nI (rev σ + 1))) 4 0 (nI (rev σ + 1)) else if d = 1 then mAs (mAs (mIs ms 3 (nI (rev σ + 1))) 4 0 (nI (rev σ + 1))) 4 1 (nI (rev σ + 1)) else mAs (mAs (mAs (mIs ms 3 (nI (rev σ + 1))) 4 0 (nI (rev σ + 1))) 4 1 (nI (rev σ + 1))) 4 2 (nI (rev σ + 1))) := by
    have i3 : ∀ m : MS, ∀ i v, mI (mAs m 4 i v) 3 = mI m 3 := fun _ _ _ => rfl
    have i3' : mI (mIs ms 3 (nI (rev σ + 1))) 3 = nI (rev σ + 1) := rfl
    unfold m_change
    rw [e3]
    show m_change_L12 1000 (mIs ms 3 (nI (rev σ + 1))) (nI d) (nI 0) = _
    have st : ∀ (N i : Nat) (m : MS), i ≤ d → mI m 3 = nI (rev σ + 1) → m_change_L12 (N + 1) m (nI d) (nI i) = m_change_L12 N (mAs m 4 i (nI (rev σ + 1))) (nI d) (nI (i + 1)) := fun N i m hi h3 => by
      rw [m_change_L12, if_neg (nI_nlt hi (by omega)), h3, w m i (by omega)]
      simp only [Option.bind_some, nI_1]
    have en : ∀ (N i : Nat) (m : MS), d < i → i < 10 → m_change_L12 (N + 1) m (nI d) (nI i) = some m := fun N i m hi h10 => by
      rw [m_change_L12, if_pos (nI_lt hi (by omega))]
    rcases (show d = 0 ∨ d = 1 ∨ d = 2 by omega) with e | e | e
    · subst e
      rw [st 999 0 _ (by omega) i3', en 998 1 _ (by omega) (by omega), if_pos rfl]
    · subst e
      rw [st 999 0 _ (by omega) i3', st 998 1 _ (by omega) (by rw [i3, i3']), en 997 2 _ (by omega) (by omega), if_neg (by decide), if_pos rfl]
    · subst e
      rw [st 999 0 _ (by omega) i3', st 998 1 _ (by omega) (by rw [i3, i3']), st 997 2 _ (by omega) (by rw [i3, i3, i3']), en 996 3 _ (by omega) (by omega), if_neg (by decide), if_neg (by decide)]
  refine ⟨_, key, ?_, ?_⟩
  · rcases (show d = 0 ∨ d = 1 ∨ d = 2 by omega) with e | e | e
    · subst e
      rw [if_pos rfl]
      refine h.chgd hb (fun k i hk => by rw [mA_mAs, if_neg (by omega)]; rfl) (fun _ _ => rfl) (fun j => rfl) (fun i hi => ?_)
      simp only [mA_mAs, mA_mIs, mA_mLs, mI_mAs, mI_mIs, mI_mLs, mL_mAs, mL_mIs, mL_mLs]
      rcases (show i = 0 ∨ i = 1 ∨ i = 2 by omega) with e | e | e <;> subst e <;> simp
    · subst e
      rw [if_neg (by decide), if_pos rfl]
      refine h.chgd hb (fun k i hk => by rw [mA_mAs, if_neg (by omega), mA_mAs, if_neg (by omega)]; rfl) (fun _ _ => rfl) (fun j => rfl) (fun i hi => ?_)
      simp only [mA_mAs, mA_mIs, mA_mLs, mI_mAs, mI_mIs, mI_mLs, mL_mAs, mL_mIs, mL_mLs]
      rcases (show i = 0 ∨ i = 1 ∨ i = 2 by omega) with e | e | e <;> subst e <;> simp
    · subst e
      rw [if_neg (by decide), if_neg (by decide)]
      refine h.chgd hb (fun k i hk => by rw [mA_mAs, if_neg (by omega), mA_mAs, if_neg (by omega), mA_mAs, if_neg (by omega)]; rfl) (fun _ _ => rfl) (fun j => rfl) (fun i hi => ?_)
      simp only [mA_mAs, mA_mIs, mA_mLs, mI_mAs, mI_mIs, mI_mLs, mL_mAs, mL_mIs, mL_mLs]
      rcases (show i = 0 ∨ i = 1 ∨ i = 2 by omega) with e | e | e <;> subst e <;> simp
  · have t0 : TO ms (mIs ms 3 (nI (rev σ + 1))) := TO.i (by decide) (by decide) (by decide)
    split
    · exact t0.t (TO.a (by decide) (by decide))
    · split
      · exact (t0.t (TO.a (by decide) (by decide))).t (TO.a (by decide) (by decide))
      · exact ((t0.t (TO.a (by decide) (by decide))).t (TO.a (by decide) (by decide))).t (TO.a (by decide) (by decide))
theorem M_set_bad {ms : MS} {a1 a2 a3 : Int32} (h : m_isCell a1 = 0 ∨ a3 < 0 ∨ ¬ a3 ≤ 2) : m_set ms a1 a2 a3 = some (0, ms) := by
  unfold m_set
  by_cases q1 : m_isCell a1 = 0
  · rw [if_pos q1]
  · rw [if_neg q1]
    by_cases q2 : a3 < 0
    · rw [if_pos q2]
    · rw [if_neg q2, if_neg (by
        rcases h with h | h | h
        · exact absurd h q1
        · exact absurd h q2
        · exact h)]
/-- setting an input -/
def a_setq (σ : S) (c : Nat) (n : Int32) (d : Nat) : S := if sN σ 5 c = 0 ∧ sI σ 12 c = n ∧ sN σ 13 c = d then σ else a_set σ c n d
theorem M_set {ms : MS} {σ : S} {c d : Nat} {n : Int32} (h : RM ms σ) (hI : iSt σ) (hc : c < 12) (hd : d ≤ 2) (hb : rev σ + 1 < B20) : ∃ ms', m_set ms (nI c) n (nI d) = some (1, ms') ∧ RM ms' (a_setq σ c n d) ∧ TO ms ms' := by
  have h13 : sN σ 13 c ≤ 2 := (hI.2.2 c hc).2.1
  -- the end
  have fin : ∀ (m : MS) (s0 : Nat), RM m (a_chg σ (a_cd σ c)) → TO ms m → s0 < B20 → ∃ ms', m_set_J105 m (nI c) n (nI d) (nI s0) (nI c) = some (1, ms') ∧ RM ms' (sNs (sIs (sNs (sNs (sNs (sNs (a_chg σ (a_cd σ c)) 14 c s0) 5 c 0) 15 c 0) 16 c 0) 12 c n) 13 c d) ∧ TO ms ms' := fun m s0 hm ht hs => by
    refine ⟨_, ?_, (((((hm.setN (c := c) c14 (bnd_n hs (by decide))).setN (c := c) c5 (bnd_f (Nat.zero_le 1))).setN (c := c) c15 (bnd_f (Nat.zero_le 1))).setN (c := c) c16 (bnd_f (Nat.zero_le 1))).setI (c := c) (v := n) (Or.inl rfl)).setN (c := c) c13 (bnd_n (show d < B20 by unfold B20; omega) (by decide)), ((((((ht.t (TO.a (by decide) (by decide))).t (TO.a (by decide) (by decide))).t (TO.a (by decide) (by decide))).t (TO.a (by decide) (by decide))).t (TO.a (by decide) (by decide))).t (TO.a (by decide) (by decide)))⟩
    unfold m_set_J105
    simp only [nar0, mwr_n (k := 14) (show c < mn 14 from hc), mwr_n (k := 5) (show c < mn 5 from hc), mwr_n (k := 15) (show c < mn 15 from hc), mwr_n (k := 16) (show c < mn 16 from hc), mwr_n (k := 12) (show c < mn 12 from hc), mwr_n (k := 13) (show c < mn 13 from hc), Option.bind_some]
  obtain ⟨m1, k1, k2, k3⟩ := L_change (d := a_cd σ c) h (by unfold a_cd; split <;> omega) hb
  have j69 : ∃ ms', m_set_J69 ms (nI c) n (nI d) (nI (sN σ 5 c)) (nI (a_cd σ c)) = some (1, ms') ∧ RM ms' (a_set σ c n d) ∧ TO ms ms' := by
    unfold m_set_J69 m_set_J92
    rw [k1]
    have e12 : mA m1 12 c = sI σ 12 c := k2.2.1.1 c hc
    have e14 : mA m1 14 c = nI (sN σ 14 c) := k2.n hc c14
    have e3 : mI m1 3 = nI (rev σ + 1) := k2.rv
    simp only [Option.bind_some, mrd_n (k := 12) (show c < mn 12 from hc), mrd_n (k := 14) (show c < mn 14 from hc), e12, e14, e3, nI0 (h.b hc c5)]
    unfold a_set
    by_cases q : sN σ 5 c ≠ 0 ∨ sI σ 12 c ≠ n
    · rw [if_pos q]
      have e : (if sN σ 5 c = 0 then if sI σ 12 c = n then m_set_J105 m1 (nI c) n (nI d) (nI (sN σ 14 c)) (nI c) else m_set_J105 m1 (nI c) n (nI d) (nI (rev σ + 1)) (nI c) else m_set_J105 m1 (nI c) n (nI d) (nI (rev σ + 1)) (nI c)) = m_set_J105 m1 (nI c) n (nI d) (nI (rev σ + 1)) (nI c) := by
        by_cases q5 : sN σ 5 c = 0
        · rw [if_pos q5, if_neg (by
            rcases q with q | q
            · exact absurd q5 q
            · exact q)]
        · rw [if_neg q5]
      rw [e]
      exact fin m1 (rev σ + 1) k2 k3 hb
    · have q5 : sN σ 5 c = 0 := by
        by_cases w : sN σ 5 c = 0
        · exact w
        · exact absurd (Or.inl w) q
      have q12 : sI σ 12 c = n := by
        by_cases w : sI σ 12 c = n
        · exact w
        · exact absurd (Or.inr w) q
      rw [if_neg q, if_pos q5, if_pos q12]
      obtain ⟨ms', y1, y2, y3⟩ := fin m1 (sN σ 14 c) k2 k3 (h.1.1 14 c hc c14).2.1
      rw [sNs_same (show sN (a_chg σ (a_cd σ c)) 14 c = sN σ 14 c from rfl)] at y2
      exact ⟨ms', y1, y2, y3⟩
  unfold m_set
  rw [if_neg (isC_n hc), if_neg (nI_pos (by omega)), if_pos (show nI d ≤ (2 : Int32) from nI_le (b := 2) hd (by decide))]
  unfold m_set_J53
  simp only [mrd_n (k := 5) (show c < mn 5 from hc), mrd_n (k := 12) (show c < mn 12 from hc), mrd_n (k := 13) (show c < mn 13 from hc), Option.bind_some, h.n hc c5, h.n hc c13, h.2.1.1 c hc, nI0 (h.b hc c5), nI_eq (h.b hc c13) (show d < 2 ^ 31 by omega)]
  unfold a_setq
  by_cases q : sN σ 5 c = 0 ∧ sI σ 12 c = n ∧ sN σ 13 c = d
  · rw [if_pos q.1, if_pos q.2.1, if_pos q.2.2, if_pos q]
    exact ⟨ms, rfl, h, TO.rf⟩
  · rw [if_neg q]
    by_cases q5 : sN σ 5 c = 0
    · have ecd : a_cd σ c = sN σ 13 c := by unfold a_cd; rw [if_pos q5]
      rw [ecd] at j69
      rw [if_pos q5]
      by_cases q12 : sI σ 12 c = n
      · rw [if_pos q12, if_neg (fun w => q ⟨q5, q12, w⟩), if_pos q5]; exact j69
      · rw [if_neg q12, if_pos q5]; exact j69
    · have ecd : a_cd σ c = 2 := by unfold a_cd; rw [if_neg q5]
      rw [ecd] at j69
      rw [if_neg q5, if_neg q5]; exact j69
theorem inv_set {σ : S} {c d : Nat} {n : Int32} (h : Inv σ) (hw : ∀ a, sN σ 35 a = 0) (hc : c < 12) (hd : d ≤ 2) : Inv (a_setq σ c n d) ∧ (∀ a, sN (a_setq σ c n d) 35 a = 0) ∧ rev (a_setq σ c n d) ≤ rev σ + 1 := by
  unfold a_setq
  split
  · exact ⟨h, hw, by omega⟩
  · rename_i hq
    have sel : ∀ k a, sN (a_set σ c n d) k a = if k = 13 ∧ a = c then d else if k = 16 ∧ a = c then 0 else if k = 15 ∧ a = c then 0 else if k = 5 ∧ a = c then 0 else if (sN σ 5 c ≠ 0 ∨ sI σ 12 c ≠ n) ∧ k = 14 ∧ a = c then rev σ + 1 else sN (a_chg σ (a_cd σ c)) k a := fun k a => by
      unfold a_set
      simp only [sN_sNs, sN_sIs, sN_sLs, sN_sRs, sI_sNs, sI_sIs, sI_sLs, sI_sRs, sL_sNs, sL_sIs, sL_sLs, sL_sRs, sR_sNs, sR_sIs, sR_sLs, sR_sRs, sT_sNs, sT_sIs, sT_sLs, sT_sRs, sC_sNs, sC_sIs, sC_sLs, sC_sRs]
      split
      · rfl
      · split
        · rfl
        · split
          · rfl
          · split
            · rfl
            · by_cases q : sN σ 5 c ≠ 0 ∨ sI σ 12 c ≠ n
              · rw [if_pos q, sN_sNs]
                simp only [q, true_and]
              · rw [if_neg q, if_neg (fun w => q w.1)]
    have chs : ∀ k a, k ≠ 3 → k ≠ 4 → sN (a_chg σ (a_cd σ c)) k a = sN σ k a := fun k a q1 q2 => by
      show (if k = 3 ∧ a = 0 then _ else if k = 4 ∧ a ≤ a_cd σ c then _ else σ.1 k a) = _
      rw [if_neg (fun q => q1 q.1), if_neg (fun q => q2 q.1)]; rfl
    have hrev : rev (a_set σ c n d) = rev σ + 1 := by
      unfold rev
      rw [sel, if_neg (by omega), if_neg (by omega), if_neg (by omega), if_neg (by omega), if_neg (by omega)]; rfl
    have si : ∀ a, sI (a_set σ c n d) 12 a = if a = c then n else sI σ 12 a := fun a => by
      unfold a_set
      simp only [sN_sNs, sN_sIs, sN_sLs, sN_sRs, sI_sNs, sI_sIs, sI_sLs, sI_sRs, sL_sNs, sL_sIs, sL_sLs, sL_sRs, sR_sNs, sR_sIs, sR_sLs, sR_sRs, sT_sNs, sT_sIs, sT_sLs, sT_sRs, sC_sNs, sC_sIs, sC_sLs, sC_sRs]
      by_cases q : a = c
      · simp [q]
      · rw [if_neg (fun w => q w.2), if_neg q]
        split <;> rfl
    have sl : ∀ a, sL (a_set σ c n d) a = sL σ a := fun a => by unfold a_set; simp only [sN_sNs, sN_sIs, sN_sLs, sN_sRs, sI_sNs, sI_sIs, sI_sLs, sI_sRs, sL_sNs, sL_sIs, sL_sLs, sL_sRs, sR_sNs, sR_sIs, sR_sLs, sR_sRs, sT_sNs, sT_sIs, sT_sLs, sT_sRs, sC_sNs, sC_sIs, sC_sLs, sC_sRs]; split <;> rfl
    have sr : ∀ a, sR (a_set σ c n d) a = sR σ a := fun a => by unfold a_set; simp only [sN_sNs, sN_sIs, sN_sLs, sN_sRs, sI_sNs, sI_sIs, sI_sLs, sI_sRs, sL_sNs, sL_sIs, sL_sLs, sL_sRs, sR_sNs, sR_sIs, sR_sLs, sR_sRs, sT_sNs, sT_sIs, sT_sLs, sT_sRs, sC_sNs, sC_sIs, sC_sLs, sC_sRs]; split <;> rfl
    have sc : ∀ a, sC (a_set σ c n d) a = sC σ a := fun a => by unfold a_set; simp only [sN_sNs, sN_sIs, sN_sLs, sN_sRs, sI_sNs, sI_sIs, sI_sLs, sI_sRs, sL_sNs, sL_sIs, sL_sLs, sL_sRs, sR_sNs, sR_sIs, sR_sLs, sR_sRs, sT_sNs, sT_sIs, sT_sLs, sT_sRs, sC_sNs, sC_sIs, sC_sLs, sC_sRs]; split <;> rfl
    refine ⟨inv_change (x := c) h hw hc rfl hrev (fun i => ?_) (fun a ha => ?_) (fun a ha => ?_) (Or.inl ⟨?_, ?_⟩) (Or.inl ⟨?_, ?_, ?_, ?_⟩), fun a => ?_, by omega⟩
    · rw [sel, if_neg (by omega), if_neg (by omega), if_neg (by omega), if_neg (by omega), if_neg (by omega)]
      exact chg4
    · simp only [sel, ha, and_false, if_false, chs, ne_eq, reduceCtorEq, not_false_eq_true, si, sc]
      simp [chs]
    · unfold nsm
      simp only [sel, ha, and_false, if_false, sl, sr]
      simp [chs]
    · rw [sel]; simp
    · rw [sel]; simp
    · rw [sel]; simp
    · rw [sel]; simp [hd]
    · rw [sel]; simp [chs]; have := (h.st.2.2 c hc).2.2.2; omega
    · rw [sel, si, if_pos rfl]
      by_cases q : sN σ 5 c ≠ 0 ∨ sI σ 12 c ≠ n
      · left; simp [q]
      · right
        have q5 : sN σ 5 c = 0 := by
          by_cases w : sN σ 5 c = 0
          · exact w
          · exact absurd (Or.inl w) q
        have q12 : sI σ 12 c = n := by
          by_cases w : sI σ 12 c = n
          · exact w
          · exact absurd (Or.inr w) q
        exact ⟨q5, by simp [q5, q12, chs], q12.symm⟩
    · rw [sel]; simp [chs, hw]
