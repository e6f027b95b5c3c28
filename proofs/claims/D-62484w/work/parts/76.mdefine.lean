/-! the model's define -/
theorem y_f_tot {t : List Nat} : ∀ (n : Nat) (u : Bool) (k : Nat) (G C : GS), t.length - k < n → ∃ r, y_f t n u k G C = some r := by
  intro n
  induction n with
  | zero => intro u k G C h; exact absurd h (Nat.not_lt_zero _)
  | succ n ih =>
    intro u k G C h
    rw [y_f]
    by_cases q : t.length ≤ k
    · rw [if_pos q]
      split
      · exact ⟨_, rfl⟩
      · exact ⟨_, rfl⟩
    · rw [if_neg q]
      cases h1 : y_one t u k (t.getD k 0) G C with
      | none => exact ⟨_, rfl⟩
      | some v =>
        refine ih _ _ _ _ ?_
        have : k + 1 ≤ y_k t u k (t.getD k 0) := by
          unfold y_k
          split <;> omega
        omega
/-- a new text and its steps -/
theorem RM.setTC {ms ms' : MS} {σ : S} {c : Nat} {t : List Nat} {cd : GS} (h : RM ms σ) (hc : c < 12) (ht : t.length ≤ 30) (hcd : cd.length ≤ 40)
    (hI : ∀ j, mI ms' j = mI ms j ∨ j = 2) (hL : ∀ k i, mL ms' k i = mL ms k i)
    (hA : ∀ k i, ¬ (k = 6 ∧ 30 * c ≤ i ∧ i < 30 * c + 30) → ¬ (k = 7 ∧ i = c) → ¬ (k = 8 ∧ i = c) → ¬ ((k = 9 ∨ k = 10) ∧ 40 * c ≤ i ∧ i < 40 * c + 40) → mA ms' k i = mA ms k i)
    (h7 : mA ms' 7 c = nI t.length) (h8 : mA ms' 8 c = nI cd.length) (h6 : ∀ i x, t[i]? = some x → mA ms' 6 (30 * c + i) = nI x) (h9 : ∀ i q, cd[i]? = some q → mA ms' 9 (40 * c + i) = nI q.1 ∧ mA ms' 10 (40 * c + i) = nI q.2) : RM ms' (sCs (sTs σ c t) c cd) := by
  obtain ⟨⟨a1, a2, a3, a4⟩, ⟨i1, i2, i3, i4, i5, i6⟩, hr, hT, hC⟩ := h
  have e : ∀ k i, k < 6 ∨ 10 < k → mA ms' k i = mA ms k i := fun k i hk => hA k i (by omega) (by omega) (by omega) (by omega)
  have eI : ∀ j, j ≠ 2 → mI ms' j = mI ms j := fun j hj => (hI j).resolve_right hj
  refine ⟨⟨fun k a ha hk => ?_, fun d hd => ?_, (eI 3 (by decide)).trans a3, a4⟩, ⟨fun a ha => ?_, fun a ha => ?_, (eI 24 (by decide)).trans i3, fun a ha => ?_, fun a ha => ?_, fun a ha => ?_⟩, fun a ha => ?_, fun a ha => ?_, fun a ha => ?_⟩
  · rw [e k a (by unfold cN at hk; omega)]; exact a1 k a ha hk
  · rw [e 4 d (by omega)]; exact a2 d hd
  · rw [e 12 a (by omega)]; exact i1 a ha
  · rw [e 23 a (by omega)]; exact i2 a ha
  · rw [e 25 a (by omega)]; exact i4 a ha
  · rw [e 26 a (by omega)]; exact i5 a ha
  · rw [hL]; exact i6 a ha
  · obtain ⟨r1, r2, r3⟩ := hr a ha
    exact ⟨r1, (e 21 a (by omega)).trans r2, fun i r hi => (e 22 _ (by omega)).trans (r3 i r hi)⟩
  · have es : sT (sCs (sTs σ c t) c cd) a = if a = c then t else sT σ a := rfl
    rw [es]
    by_cases q : a = c
    · subst q
      rw [if_pos rfl]
      exact ⟨ht, h7, h6⟩
    · rw [if_neg q]
      obtain ⟨t1, t2, t3⟩ := hT a ha
      refine ⟨t1, (hA 7 a (by omega) (by omega) (by omega) (by omega)).trans t2, fun i x hi => ?_⟩
      have hlt := (List.getElem?_eq_some_iff.mp hi).1
      exact (hA 6 _ (by omega) (by omega) (by omega) (by omega)).trans (t3 i x hi)
  · have es : sC (sCs (sTs σ c t) c cd) a = if a = c then cd else sC σ a := rfl
    rw [es]
    by_cases q : a = c
    · subst q
      rw [if_pos rfl]
      exact ⟨hcd, h8, fun i op n hi => h9 i (op, n) hi⟩
    · rw [if_neg q]
      obtain ⟨t1, t2, t3⟩ := hC a ha
      refine ⟨t1, (hA 8 a (by omega) (by omega) (by omega) (by omega)).trans t2, fun i op n hi => ?_⟩
      have hlt := (List.getElem?_eq_some_iff.mp hi).1
      obtain ⟨g1, g2⟩ := t3 i op n hi
      exact ⟨(hA 9 _ (by omega) (by omega) (by omega) (by omega)).trans g1, (hA 10 _ (by omega) (by omega) (by omega) (by omega)).trans g2⟩
theorem L_d266 {c : Nat} {cd : GS} (hc : c < 12) (hl : cd.length ≤ 40) : ∀ (f i N : Nat) (ms : MS), i + f = cd.length → f < N → rMk ms cd →
    ∃ ms', m_define_L266 N ms (nI c) (nI i) = some (0, ms') ∧ (∀ k j, ¬ ((k = 9 ∨ k = 10) ∧ 40 * c + i ≤ j ∧ j < 40 * c + 40) → mA ms' k j = mA ms k j) ∧ (∀ j, mI ms' j = mI ms j) ∧ (∀ k j, mL ms' k j = mL ms k j) ∧ (∀ j q, i ≤ j → cd[j]? = some q → mA ms' 9 (40 * c + j) = nI q.1 ∧ mA ms' 10 (40 * c + j) = nI q.2) := by
  intro f
  induction f with
  | zero =>
    intro i N ms hi hN hm
    obtain ⟨N, rfl⟩ : ∃ m, N = m + 1 := ⟨N - 1, by omega⟩
    refine ⟨ms, ?_, fun _ _ _ => rfl, fun _ => rfl, fun _ _ => rfl, fun j q hj e => ?_⟩
    · rw [m_define_L266, hm.1, if_pos (nI_le (by omega) (by omega))]
    · have := (List.getElem?_eq_some_iff.mp e).1
      omega
  | succ f ih =>
    intro i N ms hi hN hm
    obtain ⟨N, rfl⟩ : ∃ m, N = m + 1 := ⟨N - 1, by omega⟩
    have hlt : i < cd.length := by omega
    have hg : cd[i]? = some cd[i] := List.getElem?_eq_getElem hlt
    obtain ⟨k1, k2⟩ := hm.2 i _ hg
    have e40 : (40 : Int32) * nI c + nI i = nI (40 * c + i) := by rw [nI_mk 40 40 rfl, nI_add]
    have r41 : ∀ m : MS, mrd m 41 (nI i) = some (mA m 41 i) := fun m => mrd_n (k := 41) (show i < mn 41 from (by omega : i < 40))
    have r42 : ∀ m : MS, mrd m 42 (nI i) = some (mA m 42 i) := fun m => mrd_n (k := 42) (show i < mn 42 from (by omega : i < 40))
    have w9 : ∀ (m : MS) v, mwr m 9 (nI (40 * c + i)) v = some (mAs m 9 (40 * c + i) v) := fun m v => mwr_n (k := 9) (show 40 * c + i < mn 9 from (by omega : 40 * c + i < 480))
    have w10 : ∀ (m : MS) v, mwr m 10 (nI (40 * c + i)) v = some (mAs m 10 (40 * c + i) v) := fun m v => mwr_n (k := 10) (show 40 * c + i < mn 10 from (by omega : 40 * c + i < 480))
    have a42 : ∀ v, mA (mAs ms 9 (40 * c + i) v) 42 i = mA ms 42 i := fun v => by rw [mA_mAs, if_neg (by omega)]
    rw [m_define_L266, hm.1, if_neg (nI_ge hlt (by omega)), e40]
    simp only [r41, Option.bind_some, w9, r42, w10, nI_1, k1, k2, a42]
    obtain ⟨ms', g1, g2, g3, g4, g5⟩ := ih (i + 1) N (mAs (mAs ms 9 (40 * c + i) (nI cd[i].1)) 10 (40 * c + i) (nI cd[i].2)) (by omega) (by omega) ⟨hm.1, fun j q hj => by
      rw [mA_mAs, if_neg (by omega), mA_mAs, if_neg (by omega), mA_mAs, if_neg (by omega), mA_mAs, if_neg (by omega)]
      exact hm.2 j q hj⟩
    refine ⟨ms', g1, fun k j hn => ?_, g3, g4, fun j q hj e => ?_⟩
    · rw [g2 k j (by omega), mA_mAs, if_neg (by omega), mA_mAs, if_neg (by omega)]
    · by_cases q1 : i = j
      · subst q1
        rw [hg] at e
        cases e
        rw [g2 9 _ (by omega), g2 10 _ (by omega)]
        refine ⟨?_, ?_⟩
        · rw [mA_mAs, if_neg (by omega), mA_mAs, if_pos ⟨rfl, rfl⟩]
        · rw [mA_mAs, if_pos ⟨rfl, rfl⟩]
      · exact g5 j q (by omega) e
theorem L_d232 {c : Nat} {t : List Nat} (hc : c < 12) (hl : t.length ≤ 30) : ∀ (f i N : Nat) (ms : MS), i + f = t.length → f < N → (∀ j x, t[j]? = some x → mA ms 1 j = nI x) →
    ∃ ms', m_define_L232 N ms (nI c) (nI t.length) (nI i) = m_define_L266 1000 ms' (nI c) 0 ∧ (∀ k j, ¬ (k = 6 ∧ 30 * c + i ≤ j ∧ j < 30 * c + 30) → mA ms' k j = mA ms k j) ∧ (∀ j, mI ms' j = mI ms j) ∧ (∀ k j, mL ms' k j = mL ms k j) ∧ (∀ j x, i ≤ j → t[j]? = some x → mA ms' 6 (30 * c + j) = nI x) := by
  intro f
  induction f with
  | zero =>
    intro i N ms hi hN hm
    obtain ⟨N, rfl⟩ : ∃ m, N = m + 1 := ⟨N - 1, by omega⟩
    refine ⟨ms, ?_, fun _ _ _ => rfl, fun _ => rfl, fun _ _ => rfl, fun j q hj e => ?_⟩
    · rw [m_define_L232, if_pos (nI_le (by omega) (by omega))]
    · have := (List.getElem?_eq_some_iff.mp e).1
      omega
  | succ f ih =>
    intro i N ms hi hN hm
    obtain ⟨N, rfl⟩ : ∃ m, N = m + 1 := ⟨N - 1, by omega⟩
    have hlt : i < t.length := by omega
    have hg : t[i]? = some t[i] := List.getElem?_eq_getElem hlt
    have k1 := hm i _ hg
    have e30 : (30 : Int32) * nI c + nI i = nI (30 * c + i) := by rw [nI_mk 30 30 rfl, nI_add]
    have r1 : ∀ m : MS, mrd m 1 (nI i) = some (mA m 1 i) := fun m => mrd_n (k := 1) (show i < mn 1 from (by omega : i < 30))
    have w6 : ∀ (m : MS) v, mwr m 6 (nI (30 * c + i)) v = some (mAs m 6 (30 * c + i) v) := fun m v => mwr_n (k := 6) (show 30 * c + i < mn 6 from (by omega : 30 * c + i < 360))
    rw [m_define_L232, if_neg (nI_ge hlt (by omega)), e30]
    simp only [r1, Option.bind_some, w6, nI_1, k1]
    obtain ⟨ms', g1, g2, g3, g4, g5⟩ := ih (i + 1) N (mAs ms 6 (30 * c + i) (nI t[i])) (by omega) (by omega) (fun j x hj => by
      rw [mA_mAs, if_neg (by omega)]
      exact hm j x hj)
    refine ⟨ms', g1, fun k j hn => ?_, g3, g4, fun j q hj e => ?_⟩
    · rw [g2 k j (by omega), mA_mAs, if_neg (by omega)]
    · by_cases q1 : i = j
      · subst q1
        rw [hg] at e
        cases e
        rw [g2 6 _ (by omega), mA_mAs, if_pos ⟨rfl, rfl⟩]
      · exact g5 j q (by omega) e
def a_defq (σ : S) (c : Nat) (t : List Nat) (cd : GS) : S := if sN σ 5 c ≠ 0 ∧ sT σ c = t then σ else a_def σ c t cd
/-- the change itself -/
theorem L_d134 {ms : MS} {σ : S} {c : Nat} {t : List Nat} {cd : GS} (h : RM ms σ) (hI : Inv σ) (hc : c < 12) (hl : t.length ≤ 30) (hcl : cd.length ≤ 30) (hk : rMk ms cd) (hp : ∀ j x, t[j]? = some x → mA ms 1 j = nI x) (hb : rev σ + 1 < B20) :
    ∃ ms', m_define_J134 ms (nI c) (nI t.length) (nI (a_cd σ c)) = some (0, ms') ∧ RM ms' (a_def σ c t cd) ∧ mI ms' 0 = mI ms 0 ∧ mI ms' 2 = mI ms 2 := by
  have h13 : sN σ 13 c ≤ 2 := (hI.st.2.2 c hc).2.1
  obtain ⟨i1, i2⟩ := hI.no c hc
  obtain ⟨m1, k1, k2, k3⟩ := L_change (d := a_cd σ c) h (by unfold a_cd; split <;> omega) hb
  have f15 := h.fl hc c15 (by simp)
  have f16 := h.fl hc c16 (by simp)
  have f5 := h.fl hc c5 (by simp)
  have n15 : mA m1 15 c = nI (sN σ 15 c) := k2.n hc c15
  have n16 : mA m1 16 c = nI (sN σ 16 c) := k2.n hc c16
  have n5 : mA m1 5 c = nI (sN σ 5 c) := k2.n hc c5
  have e3 : mI m1 3 = nI (rev σ + 1) := k2.rv
  have narv : ∀ v, v ≤ 1 → vp_nar .boolean (nI v) = nI v := fun v hv => by
    rcases (show v = 0 ∨ v = 1 by omega) with w | w <;> subst w
    · exact nar0
    · exact nar1
  have wr : ∀ (m : MS) (k : Nat) (v : Int32), k = 15 ∨ k = 16 ∨ k = 5 ∨ k = 7 ∨ k = 8 ∨ k = 11 → mwr m k (nI c) v = some (mAs m k c v) := fun m k v hk => mwr_n (by
    rcases hk with e | e | e | e | e | e <;> subst e <;> exact hc)
  have rd : ∀ (m : MS) (k : Nat), k = 15 ∨ k = 16 ∨ k = 5 → mrd m k (nI c) = some (mA m k c) := fun m k hk => mrd_n (by
    rcases hk with e | e | e <;> subst e <;> exact hc)
  -- the last part
  have j194 : ∃ ms', m_define_J194 (mAs m1 15 c (nI (sN σ 15 c))) (nI c) (nI t.length) (nI (sN σ 16 c)) (nI c) = some (0, ms') ∧ RM ms' (a_def σ c t cd) ∧ mI ms' 0 = mI ms 0 ∧ mI ms' 2 = mI ms 2 := by
    have base : RM (mAs (mAs (mAs (mAs m1 15 c (nI (sN σ 15 c))) 16 c (nI (sN σ 16 c))) 5 c (nI 1)) 11 c (nI (rev σ + 1))) (sNs (sNs (a_chg σ (a_cd σ c)) 5 c 1) 11 c (rev σ + 1)) := by
      have q1 := k2.setN (c := c) c15 (bnd_f f15)
      rw [sNs_same (show sN (a_chg σ (a_cd σ c)) 15 c = sN σ 15 c from rfl)] at q1
      have q2 := q1.setN (c := c) c16 (bnd_f f16)
      rw [sNs_same (show sN (a_chg σ (a_cd σ c)) 16 c = sN σ 16 c from rfl)] at q2
      exact (q2.setN (c := c) c5 (bnd_f (Nat.le_refl 1))).setN (c := c) c11 (bnd_n hb (by decide))
    generalize hst : mAs (mAs (mAs (mAs (mAs (mAs m1 15 c (nI (sN σ 15 c))) 16 c (nI (sN σ 16 c))) 5 c (nI 1)) 7 c (nI t.length)) 8 c (nI cd.length)) 11 c (nI (rev σ + 1)) = st
    have tot : TO ms (mAs (mAs (mAs (mAs (mAs (mAs m1 15 c (nI (sN σ 15 c))) 16 c (nI (sN σ 16 c))) 5 c (nI 1)) 7 c (nI t.length)) 8 c (nI cd.length)) 11 c (nI (rev σ + 1))) := ((((((k3.t (TO.a (by decide) (by decide))).t (TO.a (by decide) (by decide))).t (TO.a (by decide) (by decide))).t (TO.a (by decide) (by decide))).t (TO.a (by decide) (by decide))).t (TO.a (by decide) (by decide)))
    rw [hst] at tot
    obtain ⟨m2, g1, g2, g3, g4, g5⟩ := L_d232 hc hl t.length 0 1000 st (by omega) (by omega) (fun j x hj => by rw [tot.2.2.1]; exact hp j x hj)
    have hk2 : rMk m2 cd := ⟨by rw [g3, tot.2.2.2.1]; exact hk.1, fun i q hi => by
      rw [g2 41 i (by omega), g2 42 i (by omega), tot.2.2.2.2 41 i (by decide), tot.2.2.2.2 42 i (by decide)]
      exact hk.2 i q hi⟩
    obtain ⟨m3, l1, l2, l3, l4, l5⟩ := L_d266 hc (by omega) cd.length 0 1000 m2 (by omega) (by omega) hk2
    refine ⟨m3, ?_, ?_, (l3 0).trans ((g3 0).trans tot.1), (l3 2).trans ((g3 2).trans tot.2.1)⟩
    · unfold m_define_J194
      rw [narv _ f16, nar1]
      have e40 : mI m1 40 = nI cd.length := k3.2.2.2.1.trans hk.1
      simp only [wr _ 16 _ (by simp), wr _ 5 _ (by simp), wr _ 7 _ (by simp), wr _ 8 _ (by simp), wr _ 11 _ (by simp), Option.bind_some, mI_mAs, e40, e3]
      rw [hst]
      exact g1.trans l1
    · refine RM.setTC (t := t) (cd := cd) base hc hl (by omega) (fun j => Or.inl ?_) (fun k i => ?_) (fun k i n6 n7 n8 n9 => ?_) ?_ ?_ (fun i x hi => ?_) (fun i q hi => ?_)
      · rw [l3, g3, ← hst]; rfl
      · rw [l4, g4, ← hst]; rfl
      · rw [l2 k i (by omega), g2 k i (by omega), ← hst]
        simp only [mA_mAs]
        rw [if_neg n8, if_neg n7]
      · rw [l2 7 c (by omega), g2 7 c (by omega), ← hst]
        simp only [mA_mAs]
        simp
      · rw [l2 8 c (by omega), g2 8 c (by omega), ← hst]
        simp only [mA_mAs]
        simp
      · rw [l2 6 _ (by omega)]
        exact g5 i x (Nat.zero_le _) hi
      · exact l5 i q (Nat.zero_le _) hi
  have j165 : ∃ ms', m_define_J165 m1 (nI c) (nI t.length) (nI (sN σ 15 c)) (nI c) = some (0, ms') ∧ RM ms' (a_def σ c t cd) ∧ mI ms' 0 = mI ms 0 ∧ mI ms' 2 = mI ms 2 := by
    unfold m_define_J165 m_define_J193
    rw [narv _ f15]
    simp only [wr _ 15 _ (by simp), rd _ 16 (by simp), rd _ 5 (by simp), Option.bind_some, mA_mAs]
    rw [if_neg (show ¬ ((16 : Nat) = 15 ∧ True) by omega), if_neg (show ¬ ((5 : Nat) = 15 ∧ True) by omega), n16, n5]
    simp only [nI0 (h.b hc c16), nI0 (h.b hc c5)]
    by_cases q : sN σ 16 c = 0
    · rw [if_pos q]
      rw [q] at j194
      exact j194
    · rw [if_neg q, if_neg (i2 (i1 q)).1]
      rw [show sN σ 16 c = 1 by omega] at j194
      exact j194
  unfold m_define_J134 m_define_J164
  rw [k1]
  simp only [rd _ 15 (by simp), rd _ 5 (by simp), Option.bind_some, n15, n5, nI0 (h.b hc c15), nI0 (h.b hc c5)]
  by_cases q : sN σ 15 c = 0
  · rw [if_pos q]
    rw [q] at j165
    exact j165
  · rw [if_neg q, if_neg (i2 q).1]
    rw [show sN σ 15 c = 1 by omega] at j165
    exact j165
