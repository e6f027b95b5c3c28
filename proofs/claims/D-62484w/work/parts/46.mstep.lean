def FR (ms : MS) (f c m : Nat) : Prop := mI ms 27 = nI (f + 1) ∧ mA ms 28 f = nI c ∧ mA ms 29 f = nI m
/-- all open cells are as they were -/
def FA (ms ms' : MS) : Prop := (∀ f, FS ms ms' f) ∧ mI ms' 27 = mI ms 27
theorem FA.rf {a : MS} : FA a a := ⟨fun _ => FS.rf, rfl⟩
theorem FA.t {a b c : MS} (h : FA a b) (k : FA b c) : FA a c := ⟨fun f => (h.1 f).t (k.1 f), k.2.trans h.2⟩
theorem FA.a {ms : MS} {k i : Nat} {v : Int32} (hk : k ≠ 1) (hk2 : ¬ (28 ≤ k ∧ k ≤ 34)) (hk3 : k ≠ 36) : FA ms (mAs ms k i v) := ⟨fun f => FS.rf.frA hk (fun e => by omega) (fun e1 e2 e3 => by omega), rfl⟩
theorem FA.l {ms : MS} {k i : Nat} {v : Int64} (hk : k ≠ 32) : FA ms (mLs ms k i v) := ⟨fun f => FS.rf.frL (fun e => by omega), rfl⟩
theorem FA.i {ms : MS} {j : Nat} {v : Int32} (h0 : j ≠ 0) (h2 : j ≠ 2) (h27 : j ≠ 27) : FA ms (mIs ms j v) := ⟨fun f => FS.rf.frI h0 h2, by rw [mI_mIs, if_neg (fun q => h27 q.symm)]⟩
theorem FA.g {ms ms' : MS} (h : FA ms ms') (g : Nat) : mA ms' 28 g = mA ms 28 g ∧ mA ms' 29 g = mA ms 29 g ∧ mA ms' 30 g = mA ms 30 g ∧ mA ms' 31 g = mA ms 31 g ∧ mA ms' 33 g = mA ms 33 g ∧ mA ms' 36 g = mA ms 36 g ∧ (∀ i, i < 16 → mL ms' 32 (16 * g + i) = mL ms 32 (16 * g + i)) ∧ ∀ i, i < 12 → mA ms' 34 (12 * g + i) = mA ms 34 (12 * g + i) := (h.1 (g + 1)).1 g (by omega)
theorem FA.fr {ms ms' : MS} (h : FA ms ms') {f c m : Nat} (k : FR ms f c m) : FR ms' f c m := ⟨h.2.trans k.1, (h.g f).1.trans k.2.1, (h.g f).2.1.trans k.2.2⟩
theorem c5 : cN 5 := by unfold cN; omega
theorem c11 : cN 11 := by unfold cN; omega
theorem c13 : cN 13 := by unfold cN; omega
theorem c14 : cN 14 := by unfold cN; omega
theorem c15 : cN 15 := by unfold cN; omega
theorem c16 : cN 16 := by unfold cN; omega
theorem c18 : cN 18 := by unfold cN; omega
theorem c19 : cN 19 := by unfold cN; omega
theorem c20 : cN 20 := by unfold cN; omega
theorem c35 : cN 35 := by unfold cN; omega
theorem L_counts {ms : MS} {σ : S} {c w : Nat} {x : Int32} (h : RM ms σ) (hc : c < 12) (hw : w < 3) (hx : x = nI w) : ∃ ms', m_counts ms (nI c) x = some ms' ∧ RM ms' (a_cnt σ c w) ∧ FA ms ms' := by
  subst hx
  have e : (3 : Int32) * nI c + nI w = nI (3 * c + w) := by rw [nI_mk 3 3 rfl, nI_add]
  refine ⟨mAs (mAs ms 25 (3 * c + w) (mA ms 25 (3 * c + w) + 1)) 26 w (mA (mAs ms 25 (3 * c + w) (mA ms 25 (3 * c + w) + 1)) 26 w + 1), ?_, ?_, (FA.a (by decide) (by decide) (by decide)).t (FA.a (by decide) (by decide) (by decide))⟩
  · unfold m_counts
    simp only [e, mrd_n (k := 25) (show 3 * c + w < mn 25 from (by omega : 3 * c + w < 36)), mwr_n (k := 25) (show 3 * c + w < mn 25 from (by omega : 3 * c + w < 36)), mrd_n (k := 26) (show w < mn 26 from hw), mwr_n (k := 26) (show w < mn 26 from hw), Option.bind_some]
  · have e1 : mA ms 25 (3 * c + w) = sI σ 25 (3 * c + w) := h.2.1.2.2.2.1 _ (by omega)
    have e2 : mA ms 26 w = sI σ 26 w := h.2.1.2.2.2.2.1 _ hw
    have e3 : mA (mAs ms 25 (3 * c + w) (mA ms 25 (3 * c + w) + 1)) 26 w = sI σ 26 w := by rw [mA_mAs, if_neg (by omega)]; exact e2
    rw [e3, e1]
    exact (h.setI (Or.inr (Or.inr (Or.inl rfl)))).setI (Or.inr (Or.inr (Or.inr rfl)))
theorem L_use {ms : MS} {σ : S} {c : Nat} (h : RM ms σ) (hc : c < 12) : ∃ ms', m_use ms (nI c) = some ms' ∧ RM ms' (a_use σ c) ∧ FA ms ms' := by
  refine ⟨mAs (mIs ms 24 (mI ms 24 + 1)) 23 c (mI ms 24 + 1), ?_, ?_, (FA.i (by decide) (by decide) (by decide)).t (FA.a (by decide) (by decide) (by decide))⟩
  · unfold m_use
    simp only [mwr_n (k := 23) (show c < mn 23 from hc), Option.bind_some]
    rfl
  · have e : mI ms 24 = sI σ 24 0 := h.2.1.2.2.1
    rw [e]
    exact h.clock.setI (Or.inr (Or.inl rfl))
theorem L_finish {ms : MS} {σ : S} {f c m : Nat} (h : RM ms σ) (hc : c < 12) (hf : f < 12) (hF : FR ms f c m) : ∃ ms', m_finish ms = some ms' ∧ RM ms' (sNs σ 35 c 0) ∧ mI ms' 27 = nI f ∧ FS ms ms' f := by
  refine ⟨mAs (mIs ms 27 (nI f)) 35 c (nI 0), ?_, (h.frI (by decide) (by decide)).setN c35 (bnd_f (by decide)), rfl, (FS.rf.frI (by decide) (by decide)).frA (by omega) (by omega) (by omega)⟩
  unfold m_finish
  simp only [hF.1, nI_pred, Option.bind_some, show mI (mIs ms 27 (nI f)) 27 = nI f from rfl, mrd_n (k := 28) (show f < mn 28 from hf), mA_mIs, hF.2.1, mwr_n (k := 35) (show c < mn 35 from hc), nar0]
theorem L_start {ms : MS} {σ : S} {f c m : Nat} {x : Int32} (h : RM ms σ) (hc : c < 12) (hf : f < 12) (hx : x = nI m) (h27 : mI ms 27 = nI f) : ∃ ms', m_start ms (nI c) x = some ms' ∧ RM ms' (sNs σ 35 c 1) ∧ FR ms' f c m ∧ FS ms ms' f := by
  subst hx
  refine ⟨mIs (mAs (mAs (mAs ms 28 f (nI c)) 29 f (nI m)) 35 c (nI 1)) 27 (nI (f + 1)), ?_, (((h.frA (by unfold cF; omega)).frA (by unfold cF; omega)).setN c35 (bnd_f (by decide))).frI (by decide) (by decide), ⟨rfl, ?_, ?_⟩, (((FS.rf.frA (by omega) (by omega) (by omega)).frA (by omega) (by omega) (by omega)).frA (by omega) (by omega) (by omega)).frI (by decide) (by decide)⟩
  · unfold m_start
    simp only [h27, mI_mAs, mwr_n (k := 28) (show f < mn 28 from hf), mwr_n (k := 29) (show f < mn 29 from hf), mwr_n (k := 35) (show c < mn 35 from hc), Option.bind_some, nar1, nI_1]
  · simp only [mA_mIs, mA_mAs]
    simp
  · simp only [mA_mIs, mA_mAs]
    simp
theorem L_enter_pass {ms : MS} {σ : S} {f c : Nat} (h : RM ms σ) (hc : c < 12) (hf : f < 12) (hF : FR ms f c 0) (h15 : sN σ 15 c ≠ 0) (h20 : sN σ 20 c ≤ 2) (hp : sN σ 4 (sN σ 20 c) ≤ sN σ 18 c) :
    ∃ ms', m_enter ms (nI f) (nI c) = some ms' ∧ RM ms' (a_fin σ c 2) ∧ mI ms' 27 = nI f ∧ FS ms ms' f := by
  obtain ⟨m1, g1, g2, g3⟩ := L_counts (x := 2) h hc (by decide : 2 < 3) rfl
  have h3 : mI m1 3 = nI (rev σ) := g2.rv
  have g4 : RM (mAs m1 18 c (nI (rev σ))) (sNs (a_cnt σ c 2) 18 c (rev σ)) := g2.setN c18 (bnd_n g2.1.2.2.2 (by decide))
  have g5 : FA m1 (mAs m1 18 c (nI (rev σ))) := FA.a (by decide) (by decide) (by decide)
  obtain ⟨m2, k1, k2, k3, k4⟩ := L_finish g4 hc hf ((g3.t g5).fr hF)
  refine ⟨m2, ?_, k2, k3, ((g3.t g5).1 f).t k4⟩
  unfold m_enter
  simp only [mrd_n (k := 15) (show c < mn 15 from hc), mrd_n (k := 20) (show c < mn 20 from hc), mrd_n (k := 18) (show c < mn 18 from hc), Option.bind_some, h.n hc c15, h.n hc c20, h.n hc c18]
  rw [if_neg (fun e => h15 ((nI0 (h.b hc c15)).mp e))]
  simp only [mrd_n (k := 4) (show sN σ 20 c < mn 4 from (by omega : sN σ 20 c < 3)), Option.bind_some, (h.chg h20).1]
  rw [if_neg (fun e => by rw [nI_ltI (h.b hc c18) (h.chg h20).2] at e; omega)]
  simp only [g1, Option.bind_some, h3, mwr_n (k := 18) (show c < mn 18 from hc), k1]
theorem L_enter_else {ms : MS} {σ : S} {f c : Nat} (h : RM ms σ) (hc : c < 12) (hf : f < 12) (hF : FR ms f c 0) (h20 : sN σ 15 c ≠ 0 → sN σ 20 c ≤ 2) (hp : ¬ (sN σ 15 c ≠ 0 ∧ sN σ 4 (sN σ 20 c) ≤ sN σ 18 c)) :
    ∃ ms', m_enter ms (nI f) (nI c) = some ms' ∧ RM ms' σ ∧ FR ms' f c (if sN σ 15 c ≠ 0 ∧ sN σ 11 c ≤ sN σ 18 c then 1 else 2) ∧ mA ms' 30 f = nI 0 ∧ FS ms ms' f := by
  have main : ∃ ms', m_enter_J50 ms (nI f) (nI c) = some ms' ∧ RM ms' σ ∧ FR ms' f c (if sN σ 15 c ≠ 0 ∧ sN σ 11 c ≤ sN σ 18 c then 1 else 2) ∧ mA ms' 30 f = nI 0 ∧ FS ms ms' f := by
    have h1 : RM (mAs ms 30 f (nI 0)) σ := h.frA (by unfold cF; omega)
    refine ⟨mAs (mAs ms 30 f (nI 0)) 29 f (nI (if sN σ 15 c ≠ 0 ∧ sN σ 11 c ≤ sN σ 18 c then 1 else 2)), ?_, h1.frA (by unfold cF; omega), ⟨hF.1, ?_, ?_⟩, ?_, (FS.rf.frA (by omega) (by omega) (by omega)).frA (by omega) (by omega) (by omega)⟩
    · unfold m_enter_J50
      simp only [show (0 : Int32) = nI 0 from rfl, mwr_n (k := 30) (show f < mn 30 from hf), mrd_n (k := 15) (show c < mn 15 from hc), Option.bind_some, h1.n hc c15]
      by_cases q : sN σ 15 c = 0
      · rw [if_pos (show nI (sN σ 15 c) = nI 0 from (nI0 (h.b hc c15)).mpr q), if_neg (fun w => w.1 q)]
        unfold m_enter_J90 m_enter_J91
        simp only [mwr_n (k := 29) (show f < mn 29 from hf), Option.bind_some]
        rfl
      · rw [if_neg (show ¬ nI (sN σ 15 c) = nI 0 from fun e => q ((nI0 (h.b hc c15)).mp e))]
        simp only [mrd_n (k := 11) (show c < mn 11 from hc), mrd_n (k := 18) (show c < mn 18 from hc), Option.bind_some, h1.n hc c11, h1.n hc c18, nI_ltI (h.b hc c18) (h.b hc c11)]
        by_cases q2 : sN σ 18 c < sN σ 11 c
        · rw [if_pos q2, if_neg (fun w => by omega)]
          unfold m_enter_J90 m_enter_J91
          simp only [mwr_n (k := 29) (show f < mn 29 from hf), Option.bind_some]
          rfl
        · rw [if_neg q2, if_pos ⟨q, by omega⟩]
          unfold m_enter_J91
          simp only [mwr_n (k := 29) (show f < mn 29 from hf), Option.bind_some]
          rfl
    · simp only [mA_mAs]; simp [hF.2.1]
    · simp only [mA_mAs]; simp
    · simp only [mA_mAs]; simp
  obtain ⟨ms', k1, k2⟩ := main
  refine ⟨ms', ?_, k2⟩
  unfold m_enter
  simp only [mrd_n (k := 15) (show c < mn 15 from hc), mrd_n (k := 20) (show c < mn 20 from hc), mrd_n (k := 18) (show c < mn 18 from hc), Option.bind_some, h.n hc c15, h.n hc c20, h.n hc c18]
  by_cases q : sN σ 15 c = 0
  · rw [if_pos ((nI0 (h.b hc c15)).mpr q)]; exact k1
  · rw [if_neg (fun e => q ((nI0 (h.b hc c15)).mp e))]
    simp only [mrd_n (k := 4) (show sN σ 20 c < mn 4 from (by have := h20 q; omega : sN σ 20 c < 3)), Option.bind_some, (h.chg (h20 q)).1]
    rw [if_pos (by rw [nI_ltI (h.b hc c18) (h.chg (h20 q)).2]; exact Nat.lt_of_not_le (fun w => hp ⟨q, w⟩))]
    exact k1
theorem L_settled {ms : MS} {σ : S} {r : Nat} (h : RM ms σ) (hr : r < 12) : ∃ b, m_settled ms (nI r) = some b ∧ (b = 0 ↔ ¬ a_done σ r) := by
  unfold m_settled m_settled_J31 a_done
  simp only [mrd_n (k := 5) (show r < mn 5 from hr), mrd_n (k := 15) (show r < mn 15 from hr), mrd_n (k := 18) (show r < mn 18 from hr), Option.bind_some, h.n hr c5, h.n hr c15, h.n hr c18, h.rv, nI_eq (h.b hr c18) h.rvb, nI0 (h.b hr c5), nI0 (h.b hr c15)]
  by_cases q1 : sN σ 5 r = 0
  · exact ⟨1, by rw [if_pos q1], by simp [q1]⟩
  · rw [if_neg q1]
    by_cases q2 : sN σ 15 r = 0
    · exact ⟨0, by rw [if_pos q2], by simp [q1, q2]⟩
    · rw [if_neg q2]
      by_cases q3 : sN σ 18 r = rev σ
      · exact ⟨1, by rw [if_pos q3], by simp [q2, q3]⟩
      · exact ⟨0, by rw [if_neg q3], by simp [q1, q3]⟩
theorem L_dur {ms : MS} {σ : S} {r : Nat} (h : RM ms σ) (hr : r < 12) (hn : sN σ 5 r ≠ 0 → sN σ 15 r ≠ 0) : m_durabilityOf ms (nI r) = some (nI (a_steady σ r)) := by
  unfold m_durabilityOf a_steady
  simp only [mrd_n (k := 5) (show r < mn 5 from hr), mrd_n (k := 13) (show r < mn 13 from hr), mrd_n (k := 20) (show r < mn 20 from hr), Option.bind_some, h.n hr c5, h.n hr c13, h.n hr c20, nI0 (h.b hr c5)]
  by_cases q1 : sN σ 5 r = 0
  · rw [if_pos q1, if_pos q1]
  · rw [if_neg q1, if_neg q1, if_neg (hn q1)]
theorem L_since {ms : MS} {σ : S} {r : Nat} (h : RM ms σ) (hr : r < 12) (hn : sN σ 5 r ≠ 0 → sN σ 15 r ≠ 0) : m_sinceOf ms (nI r) = some (nI (a_since σ r)) ∧ a_since σ r < 2 ^ 31 := by
  unfold m_sinceOf a_since
  simp only [mrd_n (k := 5) (show r < mn 5 from hr), mrd_n (k := 14) (show r < mn 14 from hr), mrd_n (k := 19) (show r < mn 19 from hr), Option.bind_some, h.n hr c5, h.n hr c14, h.n hr c19, nI0 (h.b hr c5)]
  by_cases q1 : sN σ 5 r = 0
  · rw [if_pos q1, if_pos q1]; exact ⟨rfl, h.b hr c14⟩
  · rw [if_neg q1, if_neg q1, if_neg (hn q1)]; exact ⟨rfl, h.b hr c19⟩
theorem done_noted {σ : S} {r : Nat} (h : a_done σ r) : sN σ 5 r ≠ 0 → sN σ 15 r ≠ 0 := fun q => by
  rcases h with h | h
  · exact absurd h q
  · exact h.1
/-- the loop over the reads that finds the least -/
theorem L_least {ms : MS} {σ : S} {c f m : Nat} (h : RM ms σ) (hc : c < 12) (hf : f < 12) (hF : FR ms f c m) (h12 : ∀ r ∈ sR σ c, r < 12) (hd : ∀ r ∈ sR σ c, (sN σ 5 r ≠ 0 → sN σ 15 r ≠ 0)) (hs2 : ∀ r ∈ sR σ c, a_steady σ r < 2 ^ 31) :
    ∀ (j N least : Nat), j ≤ (sR σ c).length → (sR σ c).length - j < N → least ≤ 2 → ∃ ms', m_lookThrough_L36 N ms (nI c) (nI least) (nI j) = some ms' ∧ RM ms' (sNs (sNs σ 20 c (((sR σ c).drop j).foldl (fun d r => min d (a_steady σ r)) least)) 35 c 0) ∧ mI ms' 27 = nI f ∧ FS ms ms' f := by
  obtain ⟨r1, r2, r3⟩ := h.2.2.1 c hc
  intro j N
  induction N generalizing j with
  | zero => intro least _ h2; omega
  | succ N ih =>
    intro least hj hN hl
    rw [m_lookThrough_L36]
    simp only [mrd_n (k := 21) (show c < mn 21 from hc), Option.bind_some, r2, nI_leI (show (sR σ c).length < 2 ^ 31 by omega) (show j < 2 ^ 31 by omega)]
    by_cases q : (sR σ c).length ≤ j
    · rw [if_pos q, List.drop_eq_nil_of_le q]
      have g4 : RM (mAs ms 20 c (nI least)) (sNs σ 20 c least) := h.setN c20 (bnd_n (by unfold B20; omega) (by decide))
      have g5 : FA ms (mAs ms 20 c (nI least)) := FA.a (by decide) (by decide) (by decide)
      obtain ⟨m2, k1, k2, k3, k4⟩ := L_finish g4 hc hf (g5.fr hF)
      refine ⟨m2, ?_, k2, k3, (g5.1 f).t k4⟩
      simp only [mwr_n (k := 20) (show c < mn 20 from hc), Option.bind_some, k1]
    · rw [if_neg q]
      have hlt : j < (sR σ c).length := by omega
      have hg : (sR σ c)[j]? = some (sR σ c)[j] := List.getElem?_eq_getElem hlt
      have hm : (sR σ c)[j] ∈ sR σ c := List.getElem_mem hlt
      have e1 : (12 : Int32) * nI c + nI j = nI (12 * c + j) := by rw [nI_mk 12 12 rfl, nI_add]
      have e2 := r3 j _ hg
      simp only [e1, mrd_n (k := 22) (show 12 * c + j < mn 22 from (by omega : 12 * c + j < 144)), Option.bind_some, e2, L_dur h (h12 _ hm) (hd _ hm), nI_leI (show least < 2 ^ 31 by omega) (hs2 _ hm)]
      rw [List.drop_eq_getElem_cons hlt, List.foldl_cons]
      by_cases q2 : least ≤ a_steady σ (sR σ c)[j]
      · rw [if_pos q2, Nat.min_eq_left q2]
        unfold m_lookThrough_J87
        rw [nI_1]
        exact ih (j + 1) least (by omega) (by omega) hl
      · rw [if_neg q2, Nat.min_eq_right (by omega)]
        unfold m_lookThrough_J87
        rw [nI_1]
        exact ih (j + 1) _ (by omega) (by omega) (by omega)
