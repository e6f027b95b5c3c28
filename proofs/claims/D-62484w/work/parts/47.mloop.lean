theorem run_0 {ms ms' : MS} {f c : Nat} (hf : f < 12) (hF : FR ms f c 0) (h : m_enter ms (nI f) (nI c) = some ms') : Run 1 ms ms' := fun N => by
  rw [m_runAll_L0, hF.1, if_neg (nI_nle (by omega) (by omega))]
  simp only [nI_pred, Option.bind_some, mrd_n (k := 29) (show f < mn 29 from hf), mrd_n (k := 28) (show f < mn 28 from hf), hF.2.1, hF.2.2]
  rw [if_pos (show nI 0 = (0 : Int32) from rfl), h]
  rfl
theorem run_1 {ms ms' : MS} {f c : Nat} (hf : f < 12) (hF : FR ms f c 1) (h : m_lookThrough ms (nI f) (nI c) = some ms') : Run 1 ms ms' := fun N => by
  rw [m_runAll_L0, hF.1, if_neg (nI_nle (by omega) (by omega))]
  simp only [nI_pred, Option.bind_some, mrd_n (k := 29) (show f < mn 29 from hf), mrd_n (k := 28) (show f < mn 28 from hf), hF.2.1, hF.2.2]
  rw [if_neg (show ¬ nI 1 = (0 : Int32) by decide +kernel), if_pos (show nI 1 = (1 : Int32) from rfl), h]
  rfl
/-- what a working out begins with -/
def Fz (ms : MS) (f : Nat) : Prop := mA ms 30 f = nI 0 ∧ mA ms 31 f = nI 0 ∧ mA ms 33 f = nI 0 ∧ mA ms 36 f = nI 0
theorem run_2 {ms : MS} {σ : S} {f c : Nat} (h : RM ms σ) (hf : f < 12) (hF : FR ms f c 2) : ∃ ms', Run 1 ms ms' ∧ RM ms' σ ∧ FR ms' f c 3 ∧ Fz ms' f ∧ FS ms ms' f := by
  refine ⟨mAs (mAs (mAs (mAs (mAs ms 30 f (nI 0)) 31 f (nI 0)) 33 f (nI 0)) 36 f (nI 0)) 29 f (nI 3), fun N => ?_, ((((h.frA (by unfold cF; omega)).frA (by unfold cF; omega)).frA (by unfold cF; omega)).frA (by unfold cF; omega)).frA (by unfold cF; omega), ⟨hF.1, ?_, ?_⟩, ⟨?_, ?_, ?_, ?_⟩, ((((FS.rf.frA (by omega) (by omega) (by omega)).frA (by omega) (by omega) (by omega)).frA (by omega) (by omega) (by omega)).frA (by omega) (by omega) (by omega)).frA (by omega) (by omega) (by omega)⟩
  · rw [m_runAll_L0, hF.1, if_neg (nI_nle (by omega) (by omega))]
    simp only [nI_pred, Option.bind_some, mrd_n (k := 29) (show f < mn 29 from hf), hF.2.2]
    rw [if_neg (show ¬ nI 2 = (0 : Int32) by decide +kernel), if_neg (show ¬ nI 2 = (1 : Int32) by decide +kernel), if_pos (show nI 2 = (2 : Int32) from rfl)]
    simp only [show (0 : Int32) = nI 0 from rfl, show (3 : Int32) = nI 3 from rfl, mwr_n (k := 30) (show f < mn 30 from hf), mwr_n (k := 31) (show f < mn 31 from hf), mwr_n (k := 33) (show f < mn 33 from hf), mwr_n (k := 36) (show f < mn 36 from hf), mwr_n (k := 29) (show f < mn 29 from hf), Option.bind_some]
    rw [show vp_nar .boolean (nI 0) = nI 0 from nar0]
    rfl
  · simp only [mA_mAs, mA_mIs, mA_mLs, mI_mAs, mI_mIs, mI_mLs, mL_mAs, mL_mIs, mL_mLs]; simp [hF.2.1]
  · simp only [mA_mAs, mA_mIs, mA_mLs, mI_mAs, mI_mIs, mI_mLs, mL_mAs, mL_mIs, mL_mLs]; simp
  · simp only [mA_mAs, mA_mIs, mA_mLs, mI_mAs, mI_mIs, mI_mLs, mL_mAs, mL_mIs, mL_mLs]; simp
  · simp only [mA_mAs, mA_mIs, mA_mLs, mI_mAs, mI_mIs, mI_mLs, mL_mAs, mL_mIs, mL_mLs]; simp
  · simp only [mA_mAs, mA_mIs, mA_mLs, mI_mAs, mI_mIs, mI_mLs, mL_mAs, mL_mIs, mL_mLs]; simp
  · simp only [mA_mAs, mA_mIs, mA_mLs, mI_mAs, mI_mIs, mI_mLs, mL_mAs, mL_mIs, mL_mLs]; simp
theorem run_3e {ms ms' : MS} {σ : S} {f c : Nat} (h : RM ms σ) (hc : c < 12) (hf : f < 12) (hF : FR ms f c 3) (hat : mA ms 30 f = nI (sC σ c).length) (hw : m_worked ms (nI f) (nI c) (mL ms 32 (16 * f)) = some ms') : Run 1 ms ms' := fun N => by
  have e : (16 : Int32) * nI f = nI (16 * f) := nI_mk 16 16 rfl
  rw [m_runAll_L0, hF.1, if_neg (nI_nle (by omega) (by omega))]
  simp only [nI_pred, Option.bind_some, mrd_n (k := 29) (show f < mn 29 from hf), hF.2.2]
  rw [if_neg (show ¬ nI 3 = (0 : Int32) by decide +kernel), if_neg (show ¬ nI 3 = (1 : Int32) by decide +kernel), if_neg (show ¬ nI 3 = (2 : Int32) by decide +kernel)]
  simp only [mrd_n (k := 30) (show f < mn 30 from hf), mrd_n (k := 28) (show f < mn 28 from hf), hF.2.1, Option.bind_some, mrd_n (k := 8) (show c < mn 8 from hc), hat, (h.2.2.2.2 c hc).2.1]
  rw [if_pos trivial]
  simp only [e, mrL_n (k := 32) (show 16 * f < mn 32 from (by omega : 16 * f < 192)), Option.bind_some, hw]
  rfl
theorem run_3a {ms ms' : MS} {σ : S} {f c pc : Nat} (h : RM ms σ) (hc : c < 12) (hf : f < 12) (hF : FR ms f c 3) (hat : mA ms 30 f = nI pc) (hpc : pc < (sC σ c).length) (hw : m_advance ms (nI f) (nI c) = some ms') : Run 1 ms ms' := fun N => by
  have hl := (h.2.2.2.2 c hc).1
  rw [m_runAll_L0, hF.1, if_neg (nI_nle (by omega) (by omega))]
  simp only [nI_pred, Option.bind_some, mrd_n (k := 29) (show f < mn 29 from hf), hF.2.2]
  rw [if_neg (show ¬ nI 3 = (0 : Int32) by decide +kernel), if_neg (show ¬ nI 3 = (1 : Int32) by decide +kernel), if_neg (show ¬ nI 3 = (2 : Int32) by decide +kernel)]
  simp only [mrd_n (k := 30) (show f < mn 30 from hf), mrd_n (k := 28) (show f < mn 28 from hf), hF.2.1, Option.bind_some, mrd_n (k := 8) (show c < mn 8 from hc), hat, (h.2.2.2.2 c hc).2.1]
  rw [if_neg (fun q => by rw [nI_eq (by omega) (by omega)] at q; omega), hw]
  rfl
theorem L_thr_end {ms : MS} {τ : S} {f c : Nat} (h : RM ms τ) (hI : Inv τ) (hc : c < 12) (hf : f < 12) (hF : FR ms f c 1) (hat : mA ms 30 f = nI (sR τ c).length) (h12 : ∀ r ∈ sR τ c, r < 12) (hd : ∀ r ∈ sR τ c, a_done τ r) :
    ∃ ms', m_lookThrough ms (nI f) (nI c) = some ms' ∧ RM ms' (a_fin (sNs τ 20 c (fmin (Ed τ) (sR τ c))) c 1) ∧ mI ms' 27 = nI f ∧ FS ms ms' f := by
  obtain ⟨m1, g1, g2, g3⟩ := L_counts (x := 1) h hc (by decide : 1 < 3) rfl
  have h3 : mI m1 3 = nI (rev τ) := g2.rv
  have g4 : RM (mAs m1 18 c (nI (rev τ))) (sNs (a_cnt τ c 1) 18 c (rev τ)) := g2.setN c18 (bnd_n g2.1.2.2.2 (by decide))
  have g5 : FA m1 (mAs m1 18 c (nI (rev τ))) := FA.a (by decide) (by decide) (by decide)
  have hst : ∀ r, a_steady (sNs (a_cnt τ c 1) 18 c (rev τ)) r = a_steady τ r := fun r => rfl
  obtain ⟨m2, k1, k2, k3, k4⟩ := L_least (m := 1) g4 hc hf ((g3.t g5).fr hF) h12 (fun r hr => (done_noted (hd r hr) : sN τ 5 r ≠ 0 → sN τ 15 r ≠ 0)) (fun r hr => by
    rw [hst, done_steady hI (h12 r hr) (hd r hr)]
    have := Ed_le2 hI (h12 r hr)
    omega) 0 1000 2 (Nat.zero_le _) (by
      have := (h.2.2.1 c hc).1
      show (sR τ c).length - 0 < 1000
      omega) (Nat.le_refl _)
  refine ⟨m2, ?_, ?_, k3, ((g3.t g5).1 f).t k4⟩
  · unfold m_lookThrough
    simp only [mrd_n (k := 30) (show f < mn 30 from hf), mrd_n (k := 21) (show c < mn 21 from hc), Option.bind_some, hat, (h.2.2.1 c hc).2.1]
    rw [if_pos trivial]
    simp only [g1, Option.bind_some, h3, mwr_n (k := 18) (show c < mn 18 from hc)]
    exact k1
  · have e : List.foldl (fun d r => min d (a_steady (sNs (a_cnt τ c 1) 18 c (rev τ)) r)) 2 (List.drop 0 (sR (sNs (a_cnt τ c 1) 18 c (rev τ)) c)) = fmin (Ed τ) (sR τ c) := by
      show fmin (a_steady τ) (sR τ c) = _
      exact fmin_congr (fun r hr => done_steady hI (h12 r hr) (hd r hr))
    rw [e] at k2
    refine k2.ext (fun k a => ?_) (fun _ _ => rfl) (fun _ => rfl) (fun _ => rfl) (fun _ => rfl) (fun _ => rfl)
    unfold a_fin a_cnt
    simp only [sN_sNs, sN_sIs, sN_sLs, sN_sRs, sI_sNs, sI_sIs, sI_sLs, sI_sRs, sL_sNs, sL_sIs, sL_sLs, sL_sRs, sR_sNs, sR_sIs, sR_sLs, sR_sRs, sT_sNs, sT_sIs, sT_sLs, sT_sRs, sC_sNs, sC_sIs, sC_sLs, sC_sRs]
    by_cases q1 : k = 35 ∧ a = c
    · simp [q1]
    · rw [if_neg q1, if_neg q1]
      by_cases q2 : k = 18 ∧ a = c
      · simp [q2, rev, sN_sNs, sN_sIs, sN_sLs, sN_sRs, sI_sNs, sI_sIs, sI_sLs, sI_sRs, sL_sNs, sL_sIs, sL_sLs, sL_sRs, sR_sNs, sR_sIs, sR_sLs, sR_sRs, sT_sNs, sT_sIs, sT_sLs, sT_sRs, sC_sNs, sC_sIs, sC_sLs, sC_sRs]
      · simp [q2]
/-- one step through the reads -/
theorem L_thr_step {ms : MS} {σ : S} {f c j r : Nat} (h : RM ms σ) (hc : c < 12) (hf : f < 12) (hF : FR ms f c 1) (hat : mA ms 30 f = nI j) (hg : (sR σ c)[j]? = some r) (h12 : r < 12) :
    (sN σ 35 r ≠ 0 → ∃ ms', m_lookThrough ms (nI f) (nI c) = some ms' ∧ RM ms' σ ∧ FR ms' f c 2 ∧ FS ms ms' f) ∧
    (sN σ 35 r = 0 → ¬ a_done σ r → f + 1 < 12 → ∃ ms', m_lookThrough ms (nI f) (nI c) = some ms' ∧ RM ms' (sNs σ 35 r 1) ∧ FR ms' (f + 1) r 0 ∧ FS ms ms' (f + 1)) ∧
    (sN σ 35 r = 0 → a_done σ r → sN σ 18 c < a_since σ r → ∃ ms', m_lookThrough ms (nI f) (nI c) = some ms' ∧ RM ms' σ ∧ FR ms' f c 2 ∧ FS ms ms' f) ∧
    (sN σ 35 r = 0 → a_done σ r → ¬ sN σ 18 c < a_since σ r → ∃ ms', m_lookThrough ms (nI f) (nI c) = some ms' ∧ RM ms' σ ∧ FR ms' f c 1 ∧ mA ms' 30 f = nI (j + 1) ∧ FS ms ms' f) := by
  obtain ⟨r1, r2, r3⟩ := h.2.2.1 c hc
  have hj : j < (sR σ c).length := (List.getElem?_eq_some_iff.mp hg).1
  have e1 : (12 : Int32) * nI c + nI j = nI (12 * c + j) := by rw [nI_mk 12 12 rfl, nI_add]
  have e2 := r3 j r hg
  have hm2 : ∃ ms', (mwr ms 29 (nI f) 2) = some ms' ∧ RM ms' σ ∧ FR ms' f c 2 ∧ FS ms ms' f := ⟨mAs ms 29 f (nI 2), mwr_n (show f < mn 29 from hf), h.frA (by unfold cF; omega), ⟨hF.1, by rw [mA_mAs, if_neg (by omega)]; exact hF.2.1, by rw [mA_mAs, if_pos ⟨rfl, rfl⟩]⟩, FS.rf.frA (by omega) (by omega) (by omega)⟩
  obtain ⟨b, b1, b2⟩ := L_settled h h12
  have pre : m_lookThrough ms (nI f) (nI c) = (if nI (sN σ 35 r) = 0 then (if b = 0 then (m_start ms (nI r) 0).bind fun st12 => some st12 else (m_sinceOf ms (nI r)).bind fun x7 => if x7 ≤ nI (sN σ 18 c) then some (mAs ms 30 f (nI (j + 1))) else (mwr ms 29 (nI f) 2).bind fun st11 => some st11) else (mwr ms 29 (nI f) 2).bind fun st13 => some st13) := by
    unfold m_lookThrough
    simp only [mrd_n (k := 30) (show f < mn 30 from hf), mrd_n (k := 21) (show c < mn 21 from hc), Option.bind_some, hat, r2]
    rw [if_neg (fun q => by rw [nI_eq (by omega) (by omega)] at q; omega)]
    simp only [e1, mrd_n (k := 22) (show 12 * c + j < mn 22 from (by omega : 12 * c + j < 144)), Option.bind_some, e2, mrd_n (k := 35) (show r < mn 35 from h12), h.n h12 c35, b1, mrd_n (k := 18) (show c < mn 18 from hc), h.n hc c18, mwr_n (k := 30) (show f < mn 30 from hf), nI_1]
  refine ⟨fun hw => ?_, fun hw hd hf1 => ?_, fun hw hd hs => ?_, fun hw hd hs => ?_⟩
  · rw [pre, if_neg (fun e => hw ((nI0 (h.b h12 c35)).mp e))]
    obtain ⟨ms', k1, k2⟩ := hm2
    exact ⟨ms', by rw [k1]; rfl, k2⟩
  · rw [pre, if_pos ((nI0 (h.b h12 c35)).mpr hw), if_pos (b2.mpr hd)]
    obtain ⟨ms', k1, k2⟩ := L_start (x := 0) (m := 0) (f := f + 1) h h12 hf1 rfl hF.1
    exact ⟨ms', by rw [k1]; rfl, k2⟩
  · obtain ⟨s1, s2⟩ := L_since h h12 (done_noted hd)
    rw [pre, if_pos ((nI0 (h.b h12 c35)).mpr hw), if_neg (fun e => (b2.mp e) hd), s1]
    simp only [Option.bind_some]
    rw [if_neg (fun e => by rw [nI_leI s2 (h.b hc c18)] at e; omega)]
    obtain ⟨ms', k1, k2⟩ := hm2
    exact ⟨ms', by rw [k1]; rfl, k2⟩
  · obtain ⟨s1, s2⟩ := L_since h h12 (done_noted hd)
    rw [pre, if_pos ((nI0 (h.b h12 c35)).mpr hw), if_neg (fun e => (b2.mp e) hd), s1]
    simp only [Option.bind_some]
    rw [if_pos (by rw [nI_leI s2 (h.b hc c18)]; omega)]
    refine ⟨_, rfl, h.frA (by unfold cF; omega), ⟨hF.1, by rw [mA_mAs, if_neg (by omega)]; exact hF.2.1, by rw [mA_mAs, if_neg (by omega)]; exact hF.2.2⟩, by rw [mA_mAs, if_pos ⟨rfl, rfl⟩], FS.rf.frA (by omega) (by omega) (by omega)⟩
/-- the reads found so far in open cell f -/
def Fnd (ms : MS) (f : Nat) (rs : List Nat) : Prop := rs.length ≤ 12 ∧ mA ms 33 f = nI rs.length ∧ ∀ i r, rs[i]? = some r → mA ms 34 (12 * f + i) = nI r
theorem Fnd.t {ms ms' : MS} {f : Nat} {rs : List Nat} (h : Fnd ms f rs) (k : FS ms ms' (f + 1)) : Fnd ms' f rs := by
  obtain ⟨h1, h2, h3, h4, h5, h6, h7, h8⟩ := k.1 f (by omega)
  refine ⟨h.1, h5.trans h.2.1, fun i r hi => ?_⟩
  have := (List.getElem?_eq_some_iff.mp hi).1
  have := h.1
  rw [h8 i (by omega)]
  exact h.2.2 i r hi
/-- the reads of c are written in -/
def wst (ms : MS) (c : Nat) (rs : List Nat) (j : Nat) : MS := (ms.1, fun k i => if k = 22 ∧ 12 * c ≤ i ∧ i < 12 * c + j then nI (rs.getD (i - 12 * c) 0) else ms.2.1 k i, ms.2.2)
theorem mA_wst {ms : MS} {c j k i : Nat} {rs : List Nat} (hk : k ≠ 22) : mA (wst ms c rs j) k i = mA ms k i := by
  show (if k = 22 ∧ 12 * c ≤ i ∧ i < 12 * c + j then _ else ms.2.1 k i) = _
  rw [if_neg (fun q => hk q.1)]; rfl
theorem wst_0 {ms : MS} {c : Nat} {rs : List Nat} : wst ms c rs 0 = ms := by
  unfold wst
  have : (fun k i => if k = 22 ∧ 12 * c ≤ i ∧ i < 12 * c + 0 then nI (rs.getD (i - 12 * c) 0) else ms.2.1 k i) = ms.2.1 := funext fun k => funext fun i => by rw [if_neg (by omega)]
  rw [this]
theorem wst_s {ms : MS} {c j : Nat} {rs : List Nat} (hj : j < rs.length) : mAs (wst ms c rs j) 22 (12 * c + j) (nI rs[j]) = wst ms c rs (j + 1) := by
  unfold wst mAs
  refine congrArg (fun g => (ms.1, g, ms.2.2)) (funext fun k => funext fun i => ?_)
  by_cases q : k = 22 ∧ i = 12 * c + j
  · rw [if_pos q, if_pos (by omega), q.2, show 12 * c + j - 12 * c = j by omega, List.getD_eq_getElem?_getD, List.getElem?_eq_getElem hj]; rfl
  · rw [if_neg q]
    by_cases q2 : k = 22 ∧ 12 * c ≤ i ∧ i < 12 * c + j
    · rw [if_pos (by omega)]
      show (if k = 22 ∧ 12 * c ≤ i ∧ i < 12 * c + j then _ else _) = _
      rw [if_pos q2]
    · rw [if_neg (by omega)]
      show (if k = 22 ∧ 12 * c ≤ i ∧ i < 12 * c + j then _ else _) = _
      rw [if_neg q2]
theorem wst_a {ms : MS} {c j k i : Nat} {v : Int32} {rs : List Nat} (hk : k ≠ 22) : mAs (wst ms c rs j) k i v = wst (mAs ms k i v) c rs j := by
  unfold wst mAs
  refine congrArg (fun g => (ms.1, g, ms.2.2)) (funext fun k' => funext fun i' => ?_)
  by_cases q : k' = k ∧ i' = i
  · rw [if_pos q]
    show _ = (if k' = 22 ∧ 12 * c ≤ i' ∧ i' < 12 * c + j then _ else (if k' = k ∧ i' = i then v else ms.2.1 k' i'))
    rw [if_neg (by omega), if_pos q]
  · rw [if_neg q]
    show (if k' = 22 ∧ 12 * c ≤ i' ∧ i' < 12 * c + j then _ else ms.2.1 k' i') = (if k' = 22 ∧ 12 * c ≤ i' ∧ i' < 12 * c + j then _ else (if k' = k ∧ i' = i then v else ms.2.1 k' i'))
    rw [if_neg q]
theorem RM.setR {ms : MS} {σ : S} (h : RM ms σ) {c : Nat} {rs : List Nat} (hc : c < 12) (hl : rs.length ≤ 12) : RM (mAs (wst ms c rs rs.length) 21 c (nI rs.length)) (sRs σ c rs) := by
  obtain ⟨⟨h1, h2, h3, h4⟩, ⟨i1, i2, i3, i4, i5, i6⟩, hr, ht, hC⟩ := h
  have e : ∀ k' i', k' ≠ 21 → k' ≠ 22 → mA (mAs (wst ms c rs rs.length) 21 c (nI rs.length)) k' i' = mA ms k' i' := fun k' i' hn hn2 => by rw [mA_mAs, if_neg (fun q => hn q.1), mA_wst hn2]
  refine ⟨⟨fun k' c' hc hk' => ?_, fun d hd => ?_, h3, h4⟩, ⟨fun c hc => ?_, fun c hc => ?_, i3, fun c hc => ?_, fun c hc => ?_, i6⟩, fun a ha => ?_, fun c hc => ?_, fun c hc => ?_⟩
  · rw [e _ _ (by unfold cN at hk'; omega) (by unfold cN at hk'; omega)]; exact h1 k' c' hc hk'
  · rw [e _ _ (by omega) (by omega)]; exact h2 d hd
  · rw [e _ _ (by omega) (by omega)]; exact i1 c hc
  · rw [e _ _ (by omega) (by omega)]; exact i2 c hc
  · rw [e _ _ (by omega) (by omega)]; exact i4 c hc
  · rw [e _ _ (by omega) (by omega)]; exact i5 c hc
  · rw [sR_sRs]
    by_cases q : a = c
    · subst q
      rw [if_pos rfl]
      refine ⟨hl, by rw [mA_mAs, if_pos ⟨rfl, rfl⟩], fun i r hi => ?_⟩
      have hil := (List.getElem?_eq_some_iff.mp hi).1
      rw [mA_mAs, if_neg (by omega)]
      show (if 22 = 22 ∧ 12 * a ≤ 12 * a + i ∧ 12 * a + i < 12 * a + rs.length then nI (rs.getD (12 * a + i - 12 * a) 0) else _) = _
      rw [if_pos (by omega), show 12 * a + i - 12 * a = i by omega, List.getD_eq_getElem?_getD, hi]; rfl
    · rw [if_neg q]
      obtain ⟨q1, q2, q3⟩ := hr a ha
      refine ⟨q1, by rw [mA_mAs, if_neg (by omega), mA_wst (by omega)]; exact q2, fun i r hi => ?_⟩
      have hil := (List.getElem?_eq_some_iff.mp hi).1
      rw [mA_mAs, if_neg (by omega)]
      show (if 22 = 22 ∧ 12 * c ≤ 12 * a + i ∧ 12 * a + i < 12 * c + rs.length then _ else ms.2.1 22 (12 * a + i)) = _
      rw [if_neg (by omega)]
      exact q3 i r hi
  · rw [e _ _ (by omega) (by omega)]; obtain ⟨q1, q2, q3⟩ := ht c hc; exact ⟨q1, q2, fun i r hi => by rw [e _ _ (by omega) (by omega)]; exact q3 i r hi⟩
  · rw [e _ _ (by omega) (by omega)]; obtain ⟨q1, q2, q3⟩ := hC c hc; exact ⟨q1, q2, fun i r n hi => by rw [e _ _ (by omega) (by omega), e _ _ (by omega) (by omega)]; exact q3 i r n hi⟩
theorem FA.w {ms : MS} {c j : Nat} {rs : List Nat} : FA ms (wst ms c rs j) := ⟨fun f => ⟨fun g hg => ⟨mA_wst (by decide), mA_wst (by decide), mA_wst (by decide), mA_wst (by decide), mA_wst (by decide), mA_wst (by decide), fun _ _ => rfl, fun _ _ => mA_wst (by decide)⟩, rfl, rfl, fun _ => mA_wst (by decide)⟩, rfl⟩
/-- the end of a working out, when the reads are written -/
theorem L_wend {ms : MS} {σ : S} {f c d : Nat} {v : Int64} {rs : List Nat} {x : Int32} (h : RM ms σ) (hc : c < 12) (hf : f < 12) (hF : FR ms f c 3) (hFd : Fnd ms f rs) (hd : d ≤ 2) (hl : rs.length ≤ 12) (hx : x = nI (if sN σ 15 c ≠ 0 ∧ (sN σ 18 c = rev σ ∨ (sN σ 16 c ≠ 0 ∧ sL σ c = v)) then sN σ 19 c else rev σ)) :
    ∃ ms', m_worked_J175 (wst ms c rs rs.length) (nI f) (nI c) v (nI d) x (nI c) = some ms' ∧ RM ms' (sNs (a_use (sRs (sNs (sNs (sLs (sNs (sNs (sNs σ 19 c (if sN σ 15 c ≠ 0 ∧ (sN σ 18 c = rev σ ∨ (sN σ 16 c ≠ 0 ∧ sL σ c = v)) then sN σ 19 c else rev σ)) 15 c 1) 16 c 1) c v) 18 c (rev σ)) 20 c d) c rs) c) 35 c 0) ∧ mI ms' 27 = nI f ∧ FS ms ms' f := by
  subst hx
  generalize hs : (if sN σ 15 c ≠ 0 ∧ (sN σ 18 c = rev σ ∨ (sN σ 16 c ≠ 0 ∧ sL σ c = v)) then sN σ 19 c else rev σ) = s
  have hsb : s < B20 := by
    rw [← hs]
    split
    · exact (h.1.1 19 c hc c19).2.1
    · exact h.1.2.2.2
  have g1 := ((((((h.setN (c := c) c19 (bnd_n hsb (by decide))).setN (c := c) c15 (bnd_f (Nat.le_refl 1))).setN (c := c) c16 (bnd_f (Nat.le_refl 1))).setL (c := c) (v := v)).setN (c := c) c18 (bnd_n h.1.2.2.2 (by decide))).setN (c := c) c20 (bnd_n (show d < B20 by unfold B20; omega) (by decide))).setR (rs := rs) hc hl
  have fa : FA ms (mAs (wst (mAs (mAs (mLs (mAs (mAs (mAs ms 19 c (nI s)) 15 c (nI 1)) 16 c (nI 1)) 17 c v) 18 c (nI (rev σ))) 20 c (nI d)) c rs rs.length) 21 c (nI rs.length)) :=
    ((((((((FA.a (by decide) (by decide) (by decide)).t (FA.a (by decide) (by decide) (by decide))).t (FA.a (by decide) (by decide) (by decide))).t (FA.l (by decide))).t (FA.a (by decide) (by decide) (by decide))).t (FA.a (by decide) (by decide) (by decide))).t FA.w).t (FA.a (by decide) (by decide) (by decide)))
  obtain ⟨m1, k1, k2, k3⟩ := L_use g1 hc
  obtain ⟨m2, l1, l2, l3, l4⟩ := L_finish k2 hc hf ((fa.t k3).fr hF)
  refine ⟨m2, ?_, l2, l3, ((fa.t k3).1 f).t l4⟩
  unfold m_worked_J175
  have e33 : ∀ m : MS, mA (mAs m 20 c (nI d)) 33 f = mA m 33 f := fun m => by rw [mA_mAs, if_neg (by omega)]
  simp only [nar1, mwr_n (k := 19) (show c < mn 19 from hc), mwr_n (k := 15) (show c < mn 15 from hc), mwr_n (k := 16) (show c < mn 16 from hc), mwL_n (k := 17) (show c < mn 17 from hc), mwr_n (k := 18) (show c < mn 18 from hc), mwr_n (k := 20) (show c < mn 20 from hc), mwr_n (k := 21) (show c < mn 21 from hc), mrd_n (k := 33) (show f < mn 33 from hf), Option.bind_some]
  rw [wst_a (by decide), wst_a (by decide), wst_a (by decide)]
  rw [show mLs (wst (mAs (mAs (mAs ms 19 c (nI s)) 15 c (nI 1)) 16 c (nI 1)) c rs rs.length) 17 c v = wst (mLs (mAs (mAs (mAs ms 19 c (nI s)) 15 c (nI 1)) 16 c (nI 1)) 17 c v) c rs rs.length from rfl]
  rw [show mI (wst (mLs (mAs (mAs (mAs ms 19 c (nI s)) 15 c (nI 1)) 16 c (nI 1)) 17 c v) c rs rs.length) 3 = nI (rev σ) from h.rv]
  rw [wst_a (by decide), wst_a (by decide)]
  rw [show mA (wst (mAs (mAs (mLs (mAs (mAs (mAs ms 19 c (nI s)) 15 c (nI 1)) 16 c (nI 1)) 17 c v) 18 c (nI (rev σ))) 20 c (nI d)) c rs rs.length) 33 f = nI rs.length from by
    rw [mA_wst (by decide)]
    simp only [mA_mAs, mA_mIs, mA_mLs, mI_mAs, mI_mIs, mI_mLs, mL_mAs, mL_mIs, mL_mLs]
    simp [hFd.2.1]]
  rw [k1]
  simp only [Option.bind_some, l1]
/-- the loop that writes the reads in -/
theorem L_wloop {ms : MS} {σ : S} {f c : Nat} {v : Int64} {rs : List Nat} (h : RM ms σ) (hc : c < 12) (hf : f < 12) (hFd : Fnd ms f rs) (h12 : ∀ r ∈ rs, r < 12)
    (hr : (mA ms 36 f = nI 0 ∧ ∀ r ∈ rs, (sN σ 5 r ≠ 0 → sN σ 15 r ≠ 0) ∧ a_steady σ r < 2 ^ 31) ∨ mA ms 36 f = nI 1) :
    ∀ (N j least : Nat), j ≤ rs.length → rs.length - j < N → least ≤ 2 → m_worked_L25 N (wst ms c rs j) (nI f) (nI c) v (nI least) (nI j) = m_worked_L25 1 (wst ms c rs rs.length) (nI f) (nI c) v (nI (if mA ms 36 f = nI 0 then (rs.drop j).foldl (fun d r => min d (a_steady σ r)) least else least)) (nI rs.length) := by
  intro N
  induction N with
  | zero => intro j least _ h2; omega
  | succ N ih =>
    intro j least hj hN hl
    have hl12 := hFd.1
    by_cases q : rs.length ≤ j
    · have e : j = rs.length := by omega
      subst e
      rw [List.drop_eq_nil_of_le (Nat.le_refl _)]
      simp only [List.foldl_nil, ite_self]
      rw [m_worked_L25, m_worked_L25]
      simp only [mrd_n (k := 33) (show f < mn 33 from hf), Option.bind_some, mA_wst (show 33 ≠ 22 by decide), hFd.2.1]
      rw [if_pos (nI_le (Nat.le_refl _) (by omega)), if_pos (nI_le (Nat.le_refl _) (by omega))]
    · have hlt : j < rs.length := by omega
      have hm : rs[j] ∈ rs := List.getElem_mem hlt
      have hg : rs[j]? = some rs[j] := List.getElem?_eq_getElem hlt
      have e1 : (12 : Int32) * nI f + nI j = nI (12 * f + j) := by rw [nI_mk 12 12 rfl, nI_add]
      have e2 : (12 : Int32) * nI c + nI j = nI (12 * c + j) := by rw [nI_mk 12 12 rfl, nI_add]
      have dur : ∀ i, mA ms 36 f = nI 0 → m_durabilityOf (wst ms c rs i) (nI rs[j]) = some (nI (a_steady σ rs[j])) := fun i e => by
        have hrm : RM ms σ := h
        rcases hr with ⟨-, hr⟩ | hr
        · have := L_dur h (h12 _ hm) (hr _ hm).1
          unfold m_durabilityOf at this ⊢
          simp only [mrd_n (k := 5) (show rs[j] < mn 5 from h12 _ hm), mrd_n (k := 13) (show rs[j] < mn 13 from h12 _ hm), mrd_n (k := 20) (show rs[j] < mn 20 from h12 _ hm), Option.bind_some, mA_wst (show 5 ≠ 22 by decide), mA_wst (show 13 ≠ 22 by decide), mA_wst (show 20 ≠ 22 by decide)] at this ⊢
          exact this
        · rw [hr] at e; exact absurd e (by decide +kernel)
      rw [m_worked_L25]
      simp only [mrd_n (k := 33) (show f < mn 33 from hf), Option.bind_some, mA_wst (show 33 ≠ 22 by decide), hFd.2.1]
      rw [if_neg (nI_ge hlt (by omega))]
      simp only [e1, e2, mrd_n (k := 34) (show 12 * f + j < mn 34 from (by omega : 12 * f + j < 144)), Option.bind_some, mA_wst (show 34 ≠ 22 by decide), hFd.2.2 j _ hg, mwr_n (k := 22) (show 12 * c + j < mn 22 from (by omega : 12 * c + j < 144)), wst_s hlt, mrd_n (k := 36) (show f < mn 36 from hf), mA_wst (show 36 ≠ 22 by decide)]
      by_cases q36 : mA ms 36 f = nI 0
      · rw [if_pos (show mA ms 36 f = 0 from q36), dur (j + 1) q36]
        simp only [Option.bind_some]
        have hsb : a_steady σ rs[j] < 2 ^ 31 := by
          rcases hr with ⟨-, hr⟩ | hr
          · exact (hr _ hm).2
          · rw [hr] at q36; exact absurd q36 (by decide +kernel)
        rw [List.drop_eq_getElem_cons hlt, List.foldl_cons]
        simp only [nI_leI (show least < 2 ^ 31 by omega) hsb]
        by_cases q2 : least ≤ a_steady σ rs[j]
        · rw [if_pos q2, Nat.min_eq_left q2]
          unfold m_worked_J93 m_worked_J95
          rw [nI_1]
          exact ih (j + 1) least (by omega) (by omega) hl
        · rw [if_neg q2, Nat.min_eq_right (by omega)]
          unfold m_worked_J95
          rw [nI_1]
          have := ih (j + 1) (a_steady σ rs[j]) (by omega) (by omega) (by omega)
          rw [if_pos q36] at this ⊢
          exact this
      · rw [if_neg (show ¬ mA ms 36 f = 0 from q36)]
        unfold m_worked_J93 m_worked_J95
        rw [nI_1]
        have := ih (j + 1) least (by omega) (by omega) hl
        rw [if_neg q36] at this ⊢
        exact this
theorem lg0 (x y : Int64) : lg_cmp x y = 0 ↔ x = y := by
  unfold lg_cmp
  constructor
  · intro h
    split at h
    · exact absurd h (by decide)
    · split at h
      · assumption
      · exact absurd h (by decide)
  · intro h
    subst h
    rw [if_neg (fun q => absurd q (Int64.lt_irrefl)), if_pos rfl]
theorem L_worked {ms : MS} {τ : S} {f c : Nat} {v : Int64} {rs : List Nat} {was : Nat} (h : RM ms τ) (hI : Inv τ) (hc : c < 12) (hf : f < 12) (hF : FR ms f c 3) (hFd : Fnd ms f rs) (h12 : ∀ r ∈ rs, r < 12)
    (hr : (mA ms 36 f = nI 0 ∧ ∀ r ∈ rs, a_done τ r) ∨ (mA ms 36 f = nI 1 ∧ fmin (Ed τ) rs = 0)) :
    ∃ ms', m_worked ms (nI f) (nI c) v = some ms' ∧ RM ms' (sNs (a_note τ c was v rs (fmin (Ed τ) rs)) 35 c 0) ∧ mI ms' 27 = nI f ∧ FS ms ms' f := by
  obtain ⟨m1, g1, g2, g3⟩ := L_counts (x := 0) h hc (by decide : 0 < 3) rfl
  have hFd1 : Fnd m1 f rs := hFd.t (g3.1 (f + 1))
  have e36 : mA m1 36 f = mA ms 36 f := (g3.g f).2.2.2.2.2.1
  have hst : ∀ r, a_steady (a_cnt τ c 0) r = a_steady τ r := fun r => rfl
  have loop := fun least hl => L_wloop (v := v) g2 hc hf hFd1 h12 (by
    rw [e36]
    rcases hr with ⟨q1, q2⟩ | ⟨q1, -⟩
    · refine Or.inl ⟨q1, fun r hr => ⟨(done_noted (q2 r hr) : sN τ 5 r ≠ 0 → sN τ 15 r ≠ 0), ?_⟩⟩
      rw [hst, done_steady hI (h12 r hr) (q2 r hr)]
      have := Ed_le2 hI (h12 r hr)
      omega
    · exact Or.inr q1) 1000 0 least (Nat.zero_le _) (by have := hFd.1; omega) hl
  have hd : fmin (Ed τ) rs ≤ 2 := fmin_le2
  have fin : m_worked ms (nI f) (nI c) v = m_worked_L25 1 (wst m1 c rs rs.length) (nI f) (nI c) v (nI (fmin (Ed τ) rs)) (nI rs.length) := by
    unfold m_worked m_worked_J20
    simp only [g1, Option.bind_some, mrd_n (k := 36) (show f < mn 36 from hf), e36]
    rcases hr with ⟨q1, q2⟩ | ⟨q1, q2⟩
    · rw [if_pos (show mA ms 36 f = 0 from q1)]
      have := loop 2 (Nat.le_refl _)
      rw [wst_0, e36, if_pos q1] at this
      rw [show (2 : Int32) = nI 2 from rfl, show (0 : Int32) = nI 0 from rfl, this]
      congr 2
      show fmin (a_steady τ) rs = _
      exact fmin_congr (fun r hr => done_steady hI (h12 r hr) (q2 r hr))
    · rw [if_neg (show ¬ mA ms 36 f = 0 by rw [q1]; decide +kernel)]
      have := loop 0 (by omega)
      rw [wst_0, e36, if_neg (by rw [q1]; decide +kernel)] at this
      rw [show (0 : Int32) = nI 0 from rfl, this, q2]
  have hrb : rs.length ≤ 12 := hFd.1
  obtain ⟨m2, k1, k2, k3, k4⟩ := L_wend (d := fmin (Ed τ) rs) (v := v) (rs := rs) g2 hc hf (g3.fr hF) hFd1 hd hrb rfl
  refine ⟨m2, ?_, ?_, k3, (g3.1 f).t k4⟩
  · rw [fin, m_worked_L25]
    have n15 : mA m1 15 c = nI (sN τ 15 c) := g2.n hc c15
    have n16 : mA m1 16 c = nI (sN τ 16 c) := g2.n hc c16
    have n18 : mA m1 18 c = nI (sN τ 18 c) := g2.n hc c18
    have n19 : mA m1 19 c = nI (sN τ 19 c) := g2.n hc c19
    have n17 : mL (wst m1 c rs rs.length) 17 c = sL τ c := g2.2.1.2.2.2.2.2 c hc
    have n3 : mI (wst m1 c rs rs.length) 3 = nI (rev τ) := g2.rv
    have k1' : m_worked_J175 (wst m1 c rs rs.length) (nI f) (nI c) v (nI (fmin (Ed τ) rs)) (nI (if sN τ 15 c ≠ 0 ∧ (sN τ 18 c = rev τ ∨ (sN τ 16 c ≠ 0 ∧ sL τ c = v)) then sN τ 19 c else rev τ)) (nI c) = some m2 := k1
    simp only [mrd_n (k := 33) (show f < mn 33 from hf), Option.bind_some, mA_wst (show 33 ≠ 22 by decide), hFd1.2.1]
    rw [if_pos (nI_le (Nat.le_refl _) (by omega))]
    unfold m_worked_J132 m_worked_J145 m_worked_J149 m_worked_J150
    simp only [mrd_n (k := 15) (show c < mn 15 from hc), mrd_n (k := 16) (show c < mn 16 from hc), mrd_n (k := 18) (show c < mn 18 from hc), mrd_n (k := 19) (show c < mn 19 from hc), mrL_n (k := 17) (show c < mn 17 from hc), Option.bind_some, mA_wst (show 15 ≠ 22 by decide), mA_wst (show 16 ≠ 22 by decide), mA_wst (show 18 ≠ 22 by decide), mA_wst (show 19 ≠ 22 by decide), n15, n16, n17, n18, n19, n3, nI0 (h.b hc c15), nI0 (h.b hc c16), nI_eq (h.b hc c18) h.rvb, lg0]
    by_cases q15 : sN τ 15 c = 0
    · rw [if_neg (fun w => w.1 q15)] at k1'
      rw [if_pos q15]
      exact k1'
    · rw [if_neg q15]
      by_cases q18 : sN τ 18 c = rev τ
      · rw [if_pos ⟨q15, Or.inl q18⟩] at k1'
        simp only [q18, if_true]
        split
        · exact k1'
        · split
          · exact k1'
          · exact k1'
      · by_cases q16 : sN τ 16 c = 0
        · rw [if_neg (fun w => by rcases w.2 with w | w; exact q18 w; exact w.1 q16)] at k1'
          rw [if_pos q16, if_neg q18]
          exact k1'
        · rw [if_neg q16]
          by_cases qv : sL τ c = v
          · rw [if_pos ⟨q15, Or.inr ⟨q16, qv⟩⟩] at k1'
            rw [if_pos qv]
            exact k1'
          · rw [if_neg (fun w => by rcases w.2 with w | w; exact q18 w; exact qv w.2)] at k1'
            rw [if_neg qv, if_neg q18]
            exact k1'
  · refine k2.ext (fun k a => ?_) (fun _ _ => rfl) (fun _ => rfl) (fun _ => rfl) (fun _ => rfl) (fun _ => rfl)
    unfold a_note a_use a_cnt
    simp only [sN_sNs, sN_sIs, sN_sLs, sN_sRs, sI_sNs, sI_sIs, sI_sLs, sI_sRs, sL_sNs, sL_sIs, sL_sLs, sL_sRs, sR_sNs, sR_sIs, sR_sLs, sR_sRs, sT_sNs, sT_sIs, sT_sLs, sT_sRs, sC_sNs, sC_sIs, sC_sLs, sC_sRs]
    by_cases q1 : k = 35 ∧ a = c
    · simp [q1]
    · rw [if_neg q1, if_neg q1, if_neg q1]
      rfl
