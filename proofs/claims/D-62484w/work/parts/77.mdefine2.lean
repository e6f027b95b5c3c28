theorem L_d61 {ms : MS} {σ : S} {c : Nat} {t : List Nat} (h : RM ms σ) (hc : c < 12) (hl : t.length ≤ 30) (hp : ∀ j x, t[j]? = some x → mA ms 1 j = nI x ∧ x < 128) (hT : ∀ x ∈ sT σ c, x < 128) :
    (∀ (f i N : Nat), i + f = t.length → f < N → m_define_L61 N ms (nI c) (nI t.length) 0 (nI i) = m_define_J134 ms (nI c) (nI t.length) (nI (a_cd σ c))) ∧
    ((sT σ c).length = t.length → ∀ (f i N : Nat), i + f = t.length → f < N → (∀ j, j < i → (sT σ c)[j]? = t[j]?) → m_define_L61 N ms (nI c) (nI t.length) 1 (nI i) = if sT σ c = t then some (0, ms) else m_define_J134 ms (nI c) (nI t.length) (nI (a_cd σ c))) := by
  have rd : ∀ k : Nat, k = 5 ∨ k = 13 → mrd ms k (nI c) = some (mA ms k c) := fun k hk => mrd_n (by
    rcases hk with e | e <;> subst e <;> exact hc)
  have A : ∀ (f i N : Nat), i + f = t.length → f < N → m_define_L61 N ms (nI c) (nI t.length) 0 (nI i) = m_define_J134 ms (nI c) (nI t.length) (nI (a_cd σ c)) := by
    intro f
    induction f with
    | zero =>
      intro i N hi hN
      obtain ⟨N, rfl⟩ : ∃ m, N = m + 1 := ⟨N - 1, by omega⟩
      rw [m_define_L61, if_pos (nI_le (by omega) (by omega)), if_pos rfl]
      simp only [rd 5 (by simp), rd 13 (by simp), Option.bind_some, h.n hc c5, h.n hc c13, nI0 (h.b hc c5)]
      unfold a_cd
      by_cases q : sN σ 5 c = 0
      · rw [if_pos q, if_pos q]
      · rw [if_neg q, if_neg q]; rfl
    | succ f ih =>
      intro i N hi hN
      obtain ⟨N, rfl⟩ : ∃ m, N = m + 1 := ⟨N - 1, by omega⟩
      rw [m_define_L61, if_neg (nI_ge (by omega) (by omega)), if_pos rfl]
      unfold m_define_J98 m_define_J99
      simp only [Option.bind_some, nI_1]
      exact ih (i + 1) N (by omega) (by omega)
  refine ⟨A, fun hTl => ?_⟩
  intro f
  induction f with
  | zero =>
    intro i N hi hN hj
    obtain ⟨N, rfl⟩ : ∃ m, N = m + 1 := ⟨N - 1, by omega⟩
    rw [m_define_L61, if_pos (nI_le (by omega) (by omega)), if_neg (by decide), if_pos]
    refine List.ext_getElem? fun j => ?_
    by_cases q : j < i
    · exact hj j q
    · rw [List.getElem?_eq_none (by omega), List.getElem?_eq_none (by omega)]
  | succ f ih =>
    intro i N hi hN hj
    obtain ⟨N, rfl⟩ : ∃ m, N = m + 1 := ⟨N - 1, by omega⟩
    have hlt : i < t.length := by omega
    have hg : t[i]? = some t[i] := List.getElem?_eq_getElem hlt
    have hlt2 : i < (sT σ c).length := by omega
    have hg2 : (sT σ c)[i]? = some (sT σ c)[i] := List.getElem?_eq_getElem hlt2
    have e30 : (30 : Int32) * nI c + nI i = nI (30 * c + i) := by rw [nI_mk 30 30 rfl, nI_add]
    have r1 : mrd ms 1 (nI i) = some (mA ms 1 i) := mrd_n (k := 1) (show i < mn 1 from (by omega : i < 30))
    have r6 : mrd ms 6 (nI (30 * c + i)) = some (mA ms 6 (30 * c + i)) := mrd_n (k := 6) (show 30 * c + i < mn 6 from (by omega : 30 * c + i < 360))
    have k6 := (h.2.2.2.1 c hc).2.2 i _ hg2
    obtain ⟨k1, k1b⟩ := hp i _ hg
    have k6b := hT _ (List.getElem_mem hlt2)
    rw [m_define_L61, if_neg (nI_ge hlt (by omega)), if_neg (by decide), e30, r6, r1]
    simp only [Option.bind_some, k6, k1, nI_eq (show (sT σ c)[i] < 2 ^ 31 by omega) (show t[i] < 2 ^ 31 by omega)]
    by_cases q : (sT σ c)[i] = t[i]
    · rw [if_pos q]
      unfold m_define_J99
      simp only [Option.bind_some, nI_1]
      refine ih (i + 1) N (by omega) (by omega) (fun j hj2 => ?_)
      by_cases w : j < i
      · exact hj j w
      · have : j = i := by omega
        subst this
        rw [hg, hg2, q]
    · rw [if_neg q, if_neg (fun w => q (by
        have : (sT σ c)[i]? = t[i]? := by rw [w]
        rw [hg, hg2] at this
        exact Option.some.inj this))]
      unfold m_define_J98 m_define_J99
      simp only [Option.bind_some, nI_1]
      exact A f (i + 1) N (by omega) (by omega)
theorem okc_lt {c : Nat} (h : okc c) : c < 128 := by omega
/-- what define does: the sheet afterwards and the answer -/
theorem M_define {ms : MS} {σ : S} {t : List Nat} (h : RM ms σ) (hI : Inv σ) (hp : rP ms t) (hok : ∀ z ∈ t, okc z) (hT : ∀ c, c < 12 → ∀ x ∈ sT σ c, x < 128) (hb : rev σ + 1 < B20) :
    ∃ s, p_read t = some s ∧ (∀ a, m_isCell a = 0 → ∃ ms', m_define ms a = some (-1, ms') ∧ RM ms' σ ∧ rP ms' [] ∧ mI ms' 0 = mI ms 0) ∧
    ∀ c, c < 12 → (¬ (s.2.1 = false ∧ s.1 = t.length) → ∃ ms', m_define ms (nI c) = some (nI (s.1 + 1), ms') ∧ RM ms' σ ∧ rP ms' [] ∧ mI ms' 0 = mI ms 0) ∧
      (s.2.1 = false ∧ s.1 = t.length → ∃ ms', m_define ms (nI c) = some (0, ms') ∧ RM ms' (a_defq σ c t s.2.2) ∧ rP ms' [] ∧ mI ms' 0 = mI ms 0) := by
  obtain ⟨s, e, hs1, hs2, hs3⟩ := read_ok hp.1
  refine ⟨s, e, ?_⟩
  obtain ⟨r, hr⟩ := y_f_tot (t := t) 40 true 0 [] [] (by have := hp.1; omega)
  have hrs := y_p hp.1 hok e hr
  have hY : rY (mIs (mIs ms 37 0) 40 0) t [] [] 0 := by
    refine ⟨hp, ⟨rfl, fun i q hi => ?_⟩, ⟨rfl, fun i q hi => ?_⟩, Nat.le_refl _, Nat.le_refl _, by decide, fun q hq => by cases hq⟩
    · simp at hi
    · simp at hi
  have hR : RM (mIs (mIs ms 37 0) 40 0) σ := (h.frI (by decide) (by decide)).frI (by decide) (by decide)
  obtain ⟨v, m1, g1, g2, g3, g4, g5, g6⟩ := L_fault (σ := σ) hp.1 (fun z hz => okc_lt (hok z hz)) 40 1000 true 0 [] [] _ r hY hR (Nat.zero_le _) (by decide) hr
  have hf : m_fault ms = some (v, m1) := g1
  have g4' : mI m1 0 = mI ms 0 := g4
  have R2 : RM (mIs m1 2 0) σ := g2.frI (by decide) (by decide)
  have P2 : rP (mIs m1 2 0) [] := ⟨by simp, rfl, fun i x hi => by simp at hi⟩
  refine ⟨fun a ha => ⟨mIs m1 2 0, ?_, R2, P2, g4'⟩, fun c hc => ⟨fun hn => ⟨mIs m1 2 0, ?_, R2, P2, g4'⟩, fun hy => ?_⟩⟩
  · unfold m_define
    rw [hf]
    simp only [Option.bind_some]
    rw [if_pos ha]
  · unfold m_define
    rw [hf]
    simp only [Option.bind_some]
    rw [if_neg (isC_n hc)]
    rw [if_neg hn] at hrs
    rw [g5 _ hrs, if_neg (nI_pos (by have := hp.1; omega))]
    show some (nI 1 + nI s.1, _) = _
    rw [nI_add, Nat.add_comm]
  · rw [if_pos hy] at hrs
    obtain ⟨hv, hk⟩ := g6 _ hrs
    obtain ⟨hcl, hwt⟩ := hs3 hy.1
    have hk2 : rMk (mIs m1 2 0) s.2.2 := hk
    have hp2 : ∀ j x, t[j]? = some x → mA (mIs m1 2 0) 1 j = nI x := fun j x hj => g3.2.2 j x hj
    obtain ⟨ms', d1, d2, d3, d4⟩ := L_d134 R2 hI hc hp.1 hcl hk2 hp2 hb
    obtain ⟨A, B⟩ := L_d61 R2 hc hp.1 (fun j x hj => ⟨hp2 j x hj, okc_lt (hok x (List.mem_of_getElem? hj))⟩) (hT c hc)
    have e2 : mI m1 2 = nI t.length := g3.2.1
    have body : m_define ms (nI c) = if sN σ 5 c ≠ 0 ∧ sT σ c = t then some (0, mIs m1 2 0) else m_define_J134 (mIs m1 2 0) (nI c) (nI t.length) (nI (a_cd σ c)) := by
      unfold m_define
      rw [hf]
      simp only [Option.bind_some]
      rw [if_neg (isC_n hc), hv, if_pos (by decide), e2, mrd_n (k := 5) (show c < mn 5 from hc), mrd_n (k := 7) (show c < mn 7 from hc)]
      simp only [Option.bind_some, R2.n hc c5, nI0 (h.b hc c5), (R2.2.2.2.1 c hc).2.1, nI_eq (show (sT σ c).length < 2 ^ 31 by have := (h.2.2.2.1 c hc).1; omega) (show t.length < 2 ^ 31 by have := hp.1; omega)]
      unfold m_define_J55 m_define_J56
      by_cases q5 : sN σ 5 c = 0
      · rw [if_pos q5, if_neg (fun w => w.1 q5)]
        exact A t.length 0 1000 (by omega) (by have := hp.1; omega)
      · rw [if_neg q5]
        by_cases ql : (sT σ c).length = t.length
        · rw [if_pos ql]
          have := B ql t.length 0 1000 (by omega) (by have := hp.1; omega) (fun j hj => by omega)
          refine this.trans ?_
          by_cases qt : sT σ c = t
          · rw [if_pos qt, if_pos ⟨q5, qt⟩]
          · rw [if_neg qt, if_neg (fun w => qt w.2)]
        · rw [if_neg ql, if_neg (fun w => ql (by rw [w.2]))]
          exact A t.length 0 1000 (by omega) (by have := hp.1; omega)
    rw [body]
    unfold a_defq
    by_cases q : sN σ 5 c ≠ 0 ∧ sT σ c = t
    · rw [if_pos q, if_pos q]
      exact ⟨_, rfl, R2, P2, g4'⟩
    · rw [if_neg q, if_neg q]
      exact ⟨ms', d1, d2, ⟨by simp, by rw [d4]; rfl, fun i x hi => by simp at hi⟩, d3.trans g4'⟩
theorem inv_def {σ : S} {c : Nat} {t : List Nat} {cd : GS} (h : Inv σ) (hw : ∀ a, sN σ 35 a = 0) (hc : c < 12) (hcd : wt cd) : Inv (a_defq σ c t cd) ∧ (∀ a, sN (a_defq σ c t cd) 35 a = 0) ∧ rev (a_defq σ c t cd) ≤ rev σ + 1 := by
  unfold a_defq
  split
  · exact ⟨h, hw, by omega⟩
  · have sel : ∀ k a, sN (a_def σ c t cd) k a = if k = 11 ∧ a = c then rev σ + 1 else if k = 5 ∧ a = c then 1 else sN (a_chg σ (a_cd σ c)) k a := fun k a => rfl
    have chs : ∀ k a, k ≠ 3 → k ≠ 4 → sN (a_chg σ (a_cd σ c)) k a = sN σ k a := fun k a q1 q2 => chgo q1 q2
    have hrev : rev (a_def σ c t cd) = rev σ + 1 := rfl
    have sc : ∀ a, sC (a_def σ c t cd) a = if a = c then cd else sC σ a := fun a => rfl
    have no : ∀ a, nsm σ (a_def σ c t cd) a := fun a => by
      unfold nsm
      simp only [sel]
      simp [chs]
      exact ⟨rfl, rfl⟩
    refine ⟨inv_change (x := c) h hw hc rfl hrev (fun i => ?_) (fun a ha => ?_) (fun a ha => no a) ?_ (Or.inr ⟨?_, ?_, ?_, ?_, ?_⟩), fun a => ?_, by omega⟩
    · rw [sel, if_neg (by omega), if_neg (by omega)]
      exact chg4
    · simp only [sel, ha, and_false, if_false, sc]
      simp [chs]
      rfl
    · by_cases q : sN σ 15 c = 0
      · left
        rw [sel, sel]
        simp [chs]
        refine ⟨q, ?_⟩
        by_cases z : sN σ 16 c = 0
        · exact z
        · exact absurd q ((h.no c hc).1 z)
      · right
        refine ⟨no c, ((h.no c hc).2 q).1, ?_⟩
        rw [sel]; simp
    · rw [sel]; simp
    · rw [sel]; simp
    · rw [sc, if_pos rfl]; exact hcd
    · rw [sel]; simp [chs]; exact (h.st.2.2 c hc).2.1
    · rw [sel]; simp [chs]; have := (h.st.2.2 c hc).2.2.1; omega
    · rw [sel]; simp [chs, hw]
