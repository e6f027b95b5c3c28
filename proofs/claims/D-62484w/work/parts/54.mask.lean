/-! asking: values are held back to the most that is kept -/
def h1 (σ : S) (a : Nat) : Nat := if sN σ 16 a = 0 then 0 else 1
def a_hF (σ : S) : Nat → Nat → Nat → Nat
  | 0, _, n => n
  | k + 1, j, n => a_hF σ k (j + 1) (n + h1 σ j)
def a_held (σ : S) : Nat := a_hF σ 12 0 0
theorem a_held_eq (σ : S) : a_held σ = h1 σ 0 + h1 σ 1 + h1 σ 2 + h1 σ 3 + h1 σ 4 + h1 σ 5 + h1 σ 6 + h1 σ 7 + h1 σ 8 + h1 σ 9 + h1 σ 10 + h1 σ 11 := by
  unfold a_held
  simp only [a_hF, Nat.zero_add, Nat.reduceAdd]
theorem h1_le {σ : S} {a : Nat} : h1 σ a ≤ 1 := by unfold h1; split <;> omega
theorem a_held_le {σ : S} : a_held σ ≤ 12 := by
  have t : ∀ a, h1 σ a ≤ 1 := fun a => h1_le
  rw [a_held_eq]
  have := t 0; have := t 1; have := t 2; have := t 3; have := t 4; have := t 5; have := t 6; have := t 7; have := t 8; have := t 9; have := t 10; have := t 11
  omega
/-- the valued cell that was used longest ago -/
def a_os (σ : S) (j : Nat) (o : Option Nat) : Option Nat := match o with
  | none => some j
  | some b => if sI σ 23 j < sI σ 23 b then some j else some b
def a_oF (σ : S) : Nat → Nat → Option Nat → Option Nat
  | 0, _, o => o
  | k + 1, j, o => a_oF σ k (j + 1) (if sN σ 16 j = 0 then o else a_os σ j o)
def a_old (σ : S) : Option Nat := a_oF σ 12 0 none
def a_drop (σ : S) : S := match a_old σ with
  | none => σ
  | some a => sNs σ 16 a 0
def a_ev : Nat → S → S
  | 0, σ => σ
  | n + 1, σ => a_ev n (a_drop σ)
def a_evict (σ : S) (kept : Nat) : S := a_ev (a_held σ - kept) σ
theorem a_oF_ok {σ : S} : ∀ (k j : Nat) (o : Option Nat), j + k ≤ 12 → (∀ b, o = some b → b < 12 ∧ sN σ 16 b ≠ 0) → (∀ b, a_oF σ k j o = some b → b < 12 ∧ sN σ 16 b ≠ 0) ∧ (a_oF σ k j o = none → o = none ∧ ∀ a, j ≤ a → a < j + k → sN σ 16 a = 0) := by
  intro k
  induction k with
  | zero =>
    intro j o _ h
    exact ⟨h, fun e => ⟨e, fun a h1 h2 => by omega⟩⟩
  | succ k ih =>
    intro j o hj h
    rw [a_oF]
    by_cases q : sN σ 16 j = 0
    · rw [if_pos q]
      obtain ⟨r1, r2⟩ := ih (j + 1) o (by omega) h
      refine ⟨r1, fun e => ⟨(r2 e).1, fun a h1 h2 => ?_⟩⟩
      by_cases e2 : a = j
      · subst e2; exact q
      · exact (r2 e).2 a (by omega) (by omega)
    · rw [if_neg q]
      have hs : ∀ b, a_os σ j o = some b → b < 12 ∧ sN σ 16 b ≠ 0 := fun b hb => by
        unfold a_os at hb
        cases o with
        | none => cases hb; exact ⟨by omega, q⟩
        | some x =>
          dsimp only at hb
          split at hb
          · cases hb; exact ⟨by omega, q⟩
          · cases hb; exact h _ rfl
      obtain ⟨r1, r2⟩ := ih (j + 1) _ (by omega) hs
      refine ⟨r1, fun e => ?_⟩
      have := (r2 e).1
      unfold a_os at this
      cases o with
      | none => cases this
      | some x =>
        dsimp only at this
        split at this <;> cases this
theorem a_old_some {σ : S} (h : 0 < a_held σ) : ∃ b, a_old σ = some b ∧ b < 12 ∧ sN σ 16 b ≠ 0 := by
  obtain ⟨r1, r2⟩ := a_oF_ok (σ := σ) 12 0 none (by omega) (fun b hb => by cases hb)
  cases e : a_old σ with
  | some b => exact ⟨b, rfl, r1 b e⟩
  | none =>
    exfalso
    have z := (r2 e).2
    have t : ∀ a, a < 12 → h1 σ a = 0 := fun a ha => by unfold h1; rw [if_pos (z a (by omega) (by omega))]
    rw [a_held_eq, t 0 (by omega), t 1 (by omega), t 2 (by omega), t 3 (by omega), t 4 (by omega), t 5 (by omega), t 6 (by omega), t 7 (by omega), t 8 (by omega), t 9 (by omega), t 10 (by omega), t 11 (by omega)] at h
    omega
theorem a_held_drop {σ : S} (h : 0 < a_held σ) : a_held (a_drop σ) + 1 = a_held σ := by
  obtain ⟨b, e, hb, hv⟩ := a_old_some h
  unfold a_drop
  rw [e]
  dsimp only
  have g : ∀ a, h1 (sNs σ 16 b 0) a = if a = b then 0 else h1 σ a := fun a => by
    unfold h1
    rw [sN_sNs]
    by_cases q : a = b
    · simp [q]
    · simp [q]
  have g1 : h1 σ b = 1 := by unfold h1; rw [if_neg hv]
  rw [a_held_eq, a_held_eq]
  simp only [g]
  rcases (show b = 0 ∨ b = 1 ∨ b = 2 ∨ b = 3 ∨ b = 4 ∨ b = 5 ∨ b = 6 ∨ b = 7 ∨ b = 8 ∨ b = 9 ∨ b = 10 ∨ b = 11 by omega) with e | e | e | e | e | e | e | e | e | e | e | e <;> subst e <;> simp [g1] <;> omega
theorem inv_16 {σ : S} (h : Inv σ) (c : Nat) : Inv (sNs σ 16 c 0) := by
  have hs : ss σ (sNs σ 16 c 0) := ⟨fun k a h1 h2 h3 h4 h5 h6 => by rw [sN_sNs, if_neg (by omega)], fun _ => rfl, fun _ => rfl, fun _ => rfl⟩
  refine ⟨iSt_ss hs h.st, ?_, ?_, ?_, ?_⟩
  · intro a ha
    obtain ⟨q1, q2⟩ := h.no a ha
    refine ⟨fun q => ?_, q2⟩
    rw [sN_sNs] at q
    split at q
    · exact absurd rfl q
    · exact q1 q
  · intro a ha fa ua
    rw [hs.EoE, hs.EdE, hs.RDE]
    exact h.up a ha fa ua
  · intro a ha fa na ua aa
    exact h.ol a ha fa na ua aa
  · intro a ha fa ua r hr fr
    rw [hs.EVE]
    exact h.rd a ha fa ua r hr fr
theorem inv_drop {σ : S} (h : Inv σ) : Inv (a_drop σ) ∧ (∀ a, sN (a_drop σ) 35 a = sN σ 35 a) ∧ rev (a_drop σ) = rev σ := by
  unfold a_drop
  split
  · exact ⟨h, fun _ => rfl, rfl⟩
  · exact ⟨inv_16 h _, fun _ => rfl, rfl⟩
theorem inv_ev : ∀ (n : Nat) {σ : S}, Inv σ → Inv (a_ev n σ) ∧ (∀ a, sN (a_ev n σ) 35 a = sN σ 35 a) ∧ rev (a_ev n σ) = rev σ := by
  intro n
  induction n with
  | zero => intro σ h; exact ⟨h, fun _ => rfl, rfl⟩
  | succ n ih =>
    intro σ h
    obtain ⟨h1, h2, h3⟩ := inv_drop h
    obtain ⟨k1, k2, k3⟩ := ih h1
    exact ⟨k1, fun a => (k2 a).trans (h2 a), k3.trans h3⟩
theorem held_ev : ∀ (n : Nat) {σ : S}, n ≤ a_held σ → a_held (a_ev n σ) + n = a_held σ := by
  intro n
  induction n with
  | zero => intro σ h; rfl
  | succ n ih =>
    intro σ h
    have h1 := a_held_drop (σ := σ) (by omega)
    have h2 := ih (σ := a_drop σ) (by omega)
    rw [a_ev]; omega
theorem held_evict {σ : S} {k : Nat} : a_held (a_evict σ k) ≤ k := by
  have := held_ev (a_held σ - k) (σ := σ) (by omega)
  unfold a_evict
  omega
theorem L_values {ms : MS} {σ : S} (h : RM ms σ) : m_values ms = some (nI (a_held σ)) := by
  have loop : ∀ (k j n N : Nat), j + k = 12 → k < N → m_values_L4 N ms (nI n) (nI j) = some (nI (a_hF σ k j n)) := by
    intro k
    induction k with
    | zero =>
      intro j n N hj hN
      obtain ⟨N, rfl⟩ : ∃ m, N = m + 1 := ⟨N - 1, by omega⟩
      rw [m_values_L4, if_pos (show (12 : Int32) ≤ nI j from nI_le (a := 12) (by omega) (by omega))]
      rfl
    | succ k ih =>
      intro j n N hj hN
      obtain ⟨N, rfl⟩ : ∃ m, N = m + 1 := ⟨N - 1, by omega⟩
      rw [m_values_L4, if_neg (show ¬ (12 : Int32) ≤ nI j from nI_ge (b := 12) (by omega) (by decide))]
      have hj12 : j < 12 := by omega
      simp only [mrd_n (k := 16) (show j < mn 16 from hj12), Option.bind_some, h.n hj12 c16, nI0 (h.b hj12 c16)]
      unfold m_values_J26
      simp only [nI_1, Option.bind_some]
      rw [a_hF]
      unfold h1
      by_cases q : sN σ 16 j = 0
      · rw [if_pos q, if_pos q]; exact ih (j + 1) n N (by omega) (by omega)
      · rw [if_neg q, if_neg q]; exact ih (j + 1) (n + 1) N (by omega) (by omega)
  exact loop 12 0 0 1000 rfl (by decide)
/-- the one that is found, as the model counts it -/
def oI (o : Option Nat) : Int32 := match o with
  | none => -1
  | some b => nI b
theorem L_evict {ms : MS} {σ : S} {kept : Nat} {v : Int64} (hk : kept ≤ 12) : ∀ (n N : Nat) (ms : MS) (σ : S), RM ms σ → mI ms 0 = nI kept → a_held σ - kept = n → n < N → ∃ ms', m_ask_L102 N ms v = some (v, ms') ∧ RM ms' (a_ev n σ) ∧ TO ms ms' := by
  intro n
  induction n with
  | zero =>
    intro N ms σ h h0 hn hN
    obtain ⟨N, rfl⟩ : ∃ m, N = m + 1 := ⟨N - 1, by omega⟩
    have := a_held_le (σ := σ)
    rw [m_ask_L102, L_values h, h0]
    simp only [Option.bind_some]
    rw [if_pos (nI_le (by omega) (by omega))]
    exact ⟨ms, rfl, h, TO.rf⟩
  | succ n ih =>
    intro N ms σ h h0 hn hN
    obtain ⟨N, rfl⟩ : ∃ m, N = m + 1 := ⟨N - 1, by omega⟩
    have hh := a_held_le (σ := σ)
    obtain ⟨b, e, hb, hv⟩ := a_old_some (σ := σ) (by omega)
    have hd := a_held_drop (σ := σ) (by omega)
    rw [m_ask_L102, L_values h, h0]
    simp only [Option.bind_some]
    rw [if_neg (nI_ge (by omega) (by omega))]
    have loop : ∀ (k j M : Nat) (o : Option Nat), j + k = 12 → k < M → (∀ b, o = some b → b < 12) → m_ask_L119 (m_ask_L102 N) M ms v (oI o) (nI j) = (mwr ms 16 (oI (a_oF σ k j o)) (nI 0)).bind fun st1 => m_ask_L102 N st1 v := by
      intro k
      induction k with
      | zero =>
        intro j M o hj hM ho
        obtain ⟨M, rfl⟩ : ∃ m, M = m + 1 := ⟨M - 1, by omega⟩
        rw [m_ask_L119, if_pos (show (12 : Int32) ≤ nI j from nI_le (a := 12) (by omega) (by omega)), nar0]
        rfl
      | succ k ih2 =>
        intro j M o hj hM ho
        obtain ⟨M, rfl⟩ : ∃ m, M = m + 1 := ⟨M - 1, by omega⟩
        have hj12 : j < 12 := by omega
        rw [m_ask_L119, if_neg (show ¬ (12 : Int32) ≤ nI j from nI_ge (b := 12) (by omega) (by decide))]
        simp only [mrd_n (k := 16) (show j < mn 16 from hj12), Option.bind_some, h.n hj12 c16, nI0 (h.b hj12 c16)]
        unfold m_ask_J158 m_ask_J163 m_ask_J165
        simp only [nI_1, Option.bind_some]
        rw [a_oF]
        by_cases q : sN σ 16 j = 0
        · rw [if_pos q, if_pos q]; exact ih2 (j + 1) M o (by omega) (by omega) ho
        · rw [if_neg q, if_neg q]
          cases o with
          | none =>
            rw [if_pos (show oI none < 0 by decide +kernel)]
            exact ih2 (j + 1) M (some j) (by omega) (by omega) (fun b hb => by cases hb; exact hj12)
          | some b =>
            have hb12 := ho b rfl
            rw [if_neg (show ¬ oI (some b) < 0 from nI_pos (by omega))]
            simp only [show oI (some b) = nI b from rfl, mrd_n (k := 23) (show j < mn 23 from hj12), mrd_n (k := 23) (show b < mn 23 from hb12), Option.bind_some, h.2.1.2.1 j hj12, h.2.1.2.1 b hb12]
            unfold a_os
            dsimp only
            by_cases q2 : sI σ 23 j < sI σ 23 b
            · rw [if_pos q2, if_neg (fun w => absurd (Int32.lt_of_lt_of_le q2 w) Int32.lt_irrefl)]
              exact ih2 (j + 1) M (some j) (by omega) (by omega) (fun b hb => by cases hb; exact hj12)
            · rw [if_neg q2, if_pos (Int32.not_lt.mp q2)]
              exact ih2 (j + 1) M (some b) (by omega) (by omega) ho
    have := loop 12 0 1000 none rfl (by decide) (fun b hb => by cases hb)
    rw [show (-1 : Int32) = oI none from rfl, show (0 : Int32) = nI 0 from rfl, this]
    have e' : a_oF σ 12 0 none = some b := e
    rw [e', show oI (some b) = nI b from rfl, mwr_n (show b < mn 16 from hb)]
    simp only [Option.bind_some]
    have hdr : a_drop σ = sNs σ 16 b 0 := by unfold a_drop; rw [e]
    obtain ⟨ms', y1, y2, y3⟩ := ih N (mAs ms 16 b (nI 0)) (a_drop σ) (by rw [hdr]; exact h.setN c16 (bnd_f (Nat.zero_le 1))) h0 (by omega) (by omega)
    exact ⟨ms', y1, y2, (TO.a (by decide) (by decide)).t y3⟩
/-- the counts of the latest ask begin at 0 -/
def a_z (σ : S) : S := sIs (sIs (sIs σ 26 0 0) 26 1 0) 26 2 0
theorem a_z_ss {σ : S} : ss σ (a_z σ) ∧ (∀ a, nsm σ (a_z σ) a) ∧ (∀ a, sN (a_z σ) 35 a = sN σ 35 a) := ⟨⟨fun _ _ _ _ _ _ _ _ => rfl, fun a => by unfold a_z; simp only [sN_sNs, sN_sIs, sN_sLs, sN_sRs, sI_sNs, sI_sIs, sI_sLs, sI_sRs, sL_sNs, sL_sIs, sL_sLs, sL_sRs, sR_sNs, sR_sIs, sR_sLs, sR_sRs, sT_sNs, sT_sIs, sT_sLs, sT_sRs, sC_sNs, sC_sIs, sC_sLs, sC_sRs]; simp, fun _ => rfl, fun _ => rfl⟩, fun _ => nsm.rf, fun _ => rfl⟩
theorem inv_z {σ : S} (h : Inv σ) : Inv (a_z σ) := inv_mark h a_z_ss.1 a_z_ss.2.1 (fun a ha => ha)
/-- what an ask answers and leaves -/
def a_ask (σ : S) (c kept : Nat) : Option (Int64 × S) := if sN σ 5 c = 0 then some ((sI σ 12 c).toInt64, a_z σ) else (a_value (ag 60).1 (ag 60).2 (a_z σ) c).map fun q => (q.1, a_evict q.2 kept)
theorem runAll_of {ms ms' : MS} {k : Nat} (h : Run k ms ms') (hk : k ≤ 99999) (h27 : mI ms' 27 = nI 0) : m_runAll ms = some ms' := by
  unfold m_runAll
  rw [show 100000 = (99999 - k + 1) + k by omega, h, m_runAll_L0, h27]
  rw [if_pos (show nI 0 ≤ (0 : Int32) by decide +kernel)]
/-- the reader's columns -/
theorem FS.to {ms ms' : MS} (h : FS ms ms' 0) : mI ms' 0 = mI ms 0 ∧ mI ms' 2 = mI ms 2 ∧ ∀ i, mA ms' 1 i = mA ms 1 i := h.2
theorem M_ask {ms : MS} {σ : S} {c kept : Nat} (h : RM ms σ) (hI : Inv σ) (hw : ∀ a, sN σ 35 a = 0) (hc : c < 12) (h0 : mI ms 0 = nI kept) (hk : kept ≤ 12) :
    ∃ v σ' ms', a_ask σ c kept = some (v, σ') ∧ m_ask ms (nI c) = some (v, ms') ∧ RM ms' σ' ∧ mI ms' 0 = mI ms 0 ∧ mI ms' 2 = mI ms 2 ∧ (∀ i, mA ms' 1 i = mA ms 1 i) ∧ Inv σ' ∧ (∀ a, sN σ' 35 a = 0) ∧ rev σ' = rev σ ∧ (a_held σ ≤ kept → a_held σ' ≤ kept) ∧ sT σ' = sT σ ∧ sC σ' = sC σ := by
  have hz : RM (mAs (mAs (mAs ms 26 0 0) 26 1 0) 26 2 0) (a_z σ) := ((h.setI (Or.inr (Or.inr (Or.inr rfl)))).setI (Or.inr (Or.inr (Or.inr rfl)))).setI (Or.inr (Or.inr (Or.inr rfl)))
  have tz : TO ms (mAs (mAs (mAs ms 26 0 0) 26 1 0) 26 2 0) := ((TO.a (by decide) (by decide)).t (TO.a (by decide) (by decide))).t (TO.a (by decide) (by decide))
  have pre : m_ask ms (nI c) = m_ask_L13 997 (mAs (mAs (mAs ms 26 0 0) 26 1 0) 26 2 0) (nI c) (nI 3) := by
    unfold m_ask
    rw [if_neg (isC_n hc)]
    have st : ∀ (N j : Nat) (m : MS), j < 3 → m_ask_L13 (N + 1) m (nI c) (nI j) = m_ask_L13 N (mAs m 26 j 0) (nI c) (nI (j + 1)) := fun N j m hj => by
      rw [m_ask_L13, if_neg (show ¬ (3 : Int32) ≤ nI j from nI_ge (b := 3) hj (by decide))]
      simp only [mwr_n (k := 26) (show j < mn 26 from hj), Option.bind_some, nI_1]
    rw [show (0 : Int32) = nI 0 from rfl, st 999 0 _ (by decide), st 998 1 _ (by decide), st 997 2 _ (by decide)]
    rfl
  generalize hms1 : mAs (mAs (mAs ms 26 0 0) 26 1 0) 26 2 0 = ms1 at hz tz pre
  rw [pre, show 997 = 996 + 1 from rfl, m_ask_L13, if_pos (show (3 : Int32) ≤ nI 3 by decide +kernel)]
  have n5 : mA ms1 5 c = nI (sN σ 5 c) := hz.n hc c5
  simp only [mrd_n (k := 5) (show c < mn 5 from hc), mrd_n (k := 12) (show c < mn 12 from hc), Option.bind_some, n5, nI0 (h.b hc c5)]
  have hI1 := inv_z hI
  have hwz : ∀ a, sN (a_z σ) 35 a = 0 := hw
  unfold a_ask
  by_cases q5 : sN σ 5 c = 0
  · rw [if_pos q5, if_pos q5]
    refine ⟨_, _, ms1, rfl, ?_, hz, tz.1, tz.2.1, tz.2.2.1, hI1, hwz, rfl, fun q => q, rfl, rfl⟩
    have e12 : mA ms1 12 c = sI σ 12 c := hz.2.1.1 c hc
    rw [e12]
  · rw [if_neg q5, if_neg q5]
    have uw12 : uw (a_z σ) = 12 := by unfold uw u1; simp [hwz]
    have hCh : Ch (a_z σ) c := fun a h1 h2 h3 => absurd (hwz a) h3
    have h2 : RM (mIs ms1 27 0) (a_z σ) := hz.frI (by decide) (by decide)
    obtain ⟨b, b1, b2⟩ := L_settled h2 hc
    rw [b1]
    simp only [Option.bind_some]
    have q5z : sN (a_z σ) 5 c ≠ 0 := q5
    -- bringing
    have phA : ∃ τ m3, (ag 60).1 (a_z σ) c = some τ ∧ Post (a_z σ) τ ∧ a_done τ c ∧ RM m3 τ ∧ mI m3 27 = nI 0 ∧ FS ms1 m3 0 ∧ Z τ ≤ 24 ∧ (if b = 0 then (m_start (mIs ms1 27 0) (nI c) 0).bind fun st4 => m_ask_J67 st4 (nI c) else m_ask_J67 (mIs ms1 27 0) (nI c)) = (mrd m3 16 (nI c)).bind fun x2 => if x2 = 0 then (m_start m3 (nI c) 2).bind fun st3 => m_ask_J86 st3 (nI c) else m_ask_J86 m3 (nI c) := by
      by_cases hd : a_done (a_z σ) c
      · refine ⟨a_z σ, mIs ms1 27 0, br_done hd, Post.rf hI1, hd, h2, rfl, FS.rf.frI (by decide) (by decide), Z_le24, ?_⟩
        rw [if_neg (fun e => (b2.mp e) hd)]
        unfold m_ask_J67
        rw [runAll_of Run.rf (by decide) (show mI (mIs ms1 27 0) 27 = nI 0 from rfl)]
        rfl
      · obtain ⟨m2, s1, s2, s3, s4⟩ := L_start (x := 0) (m := 0) (f := 0) h2 hc (by decide) rfl rfl
        obtain ⟨τ, m3, k, y1, y2, y3, y4, y5, y6⟩ := (M_all 60).1 (a_z σ) c m2 0 hI1 hc q5z (hwz c) hd hCh (by omega) s2 s3 (by omega)
        obtain ⟨τ', t1, t2, t3⟩ := (T_all 60).1 (a_z σ) c hI1 hc (fun _ _ => hCh) (by omega)
        rw [y1] at t1
        cases t1
        have := Z_le24 (σ := a_z σ)
        refine ⟨τ, m3, y1, t2, t3 (hwz c), y3, y4, ((FS.rf.frI (by decide) (by decide)).t s4).t y5, Z_le24, ?_⟩
        rw [if_pos (b2.mpr hd), s1]
        unfold m_ask_J67
        simp only [Option.bind_some]
        rw [runAll_of y2 (by omega) y4]
        rfl
    obtain ⟨τ, m3, a1, a2, a3, a4, a5, a6, a7, a8⟩ := phA
    rw [a8]
    have h5t : sN τ 5 c ≠ 0 := by rw [a2.1.f]; exact q5z
    have hCt : Ch τ c := hCh.s a2.1 a2.2.1
    have uwt : uw τ = 12 := by rw [uw_congr a2.2.1]; exact uw12
    have n16 : mA m3 16 c = nI (sN τ 16 c) := a4.n hc c16
    simp only [mrd_n (k := 16) (show c < mn 16 from hc), Option.bind_some, n16, nI0 (a4.b hc c16)]
    -- the value
    have phB : ∃ ρ m5, (if sN τ 16 c = 0 then (ag 60).2 τ c else some τ) = some ρ ∧ Post τ ρ ∧ a_done ρ c ∧ RM m5 ρ ∧ FS m3 m5 0 ∧ (if sN τ 16 c = 0 then (m_start m3 (nI c) 2).bind fun st3 => m_ask_J86 st3 (nI c) else m_ask_J86 m3 (nI c)) = (m_use m5 (nI c)).bind fun st2 => (mrL st2 17 (nI c)).bind fun x3 => m_ask_L102 1000 st2 x3 := by
      by_cases q16 : sN τ 16 c = 0
      · obtain ⟨m4, s1, s2, s3, s4⟩ := L_start (x := 2) (m := 2) (f := 0) a4 hc (by decide) rfl a5
        have huw := uw_mark hc (show sN τ 35 c = 0 by rw [a2.2.1]; exact hwz c)
        obtain ⟨ρ, m5, k, y1, y2, y3, y4, y5, y6⟩ := (M_all 60).2 τ c m4 0 a2.2.2.1 hc h5t hCt (by omega) s2 s3 (by omega) (fun _ => q16)
        obtain ⟨ρ', t1, t2, t3, t4, t5, t6, t7, t8⟩ := (T_all 60).2 τ c a2.2.2.1 hc h5t hCt (by omega)
        rw [y1] at t1
        cases t1
        have h35t : ∀ a, sN τ 35 a = 0 := fun a => by rw [a2.2.1]; exact hwz a
        have h35r : sN ρ 35 c = 0 := by rw [t3]; exact h35t c
        rw [sNs_same h35r] at y3
        refine ⟨ρ, m5, by rw [if_pos q16]; exact y1, ⟨t2, t3, t4, t5, fun a ha => absurd (h35t a) ha⟩, t7, y3, s4.t y5, ?_⟩
        rw [if_pos q16, s1]
        simp only [Option.bind_some]
        unfold m_ask_J86
        rw [runAll_of y2 (by omega) y4]
        rfl
      · refine ⟨τ, m3, by rw [if_neg q16], Post.rf a2.2.2.1, a3, a4, FS.rf, ?_⟩
        rw [if_neg q16]
        unfold m_ask_J86
        rw [runAll_of Run.rf (by decide) a5]
        rfl
    obtain ⟨ρ, m5, c1, c2, c3, c4, c5', c6⟩ := phB
    rw [c6]
    have hP := a2.t c2
    obtain ⟨m6, u1, u2, u3⟩ := L_use c4 hc
    have eL : mL m6 17 c = sL ρ c := u2.2.1.2.2.2.2.2 c hc
    rw [u1]
    simp only [Option.bind_some, mrL_n (k := 17) (show c < mn 17 from hc), eL]
    have hav : a_value (ag 60).1 (ag 60).2 (a_z σ) c = some (sL ρ c, a_use ρ c) := by
      unfold a_value
      rw [if_neg q5z, a1]
      show Option.map _ (if sN τ 16 c = 0 then (ag 60).2 τ c else some τ) = _
      rw [c1]; rfl
    rw [hav]
    have hgv : gv ρ c = a_use ρ c := by unfold gv; rw [if_neg (by rw [hP.1.f]; exact q5z)]
    have hPg := gv_post (r := c) hP.2.2.1
    rw [hgv] at hPg
    have fs6 : FS ms1 m6 0 := (a6.t c5').t (u3.1 0)
    have e0 : mI m6 0 = nI kept := by rw [fs6.2.1, tz.1, h0]
    obtain ⟨m7, z1, z2, z3⟩ := L_evict (v := sL ρ c) (ms := m6) (σ := a_use ρ c) hk (a_held (a_use ρ c) - kept) 1000 m6 (a_use ρ c) u2 e0 rfl (by have := a_held_le (σ := a_use ρ c); omega)
    obtain ⟨v1, v2, v3⟩ := inv_ev (a_held (a_use ρ c) - kept) (σ := a_use ρ c) hPg.2.2.1
    have stc : ∀ n (σ : S), sT (a_ev n σ) = sT σ ∧ sC (a_ev n σ) = sC σ := fun n => by
      induction n with
      | zero => intro σ; exact ⟨rfl, rfl⟩
      | succ n ih =>
        intro σ
        rw [a_ev, (ih _).1, (ih _).2]
        unfold a_drop
        split <;> exact ⟨rfl, rfl⟩
    refine ⟨_, _, m7, rfl, z1, z2, z3.1.trans (fs6.2.1.trans tz.1), z3.2.1.trans (fs6.2.2.1.trans tz.2.1), fun i => (z3.2.2.1 i).trans ((fs6.2.2.2 i).trans (tz.2.2.1 i)), v1, fun a => ?_, ?_, fun _ => held_evict, ?_, ?_⟩
    · show sN (a_ev _ _) 35 a = 0
      rw [v2, hPg.2.1, hP.2.1]; exact hwz a
    · show rev (a_ev _ _) = _
      rw [v3, hPg.1.rev, hP.1.rev]; rfl
    · show sT (a_ev _ _) = _
      rw [(stc _ _).1]
      exact funext fun a => (hPg.1.2.2.2 a).trans ((hP.1.2.2.2 a).trans rfl)
    · show sC (a_ev _ _) = _
      rw [(stc _ _).2]
      exact funext fun a => (hPg.1.2.2.1 a).trans ((hP.1.2.2.1 a).trans rfl)
