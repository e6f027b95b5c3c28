theorem nodup_len : ∀ (n : Nat) (l : List Nat), l.Nodup → (∀ x ∈ l, x < n) → l.length ≤ n := by
  intro n
  induction n with
  | zero =>
    intro l _ h
    cases l with
    | nil => exact Nat.le_refl _
    | cons x l => exact absurd (h x (by simp)) (by omega)
  | succ n ih =>
    intro l hd h
    by_cases q : n ∈ l
    · have h1 := ih (l.erase n) (hd.erase n) (fun x hx => by
        have := (hd.mem_erase_iff).mp hx
        have := h x this.2
        omega)
      rw [List.length_erase_of_mem q] at h1
      omega
    · have := ih l hd (fun x hx => by
        have h1 := h x hx
        have : x ≠ n := fun e => q (e ▸ hx)
        omega)
      omega
theorem a_add_nodup {rs : List Nat} {r : Nat} (h : rs.Nodup) : (a_add rs r).Nodup := by
  unfold a_add
  split
  · exact h
  · rename_i hn
    rw [List.nodup_append]
    exact ⟨h, by simp, fun a ha b hb => by simp at hb; subst hb; exact fun e => hn (e ▸ ha)⟩
theorem a_add_idem {rs : List Nat} {r : Nat} : a_add (a_add rs r) r = a_add rs r := by
  have h : r ∈ a_add rs r := a_add_mem
  rw [show a_add (a_add rs r) r = if r ∈ a_add rs r then a_add rs r else _ from rfl, if_pos h]
theorem L_lookL {ms : MS} {f c r : Nat} {rs : List Nat} (hf : f < 12) (hr : r < 12) (hd : Fnd ms f rs) (h12 : ∀ q ∈ rs, q < 12) (hl : r ∉ rs → rs.length < 12) : ∀ (N j b : Nat), j ≤ rs.length → rs.length - j < N → b ≤ 1 → (b = 0 → r ∈ rs → r ∈ rs.drop j) → (b = 1 → r ∈ rs) →
    m_look_L6 N ms (nI f) (nI c) (nI r) (nI b) (nI j) = m_look_J83 (if r ∈ rs then ms else mAs (mAs ms 34 (12 * f + rs.length) (nI r)) 33 f (nI (rs.length + 1))) (nI f) (nI c) (nI r) := by
  have hl12 := hd.1
  intro N
  induction N with
  | zero => intro j b _ h; omega
  | succ N ih =>
    intro j b hj hN hb h0 h1
    rw [m_look_L6]
    simp only [mrd_n (k := 33) (show f < mn 33 from hf), Option.bind_some, hd.2.1, nI_leI (show rs.length < 2 ^ 31 by omega) (show j < 2 ^ 31 by omega)]
    by_cases q : rs.length ≤ j
    · rw [if_pos q]
      by_cases qb : b = 0
      · subst qb
        have hn : r ∉ rs := fun w => by
          have := h0 rfl w
          rw [List.drop_eq_nil_of_le q] at this
          cases this
        have e1 : (12 : Int32) * nI f + nI rs.length = nI (12 * f + rs.length) := by rw [nI_mk 12 12 rfl, nI_add]
        have := hl hn
        rw [if_pos (show nI 0 = (0 : Int32) from rfl), if_neg hn]
        simp only [e1, mwr_n (k := 34) (show 12 * f + rs.length < mn 34 from (by omega : 12 * f + rs.length < 144)), Option.bind_some, mA_mAs, hd.2.1, show ¬ ((33 : Nat) = 34 ∧ f = 12 * f + rs.length) from fun w => by omega, if_false, mwr_n (k := 33) (show f < mn 33 from hf), nI_1]
      · have e : b = 1 := by omega
        subst e
        rw [if_neg (show ¬ nI 1 = (0 : Int32) by decide +kernel), if_pos (h1 rfl)]
    · rw [if_neg q]
      have hlt : j < rs.length := by omega
      have hg : rs[j]? = some rs[j] := List.getElem?_eq_getElem hlt
      have hm : rs[j] ∈ rs := List.getElem_mem hlt
      have e1 : (12 : Int32) * nI f + nI j = nI (12 * f + j) := by rw [nI_mk 12 12 rfl, nI_add]
      have one : m_look_J38 (m_look_L6 N) ms (nI f) (nI c) (nI r) (nI j) = m_look_L6 N ms (nI f) (nI c) (nI r) (nI 1) (nI (j + 1)) := by
        unfold m_look_J38 m_look_J43
        rw [nI_1]; rfl
      by_cases qb : b = 0
      · subst qb
        rw [if_pos (show nI 0 = (0 : Int32) from rfl)]
        simp only [e1, mrd_n (k := 34) (show 12 * f + j < mn 34 from (by omega : 12 * f + j < 144)), Option.bind_some, hd.2.2 j _ hg, nI_eq (show rs[j] < 2 ^ 31 by have := h12 _ hm; omega) (show r < 2 ^ 31 by omega)]
        by_cases qe : rs[j] = r
        · rw [if_pos qe, one]
          exact ih (j + 1) 1 (by omega) (by omega) (by omega) (fun w => by omega) (fun _ => qe ▸ hm)
        · rw [if_neg qe]
          unfold m_look_J43
          rw [nI_1]
          exact ih (j + 1) 0 (by omega) (by omega) (by omega) (fun _ w => by
            have := h0 rfl w
            rw [List.drop_eq_getElem_cons hlt] at this
            rcases List.mem_cons.mp this with e | e
            · exact absurd e.symm qe
            · exact e) (fun w => by omega)
      · have e : b = 1 := by omega
        subst e
        rw [if_neg (show ¬ nI 1 = (0 : Int32) by decide +kernel), one]
        exact ih (j + 1) 1 (by omega) (by omega) (by omega) (fun w => by omega) (fun _ => h1 rfl)
theorem L_look {ms : MS} {σ : S} {f c pc r : Nat} {st : List Int32} {rs : List Nat} (h : RM ms σ) (hf : f < 12) (hr : r < 12) (hX : FX ms f c pc st rs) (hn : (a_add rs r).Nodup) (h12 : ∀ q ∈ a_add rs r, q < 12) :
    ∃ ms', m_look ms (nI f) (nI c) (nI r) = m_look_J83 ms' (nI f) (nI c) (nI r) ∧ RM ms' σ ∧ FX ms' f c pc st (a_add rs r) ∧ FS ms ms' f := by
  have hlen := nodup_len 12 _ hn h12
  obtain ⟨⟨a1, a2, a3⟩, ⟨b1, b2, b3⟩, hd, h36⟩ := hX
  have := L_lookL (c := c) hf hr hd (fun q hq => h12 q (a_add_sub hq)) (fun w => by
    unfold a_add at hlen
    rw [if_neg w] at hlen
    simp at hlen
    omega) 1000 0 0 (Nat.zero_le _) (by have := hd.1; omega) (by omega) (fun _ w => w) (fun w => by omega)
  refine ⟨_, this, ?_⟩
  by_cases q : r ∈ rs
  · rw [if_pos q]
    unfold a_add
    rw [if_pos q]
    exact ⟨h, ⟨⟨a1, a2, a3⟩, ⟨b1, b2, b3⟩, hd, h36⟩, FS.rf⟩
  · rw [if_neg q]
    unfold a_add at hlen ⊢
    rw [if_neg q] at hlen ⊢
    simp only [List.length_append, List.length_singleton] at hlen
    refine ⟨(h.frA (by unfold cF; omega)).frA (by unfold cF; omega), ⟨⟨a1, ?_, ?_⟩, ⟨?_, ?_, b3⟩, ⟨by simp; omega, ?_, fun i q hi => ?_⟩, ?_⟩, (FS.rf.frA (by omega) (by omega) (by omega)).frA (by omega) (by omega) (by omega)⟩
    · rw [mA_mAs, if_neg (by omega), mA_mAs, if_neg (by omega)]; exact a2
    · rw [mA_mAs, if_neg (by omega), mA_mAs, if_neg (by omega)]; exact a3
    · rw [mA_mAs, if_neg (by omega), mA_mAs, if_neg (by omega)]; exact b1
    · rw [mA_mAs, if_neg (by omega), mA_mAs, if_neg (by omega)]; exact b2
    · rw [mA_mAs, if_pos ⟨rfl, rfl⟩]; simp
    · rw [mA_mAs, if_neg (by omega), mA_mAs]
      by_cases e : i = rs.length
      · subst e
        rw [if_pos ⟨rfl, rfl⟩]
        rw [List.getElem?_append_right (Nat.le_refl _)] at hi
        simp at hi
        rw [hi]
      · rw [if_neg (by omega)]
        have hlt := (List.getElem?_eq_some_iff.mp hi).1
        simp at hlt
        rw [List.getElem?_append_left (by omega)] at hi
        exact hd.2.2 i q hi
    · rw [mA_mAs, if_neg (by omega), mA_mAs, if_neg (by omega)]; exact h36
/-- a step that reads a cell is a look at it -/
theorem L_advr {ms : MS} {σ : S} {f c pc op n : Nat} {st : List Int32} {rs : List Nat} {q : Nat × List Int32} (h : RM ms σ) (hc : c < 12) (hf : f < 12) (hX : FX ms f c pc st rs) (hg : (sC σ c)[pc]? = some (op, n)) (h1 : op = 1 ∨ op = 2) (hl : st.length ≤ 15) (hq : o_read op n st = some q) :
    m_advance ms (nI f) (nI c) = m_look ms (nI f) (nI c) (nI q.1) := by
  obtain ⟨q1, q2, q3⟩ := h.2.2.2.2 c hc
  have hpc := (List.getElem?_eq_some_iff.mp hg).1
  obtain ⟨w1, w2⟩ := q3 pc op n hg
  have e : (40 : Int32) * nI c + nI pc = nI (40 * c + pc) := by rw [nI_mk 40 40 rfl, nI_add]
  obtain ⟨⟨a1, a2, a3⟩, hS, hd, h36⟩ := hX
  have id : ∀ x : Option MS, (x.bind fun st => some st) = x := fun x => by cases x <;> rfl
  unfold m_advance
  simp only [mrd_n (k := 30) (show f < mn 30 from hf), Option.bind_some, hS.1, e, mrd_n (k := 9) (show 40 * c + pc < mn 9 from (by omega : 40 * c + pc < 480)), mrd_n (k := 10) (show 40 * c + pc < mn 10 from (by omega : 40 * c + pc < 480)), w1, w2]
  rcases h1 with rfl | rfl
  · unfold o_read at hq
    rw [if_pos rfl] at hq
    cases hq
    rw [if_pos (show nI 1 = (1 : Int32) from rfl)]
    exact id _
  · rw [if_neg (show ¬ nI 2 = (1 : Int32) by decide +kernel), if_pos (show nI 2 = (2 : Int32) from rfl)]
    unfold o_read at hq
    rw [if_neg (by decide)] at hq
    cases st with
    | nil => cases hq
    | cons x r =>
      cases hq
      simp only [List.length_cons] at hl
      have e2 : (16 : Int32) * nI f + nI (x :: r).length - 1 = nI (16 * f + r.length) := by
        rw [nI_mk 16 16 rfl, nI_add, List.length_cons, ← Nat.add_assoc, nI_pred]
      simp only [mrd_n (k := 31) (show f < mn 31 from hf), Option.bind_some, hS.2.1, e2, mrL_n (k := 32) (show 16 * f + r.length < mn 32 from (by omega : 16 * f + r.length < 192)), hS.top, Int32.toInt32_toInt64]
      unfold m_advance_J98
      by_cases qq : 0 ≤ x - x / 12 * 12
      · rw [if_pos qq, id, (rem_cell x).1 qq]
      · rw [if_neg qq, id, (rem_cell x).2 qq]
/-- the four ways of a look -/
theorem L_J83_start {ms : MS} {σ : S} {f c r : Nat} (h : RM ms σ) (hr : r < 12) (hf : f + 1 < 12) (h27 : mI ms 27 = nI (f + 1)) (h35 : sN σ 35 r = 0) (hd : ¬ a_done σ r) :
    ∃ ms', m_look_J83 ms (nI f) (nI c) (nI r) = some ms' ∧ RM ms' (sNs σ 35 r 1) ∧ FR ms' (f + 1) r 0 ∧ FS ms ms' (f + 1) := by
  obtain ⟨b, b1, b2⟩ := L_settled h hr
  obtain ⟨ms', k1, k2⟩ := L_start (x := 0) (m := 0) (f := f + 1) h hr hf rfl h27
  refine ⟨ms', ?_, k2⟩
  unfold m_look_J83
  simp only [mrd_n (k := 35) (show r < mn 35 from hr), Option.bind_some, h.n hr c35, b1]
  rw [if_pos ((nI0 (h.b hr c35)).mpr h35), if_pos (b2.mpr hd), k1]
  rfl
theorem L_J83_start2 {ms : MS} {σ : S} {f c r : Nat} (h : RM ms σ) (hr : r < 12) (hf : f + 1 < 12) (h27 : mI ms 27 = nI (f + 1)) (h35 : sN σ 35 r = 0) (hd : a_done σ r) (h5 : sN σ 5 r ≠ 0) (h16 : sN σ 16 r = 0) :
    ∃ ms', m_look_J83 ms (nI f) (nI c) (nI r) = some ms' ∧ RM ms' (sNs σ 35 r 1) ∧ FR ms' (f + 1) r 2 ∧ FS ms ms' (f + 1) := by
  obtain ⟨b, b1, b2⟩ := L_settled h hr
  obtain ⟨ms', k1, k2⟩ := L_start (x := 2) (m := 2) (f := f + 1) h hr hf rfl h27
  refine ⟨ms', ?_, k2⟩
  unfold m_look_J83
  simp only [mrd_n (k := 35) (show r < mn 35 from hr), mrd_n (k := 5) (show r < mn 5 from hr), mrd_n (k := 16) (show r < mn 16 from hr), Option.bind_some, h.n hr c35, h.n hr c5, h.n hr c16, b1]
  rw [if_pos ((nI0 (h.b hr c35)).mpr h35), if_neg (fun e => (b2.mp e) hd), if_neg (fun e => h5 ((nI0 (h.b hr c5)).mp e)), if_pos ((nI0 (h.b hr c16)).mpr h16), k1]
  rfl
theorem L_J83_work {ms : MS} {σ : S} {f c pc r was : Nat} {st : List Int32} {rs : List Nat} (h : RM ms σ) (hI : Inv σ) (hc : c < 12) (hf : f < 12) (hr : r < 12) (hX : FX ms f c pc st rs) (h12 : ∀ q ∈ rs, q < 12) (h35 : sN σ 35 r ≠ 0) (h0 : fmin (Ed σ) rs = 0) :
    ∃ ms', m_look_J83 ms (nI f) (nI c) (nI r) = some ms' ∧ RM ms' (sNs (a_note σ c was BAD rs (fmin (Ed σ) rs)) 35 c 0) ∧ mI ms' 27 = nI f ∧ FS ms ms' f := by
  obtain ⟨⟨a1, a2, a3⟩, hS, hd, h36⟩ := hX
  obtain ⟨ms', k1, k2, k3, k4⟩ := L_worked (v := BAD) (was := was) (ms := mAs ms 36 f (nI 1)) (rs := rs) (h.frA (by unfold cF; omega)) hI hc hf ⟨a1, by rw [mA_mAs, if_neg (by omega)]; exact a2, by rw [mA_mAs, if_neg (by omega)]; exact a3⟩ ⟨hd.1, by rw [mA_mAs, if_neg (by omega)]; exact hd.2.1, fun i r hi => by rw [mA_mAs, if_neg (by omega)]; exact hd.2.2 i r hi⟩ h12 (Or.inr ⟨by rw [mA_mAs, if_pos ⟨rfl, rfl⟩], h0⟩)
  refine ⟨ms', ?_, k2, k3, (FS.rf.frA (by omega) (by omega) (by omega)).t k4⟩
  unfold m_look_J83
  simp only [mrd_n (k := 35) (show r < mn 35 from hr), Option.bind_some, h.n hr c35]
  rw [if_neg (fun e => h35 ((nI0 (h.b hr c35)).mp e))]
  simp only [nar1, mwr_n (k := 36) (show f < mn 36 from hf), Option.bind_some]
  rw [show (1099511627776 : Int64) = BAD from rfl, k1]
  rfl
/-- what a look at a cell that is brought gives -/
def gv (σ : S) (r : Nat) : S := if sN σ 5 r = 0 then σ else a_use σ r
theorem gv_ss {σ : S} {r : Nat} : ss σ (gv σ r) ∧ (∀ a, nsm σ (gv σ r) a) ∧ ∀ a, sN (gv σ r) 35 a = sN σ 35 a := by
  unfold gv
  split
  · exact ⟨ss.rf, fun _ => nsm.rf, fun _ => rfl⟩
  · exact ⟨⟨fun _ _ _ _ _ _ _ _ => rfl, fun a => by unfold a_use; simp only [sN_sNs, sN_sIs, sN_sLs, sN_sRs, sI_sNs, sI_sIs, sI_sLs, sI_sRs, sL_sNs, sL_sIs, sL_sLs, sL_sRs, sR_sNs, sR_sIs, sR_sLs, sR_sRs, sT_sNs, sT_sIs, sT_sLs, sT_sRs, sC_sNs, sC_sIs, sC_sLs, sC_sRs]; simp, fun _ => rfl, fun _ => rfl⟩, fun a => nsm.rf, fun _ => rfl⟩
theorem L_J83_get {ms : MS} {σ : S} {f c pc r op n was : Nat} {st : List Int32} {rs : List Nat} {q : Nat × List Int32} (h : RM ms σ) (hI : Inv σ) (hc : c < 12) (hf : f < 12) (hr : r < 12) (hX : FX ms f c pc st rs) (h12 : ∀ q ∈ rs, q < 12) (h35 : sN σ 35 r = 0) (hd : a_done σ r) (hv : sN σ 5 r ≠ 0 → sN σ 16 r ≠ 0)
    (hg : (sC σ c)[pc]? = some (op, n)) (h1 : op = 1 ∨ op = 2) (hl : st.length ≤ 15) (hq : o_read op n st = some q) (hdn : ∀ q ∈ rs, a_done σ q) :
    (cur σ r = BAD → ∃ ms', m_look_J83 ms (nI f) (nI c) (nI r) = some ms' ∧ RM ms' (sNs (a_note (gv σ r) c was BAD rs (fmin (Ed (gv σ r)) rs)) 35 c 0) ∧ mI ms' 27 = nI f ∧ FS ms ms' f) ∧
    (∀ v : Int32, cur σ r = v.toInt64 → ∃ ms', m_look_J83 ms (nI f) (nI c) (nI r) = some ms' ∧ RM ms' (gv σ r) ∧ FX ms' f c (pc + 1) (v :: q.2) rs ∧ FS ms ms' f) := by
  obtain ⟨b, b1, b2⟩ := L_settled h hr
  -- the state after the use
  have pre : ∃ m1, m_look_J83 ms (nI f) (nI c) (nI r) = m_look_J194 m1 (nI f) (nI c) (cur σ r) ∧ RM m1 (gv σ r) ∧ FA ms m1 := by
    unfold m_look_J83
    simp only [mrd_n (k := 35) (show r < mn 35 from hr), mrd_n (k := 5) (show r < mn 5 from hr), mrd_n (k := 16) (show r < mn 16 from hr), Option.bind_some, h.n hr c35, h.n hr c5, h.n hr c16, b1]
    rw [if_pos ((nI0 (h.b hr c35)).mpr h35), if_neg (fun e => (b2.mp e) hd)]
    unfold m_look_J155 m_look_J169 gv cur
    simp only [mrd_n (k := 5) (show r < mn 5 from hr), mrd_n (k := 12) (show r < mn 12 from hr), mrL_n (k := 17) (show r < mn 17 from hr), Option.bind_some, h.n hr c5]
    by_cases q5 : sN σ 5 r = 0
    · have e0 : nI (sN σ 5 r) = 0 := (nI0 (h.b hr c5)).mpr q5
      simp only [e0, if_true]
      rw [if_pos q5, if_pos q5]
      refine ⟨ms, by rw [h.2.1.1 r hr], h, FA.rf⟩
    · have e0 : ¬ nI (sN σ 5 r) = 0 := fun e => q5 ((nI0 (h.b hr c5)).mp e)
      have e1 : ¬ nI (sN σ 16 r) = 0 := fun e => hv q5 ((nI0 (h.b hr c16)).mp e)
      rw [if_neg e0, if_neg e1, if_neg q5, if_neg q5, if_neg e0]
      obtain ⟨m1, k1, k2, k3⟩ := L_use h hr
      refine ⟨m1, ?_, k2, k3⟩
      have e2 : mA m1 5 r = nI (sN σ 5 r) := k2.n hr c5
      have e3 : mL m1 17 r = sL σ r := k2.2.1.2.2.2.2.2 r hr
      simp only [k1, Option.bind_some, e2, e3]
      rw [if_neg e0]
  obtain ⟨m1, p1, p2, p3⟩ := pre
  obtain ⟨s1, s2, s3⟩ := gv_ss (σ := σ) (r := r)
  have hI2 : Inv (gv σ r) := inv_mark hI s1 s2 (fun a ha => by rw [s3]; exact ha)
  have hX1 : FX m1 f c pc st rs := hX.s hl (p3.1 (f + 1)) (p3.2.trans hX.1.1)
  refine ⟨fun hb => ?_, fun v hvv => ?_⟩
  · obtain ⟨ms', k1, k2, k3, k4⟩ := L_worked (v := BAD) (was := was) p2 hI2 hc hf hX1.1 hX1.2.2.1 h12 (Or.inl ⟨hX1.2.2.2, fun a ha => (done_sm s1 (s2 a)).mpr (hdn a ha)⟩)
    refine ⟨ms', ?_, k2, k3, (p3.1 f).t k4⟩
    rw [p1, hb]
    unfold m_look_J194
    rw [show (1099511627776 : Int64) = BAD from rfl, if_pos ((lg0 BAD BAD).mpr rfl), k1]
    rfl
  · rw [p1, hvv]
    unfold m_look_J194
    rw [show (1099511627776 : Int64) = BAD from rfl, if_neg (fun e => enc_ne v ((lg0 _ _).mp e))]
    have hC : sC (gv σ r) c = sC σ c := s1.2.2.1 c
    obtain ⟨q1, q2, q3⟩ := p2.2.2.2.2 c hc
    rw [hC] at q1 q2 q3
    have hpc := (List.getElem?_eq_some_iff.mp hg).1
    obtain ⟨w1, w2⟩ := q3 pc op n hg
    have e : (40 : Int32) * nI c + nI pc = nI (40 * c + pc) := by rw [nI_mk 40 40 rfl, nI_add]
    obtain ⟨⟨a1, a2, a3⟩, hS, hdd, h36⟩ := hX1
    simp only [mrd_n (k := 30) (show f < mn 30 from hf), Option.bind_some, hS.1, e, mrd_n (k := 9) (show 40 * c + pc < mn 9 from (by omega : 40 * c + pc < 480)), w1]
    -- the push and the place
    have push : ∀ (m : MS) (t : List Int32), t.length ≤ 15 → Fst m f pc t → RM m (gv σ r) → FR m f c 3 → Fnd m f rs → mA m 36 f = nI 0 → FS ms m f → ∃ ms', m_look_J247 m (nI f) v.toInt64 = some ms' ∧ RM ms' (gv σ r) ∧ FX ms' f c (pc + 1) (v :: t) rs ∧ FS ms ms' f := fun m t ht r0 r1 r2 r3 r4 r5 => by
      obtain ⟨k1, k2⟩ := L_push (x := v) hf r0 ht
      refine ⟨mAs (mAs (mLs m 32 (16 * f + t.length) v.toInt64) 31 f (nI (t.length + 1))) 30 f (nI (pc + 1)), ?_, ((r1.frL (by decide)).frA (by unfold cF; omega)).frA (by unfold cF; omega), ⟨⟨r2.1, ?_, ?_⟩, k2.at, ⟨r3.1, ?_, fun i r hi => ?_⟩, ?_⟩, ((r5.frL (by omega)).frA (by omega) (by omega) (by omega)).frA (by omega) (by omega) (by omega)⟩
      · unfold m_look_J247
        rw [k1]
        simp only [Option.bind_some, mrd_n (k := 30) (show f < mn 30 from hf), k2.1, nI_1, mwr_n (k := 30) (show f < mn 30 from hf)]
      · rw [mA_mAs, if_neg (by omega), mA_mAs, if_neg (by omega)]; exact r2.2.1
      · rw [mA_mAs, if_neg (by omega), mA_mAs, if_neg (by omega)]; exact r2.2.2
      · rw [mA_mAs, if_neg (by omega), mA_mAs, if_neg (by omega)]; exact r3.2.1
      · rw [mA_mAs, if_neg (by omega), mA_mAs, if_neg (by omega)]; exact r3.2.2 i r hi
      · rw [mA_mAs, if_neg (by omega), mA_mAs, if_neg (by omega)]; exact r4
    rcases h1 with rfl | rfl
    · unfold o_read at hq
      rw [if_pos rfl] at hq
      cases hq
      rw [if_neg (show ¬ nI 1 = (2 : Int32) by decide +kernel)]
      exact push m1 st hl hS p2 ⟨a1, a2, a3⟩ hdd h36 (p3.1 f)
    · unfold o_read at hq
      rw [if_neg (by decide)] at hq
      rw [if_pos (show nI 2 = (2 : Int32) from rfl)]
      cases st with
      | nil => cases hq
      | cons x t =>
        cases hq
        have ht : t.length ≤ 15 := by simp at hl; omega
        have e31 : mA m1 31 f = nI (t.length + 1) := hS.2.1
        simp only [mrd_n (k := 31) (show f < mn 31 from hf), Option.bind_some, e31, nI_pred, mwr_n (k := 31) (show f < mn 31 from hf)]
        obtain ⟨-, p4⟩ := L_pop hf hS ht
        exact push _ t ht p4 (p2.frA (by unfold cF; omega)) ⟨a1, by rw [mA_mAs, if_neg (by omega)]; exact a2, by rw [mA_mAs, if_neg (by omega)]; exact a3⟩ ⟨hdd.1, by rw [mA_mAs, if_neg (by omega)]; exact hdd.2.1, fun i r hi => by rw [mA_mAs, if_neg (by omega)]; exact hdd.2.2 i r hi⟩ (by rw [mA_mAs, if_neg (by omega)]; exact h36) ((p3.1 f).frA (by omega) (by omega) (by omega))
