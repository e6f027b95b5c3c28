/-! the class' set -/
theorem RX.cborn {st : HS} {K : Nat → Nat → Nat} {σ : S} {kept : Nat} {p : Int32} {o : Nat → Int32} {pad : List Nat} {c v : Nat} (h : RX st K σ kept p o pad) (hc : c < 12) (hv : v < B20) : ∃ st', hP st (K 1 c) 1 5 (.int (nI v)) = some st' ∧ RX st' K (sNs σ 14 c v) kept p o pad ∧ F1 st st' (K 1 c) := by
  obtain ⟨w, -, -, g1, g2, g3, g4⟩ := h.cE hc
  refine h.setC hc (by decide) (fun w => ?_) ⟨g1, g2, ?_, g4⟩ (fun a ha hn => ?_) (fun a => ⟨rfl, rfl, rfl⟩) (fun a => ⟨rfl, rfl, rfl⟩) rfl (fun d => rfl)
  · unfold cL
    have e : sN (sNs σ 14 c v) 14 c = v := by rw [sN_sNs, if_pos ⟨rfl, rfl⟩]
    rw [e]
    rfl
  · rw [sN_sNs, if_pos ⟨rfl, rfl⟩]; exact hv
  · unfold cV
    have e : sN (sNs σ 14 c v) 14 a = sN σ 14 a := by rw [sN_sNs, if_neg (fun q => hn q.2)]
    rw [e]
    rfl
theorem RX.cdur {st : HS} {K : Nat → Nat → Nat} {σ : S} {kept : Nat} {p : Int32} {o : Nat → Int32} {pad : List Nat} {c v : Nat} (h : RX st K σ kept p o pad) (hc : c < 12) (hv : v ≤ 2) : ∃ st', hP st (K 1 c) 1 4 (.int (nI v)) = some st' ∧ RX st' K (sNs σ 13 c v) kept p o pad ∧ F1 st st' (K 1 c) := by
  obtain ⟨w, -, -, g1, g2, g3, g4⟩ := h.cE hc
  refine h.setC hc (by decide) (fun w => ?_) ⟨g1, ?_, g3, g4⟩ (fun a ha hn => ?_) (fun a => ⟨rfl, rfl, rfl⟩) (fun a => ⟨rfl, rfl, rfl⟩) rfl (fun d => rfl)
  · unfold cL
    have e : sN (sNs σ 13 c v) 13 c = v := by rw [sN_sNs, if_pos ⟨rfl, rfl⟩]
    rw [e]
    rfl
  · rw [sN_sNs, if_pos ⟨rfl, rfl⟩]; exact hv
  · unfold cV
    have e : sN (sNs σ 13 c v) 13 a = sN σ 13 a := by rw [sN_sNs, if_neg (fun q => hn q.2)]
    rw [e]
    rfl
theorem RX.calt {st : HS} {K : Nat → Nat → Nat} {σ : S} {kept : Nat} {p : Int32} {o : Nat → Int32} {pad : List Nat} {c v : Nat} (h : RX st K σ kept p o pad) (hc : c < 12) (hv : v < B20) : ∃ st', hP st (K 1 c) 1 6 (.int (nI v)) = some st' ∧ RX st' K (sNs σ 11 c v) kept p o pad ∧ F1 st st' (K 1 c) := by
  obtain ⟨w, -, -, g1, g2, g3, g4⟩ := h.cE hc
  refine h.setC hc (by decide) (fun w => ?_) ⟨g1, g2, g3, ?_⟩ (fun a ha hn => ?_) (fun a => ⟨rfl, rfl, rfl⟩) (fun a => ⟨rfl, rfl, rfl⟩) rfl (fun d => rfl)
  · unfold cL
    have e : sN (sNs σ 11 c v) 11 c = v := by rw [sN_sNs, if_pos ⟨rfl, rfl⟩]
    rw [e]
    rfl
  · rw [sN_sNs, if_pos ⟨rfl, rfl⟩]; exact hv
  · unfold cV
    have e : sN (sNs σ 11 c v) 11 a = sN σ 11 a := by rw [sN_sNs, if_neg (fun q => hn q.2)]
    rw [e]
    rfl
theorem RX.cval {st : HS} {K : Nat → Nat → Nat} {σ : S} {kept : Nat} {p : Int32} {o : Nat → Int32} {pad : List Nat} {c : Nat} {x : Int32} (h : RX st K σ kept p o pad) (hc : c < 12) : ∃ st', hP st (K 1 c) 1 3 (.int x) = some st' ∧ RX st' K (sIs σ 12 c x) kept p o pad ∧ F1 st st' (K 1 c) := by
  obtain ⟨w, -, -, g1⟩ := h.cE hc
  refine h.setC hc (by decide) (fun w => ?_) g1 (fun a ha hn => ?_) (fun a => ⟨rfl, rfl, rfl⟩) (fun a => ⟨rfl, rfl, rfl⟩) rfl (fun d => rfl)
  · unfold cL
    have e : sI (sIs σ 12 c x) 12 c = x := by rw [sI_sIs, if_pos ⟨rfl, rfl⟩]
    rw [e]
    rfl
  · unfold cV
    have e : sI (sIs σ 12 c x) 12 a = sI σ 12 a := by rw [sI_sIs, if_neg (fun q => hn q.2)]
    rw [e]
    rfl
theorem RX.cinp {st : HS} {K : Nat → Nat → Nat} {σ : S} {kept : Nat} {p : Int32} {o : Nat → Int32} {pad : List Nat} {c : Nat} (h : RX st K σ kept p o pad) (hc : c < 12) : ∃ st', hP st (K 1 c) 1 1 (.int 1) = some st' ∧ RX st' K (sNs σ 5 c 0) kept p o pad ∧ F1 st st' (K 1 c) := by
  obtain ⟨w, g1, g2, g3⟩ := h.cE hc
  have e0 : sN (sNs σ 5 c 0) 5 c = 0 := by rw [sN_sNs, if_pos ⟨rfl, rfl⟩]
  have en : ∀ a, a ≠ c → sN (sNs σ 5 c 0) 5 a = sN σ 5 a := fun a ha => by rw [sN_sNs, if_neg (fun q => ha q.2)]
  refine ⟨_, hP_of g2 (by decide : 1 < 12), ?_, rfl, fun q hq => by rw [hSet_s, if_neg hq]⟩
  refine h.upd (f0 := 1) (a0 := c) hc ⟨⟨w, fun z => absurd e0 z, ?_⟩, g3⟩ (fun a ha hn => ?_) (fun a ha hn => ⟨hn, fun _ => rfl, fun _ => rfl⟩) (fun a ha hn => ?_) (fun _ => rfl) (fun _ d _ => rfl) (fun _ _ => rfl) (fun _ => rfl)
  · unfold cL
    rw [e0, if_pos rfl]
    rfl
  · have hac : a ≠ c := fun e => hn ⟨rfl, e⟩
    unfold cV
    rw [en a hac]
    rfl
  · have hac : a ≠ c := fun e => by rw [e] at hn; exact hn e0
    rw [en a hac] at hn
    exact ⟨hn, rfl, rfl⟩
theorem RX.cnul {st : HS} {K : Nat → Nat → Nat} {σ : S} {kept : Nat} {p : Int32} {o : Nat → Int32} {pad : List Nat} {c : Nat} (h : RX st K σ kept p o pad) (hc : c < 12) : ∃ st', hP st (K 1 c) 1 8 .null = some st' ∧ RX st' K (sNs σ 15 c 0) kept p o pad ∧ F1 st st' (K 1 c) := by
  obtain ⟨w, g1, g2, g3⟩ := h.cE hc
  have e0 : sN (sNs σ 15 c 0) 15 c = 0 := by rw [sN_sNs, if_pos ⟨rfl, rfl⟩]
  have en : ∀ a, a ≠ c → sN (sNs σ 15 c 0) 15 a = sN σ 15 a := fun a ha => by rw [sN_sNs, if_neg (fun q => ha q.2)]
  refine ⟨_, hP_of g2 (by decide : 8 < 12), ?_, rfl, fun q hq => by rw [hSet_s, if_neg hq]⟩
  refine h.upd (f0 := 1) (a0 := c) hc ⟨⟨w, g1, ?_⟩, g3⟩ (fun a ha hn => ?_) (fun a ha hn => ?_) (fun a ha hn => ⟨hn, rfl, rfl⟩) (fun _ => rfl) (fun _ d _ => rfl) (fun _ _ => rfl) (fun _ => rfl)
  · unfold cL
    rw [e0, if_pos rfl]
    rfl
  · have hac : a ≠ c := fun e => hn ⟨rfl, e⟩
    unfold cV
    rw [en a hac]
    rfl
  · have hac : a ≠ c := fun e => by rw [e] at hn; exact hn e0
    rw [en a hac] at hn
    exact ⟨hn, fun _ => rfl, fun _ => rfl⟩
theorem RX.chg1 {st : HS} {K : Nat → Nat → Nat} {σ : S} {kept : Nat} {p : Int32} {o : Nat → Int32} {pad : List Nat} {i v : Nat} (h : RX st K σ kept p o pad) (hi : i ≤ 2) (hv : v < B20) : ∃ st', hWi st (K 15 0) 0 (nI i) (nI v) = some st' ∧ RX st' K (sNs σ 4 i v) kept p o pad ∧ F1 st st' (K 15 0) := by
  obtain ⟨e, h1, g, h2, h3⟩ := h.at (f := 15) (a := 0) rfl
  subst h2
  refine ⟨_, hWi_of h1 (by omega) (by decide), ?_, rfl, fun q hq => by rw [hSet_s, if_neg hq]⟩
  refine h.upd (f0 := 15) (a0 := 0) rfl ⟨_, rfl, fun d hd => ?_⟩ (fun a ha hn => rfl) (fun a ha hn => ⟨hn, fun _ => rfl, fun _ => rfl⟩) (fun a ha hn => ⟨hn, rfl, rfl⟩) (fun _ => rfl) (fun z => absurd rfl z) (fun _ _ => rfl) (fun _ => rfl)
  show (if d = i then nI v else g d) = _ ∧ _
  rw [sN_sNs]
  by_cases q : d = i
  · rw [if_pos q, if_pos ⟨rfl, q⟩]; exact ⟨rfl, hv⟩
  · rw [if_neg q, if_neg (fun z => q z.2)]; exact h3 d hd
theorem X_change {st : HS} {K : Nat → Nat → Nat} {σ : S} {kept : Nat} {p : Int32} {o : Nat → Int32} {pad : List Nat} {d : Nat} (h : RX st K σ kept p o pad) (hd : d ≤ 2) (hb : rev σ + 1 < B20) : ∃ st', x_NS_change st (K 0 0) (nI d) = some st' ∧ RX st' K (a_chg σ d) kept p o pad ∧ XF (hNx st) st K σ st' K (a_chg σ d) ∧ st'.2 = st.2 := by
  obtain ⟨s1, a1, a2, a3⟩ := h.setS (k := 4) (v := .int (nI (rev σ + 1))) (σ' := sNs σ 3 0 (rev σ + 1)) (p' := p) (by decide) rfl hb (fun a => rfl) (fun a => ⟨rfl, rfl, rfl⟩) (fun a => ⟨rfl, rfl, rfl⟩) (fun d => rfl)
  have start : x_NS_change st (K 0 0) (nI d) = x_NS_change_L12 1000 s1 (K 0 0) (nI d) (nI 0) := by
    unfold x_NS_change
    rw [h.rs.2.2.2.2.2.1]
    simp only [Option.bind_some, nI_1]
    rw [a1]
    rfl
  have f1 : XF (hNx st) st K σ s1 K (sNs σ 3 0 (rev σ + 1)) := a3.fx (Or.inl ⟨0, 0, rfl, rfl⟩) (lv_ss (fun _ => rfl) (fun _ => rfl))
  have step : ∀ (N i : Nat) (s : HS) (τ : S), RX s K τ kept p o pad → rev τ = rev σ + 1 → i ≤ d → ∃ s', x_NS_change_L12 (N + 1) s (K 0 0) (nI d) (nI i) = x_NS_change_L12 N s' (K 0 0) (nI d) (nI (i + 1)) ∧ RX s' K (sNs τ 4 i (rev σ + 1)) kept p o pad ∧ XF (hNx st) s K τ s' K (sNs τ 4 i (rev σ + 1)) ∧ s'.2 = s.2 := by
    intro N i s τ r1 r2 r3
    obtain ⟨s', b1, b2, b3⟩ := r1.chg1 (i := i) (v := rev σ + 1) (by omega) hb
    refine ⟨s', ?_, b2, b3.fx (Or.inl ⟨15, 0, rfl, rfl⟩) (lv_ss (fun _ => rfl) (fun _ => rfl)), b3.1⟩
    have r4 := r1.rs.2.2.2.2.2.1
    rw [r2] at r4
    rw [x_NS_change_L12, if_neg (nI_nlt r3 (by omega)), r1.rs.2.2.2.2.2.2.2.2.2.2, r4]
    simp only [Option.bind_some, b1, nI_1]
  have stop : ∀ (N i : Nat) (s : HS), d < i → i < 10 → x_NS_change_L12 (N + 1) s (K 0 0) (nI d) (nI i) = some s := fun N i s hi h10 => by
    rw [x_NS_change_L12, if_pos (nI_lt hi (by omega))]
  have fin : ∀ (s : HS) (τ : S), RX s K τ kept p o pad → XF (hNx st) st K σ s K τ → (∀ a, cV (a_chg σ d) o a = cV τ o a) → (∀ a, sN (a_chg σ d) 15 a = sN τ 15 a ∧ nV (a_chg σ d) a = nV τ a ∧ sR (a_chg σ d) a = sR τ a) → (∀ a, sN (a_chg σ d) 5 a = sN τ 5 a ∧ sT (a_chg σ d) a = sT τ a ∧ sC (a_chg σ d) a = sC τ a) → sV (a_chg σ d) p = sV τ p → (∀ i, i ≤ 2 → sN (a_chg σ d) 4 i = sN τ 4 i) → RX s K (a_chg σ d) kept p o pad ∧ XF (hNx st) st K σ s K (a_chg σ d) := by
    intro s τ r1 r2 r3 r4 r5 r6 r7
    refine ⟨r1.vw (fun a _ => r3 a) (fun a _ z => ⟨by rw [← (r4 a).1]; exact z, (r4 a).2⟩) (fun a _ z => ⟨by rw [← (r5 a).1]; exact z, (r5 a).2⟩) r6 r7, r2.1, r2.2.1, r2.2.2.1, fun f a hl => ?_, r2.2.2.2.2⟩
    exact r2.2.2.2.1 f a (lv_of (fun a _ z => by rw [← (r4 a).1]; exact z) (fun a _ z => by rw [← (r5 a).1]; exact z) f a hl)
  rw [start]
  have s2e : s1.2 = st.2 := a3.1
  obtain ⟨t1, b1, b2, b3, b4⟩ := step 999 0 s1 _ a2 rfl (Nat.zero_le _)
  rw [b1]
  rcases (show d = 0 ∨ d = 1 ∨ d = 2 by omega) with e | e | e
  · subst e
    refine ⟨t1, stop 998 1 t1 (by decide) (by decide), ?_⟩
    obtain ⟨y1, y2⟩ := fin t1 _ b2 (f1.t b3) (fun a => rfl) (fun a => ⟨rfl, rfl, rfl⟩) (fun a => ⟨rfl, rfl, rfl⟩) rfl (fun i hi => by
      rcases (show i = 0 ∨ i = 1 ∨ i = 2 by omega) with e | e | e <;> subst e <;> rfl)
    exact ⟨y1, y2, b4.trans s2e⟩
  · subst e
    obtain ⟨t2, c1, c2, c3, c4⟩ := step 998 1 t1 _ b2 rfl (by decide)
    rw [c1]
    refine ⟨t2, stop 997 2 t2 (by decide) (by decide), ?_⟩
    obtain ⟨y1, y2⟩ := fin t2 _ c2 ((f1.t b3).t c3) (fun a => rfl) (fun a => ⟨rfl, rfl, rfl⟩) (fun a => ⟨rfl, rfl, rfl⟩) rfl (fun i hi => by
      rcases (show i = 0 ∨ i = 1 ∨ i = 2 by omega) with e | e | e <;> subst e <;> rfl)
    exact ⟨y1, y2, c4.trans (b4.trans s2e)⟩
  · subst e
    obtain ⟨t2, c1, c2, c3, c4⟩ := step 998 1 t1 _ b2 rfl (by decide)
    rw [c1]
    obtain ⟨t3, d1, d2, d3, d4⟩ := step 997 2 t2 _ c2 rfl (by decide)
    rw [d1]
    refine ⟨t3, stop 996 3 t3 (by decide) (by decide), ?_⟩
    obtain ⟨y1, y2⟩ := fin t3 _ d2 (((f1.t b3).t c3).t d3) (fun a => rfl) (fun a => ⟨rfl, rfl, rfl⟩) (fun a => ⟨rfl, rfl, rfl⟩) rfl (fun i hi => by
      rcases (show i = 0 ∨ i = 1 ∨ i = 2 by omega) with e | e | e <;> subst e <;> rfl)
    exact ⟨y1, y2, d4.trans (c4.trans (b4.trans s2e))⟩
theorem X_set_bad {st : HS} {K : Nat → Nat → Nat} {σ : S} {kept : Nat} {p : Int32} {o : Nat → Int32} {pad : List Nat} (h : RX st K σ kept p o pad) {a1 a2 a3 : Int32} (hb : m_isCell a1 = 0 ∨ a3 < 0 ∨ ¬ a3 ≤ 2) : x_NS_set st (K 0 0) a1 a2 a3 = some (0, st) := by
  unfold x_NS_set
  rw [h.rs.1]
  simp only [Option.bind_some]
  rcases isC_cases a1 with q | ⟨c, hc, rfl, hq⟩
  · rw [(X_cell h).2 a1 q]
    simp only [Option.bind_some]
    rw [if_pos trivial]
  · rw [(X_cell h).1 c hc]
    simp only [Option.bind_some]
    rw [if_neg (by simp)]
    by_cases q2 : a3 < 0
    · rw [if_pos q2]
    · rw [if_neg q2, if_neg (by
        rcases hb with z | z | z
        · exact absurd z hq
        · exact absurd z q2
        · exact z)]
theorem X_set {st : HS} {K : Nat → Nat → Nat} {σ : S} {kept : Nat} {p : Int32} {o : Nat → Int32} {pad : List Nat} {c d : Nat} {n : Int32} (h : RX st K σ kept p o pad) (hc : c < 12) (hd : d ≤ 2) (hb : rev σ + 1 < B20) : ∃ st', x_NS_set st (K 0 0) (nI c) n (nI d) = some (1, st') ∧ RX st' K (a_setq σ c n d) kept p o pad ∧ XT st K σ st' ∧ st'.2 = st.2 := by
  obtain ⟨c0, c1, c2, c3, c4, c5, c6, c7, c8, c9, c10, c11, c12⟩ := h.rc hc
  obtain ⟨v0, -, -, b35, b13, b14, b11⟩ := h.cE hc
  -- the end
  have j98 : ∀ (s : HS) (τ : S), RX s K τ kept p o pad → XF (hNx st) st K σ s K τ → s.2 = st.2 → ∃ st', x_NS_set_J98 s n (nI d) (K 1 c) = some (1, st') ∧ RX st' K (sNs (sIs (sNs (sNs (sNs τ 5 c 0) 15 c 0) 16 c 0) 12 c n) 13 c d) kept p o pad ∧ XT st K σ st' ∧ st'.2 = st.2 := by
    intro s τ r1 r2 r3
    obtain ⟨t1, x1, x2, x3⟩ := r1.cinp hc
    obtain ⟨t2, y1, y2, y3⟩ := x2.cval (x := n) hc
    obtain ⟨t3, z1, z2, z3⟩ := y2.cdur (v := d) hc hd
    obtain ⟨t4, w1, w2, w3⟩ := z2.cnul hc
    have li : ∀ f a, lv (sNs τ 5 c 0) f a → lv τ f a := lv_of (fun a _ z => z) (fun a _ z => by
      rw [sN_sNs] at z
      split at z
      · exact absurd rfl z
      · exact z)
    refine ⟨t4, ?_, ?_, ?_, by rw [w3.1, z3.1, y3.1, x3.1, r3]⟩
    · unfold x_NS_set_J98
      rw [x1]
      simp only [Option.bind_some, y1, z1, w1]
    · have en : ∀ {k a v x : Nat} {ρ : S}, a ≠ c → sN (sNs ρ k c v) x a = sN ρ x a := fun ha => by rw [sN_sNs, if_neg (fun z => ha z.2)]
      refine w2.vw (fun a ha => ?_) (fun a ha hn => ?_) (fun a ha hn => ?_) rfl (fun _ _ => rfl)
      · rfl
      · have hac : a ≠ c := fun z => by
          subst z
          apply hn
          show (if (15 : Nat) = 15 ∧ a = a then 0 else _) = 0
          rw [if_pos ⟨rfl, rfl⟩]
        refine ⟨hn, ?_, rfl⟩
        unfold nV
        have e16 : sN (sNs (sIs (sNs (sNs (sNs τ 5 c 0) 15 c 0) 16 c 0) 12 c n) 13 c d) 16 a = sN τ 16 a := by
          show (if (16 : Nat) = 16 ∧ a = c then 0 else _) = _
          rw [if_neg (fun z => hac z.2)]
          rfl
        rw [e16]
        rfl
      · exact ⟨hn, rfl, rfl⟩
    · have q1 : XF (hNx st) s K τ t1 K (sNs τ 5 c 0) := x3.fx (Or.inl ⟨1, c, hc, rfl⟩) li
      have q2 : XF (hNx st) t1 K (sNs τ 5 c 0) t2 K (sIs (sNs τ 5 c 0) 12 c n) := y3.fx (Or.inl ⟨1, c, hc, rfl⟩) (lv_ss (fun _ => rfl) (fun _ => rfl))
      have q3 : XF (hNx st) t2 K (sIs (sNs τ 5 c 0) 12 c n) t3 K (sNs (sIs (sNs τ 5 c 0) 12 c n) 13 c d) := z3.fx (Or.inl ⟨1, c, hc, rfl⟩) (lv_ss (fun _ => rfl) (fun _ => rfl))
      have q4 : XF (hNx st) t3 K (sNs (sIs (sNs τ 5 c 0) 12 c n) 13 c d) t4 K (sNs (sNs (sIs (sNs τ 5 c 0) 12 c n) 13 c d) 15 c 0) := w3.fx (Or.inl ⟨1, c, hc, rfl⟩) (lv_of (fun a _ z => by
        rw [sN_sNs] at z
        split at z
        · exact absurd rfl z
        · exact z) (fun a _ z => z))
      exact ((((r2.t q1).t q2).t q3).t q4).xt
  have hcd : a_cd σ c ≤ 2 := by unfold a_cd; split <;> omega
  obtain ⟨s1, k1, k2, k3, k4⟩ := X_change (d := a_cd σ c) h hcd hb
  have j69 : ∃ st', x_NS_set_J69 st (K 0 0) n (nI d) (K 1 c) (nI (a_cd σ c)) (K 0 0) = some (1, st') ∧ RX st' K (a_set σ c n d) kept p o pad ∧ XT st K σ st' ∧ st'.2 = st.2 := by
    have i1 : hI s1 (K 1 c) 1 1 = some (if sN σ 5 c = 0 then 1 else 0) := (k2.rc hc).2.2.1
    have i3 : hI s1 (K 1 c) 1 3 = some (sI σ 12 c) := (k2.rc hc).2.2.2.2.1
    have i4 : hI s1 (K 0 0) 0 4 = some (nI (rev σ + 1)) := k2.rs.2.2.2.2.2.1
    obtain ⟨s2, m1, m2, m3⟩ := k2.cborn (v := rev σ + 1) hc hb
    have f2 : XF (hNx st) st K σ s2 K (sNs (a_chg σ (a_cd σ c)) 14 c (rev σ + 1)) := k3.t (m3.fx (Or.inl ⟨1, c, hc, rfl⟩) (lv_ss (fun _ => rfl) (fun _ => rfl)))
    have e89 : x_NS_set_J89 s1 (K 0 0) n (nI d) (K 1 c) = x_NS_set_J98 s2 n (nI d) (K 1 c) := by
      unfold x_NS_set_J89
      rw [i4]
      simp only [Option.bind_some, m1]
    unfold x_NS_set_J69
    rw [h.rs.1]
    simp only [Option.bind_some, k1, i1, i3, e89]
    unfold a_set
    by_cases q5 : sN σ 5 c = 0
    · rw [if_pos q5, if_neg (by decide)]
      by_cases q12 : sI σ 12 c = n
      · rw [if_pos q12, if_neg (by rintro (z | z); exact z q5; exact z q12)]
        exact j98 s1 _ k2 k3 k4
      · rw [if_neg q12, if_pos (Or.inr q12)]
        exact j98 s2 _ m2 f2 (m3.1.trans k4)
    · rw [if_neg q5, if_pos rfl, if_pos (Or.inl q5)]
      exact j98 s2 _ m2 f2 (m3.1.trans k4)
  unfold x_NS_set
  rw [h.rs.1]
  simp only [Option.bind_some, (X_cell h).1 c hc]
  rw [if_neg (by simp), if_neg (nI_pos (by omega)), if_pos (show nI d ≤ (2 : Int32) from nI_le (b := 2) hd (by decide)), c2]
  unfold x_NS_set_J51
  simp only [Option.bind_some, c2, c4, c5, nI_eq (show sN σ 13 c < 2 ^ 31 by omega) (show d < 2 ^ 31 by omega)]
  unfold a_setq
  by_cases q5 : sN σ 5 c = 0
  · have ecd : a_cd σ c = sN σ 13 c := by unfold a_cd; rw [if_pos q5]
    rw [ecd] at j69
    rw [if_pos q5, if_neg (show ¬ (1 : Int32) = 0 by decide)]
    by_cases q12 : sI σ 12 c = n
    · rw [if_pos q12]
      by_cases q13 : sN σ 13 c = d
      · rw [if_pos q13, if_pos ⟨q5, q12, q13⟩]
        exact ⟨st, rfl, h, XF.rf.xt, rfl⟩
      · rw [if_neg q13, if_neg (show ¬ (1 : Int32) = 0 by decide), if_neg (fun z => q13 z.2.2)]
        exact j69
    · rw [if_neg q12, if_neg (show ¬ (1 : Int32) = 0 by decide), if_neg (fun z => q12 z.2.1)]
      exact j69
  · have ecd : a_cd σ c = 2 := by unfold a_cd; rw [if_neg q5]
    rw [ecd] at j69
    rw [if_neg q5, if_pos rfl, if_pos rfl, if_neg (fun z => q5 z.1)]
    exact j69
