def OPR (st : HS) (kept b th L R sh : Nat) (xs : Nat → Int32) (st2 : HS) : Prop := ∃ K2 σ2 pad2, TOP st2 K2 σ2 kept pad2 b th L xs (R + 1) ∧ K2 0 0 = sh ∧ hNx st2 ≤ hNx st + 72 ∧ hNs st2 ≤ hNs st + 1000
def SC (st : HS) (b th L : Nat) (xs : Nat → Int32) : Prop := st.1 b = some (.inr (100, L, .inl xs)) ∧ hM st th (hMS st th)
theorem OP_mk {st st1 : HS} {K K1 : Nat → Nat → Nat} {σ σ' : S} {kept : Nat} {pad pad' : List Nat} {b th L R sh : Nat} {xs : Nat → Int32} {ms' : MS} (h : TOP st K σ kept pad b th L xs R) (xt : XT st K σ st1) (ln : LN st K σ K1 σ') (hx : RX st1 K1 σ' kept 0 o0 pad') (hk : K1 0 0 = sh)
    (hm : RM ms' σ') (hp : rP ms' pad') (h0 : mI ms' 0 = mI (hMS st th) 0) (hI : Inv σ') (hw : ∀ a, sN σ' 35 a = 0) (hh : a_held σ' ≤ kept) (hr : rev σ' ≤ R + 1) (hok : ∀ x ∈ pad', okc x) (hT : ∀ c, c < 12 → ∀ x ∈ sT σ' c, okc x) (r1 : hNx st1 ≤ hNx st + 72) (r2 : hNs st1 ≤ hNs st + 1000) :
    SC st1 b th L xs ∧ hM st1 th (hMS st1 th) ∧ hMS st1 th = hMS st th ∧ OPR st kept b th L R sh xs (mPut st1 th ms') := by
  obtain ⟨⟨s1, s2, s3, s4⟩, m1, m2⟩ := h.x xt ln
  exact ⟨⟨s3, m1⟩, m1, m2, K1, σ', pad', h.m xt ln hx hm hp h0 hI hw hh hr hok hT, hk, r1, r2⟩
/-- nothing changed -/
theorem OP_no {st : HS} {K : Nat → Nat → Nat} {σ : S} {kept : Nat} {pad : List Nat} {b th L R sh : Nat} {xs : Nat → Int32} (h : TOP st K σ kept pad b th L xs R) (hk : K 0 0 = sh) : SC st b th L xs ∧ hM st th (hMS st th) ∧ mPut st th (hMS st th) = st ∧ OPR st kept b th L R sh xs st :=
  ⟨⟨h.2.1.2.2.1, h.2.2.1⟩, h.2.2.1, mPut_self h.2.2.1, K, σ, pad, h.up (Nat.le_succ _), hk, by omega, by omega⟩
theorem O_type {st : HS} {K : Nat → Nat → Nat} {σ : S} {kept : Nat} {pad : List Nat} {b th L R sh : Nat} {xs : Nat → Int32} (h : TOP st K σ kept pad b th L xs R) (hk : K 0 0 = sh) (a : Int32) (ha : ∃ c, c < 65536 ∧ a = nI c) : ∃ v st1 st2, x_NS_type st sh a = some (v, st1) ∧ SC st1 b th L xs ∧ xm_type st1 th a = some (v, st2) ∧ OPR st kept b th L R sh xs st2 := by
  obtain ⟨c, hc, rfl⟩ := ha
  obtain ⟨hx, -, hm, ⟨m1, m2, m3⟩, hI, hw, hh, hr, hok, hT⟩ := id h
  obtain ⟨x1, x2⟩ := X_type hx m2.1 hc
  obtain ⟨y1, y2⟩ := M_type m1 m2 hc
  rw [hk] at x1 x2
  by_cases q : okc c ∧ pad.length < 30
  · obtain ⟨st1, K1, a1, a2, a3, a4, a5, a6, a7⟩ := x1 q
    obtain ⟨ms', b1, b2, b3, b4⟩ := y1 q
    obtain ⟨c1, c2, c3, c4⟩ := OP_mk h a4 a3 a2 a5 b2 b3 b4 hI hw hh (by omega) (fun x hx => by
      rcases List.mem_append.mp hx with z | z
      · exact hok x z
      · rw [List.mem_singleton] at z; subst z; exact q.1) hT (by omega) (by omega)
    exact ⟨1, st1, _, a1, c1, xm_type_i c2 (by rw [c3]; exact b1), c4⟩
  · obtain ⟨c1, c2, c3, c4⟩ := OP_no h hk
    refine ⟨0, st, st, x2 q, c1, ?_, c4⟩
    rw [xm_type_i c2 (y2 q), c3]
theorem O_define {st : HS} {K : Nat → Nat → Nat} {σ : S} {kept : Nat} {pad : List Nat} {b th L R sh : Nat} {xs : Nat → Int32} (h : TOP st K σ kept pad b th L xs R) (hk : K 0 0 = sh) (hR : R + 1 < B20) (a : Int32) : ∃ v st1 st2, x_NS_define st sh a = some (v, st1) ∧ SC st1 b th L xs ∧ xm_define st1 th a = some (v, st2) ∧ OPR st kept b th L R sh xs st2 := by
  obtain ⟨hx, -, hm, ⟨m1, m2, m3⟩, hI, hw, hh, hr, hok, hT⟩ := id h
  obtain ⟨s, e, g1, g2⟩ := M_define m1 hI m2 hok (fun c hc x hx => okc_lt (hT c hc x hx)) (by omega)
  obtain ⟨s', e', -, h60, hgood⟩ := read_ok m2.1
  rw [e] at e'
  cases e'
  obtain ⟨x1, x2⟩ := X_define hx hok m2.1 hI (by omega) e h60 hgood
  rw [hk] at x1 x2
  rcases isC_cases a with q | ⟨c, hc, rfl, -⟩
  · obtain ⟨st1, a1, a2, a3, a4, a5⟩ := x1 a q
    obtain ⟨ms', b1, b2, b3, b4⟩ := g1 a q
    obtain ⟨c1, c2, c3, c4⟩ := OP_mk h a3 LN.rf a2 hk b2 b3 b4 hI hw hh (by omega) (fun x hx => by cases hx) hT (by omega) (by omega)
    exact ⟨-1, st1, _, a1, c1, xm_define_i c2 (by rw [c3]; exact b1), c4⟩
  · obtain ⟨x3, x4⟩ := x2 c hc
    obtain ⟨g3, g4⟩ := g2 c hc
    by_cases q : s.2.1 = false ∧ s.1 = pad.length
    · obtain ⟨st1, K1, a1, a2, a3, a4, a5, a6, a7⟩ := x4 q
      obtain ⟨ms', b1, b2, b3, b4⟩ := g4 q
      obtain ⟨i1, i2, i3⟩ := inv_def (t := pad) (cd := s.2.2) hI hw hc (hgood q.1).2
      obtain ⟨d1, d2⟩ := defq_T (c := c) (cd := s.2.2) hok hT
      obtain ⟨c1, c2, c3, c4⟩ := OP_mk h a4 a3 a2 a5 b2 b3 b4 i1 i2 (by rw [d2]; exact hh) (by omega) (fun x hx => by cases hx) d1 (by omega) (by omega)
      exact ⟨0, st1, _, a1, c1, xm_define_i c2 (by rw [c3]; exact b1), c4⟩
    · obtain ⟨st1, a1, a2, a3, a4, a5⟩ := x3 q
      obtain ⟨ms', b1, b2, b3, b4⟩ := g3 q
      obtain ⟨c1, c2, c3, c4⟩ := OP_mk h a3 LN.rf a2 hk b2 b3 b4 hI hw hh (by omega) (fun x hx => by cases hx) hT (by omega) (by omega)
      exact ⟨_, st1, _, a1, c1, xm_define_i c2 (by rw [c3]; exact b1), c4⟩
theorem O_set {st : HS} {K : Nat → Nat → Nat} {σ : S} {kept : Nat} {pad : List Nat} {b th L R sh : Nat} {xs : Nat → Int32} (h : TOP st K σ kept pad b th L xs R) (hk : K 0 0 = sh) (hR : R + 1 < B20) (a1 a2 a3 : Int32) : ∃ v st1 st2, x_NS_set st sh a1 a2 a3 = some (v, st1) ∧ SC st1 b th L xs ∧ xm_set st1 th a1 a2 a3 = some (v, st2) ∧ OPR st kept b th L R sh xs st2 := by
  obtain ⟨hx, -, hm, ⟨m1, m2, m3⟩, hI, hw, hh, hr, hok, hT⟩ := id h
  by_cases q : m_isCell a1 = 0 ∨ a3 < 0 ∨ ¬ a3 ≤ 2
  · obtain ⟨c1, c2, c3, c4⟩ := OP_no h hk
    refine ⟨0, st, st, by rw [← hk]; exact X_set_bad hx q, c1, ?_, c4⟩
    rw [xm_set_i c2 (M_set_bad q), c3]
  · rcases isC_cases a1 with z | ⟨c, hc, rfl, -⟩
    · exact absurd (Or.inl z) q
    · have q1 : ¬ a3 < 0 := fun z => q (Or.inr (Or.inl z))
      have q2 : a3 ≤ 2 := by
        by_cases z : a3 ≤ 2
        · exact z
        · exact absurd (Or.inr (Or.inr z)) q
      obtain ⟨d, hd, rfl⟩ := nI_of2 (n := 2) (show (2 : Int32).toInt = 2 by decide) q1 q2
      obtain ⟨st1, a1, a2', a3, a4⟩ := X_set (n := a2) hx hc hd (by omega)
      rw [hk] at a1
      obtain ⟨ms', b1, b2, b3⟩ := M_set (n := a2) m1 hI.st hc hd (by omega)
      obtain ⟨i1, i2, i3⟩ := inv_set (n := a2) hI hw hc hd
      have rp : rP ms' pad := ⟨m2.1, by rw [b3.2.1]; exact m2.2.1, fun i t hi => by rw [b3.2.2.1]; exact m2.2.2 i t hi⟩
      obtain ⟨c1, c2, c3, c4⟩ := OP_mk h a3 (fun f a hl => Or.inl ⟨f, a, lv_setq f a hl, rfl⟩) a2' hk b2 rp b3.1 i1 i2 (Nat.le_trans (setq_T 0).2 hh) (by omega) hok (fun c' hc' x hx => by rw [(setq_T c').1] at hx; exact hT c' hc' x hx) (by unfold hNx; rw [a4]; omega) (by unfold hNs; rw [a4]; omega)
      exact ⟨1, st1, _, a1, c1, xm_set_i c2 (by rw [c3]; exact b1), c4⟩
theorem O_ask {st : HS} {K : Nat → Nat → Nat} {σ : S} {kept : Nat} {pad : List Nat} {b th L R sh : Nat} {xs : Nat → Int32} (h : TOP st K σ kept pad b th L xs R) (hk : K 0 0 = sh) (a : Int32) : ∃ v st1 st2, x_NS_ask st sh a = some (v, st1) ∧ SC st1 b th L xs ∧ xm_ask st1 th a = some (v, st2) ∧ OPR st kept b th L R sh xs st2 := by
  obtain ⟨hx, -, hm, ⟨m1, m2, m3⟩, hI, hw, hh, hr, hok, hT⟩ := id h
  rcases isC_cases a with q | ⟨c, hc, rfl, -⟩
  · obtain ⟨c1, c2, c3, c4⟩ := OP_no h hk
    refine ⟨-1, st, st, by rw [← hk]; exact X_ask_bad hx q, c1, ?_, c4⟩
    have : m_ask (hMS st th) a = some (-1, hMS st th) := by
      unfold m_ask
      rw [if_pos q]
    rw [xm_ask_i c2 this, c3]
  · obtain ⟨v, σ', ms', e1, e2, e3, e4, e5, e6, e7, e8, e9, e10, e11, e12⟩ := M_ask m1 hI hw hc m3 hx.2.2.2.2.2
    have hz := inv_z hI
    have hwz : ∀ a, sN (a_z σ) 35 a = 0 := hw
    obtain ⟨τ, t1, t2, -⟩ := T_value (T_all 60).1 (T_all 60).2 hz hc (hwz c) (fun _ a h1 h2 h3 => absurd (hwz a) h3) (by have := uw_le (σ := a_z σ); omega)
    obtain ⟨st1, K1, a1, a2, a3, a4, a5, a6, a7⟩ := X_ask hx hc hw hI (fun w τ' ev => by rw [t1] at ev; cases ev; exact t2.2.2.1) hh e1
    rw [hk] at a1
    have rp : rP ms' pad := ⟨m2.1, by rw [e5]; exact m2.2.1, fun i t hi => by rw [e6]; exact m2.2.2 i t hi⟩
    obtain ⟨c1, c2, c3, c4⟩ := OP_mk h a3 a4 a2 (a5.trans hk) e3 rp e4 e7 e8 (e10 hh) (by omega) hok (fun c' hc' x hx => by rw [e11] at hx; exact hT c' hc' x hx) (by omega) (by omega)
    exact ⟨v, st1, _, a1, c1, xm_ask_i c2 (by rw [c3]; exact e2), c4⟩
/-- the questions -/
theorem O_view {st : HS} {K : Nat → Nat → Nat} {σ : S} {kept : Nat} {pad : List Nat} {b th L R sh : Nat} {xs : Nat → Int32} (h : TOP st K σ kept pad b th L xs R) (hk : K 0 0 = sh) : OPR st kept b th L R sh xs st ∧
    (∃ v, x_NS_revision st sh = some v ∧ xm_revision st th = some v) ∧ (∀ a, ∃ v, x_NS_changed st sh a = some v ∧ xm_changed st th a = some v) ∧ (∀ a1 a2, ∃ v, x_NS_note st sh a1 a2 = some v ∧ xm_note st th a1 a2 = some v) ∧ (∀ a1 a2, ∃ v, x_NS_read st sh a1 a2 = some v ∧ xm_read st th a1 a2 = some v) ∧ ∀ a, ∃ v, x_NS_count st sh a = some v ∧ xm_count st th a = some v := by
  obtain ⟨hx, -, hm, ⟨m1, m2, m3⟩, hI, hw, hh, hr, hok, hT⟩ := id h
  obtain ⟨c1, c2, c3, c4⟩ := OP_no h hk
  subst hk
  refine ⟨c4, ⟨_, X_revision hx, xm_revision_i c2 (M_revision m1)⟩, fun a => ⟨_, X_changed hx a, xm_changed_i c2 (M_changed m1 a)⟩, fun a1 a2 => ?_, fun a1 a2 => ?_, fun a => ⟨_, X_count hx (fun x hx' => (hI.no x hx').1) a, xm_count_i c2 (M_count m1 a)⟩⟩
  · by_cases q : m_isCell a1 = 0 ∨ a2 < 0 ∨ ¬ a2 ≤ 7
    · exact ⟨-1, X_note_bad hx q, xm_note_i c2 (M_note_bad q)⟩
    · rcases isC_cases a1 with z | ⟨c, hc, rfl, -⟩
      · exact absurd (Or.inl z) q
      · have q1 : ¬ a2 < 0 := fun z => q (Or.inr (Or.inl z))
        have q2 : a2 ≤ 7 := by
          by_cases z : a2 ≤ 7
          · exact z
          · exact absurd (Or.inr (Or.inr z)) q
        obtain ⟨w, hw7, rfl⟩ := nI_of2 (n := 7) (show (7 : Int32).toInt = 7 by decide) q1 q2
        exact ⟨_, X_note hx hI hc hw7, xm_note_i c2 (M_note m1 hI hc hw7)⟩
  · rcases isC_cases a1 with z | ⟨c, hc, rfl, -⟩
    · exact ⟨-1, X_read_bad hx z, xm_read_i c2 (M_read_bad z)⟩
    · exact ⟨_, X_read hx hc, xm_read_i c2 (M_read m1 hI hc)⟩
theorem SC.len {st : HS} {b th L : Nat} {xs : Nat → Int32} (h : SC st b th L xs) : hLen st b = some (nI L) := hLen_of h.1 (by decide)
theorem SC.get {st : HS} {b th L j : Nat} {xs : Nat → Int32} (h : SC st b th L xs) (hj : j < L) (hL : L ≤ 193) : hAi st b 0 (nI j) = some (xs j) := by
  unfold hAi
  rw [h.1]
  show (if 100 % 100 = 0 then (ix (nI j) L).map xs else none) = _
  rw [if_pos rfl, ix_nI hj (by omega)]
  rfl
theorem SC.mod {st : HS} {b th L : Nat} {xs : Nat → Int32} (h : SC st b th L xs) : hIs st th 7 = some () := hIs_of h.2.1 (by decide)
theorem sub4_lt {L i : Nat} (hL : L ≤ 193) (hi : i ≤ 1000) : nI L - 4 < nI i ↔ L < i + 4 := by
  rw [Int32.lt_iff_toInt_lt, Int32.toInt_sub, nI_toInt (by omega), nI_toInt (by omega), show (4 : Int32).toInt = 4 by decide, Int.bmod_eq_of_le (by omega) (by omega)]
  omega
theorem law_loop {kept b th L sh : Nat} {xs : Nat → Int32} (hL : L ≤ 193) : ∀ (n N i R : Nat) (st : HS) (K : Nat → Nat → Nat) (σ : S) (pad : List Nat), TOP st K σ kept pad b th L xs R → K 0 0 = sh → i + 4 * n ≤ 800 → L < i + 4 * n → n < N → R + n + 1 < 10000 → ∃ st', x_Law_law_L28 N st b sh th (nI i) = some (1, st') ∧ hNx st' ≤ hNx st + 72 * n ∧ hNs st' ≤ hNs st + 1000 * n := by
  intro n
  induction n with
  | zero =>
    intro N i R st K σ pad h hk h1 h2 h3 h4
    obtain ⟨N, rfl⟩ : ∃ m, N = m + 1 := ⟨N - 1, by omega⟩
    have sc : SC st b th L xs := ⟨h.2.1.2.2.1, h.2.2.1⟩
    refine ⟨st, ?_, by omega, by omega⟩
    rw [x_Law_law_L28, sc.len]
    simp only [Option.bind_some]
    rw [if_pos ((sub4_lt hL (by omega)).mpr (by omega))]
  | succ n ih =>
    intro N i R st K σ pad h hk h1 h2 h3 h4
    obtain ⟨N, rfl⟩ : ∃ m, N = m + 1 := ⟨N - 1, by omega⟩
    have sc : SC st b th L xs := ⟨h.2.1.2.2.1, h.2.2.1⟩
    have hB : R + 1 < B20 := by unfold B20; omega
    rw [x_Law_law_L28, sc.len]
    simp only [Option.bind_some]
    by_cases q : L < i + 4
    · rw [if_pos ((sub4_lt hL (by omega)).mpr q)]
      exact ⟨st, rfl, by omega, by omega⟩
    rw [if_neg (fun z => q ((sub4_lt hL (by omega)).mp z))]
    have e1 : nI i + 1 = nI (i + 1) := nI_1 i
    have e2 : nI i + 2 = nI (i + 2) := by rw [show (2 : Int32) = nI 2 from rfl, nI_add]
    have e3 : nI i + 3 = nI (i + 3) := by rw [show (3 : Int32) = nI 3 from rfl, nI_add]
    have e4 : nI i + 4 = nI (i + 4) := by rw [show (4 : Int32) = nI 4 from rfl, nI_add]
    have his : hIs st sh 0 = some () := by rw [← hk]; exact h.1.rs.1
    have r0 : hAi st b 0 (nI i) = some (xs i) := sc.get (by omega) hL
    have ra : ∀ {s : HS}, SC s b th L xs → ∀ j, j < 4 → hAi s b 0 (nI (i + j)) = some (xs (i + j)) := fun h j hj => h.get (by omega) hL
    -- the rest
    have next : ∀ st2, OPR st kept b th L R sh xs st2 → ∃ st', x_Law_law_J332 (x_Law_law_L28 N) st2 b sh th (nI i) = some (1, st') ∧ hNx st' ≤ hNx st + 72 * (n + 1) ∧ hNs st' ≤ hNs st + 1000 * (n + 1) := fun st2 ho => by
      obtain ⟨K2, σ2, pad2, t1, t2, t3, t4⟩ := ho
      obtain ⟨st', g1, g2, g3⟩ := ih N (i + 4) (R + 1) st2 K2 σ2 pad2 t1 t2 (by omega) (by omega) (by omega) (by omega)
      refine ⟨st', ?_, by omega, by omega⟩
      unfold x_Law_law_J332
      simp only [Option.bind_some, e4]
      exact g1
    obtain ⟨vw, v4, v5, v6, v7, v8⟩ := O_view h hk
    rw [r0]
    simp only [Option.bind_some]
    by_cases c0 : xs i &&& 15 = 0
    · rw [if_pos c0, e1, ra sc 1 (by decide), his]
      simp only [Option.bind_some]
      obtain ⟨v, st1, st2, a1, a2, a3, a4⟩ := O_type h hk _ (chr_n (xs (i + 1)))
      rw [a1]
      simp only [Option.bind_some]
      unfold x_Law_law_J102
      rw [e1, ra a2 1 (by decide), a2.mod]
      simp only [Option.bind_some, a3]
      rw [if_pos trivial]
      exact next st2 a4
    rw [if_neg c0]
    by_cases c1 : xs i &&& 15 = 1
    · rw [if_pos c1, e1, ra sc 1 (by decide), his]
      simp only [Option.bind_some]
      obtain ⟨v, st1, st2, a1, a2, a3, a4⟩ := O_define h hk hB (xs (i + 1))
      rw [a1]
      simp only [Option.bind_some]
      unfold x_Law_law_J126
      rw [e1, ra a2 1 (by decide), a2.mod]
      simp only [Option.bind_some, a3]
      rw [if_pos trivial]
      exact next st2 a4
    rw [if_neg c1]
    by_cases c2 : xs i &&& 15 = 2
    · rw [if_pos c2, e1, e2, e3, ra sc 1 (by decide), ra sc 2 (by decide), ra sc 3 (by decide), his]
      simp only [Option.bind_some]
      obtain ⟨v, st1, st2, a1, a2, a3, a4⟩ := O_set h hk hB (xs (i + 1)) (xs (i + 2)) (xs (i + 3))
      rw [a1]
      simp only [Option.bind_some, ra a2 1 (by decide), ra a2 2 (by decide), ra a2 3 (by decide), a2.mod, a3]
      rw [if_pos trivial]
      exact next st2 a4
    rw [if_neg c2]
    by_cases c3 : xs i &&& 15 = 3
    · rw [if_pos c3, e1, ra sc 1 (by decide), his]
      simp only [Option.bind_some]
      obtain ⟨v, st1, st2, a1, a2, a3, a4⟩ := O_ask h hk (xs (i + 1))
      rw [a1]
      simp only [Option.bind_some]
      unfold x_Law_law_J192
      rw [e1, ra a2 1 (by decide), a2.mod]
      simp only [Option.bind_some, a3]
      rw [if_pos ((lg0 _ _).mpr rfl)]
      exact next st2 a4
    rw [if_neg c3]
    by_cases c4 : xs i &&& 15 = 4
    · obtain ⟨v, a1, a2⟩ := v4
      rw [if_pos c4, his]
      simp only [Option.bind_some, a1, sc.mod, a2]
      rw [if_pos trivial]
      exact next st vw
    rw [if_neg c4]
    by_cases c5 : xs i &&& 15 = 5
    · obtain ⟨v, a1, a2⟩ := v5 (xs (i + 1))
      rw [if_pos c5, e1, ra sc 1 (by decide), his]
      simp only [Option.bind_some, a1, sc.mod, a2]
      rw [if_pos trivial]
      exact next st vw
    rw [if_neg c5]
    by_cases c6 : xs i &&& 15 = 6
    · obtain ⟨v, a1, a2⟩ := v6 (xs (i + 1)) (xs (i + 2))
      rw [if_pos c6, e1, e2, ra sc 1 (by decide), ra sc 2 (by decide), his]
      simp only [Option.bind_some, a1, sc.mod, a2]
      rw [if_pos trivial]
      exact next st vw
    rw [if_neg c6]
    by_cases c7 : xs i &&& 15 = 7
    · obtain ⟨v, a1, a2⟩ := v7 (xs (i + 1)) (xs (i + 2))
      rw [if_pos c7, e1, e2, ra sc 1 (by decide), ra sc 2 (by decide), his]
      simp only [Option.bind_some, a1, sc.mod, a2]
      rw [if_pos trivial]
      exact next st vw
    rw [if_neg c7]
    by_cases c8 : xs i &&& 15 = 8
    · obtain ⟨v, a1, a2⟩ := v8 (xs (i + 1))
      rw [if_pos c8, e1, ra sc 1 (by decide), his]
      simp only [Option.bind_some, a1, sc.mod, a2]
      rw [if_pos trivial]
      exact next st vw
    rw [if_neg c8]
    exact next st vw
