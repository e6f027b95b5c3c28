/-! the class' ask -/
abbrev o0 : Nat → Int32 := fun _ => 0
def XT (st : HS) (K : Nat → Nat → Nat) (σ : S) (st' : HS) : Prop := st'.2.2.2 = st.2.2.2 ∧ hNx st ≤ hNx st' ∧ ∀ q, q < hNx st → (∀ f a, lv σ f a → K f a ≠ q) → st'.1 q = st.1 q
theorem XF.xt {st st' : HS} {K K' : Nat → Nat → Nat} {σ σ' : S} (h : XF (hNx st) st K σ st' K' σ') : XT st K σ st' := ⟨h.1, h.2.1, h.2.2.1⟩
/-- places are old ones or new -/
def LN (st : HS) (K : Nat → Nat → Nat) (σ : S) (K' : Nat → Nat → Nat) (σ' : S) : Prop := ∀ f a, lv σ' f a → (∃ g b, lv σ g b ∧ K' f a = K g b) ∨ hNx st ≤ K' f a
theorem XF.ln {st st' : HS} {K K' : Nat → Nat → Nat} {σ σ' : S} (h : XF (hNx st) st K σ st' K' σ') : LN st K σ K' σ' := fun f a hl => by
  rcases h.2.2.2.1 f a hl with ⟨k1, k2⟩ | k
  · exact Or.inl ⟨f, a, k1, k2⟩
  · exact Or.inr k
theorem X_held {st : HS} {K : Nat → Nat → Nat} {σ : S} {kept : Nat} {p : Int32} {o : Nat → Int32} {pad : List Nat} (h : RX st K σ kept p o pad) (h16 : ∀ a, a < 12 → sN σ 16 a ≠ 0 → sN σ 15 a ≠ 0) : x_NS_held st (K 0 0) = some (nI (a_held σ)) := by
  have loop : ∀ (k j n N : Nat), j + k = 12 → k < N → x_NS_held_L4 N st (K 0 0) (nI n) (nI j) = some (nI (a_hF σ k j n)) := by
    intro k
    induction k with
    | zero =>
      intro j n N hj hN
      obtain ⟨N, rfl⟩ : ∃ m, N = m + 1 := ⟨N - 1, by omega⟩
      rw [x_NS_held_L4, if_pos (show (12 : Int32) ≤ nI j from nI_le (a := 12) (by omega) (by omega))]
      rfl
    | succ k ih =>
      intro j n N hj hN
      obtain ⟨N, rfl⟩ : ∃ m, N = m + 1 := ⟨N - 1, by omega⟩
      have hj12 : j < 12 := by omega
      obtain ⟨c0, c1, c2, c3, c4, c5, c6, c7, c8, c9, c10, c11, c12⟩ := h.rc hj12
      have z0 : nI n + 0 = nI n := by rw [show (0 : Int32) = nI 0 from rfl, nI_add]; rfl
      rw [x_NS_held_L4, if_neg (show ¬ (12 : Int32) ≤ nI j from nI_ge (b := 12) hj12 (by decide)), h.rs.2.2.1]
      simp only [Option.bind_some, h.rca hj12, c8]
      unfold x_NS_held_J42 x_NS_held_J43
      rw [a_hF]
      by_cases q15 : sN σ 15 j = 0
      · have q16 : sN σ 16 j = 0 := by
          by_cases z : sN σ 16 j = 0
          · exact z
          · exact absurd q15 (h16 j hj12 z)
        rw [if_pos q15, if_pos rfl]
        simp only [Option.bind_some, z0, nI_1]
        rw [show h1 σ j = 0 by unfold h1; rw [if_pos q16], Nat.add_zero]
        exact ih (j + 1) n N (by omega) (by omega)
      · obtain ⟨n0, n1, n2, n3, n4, n5, n6, n7, n8⟩ := h.rn hj12 q15
        have b16 := (h.nE hj12 q15).2.1
        rw [if_neg q15, if_neg (by simp)]
        simp only [Option.bind_some, n1, nI0 (show sN σ 16 j < 2 ^ 31 by omega), z0, nI_1]
        by_cases q16 : sN σ 16 j = 0
        · rw [if_pos q16, show h1 σ j = 0 by unfold h1; rw [if_pos q16], Nat.add_zero]
          exact ih (j + 1) n N (by omega) (by omega)
        · rw [if_neg q16, show h1 σ j = 1 by unfold h1; rw [if_neg q16]]
          exact ih (j + 1) (n + 1) N (by omega) (by omega)
  exact loop 12 0 0 1000 (by decide) (by decide)
theorem X_drop {st : HS} {K : Nat → Nat → Nat} {σ : S} {kept : Nat} {p : Int32} {o : Nat → Int32} {pad : List Nat} (h : RX st K σ kept p o pad) (h16 : ∀ a, a < 12 → sN σ 16 a ≠ 0 → sN σ 15 a ≠ 0) : ∃ st', x_NS_dropOne st (K 0 0) = some st' ∧ RX st' K (a_drop σ) kept p o pad ∧ XF (hNx st) st K σ st' K (a_drop σ) ∧ st'.2 = st.2 := by
  have loop : ∀ (k j N : Nat) (x : Option Nat), j + k = 12 → k < N → (∀ b, x = some b → b < 12 ∧ sN σ 16 b ≠ 0) → x_NS_dropOne_L4 N st (K 0 0) (x.map (K 2)) (nI j) = (match a_oF σ k j x with | none => some st | some b => (hP st (K 2 b) 3 0 (.int 0)).bind fun s => some s) := by
    intro k
    induction k with
    | zero =>
      intro j N x hj hN hx
      obtain ⟨N, rfl⟩ : ∃ m, N = m + 1 := ⟨N - 1, by omega⟩
      rw [x_NS_dropOne_L4, if_pos (show (12 : Int32) ≤ nI j from nI_le (a := 12) (by omega) (by omega)), a_oF]
      cases x with
      | none => rfl
      | some b => rfl
    | succ k ih =>
      intro j N x hj hN hx
      obtain ⟨N, rfl⟩ : ∃ m, N = m + 1 := ⟨N - 1, by omega⟩
      have hj12 : j < 12 := by omega
      obtain ⟨c0, c1, c2, c3, c4, c5, c6, c7, c8, c9, c10, c11, c12⟩ := h.rc hj12
      rw [x_NS_dropOne_L4, if_neg (show ¬ (12 : Int32) ≤ nI j from nI_ge (b := 12) hj12 (by decide)), h.rs.2.2.1]
      simp only [Option.bind_some, h.rca hj12, c8]
      unfold x_NS_dropOne_J46 x_NS_dropOne_J48
      rw [a_oF]
      by_cases q15 : sN σ 15 j = 0
      · have q16 : sN σ 16 j = 0 := by
          by_cases z : sN σ 16 j = 0
          · exact z
          · exact absurd q15 (h16 j hj12 z)
        rw [if_pos q15, if_pos rfl, if_pos q16]
        simp only [Option.bind_some, nI_1]
        exact ih (j + 1) N x (by omega) (by omega) hx
      · obtain ⟨n0, n1, n2, n3, n4, n5, n6, n7, n8⟩ := h.rn hj12 q15
        have b16 := (h.nE hj12 q15).2.1
        rw [if_neg q15, if_neg (by simp)]
        simp only [Option.bind_some, n1, nI0 (show sN σ 16 j < 2 ^ 31 by omega), nI_1]
        by_cases q16 : sN σ 16 j = 0
        · rw [if_pos q16, if_pos q16]
          exact ih (j + 1) N x (by omega) (by omega) hx
        · rw [if_neg q16, if_neg q16]
          cases x with
          | none =>
            rw [if_pos (show Option.map (K 2) none = none from rfl)]
            exact ih (j + 1) N (some j) (by omega) (by omega) (fun b hb => by cases hb; exact ⟨hj12, q16⟩)
          | some b =>
            obtain ⟨hb1, hb2⟩ := hx b rfl
            have u := (h.rn hb1 (h16 b hb1 hb2)).2.2.2.2.2.2.1
            rw [if_neg (by simp)]
            simp only [Option.map_some, Option.bind_some, n6, u]
            unfold a_os
            dsimp only
            by_cases q : sI σ 23 j < sI σ 23 b
            · rw [if_pos q, if_neg (fun w => absurd (Int32.lt_of_lt_of_le q w) Int32.lt_irrefl)]
              exact ih (j + 1) N (some j) (by omega) (by omega) (fun b hb => by cases hb; exact ⟨hj12, q16⟩)
            · rw [if_neg q, if_pos (Int32.not_lt.mp q)]
              exact ih (j + 1) N (some b) (by omega) (by omega) hx
  have e := loop 12 0 1000 none (by decide) (by decide) (fun b hb => by cases hb)
  replace e : x_NS_dropOne st (K 0 0) = _ := e
  have ho := (a_oF_ok (σ := σ) 12 0 none (by decide) (fun b hb => by cases hb)).1
  unfold a_drop a_old
  rw [e]
  cases q : a_oF σ 12 0 none with
  | none => exact ⟨st, rfl, h, XF.rf, rfl⟩
  | some b =>
    obtain ⟨hb1, hb2⟩ := ho b q
    obtain ⟨st', g1, g2, g3⟩ := h.nhas hb1 (h16 b hb1 hb2)
    refine ⟨st', ?_, g2, g3.fx (Or.inl ⟨2, b, ⟨hb1, h16 b hb1 hb2⟩, rfl⟩) (lv_ss (fun _ => rfl) (fun _ => rfl)), g3.1⟩
    dsimp only
    rw [g1]
    rfl
theorem h16_drop {σ : S} (h16 : ∀ a, a < 12 → sN σ 16 a ≠ 0 → sN σ 15 a ≠ 0) : ∀ a, a < 12 → sN (a_drop σ) 16 a ≠ 0 → sN (a_drop σ) 15 a ≠ 0 := by
  intro a ha
  unfold a_drop
  cases a_old σ with
  | none => exact h16 a ha
  | some b =>
    dsimp only
    intro hn
    show sN σ 15 a ≠ 0
    rw [sN_sNs] at hn
    by_cases q : a = b
    · rw [if_pos ⟨rfl, q⟩] at hn; exact absurd rfl hn
    · rw [if_neg (fun z => q z.2)] at hn; exact h16 a ha hn
theorem X_evict {kept : Nat} {p : Int32} {o : Nat → Int32} {pad : List Nat} {K : Nat → Nat → Nat} {v : Int64} : ∀ (n N m : Nat) (st : HS) (σ : S), RX st K σ kept p o pad → (∀ a, a < 12 → sN σ 16 a ≠ 0 → sN σ 15 a ≠ 0) → m - kept = n → m ≤ 12 → n < N → ∃ st', x_NS_ask_L41 N st (K 0 0) v (nI m) = some (v, st') ∧ RX st' K (a_ev n σ) kept p o pad ∧ XF (hNx st) st K σ st' K (a_ev n σ) ∧ st'.2 = st.2 := by
  intro n
  induction n with
  | zero =>
    intro N m st σ h h16 hm h12 hN
    obtain ⟨N, rfl⟩ : ∃ m, N = m + 1 := ⟨N - 1, by omega⟩
    refine ⟨st, ?_, h, XF.rf, rfl⟩
    have hk := h.2.2.2.2.2
    rw [x_NS_ask_L41, h.rs.2.1]
    simp only [Option.bind_some]
    rw [if_pos (nI_le (by omega) (by omega))]
  | succ n ih =>
    intro N m st σ h h16 hm h12 hN
    obtain ⟨N, rfl⟩ : ∃ m, N = m + 1 := ⟨N - 1, by omega⟩
    obtain ⟨m, rfl⟩ : ∃ x, m = x + 1 := ⟨m - 1, by omega⟩
    obtain ⟨st1, g1, g2, g3, g4⟩ := X_drop h h16
    obtain ⟨st2, l1, l2, l3, l4⟩ := ih N m st1 (a_drop σ) g2 (h16_drop h16) (by omega) (by omega) (by omega)
    refine ⟨st2, ?_, l2, g3.t (l3.w g3.2.1), l4.trans g4⟩
    rw [x_NS_ask_L41, h.rs.2.1]
    simp only [Option.bind_some]
    rw [if_neg (nI_ge (by omega) (by omega)), h.rs.1]
    simp only [Option.bind_some, g1, nI_m1]
    exact l1
theorem X_cell {st : HS} {K : Nat → Nat → Nat} {σ : S} {kept : Nat} {p : Int32} {o : Nat → Int32} {pad : List Nat} (h : RX st K σ kept p o pad) : (∀ c, c < 12 → x_NS_cell st (K 0 0) (nI c) = some (some (K 1 c))) ∧ ∀ a, m_isCell a = 0 → x_NS_cell st (K 0 0) a = some none := by
  refine ⟨fun c hc => ?_, fun a ha => ?_⟩
  · unfold x_NS_cell
    rw [if_neg (nI_pos (by omega)), if_pos (show nI c < (12 : Int32) from nI_lt (b := 12) hc (by decide)), h.rs.2.2.1]
    simp only [Option.bind_some, h.rca hc]
  · unfold x_NS_cell x_NS_cell_J10
    unfold m_isCell at ha
    by_cases q : a < 0
    · rw [if_pos q]
    · rw [if_neg q] at ha ⊢
      by_cases q2 : a < 12
      · rw [if_neg (fun w => absurd (Int32.lt_of_lt_of_le q2 w) Int32.lt_irrefl)] at ha
        cases ha
      · rw [if_neg q2]
theorem X_zero {st : HS} {K : Nat → Nat → Nat} {σ : S} {kept : Nat} {o : Nat → Int32} {pad : List Nat} (h : RX st K σ kept 0 o pad) : ∃ s1 s2 s3, hP st (K 0 0) 0 6 (.int 0) = some s1 ∧ hP s1 (K 0 0) 0 7 (.int 0) = some s2 ∧ hP s2 (K 0 0) 0 8 (.int 0) = some s3 ∧ RX s3 K (a_z σ) kept 0 o pad ∧ XF (hNx st) st K σ s3 K (a_z σ) ∧ s3.2 = st.2 := by
  obtain ⟨s1, a1, a2, a3⟩ := h.setS (k := 6) (v := .int 0) (σ' := sIs σ 26 0 0) (p' := 0) (by decide) rfl h.sE.2 (fun a => rfl) (fun a => ⟨rfl, rfl, rfl⟩) (fun a => ⟨rfl, rfl, rfl⟩) (fun d => rfl)
  obtain ⟨s2, b1, b2, b3⟩ := a2.scnt (w := 1) (x := 0) (Or.inl rfl)
  obtain ⟨s3, c1, c2, c3⟩ := b2.scnt (w := 2) (x := 0) (Or.inr rfl)
  refine ⟨s1, s2, s3, a1, b1, c1, c2, ?_, by rw [c3.1, b3.1, a3.1]⟩
  exact ((a3.fx (Or.inl ⟨0, 0, rfl, rfl⟩) (σ' := sIs σ 26 0 0) (lv_ss (fun _ => rfl) (fun _ => rfl))).t (b3.fx (Or.inl ⟨0, 0, rfl, rfl⟩) (σ' := sIs (sIs σ 26 0 0) 26 1 0) (lv_ss (fun _ => rfl) (fun _ => rfl)))).t (c3.fx (Or.inl ⟨0, 0, rfl, rfl⟩) (lv_ss (fun _ => rfl) (fun _ => rfl)))
theorem X_ask_bad {st : HS} {K : Nat → Nat → Nat} {σ : S} {kept : Nat} {p : Int32} {o : Nat → Int32} {pad : List Nat} (h : RX st K σ kept p o pad) {a : Int32} (ha : m_isCell a = 0) : x_NS_ask st (K 0 0) a = some (-1, st) := by
  unfold x_NS_ask
  rw [h.rs.1]
  simp only [Option.bind_some, (X_cell h).2 a ha]
  rw [if_pos trivial]
theorem X_ask {st : HS} {K : Nat → Nat → Nat} {σ σ' : S} {kept : Nat} {pad : List Nat} {c : Nat} {v : Int64} (h : RX st K σ kept 0 o0 pad) (hc : c < 12) (hw : ∀ a, sN σ 35 a = 0) (hI : Inv σ) (hI' : ∀ w τ, a_value (ag 60).1 (ag 60).2 (a_z σ) c = some (w, τ) → Inv τ) (hh : a_held σ ≤ kept) (e : a_ask σ c kept = some (v, σ')) :
    ∃ st' K', x_NS_ask st (K 0 0) (nI c) = some (v, st') ∧ RX st' K' σ' kept 0 o0 pad ∧ XT st K σ st' ∧ LN st K σ K' σ' ∧ K' 0 0 = K 0 0 ∧ hNx st' ≤ hNx st + 72 ∧ hNs st' ≤ hNs st + 864 := by
  obtain ⟨s1, s2, s3, a1, a2, a3, a4, a5, a6⟩ := X_zero h
  have i16 : ∀ {τ : S}, Inv τ → ∀ a, a < 12 → sN τ 16 a ≠ 0 → sN τ 15 a ≠ 0 := fun hi a ha => (hi.no a ha).1
  -- the value
  obtain ⟨w, τ, ev, hkk⟩ : ∃ w τ, a_value (ag 60).1 (ag 60).2 (a_z σ) c = some (w, τ) ∧ (v = w ∧ σ' = a_evict τ kept) := by
    unfold a_ask at e
    by_cases q : sN σ 5 c = 0
    · rw [if_pos q] at e
      cases e
      refine ⟨_, a_z σ, ?_, rfl, ?_⟩
      · unfold a_value
        rw [if_pos (show sN (a_z σ) 5 c = 0 from q)]
        rfl
      · unfold a_evict
        have : a_held (a_z σ) = a_held σ := rfl
        rw [this, Nat.sub_eq_zero_of_le hh]
        rfl
    · rw [if_neg q] at e
      obtain ⟨⟨w, τ⟩, e1, e2⟩ := omi e
      cases e2
      exact ⟨w, τ, e1, rfl, rfl⟩
  obtain ⟨rfl, rfl⟩ := hkk
  obtain ⟨s4, K4, b1, b2, b3, b4, b5, b6, b7⟩ := X_value (X_all 60).1 (X_all 60).2 a4 hc (hw c) ev
  have k0 : K4 0 0 = K 0 0 := b3.2.2.2.2 0 0 (by decide) (by decide)
  have hτ := hI' _ _ ev
  have eh := X_held b2 (i16 hτ)
  obtain ⟨s5, c1, c2, c3, c4⟩ := X_evict (v := v) (a_held τ - kept) 1000 (a_held τ) s4 τ b2 (i16 hτ) rfl a_held_le (by have := a_held_le (σ := τ); omega)
  have FF := (a5.t (b3.w a5.2.1)).t (c3.w (Nat.le_trans a5.2.1 b3.2.1))
  refine ⟨s5, K4, ?_, c2, FF.xt, FF.ln, k0, ?_, ?_⟩
  · unfold x_NS_ask
    rw [h.rs.1]
    simp only [Option.bind_some, (X_cell h).1 c hc]
    rw [if_neg (by simp), a1]
    simp only [Option.bind_some, a2, a3, a4.rs.1]
    unfold x_NS_valueK
    rw [b1]
    simp only [Option.bind_some]
    unfold x_NS_ask_J34
    rw [← k0, b2.rs.1, eh]
    simp only [Option.bind_some]
    exact c1
  · have z1 := b5.1
    have z2 : Z (a_z σ) ≤ 24 := Z_le24
    have z3 : hNx s3 = hNx st := by unfold hNx; rw [a6]
    have z4 : hNx s5 = hNx s4 := by unfold hNx; rw [c4]
    omega
  · have z1 := b5.2
    have z2 : Z (a_z σ) ≤ 24 := Z_le24
    have z3 : hNs s3 = hNs st := by unfold hNs; rw [a6]
    have z4 : hNs s5 = hNs s4 := by unfold hNs; rw [c4]
    omega
