/-! what a call may touch -/
def XF (b : Nat) (st : HS) (K : Nat → Nat → Nat) (σ : S) (st' : HS) (K' : Nat → Nat → Nat) (σ' : S) : Prop :=
  st'.2.2.2 = st.2.2.2 ∧ hNx st ≤ hNx st' ∧ (∀ q, q < b → (∀ f a, lv σ f a → K f a ≠ q) → st'.1 q = st.1 q) ∧ (∀ f a, lv σ' f a → (lv σ f a ∧ K' f a = K f a) ∨ b ≤ K' f a) ∧ ∀ f a, f ≠ 2 → f ≠ 3 → K' f a = K f a
theorem XF.rf {b : Nat} {st : HS} {K : Nat → Nat → Nat} {σ : S} : XF b st K σ st K σ := ⟨rfl, Nat.le_refl _, fun _ _ _ => rfl, fun f a h => Or.inl ⟨h, rfl⟩, fun _ _ _ _ => rfl⟩
theorem XF.t {b : Nat} {st st1 st2 : HS} {K K1 K2 : Nat → Nat → Nat} {σ σ1 σ2 : S} (h : XF b st K σ st1 K1 σ1) (g : XF b st1 K1 σ1 st2 K2 σ2) : XF b st K σ st2 K2 σ2 := by
  obtain ⟨h1, h2, h3, h4, h5⟩ := h
  obtain ⟨g1, g2, g3, g4, g5⟩ := g
  refine ⟨g1.trans h1, Nat.le_trans h2 g2, fun q hq hl => ?_, fun f a hl => ?_, fun f a h2 h3 => (g5 f a h2 h3).trans (h5 f a h2 h3)⟩
  · rw [g3 q hq (fun f a hf e => ?_), h3 q hq hl]
    rcases h4 f a hf with ⟨k1, k2⟩ | k
    · exact hl f a k1 (k2.symm.trans e)
    · omega
  · rcases g4 f a hl with ⟨k1, k2⟩ | k
    · rcases h4 f a k1 with ⟨l1, l2⟩ | l
      · exact Or.inl ⟨l1, k2.trans l2⟩
      · exact Or.inr (by rw [k2]; exact l)
    · exact Or.inr k
theorem XF.w {b b' : Nat} {st st' : HS} {K K' : Nat → Nat → Nat} {σ σ' : S} (h : XF b st K σ st' K' σ') (hb : b' ≤ b) : XF b' st K σ st' K' σ' := by
  obtain ⟨h1, h2, h3, h4, h5⟩ := h
  refine ⟨h1, h2, fun q hq hl => h3 q (by omega) hl, fun f a hl => ?_, h5⟩
  rcases h4 f a hl with k | k
  · exact Or.inl k
  · exact Or.inr (by omega)
/-- a write at a place of the layout, or at one that came later -/
theorem F1.fx {b : Nat} {st st' : HS} {K : Nat → Nat → Nat} {σ σ' : S} {a : Nat} (h : F1 st st' a) (ha : (∃ f c, lv σ f c ∧ K f c = a) ∨ b ≤ a) (hl : ∀ f c, lv σ' f c → lv σ f c) : XF b st K σ st' K σ' := by
  refine ⟨by rw [h.1], by unfold hNx; rw [h.1]; exact Nat.le_refl _, fun q hq hn => h.2 q ?_, fun f c hf => Or.inl ⟨hl f c hf, rfl⟩, fun _ _ _ _ => rfl⟩
  rcases ha with ⟨f, c, h1, h2⟩ | ha
  · subst h2
    exact fun e => hn f c h1 e.symm
  · omega
theorem F1.nx {st st' : HS} {a : Nat} (h : F1 st st' a) : hNx st' = hNx st ∧ hNs st' = hNs st := ⟨by unfold hNx; rw [h.1], by unfold hNs; rw [h.1]⟩
/-- a write beside the layout -/
theorem RX.off {st st' : HS} {K : Nat → Nat → Nat} {σ : S} {kept : Nat} {p : Int32} {o : Nat → Int32} {pad : List Nat} {q : Nat} {e0 : Ent} (h : RX st K σ kept p o pad) (hf : F1 st st' q) (hq : ∀ f a, lv σ f a → K f a ≠ q) (h0 : st.1 q = some e0) (hs : (∃ ci fs, e0 = .inl (ci, fs) ∧ ci < 100) ∨ ∃ k x, e0 = .inr (k, x) ∧ k < 100) : RX st' K σ kept p o pad := by
  obtain ⟨h1, h2, h3, h5, h6⟩ := h
  have hk : hKc st' = hKc st := by unfold hKc; rw [hf.1]
  refine ⟨fun f a hl => ?_, fun f a hl => by rw [hf.nx.1]; exact h2 f a hl, h3, ?_, h6⟩
  · obtain ⟨e, k1, k2⟩ := h1 f a hl
    exact ⟨e, by rw [hf.2 _ (hq f a hl)]; exact k1, by rw [hk]; exact k2⟩
  · refine h5.kept (by rw [hf.1]) (by rw [hf.nx.1]; exact Nat.le_refl _) (fun w e hw hqe hn => ?_)
    rw [hf.2 w]
    · exact hqe
    · intro z
      subst z
      rw [h0] at hqe
      cases hqe
      exact hn hs
/-- a new object beside the layout -/
theorem RX.push {st : HS} {K : Nat → Nat → Nat} {σ : S} {kept : Nat} {p : Int32} {o : Nat → Int32} {pad : List Nat} {e0 : Ent} {n : Nat} (h : RX st K σ kept p o pad) : RX (hPush st e0 n) K σ kept p o pad := by
  obtain ⟨h1, h2, h3, h5, h6⟩ := h
  refine ⟨fun f a hl => ?_, fun f a hl => by have := h2 f a hl; show K f a < hNx st + 1; omega, h3, ?_, h6⟩
  · obtain ⟨e, k1, k2⟩ := h1 f a hl
    exact ⟨e, by rw [hPush_s, if_neg (by have := h2 f a hl; omega)]; exact k1, k2⟩
  · refine h5.kept rfl (Nat.le_succ _) (fun w e hw hqe hn => ?_)
    rw [hPush_s, if_neg (by omega)]
    exact hqe
theorem XF.push {b : Nat} {st : HS} {K : Nat → Nat → Nat} {σ : S} {e0 : Ent} {n : Nat} (hb : b ≤ hNx st) : XF b st K σ (hPush st e0 n) K σ := by
  refine ⟨rfl, Nat.le_succ _, fun q hq hn => ?_, fun f a h => Or.inl ⟨h, rfl⟩, fun _ _ _ _ => rfl⟩
  rw [hPush_s, if_neg (by omega)]
/-- what a call keeps of the sheet -/
def PX (σ τ : S) : Prop := ss σ τ ∧ (∀ a, sN τ 35 a = sN σ 35 a) ∧ (∀ a, zc τ a ≤ zc σ a) ∧ ∀ a, sN σ 35 a ≠ 0 → nsm σ τ a
theorem PX.rf {σ : S} : PX σ σ := ⟨ss.rf, fun _ => rfl, fun _ => Nat.le_refl _, fun _ _ => nsm.rf⟩
theorem PX.t {σ τ ρ : S} (h : PX σ τ) (g : PX τ ρ) : PX σ ρ := ⟨h.1.t g.1, fun a => (g.2.1 a).trans (h.2.1 a), fun a => Nat.le_trans (g.2.2.1 a) (h.2.2.1 a), fun a ha => (h.2.2.2 a ha).t (g.2.2.2 a (by rw [h.2.1]; exact ha))⟩
def RoX (st : HS) (σ : S) (st' : HS) (σ' : S) : Prop := hNx st' + 3 * Z σ' ≤ hNx st + 3 * Z σ ∧ hNs st' + 36 * Z σ' ≤ hNs st + 36 * Z σ
theorem RoX.rf {st : HS} {σ : S} : RoX st σ st σ := ⟨Nat.le_refl _, Nat.le_refl _⟩
theorem RoX.t {st st1 st2 : HS} {σ σ1 σ2 : S} (h : RoX st σ st1 σ1) (g : RoX st1 σ1 st2 σ2) : RoX st σ st2 σ2 := ⟨Nat.le_trans g.1 h.1, Nat.le_trans g.2 h.2⟩
theorem RoX.f1 {st st' : HS} {σ σ' : S} {a : Nat} (h : F1 st st' a) (hz : Z σ' ≤ Z σ) : RoX st σ st' σ' := by
  unfold RoX
  rw [h.nx.1, h.nx.2]
  omega
def KW (σ : S) (K K' : Nat → Nat → Nat) : Prop := ∀ a, a < 12 → sN σ 35 a ≠ 0 → K' 2 a = K 2 a
def XB (n : Nat) : Prop := ∀ (st : HS) (K : Nat → Nat → Nat) (σ : S) (kept : Nat) (p : Int32) (o : Nat → Int32) (pad : List Nat) (c : Nat) (τ : S), RX st K σ kept p o pad → c < 12 → (ag n).1 σ c = some τ →
  ∃ st' K', (eg n).1 st (K 0 0) (K 1 c) = some st' ∧ RX st' K' τ kept p o pad ∧ XF (hNx st) st K σ st' K' τ ∧ PX σ τ ∧ RoX st σ st' τ ∧ KW σ K K' ∧ (sN σ 35 c = 0 → a_done τ c)
def XW (n : Nat) : Prop := ∀ (st : HS) (K : Nat → Nat → Nat) (σ : S) (kept : Nat) (p : Int32) (o : Nat → Int32) (pad : List Nat) (c : Nat) (τ : S), RX st K σ kept p o pad → c < 12 → sN σ 5 c ≠ 0 → (a_done σ c → sN σ 16 c = 0) → (ag n).2 σ c = some τ →
  ∃ st' K', (eg n).2 st (K 0 0) (K 1 c) = some st' ∧ RX st' K' τ kept p o pad ∧ XF (hNx st) st K σ st' K' τ ∧ ss σ τ ∧ (∀ a, sN τ 35 a = sN σ 35 a) ∧ (∀ a, zc τ a ≤ zc σ a) ∧ (∀ a, a ≠ c → sN σ 35 a ≠ 0 → nsm σ τ a) ∧ RoX st σ st' τ ∧ (∀ a, a < 12 → a ≠ c → sN σ 35 a ≠ 0 → K' 2 a = K 2 a) ∧ a_done τ c ∧ sN τ 16 c ≠ 0
theorem B20_lt {n : Nat} (h : n < B20) : n < 2 ^ 31 := Nat.lt_trans h (by decide)
theorem X_since {st : HS} {K : Nat → Nat → Nat} {σ : S} {kept : Nat} {p : Int32} {o : Nat → Int32} {pad : List Nat} {c : Nat} (h : RX st K σ kept p o pad) (hc : c < 12) : x_Cell_sinceWhen st (K 1 c) = some (nI (a_since σ c)) ∧ a_since σ c < B20 := by
  obtain ⟨r0, r1, r2, r3, r4, r5, r6, r7, r8, r9, r10, r11, r12⟩ := h.rc hc
  obtain ⟨v, -, -, b1, b2, b3, b4⟩ := h.cE hc
  unfold x_Cell_sinceWhen a_since
  rw [r2]
  simp only [Option.bind_some]
  by_cases q : sN σ 5 c = 0
  · rw [if_pos q, if_neg (by decide), if_pos q, r6]
    exact ⟨rfl, b3⟩
  · rw [if_neg q, if_pos rfl, if_neg q, r8]
    simp only [Option.bind_some]
    by_cases q2 : sN σ 15 c = 0
    · rw [if_pos q2, if_pos rfl, if_pos q2]
      exact ⟨rfl, by decide⟩
    · obtain ⟨n0, n1, n2, n3, n4, n5, n6, n7, n8⟩ := h.rn hc q2
      rw [if_neg q2, if_neg (by simp), if_neg q2]
      simp only [Option.bind_some, n4]
      exact ⟨trivial, (h.nE hc q2).2.2.2.1⟩
theorem X_steady {st : HS} {K : Nat → Nat → Nat} {σ : S} {kept : Nat} {p : Int32} {o : Nat → Int32} {pad : List Nat} {c : Nat} (h : RX st K σ kept p o pad) (hc : c < 12) : x_Cell_steady st (K 1 c) = some (nI (a_steady σ c)) ∧ a_steady σ c ≤ 2 := by
  obtain ⟨r0, r1, r2, r3, r4, r5, r6, r7, r8, r9, r10, r11, r12⟩ := h.rc hc
  obtain ⟨v, -, -, b1, b2, b3, b4⟩ := h.cE hc
  unfold x_Cell_steady a_steady
  rw [r2]
  simp only [Option.bind_some]
  by_cases q : sN σ 5 c = 0
  · rw [if_pos q, if_neg (by decide), if_pos q, r5]
    exact ⟨rfl, b2⟩
  · rw [if_neg q, if_pos rfl, if_neg q, r8]
    simp only [Option.bind_some]
    by_cases q2 : sN σ 15 c = 0
    · rw [if_pos q2, if_pos rfl, if_pos q2]
      exact ⟨rfl, by decide⟩
    · obtain ⟨n0, n1, n2, n3, n4, n5, n6, n7, n8⟩ := h.rn hc q2
      rw [if_neg q2, if_neg (by simp), if_neg q2]
      simp only [Option.bind_some, n5]
      exact ⟨trivial, (h.nE hc q2).2.2.2.2.1⟩
theorem X_min {st : HS} {a b : Nat} (ha : a < 2 ^ 31) (hb : b < 2 ^ 31) : x_Math_min st (nI a) (nI b) = some (nI (min a b)) := by
  unfold x_Math_min
  by_cases q : b < a
  · rw [if_pos (nI_lt q ha), Nat.min_eq_right (by omega)]
  · rw [if_neg (nI_nlt (by omega) hb), Nat.min_eq_left (by omega)]
theorem lv_ss {σ τ : S} (hs : ∀ a, sN τ 5 a = sN σ 5 a) (h15 : ∀ a, sN τ 15 a = sN σ 15 a) : ∀ f a, lv τ f a → lv σ f a := lv_of (fun a _ h => by rw [← h15]; exact h) (fun a _ h => by rw [← hs]; exact h)
/-- the reads are looked through -/
theorem X_unchL {n : Nat} (hB : XB n) {kept : Nat} {p : Int32} {o : Nat → Int32} {pad : List Nat} {c : Nat} (hc : c < 12) : ∀ (rs pre : List Nat) (least : Nat) (st : HS) (K : Nat → Nat → Nat) (σ σ' : S) (b : Bool) (N : Nat), RX st K σ kept p o pad → sR σ c = pre ++ rs → sN σ 15 c ≠ 0 → sN σ 35 c ≠ 0 → least ≤ 2 → a_unchL (ag n).1 c rs least σ = some (b, σ') → rs.length < N →
    ∃ st' K' ρ l, x_NS_unchanged_L4 (eg n).1 N st (K 0 0) (K 2 c) (nI least) (nI pre.length) = some (bI b, st') ∧ RX st' K' σ' kept p o pad ∧ XF (hNx st) st K σ st' K' σ' ∧ PX σ ρ ∧ σ' = (if b = true then sNs ρ 20 c l else ρ) ∧ RoX st σ st' σ' ∧ KW σ K K' := by
  intro rs
  induction rs with
  | nil =>
    intro pre least st K σ σ' b N h hr h15 h35 hl e hN
    obtain ⟨N, rfl⟩ : ∃ m, N = m + 1 := ⟨N - 1, by simp at hN; omega⟩
    cases e
    obtain ⟨n0, n1, n2, n3, n4, n5, n6, n7, n8⟩ := h.rn hc h15
    obtain ⟨r1, r2, r3, r4⟩ := h.rrd hc h15
    obtain ⟨st', g1, g2, g3⟩ := h.ndur hc h15 hl
    have hz : Z (sNs σ 20 c least) = Z σ := by
      have : ∀ a, zc (sNs σ 20 c least) a = zc σ a := fun a => rfl
      unfold Z
      simp only [this]
    refine ⟨st', K, σ, least, ?_, g2, g3.fx (Or.inl ⟨2, c, ⟨hc, h15⟩, rfl⟩) (lv_ss (fun _ => rfl) (fun _ => rfl)), PX.rf, by rw [if_pos rfl], RoX.f1 g3 (by rw [hz]; exact Nat.le_refl _), fun _ _ _ => rfl⟩
    rw [x_NS_unchanged_L4, n8]
    simp only [Option.bind_some]
    rw [hr, List.append_nil, if_pos (nI_le (Nat.le_refl _) (by rw [hr, List.append_nil] at r3; omega)), g1]
    rfl
  | cons r rs ih =>
    intro pre least st K σ σ' b N h hr h15 h35 hl e hN
    obtain ⟨N, rfl⟩ : ∃ m, N = m + 1 := ⟨N - 1, by simp at hN; omega⟩
    rw [List.length_cons] at hN
    rw [a_unchL] at e
    obtain ⟨τ, e1, e2⟩ := obi e
    obtain ⟨n0, n1, n2, n3, n4, n5, n6, n7, n8⟩ := h.rn hc h15
    obtain ⟨r1, r2, r3, r4⟩ := h.rrd hc h15
    have hr12 : r < 12 := r1 r (by rw [hr]; simp)
    have hrg : (sR σ c)[pre.length]? = some r := by rw [hr]; simp
    have hlen : pre.length < (sR σ c).length := (List.getElem?_eq_some_iff.mp hrg).1
    obtain ⟨st1, K1, g1, g2, g3, g4, g5, g6, g7⟩ := hB st K σ kept p o pad r τ h hr12 e1
    have k1 : K1 1 r = K 1 r := g3.2.2.2.2 1 r (by decide) (by decide)
    have k0 : K1 0 0 = K 0 0 := g3.2.2.2.2 0 0 (by decide) (by decide)
    have k2 : K1 2 c = K 2 c := g6 c hc h35
    have hm := g4.2.2.2 c h35
    have h15' : sN τ 15 c ≠ 0 := by rw [hm.1]; exact h15
    obtain ⟨m0, m1, m2, m3, m4, m5, m6, m7, m8⟩ := g2.rn hc h15'
    obtain ⟨c0, c1, c2, c3, c4, c5, c6, c7, c8, c9, c10, c11, c12⟩ := g2.rc hr12
    obtain ⟨v, -, -, b1, -⟩ := g2.cE hr12
    obtain ⟨s1, s2⟩ := X_since g2 hr12
    obtain ⟨d1, d2⟩ := X_steady g2 hr12
    have b18 := (g2.nE hc h15').2.2.1
    rw [k1] at c0 c3 s1 d1
    rw [k2] at m3
    rw [x_NS_unchanged_L4, n8]
    simp only [Option.bind_some]
    rw [if_neg (nI_ge hlen (by omega)), n7]
    simp only [Option.bind_some, r4 _ _ hrg, h.rs.1, g1]
    unfold x_NS_unchanged_J26
    simp only [c3, Option.bind_some, nI0 (show sN τ 35 r < 2 ^ 31 by omega)]
    by_cases q1 : sN τ 35 r = 0
    · rw [if_pos q1, c0]
      simp only [Option.bind_some, s1, m3]
      by_cases q2 : sN τ 18 c < a_since τ r
      · rw [if_pos (Or.inr q2)] at e2
        rw [if_neg (nI_ge q2 (B20_lt s2))]
        cases e2
        exact ⟨st1, K1, σ', 0, rfl, g2, g3, g4, by rw [if_neg (by decide)], g5, g6⟩
      · rw [if_neg (by
          rintro (w | w)
          · exact w q1
          · exact q2 w)] at e2
        rw [if_pos (nI_le (by omega) (B20_lt b18))]
        simp only [d1, Option.bind_some, X_min (show least < 2 ^ 31 by omega) (show a_steady τ r < 2 ^ 31 by omega), nI_1]
        obtain ⟨st2, K2, ρ, l, l1, l2, l3, l4, l5, l6, l7⟩ := ih (pre ++ [r]) (min least (a_steady τ r)) st1 K1 τ σ' b N g2 (by rw [hm.2.2.2.2.2.2, hr]; simp) h15' (by rw [g4.2.1]; exact h35) (by omega) e2 (by omega)
        refine ⟨st2, K2, ρ, l, ?_, l2, g3.t (l3.w g3.2.1), g4.t l4, l5, g5.t l6, fun a ha hw => (l7 a ha (by rw [g4.2.1]; exact hw)).trans (g6 a ha hw)⟩
        rw [k0, k2, List.length_append, List.length_singleton] at l1
        exact l1
    · rw [if_pos (Or.inl q1)] at e2
      rw [if_neg q1]
      cases e2
      exact ⟨st1, K1, σ', 0, rfl, g2, g3, g4, by rw [if_neg (by decide)], g5, g6⟩
