theorem RX.rfo {st : HS} {K : Nat → Nat → Nat} {σ : S} {kept : Nat} {p : Int32} {o : Nat → Int32} {pad : List Nat} (h : RX st K σ kept p o pad) {c : Nat} (hc : c < 12) (h5 : sN σ 5 c ≠ 0) :
    hR st (K 4 c) 2 0 = some (some (K 5 c)) ∧ hR st (K 4 c) 2 1 = some (some (K 7 c)) ∧ hR st (K 4 c) 2 2 = some (some (K 8 c)) ∧ wt (sC σ c) ∧ hLen st (K 7 c) = some (nI (sC σ c).length) ∧ ∀ i q, (sC σ c)[i]? = some q → hAi st (K 8 c) 0 (nI i) = some (nI q.2) ∧ hAr st (K 7 c) 5 (nI i) = some (some (hKc st (opX q.1))) := by
  obtain ⟨e4, h4, h4', w1, w2, w3⟩ := h.at (f := 4) (a := c) ⟨hc, h5⟩
  obtain ⟨e7, h7, g7, h7', k7⟩ := h.at (f := 7) (a := c) ⟨hc, h5⟩
  obtain ⟨e8, h8, g8, h8', k8⟩ := h.at (f := 8) (a := c) ⟨hc, h5⟩
  subst h4'
  subst h7'
  subst h8'
  have hl : (sC σ c).length ≤ 40 := by obtain ⟨h, -, -, hl, -⟩ := w1; exact hl
  refine ⟨hR_of h4 (by decide) rfl, hR_of h4 (by decide) rfl, hR_of h4 (by decide) rfl, w1, hLen_of h7 (by decide), fun i q hi => ?_⟩
  have hlt := (List.getElem?_eq_some_iff.mp hi).1
  rw [hAi_of h8 (by decide) hlt (by omega), hAr_of h7 hlt (by omega), k7 i q hi, k8 i q hi]
  exact ⟨rfl, rfl⟩
theorem RX.ko {st : HS} {K : Nat → Nat → Nat} {σ : S} {kept : Nat} {p : Int32} {o : Nat → Int32} {pad : List Nat} (h : RX st K σ kept p o pad) {i : Nat} (hi : i < 11) : hIs st (hKc st i) 8 = some () ∧ hI st (hKc st i) 8 0 = some (nI i) := by
  obtain ⟨-, e⟩ := h.2.2.2.1.1 i hi
  refine ⟨?_, ?_⟩
  · unfold hIs
    rw [e]
    rfl
  · unfold hI hG
    rw [e]
    rfl
theorem i64_lt (x y : Int32) : x.toInt64 < y.toInt64 ↔ x < y := by
  rw [Int64.lt_iff_toInt_lt, Int32.lt_iff_toInt_lt, Int32.toInt_toInt64, Int32.toInt_toInt64]
theorem i64_eq (x y : Int32) : x.toInt64 = y.toInt64 ↔ x = y := by
  constructor
  · intro h
    have := congrArg Int64.toInt32 h
    rw [Int32.toInt32_toInt64, Int32.toInt32_toInt64] at this
    exact this
  · intro h; rw [h]
theorem X_both {st : HS} {K : Nat → Nat → Nat} {σ : S} {kept : Nat} {p : Int32} {o : Nat → Int32} {pad : List Nat} (h : RX st K σ kept p o pad) {op : Nat} (h1 : 4 ≤ op) (h2 : op ≤ 8) (x y : Int32) : x_NS_both st (hKc st (opX op)) x.toInt64 y.toInt64 = some (o_bin op x y).toInt64 := by
  have go : ∀ i, i < 11 → x_NS_both st (hKc st i) x.toInt64 y.toInt64 = (if nI i = 3 then some ((((x.toInt64 + y.toInt64)).toInt32 : Int32).toInt64) else if nI i = 4 then some ((((x.toInt64 - y.toInt64)).toInt32 : Int32).toInt64) else if nI i = 5 then some ((((x.toInt64 * y.toInt64)).toInt32 : Int32).toInt64) else if nI i = 6 then (if (lg_cmp x.toInt64 y.toInt64) = 0 then some (1 : Int64) else some (0 : Int64)) else if nI i = 7 then (if 0 ≤ (lg_cmp x.toInt64 y.toInt64) then some (0 : Int64) else some (1 : Int64)) else (if (lg_cmp x.toInt64 y.toInt64) = 0 then some (1 : Int64) else some (0 : Int64))) := fun i hi => by
    unfold x_NS_both x_Enum_ordinal
    rw [(h.ko hi).1, (h.ko hi).2]
    rfl
  rcases (show op = 4 ∨ op = 5 ∨ op = 6 ∨ op = 7 ∨ op = 8 by omega) with e | e | e | e | e <;> subst e
  · rw [show opX 4 = 5 from rfl, go 5 (by decide), if_neg (by decide +kernel), if_neg (by decide +kernel), if_pos (show nI 5 = (5 : Int32) from rfl), Int64.toInt32_mul, Int32.toInt32_toInt64, Int32.toInt32_toInt64]
    rfl
  · rw [show opX 5 = 3 from rfl, go 3 (by decide), if_pos (show nI 3 = (3 : Int32) from rfl), Int64.toInt32_add, Int32.toInt32_toInt64, Int32.toInt32_toInt64]
    rfl
  · rw [show opX 6 = 4 from rfl, go 4 (by decide), if_neg (by decide +kernel), if_pos (show nI 4 = (4 : Int32) from rfl), Int64.toInt32_sub, Int32.toInt32_toInt64, Int32.toInt32_toInt64]
    rfl
  · rw [show opX 7 = 7 from rfl, go 7 (by decide), if_neg (by decide +kernel), if_neg (by decide +kernel), if_neg (by decide +kernel), if_neg (by decide +kernel), if_pos (show nI 7 = (7 : Int32) from rfl)]
    show _ = some (if x < y then (1 : Int32) else 0).toInt64
    have hgt : (x.toInt64 > y.toInt64) ↔ y < x := i64_lt y x
    have hle : lg_cmp x.toInt64 y.toInt64 = if y < x then 1 else if x = y then 0 else -1 := by
      unfold lg_cmp
      simp only [hgt, i64_eq]
    rw [hle]
    by_cases q : y < x
    · rw [if_pos q, if_pos (by decide +kernel), if_neg (fun w => absurd (Int32.lt_trans q w) Int32.lt_irrefl)]; rfl
    · rw [if_neg q]
      by_cases q2 : x = y
      · rw [if_pos q2, if_pos (by decide +kernel), if_neg (by rw [q2]; exact Int32.lt_irrefl)]; rfl
      · rw [if_neg q2, if_neg (by decide +kernel), if_pos (by
          rw [Int32.lt_iff_toInt_lt] at q ⊢
          have : x.toInt ≠ y.toInt := fun w => q2 (Int32.toInt_inj.mp w)
          omega)]; rfl
  · rw [show opX 8 = 8 from rfl, go 8 (by decide), if_neg (by decide +kernel), if_neg (by decide +kernel), if_neg (by decide +kernel), if_neg (by decide +kernel), if_neg (by decide +kernel)]
    show _ = some (if x = y then (1 : Int32) else 0).toInt64
    simp only [lg0, i64_eq]
    by_cases q : x = y
    · rw [if_pos q, if_pos q]; rfl
    · rw [if_neg q, if_neg q]; rfl
/-! the stack, beside the layout -/
def TK (st : HS) (K : Nat → Nat → Nat) (σ : S) (sk : Nat) (l : List Int32) : Prop := (sk < hNx st ∧ ∀ f a, lv σ f a → K f a ≠ sk) ∧ ∃ g, st.1 sk = some (.inr (3, 16, .inr (.inl g))) ∧ ∀ i x, l.reverse[i]? = some x → g i = x.toInt64
theorem TK.drop {st : HS} {K : Nat → Nat → Nat} {σ : S} {sk : Nat} {x : Int32} {l : List Int32} (h : TK st K σ sk (x :: l)) : TK st K σ sk l := by
  obtain ⟨h1, g, h2, h3⟩ := h
  refine ⟨h1, g, h2, fun i y hi => h3 i y ?_⟩
  have := (List.getElem?_eq_some_iff.mp hi).1
  rw [List.reverse_cons, List.getElem?_append_left this]
  exact hi
theorem TK.get {st : HS} {K : Nat → Nat → Nat} {σ : S} {sk : Nat} {x : Int32} {l : List Int32} (h : TK st K σ sk (x :: l)) (hl : l.length ≤ 15) : hAl st sk (nI l.length) = some x.toInt64 := by
  obtain ⟨h1, g, h2, h3⟩ := h
  rw [hAl_of h2 (by omega) (by decide), h3 l.length x (by simp)]
theorem TK.push {st : HS} {K : Nat → Nat → Nat} {σ : S} {sk : Nat} {l : List Int32} (h : TK st K σ sk l) (x : Int32) (hl : l.length ≤ 15) : ∃ st', hWl st sk (nI l.length) x.toInt64 = some st' ∧ TK st' K σ sk (x :: l) ∧ F1 st st' sk ∧ ∀ (kept : Nat) (p : Int32) (o : Nat → Int32) (pad : List Nat), RX st K σ kept p o pad → RX st' K σ kept p o pad := by
  obtain ⟨h1, g, h2, h3⟩ := h
  refine ⟨_, hWl_of h2 (by omega) (by decide), ⟨h1, vp_updL g l.length x.toInt64, by rw [hSet_s, if_pos rfl], fun i y hi => ?_⟩, ⟨rfl, fun q hq => by rw [hSet_s, if_neg hq]⟩, fun kept p o pad hr => hr.off (q := sk) ⟨rfl, fun q hq => by rw [hSet_s, if_neg hq]⟩ h1.2 h2 (Or.inr ⟨_, _, rfl, by decide⟩)⟩
  unfold vp_updL
  rw [List.reverse_cons] at hi
  by_cases q : i = l.length
  · subst q
    rw [if_pos rfl]
    rw [List.getElem?_append_right (by simp)] at hi
    simp at hi
    rw [hi]
  · have hlt := (List.getElem?_eq_some_iff.mp hi).1
    rw [List.length_append, List.length_reverse, List.length_singleton] at hlt
    rw [if_neg q]
    rw [List.getElem?_append_left (by rw [List.length_reverse]; omega)] at hi
    exact h3 i y hi
theorem TK.ot {st st' : HS} {K K' : Nat → Nat → Nat} {σ σ' : S} {sk nw ar : Nat} {l : List Int32} (h : TK st K σ sk l) (ho : OT st K σ st' K' σ' nw ar) (h1 : sk ≠ nw) (h2 : sk ≠ ar) (hn : hNx st ≤ hNx st') : TK st' K' σ' sk l := by
  obtain ⟨k1, g, k2, k3⟩ := h
  obtain ⟨l1, l2⟩ := ho sk k1.1 h1 h2 k1.2
  exact ⟨⟨by omega, l2⟩, g, by rw [l1]; exact k2, k3⟩
theorem TN.sk {st st' : HS} {K : Nat → Nat → Nat} {σ : S} {nw ar d sk : Nat} {rs : List Nat} (h : TN st K σ nw ar rs d) (hf : F1 st st' sk) (h1 : sk ≠ nw) (h2 : sk ≠ ar) : TN st' K σ nw ar rs d := by
  obtain ⟨⟨k1, k2, k3, k4⟩, h5, h6, g, h7, h8⟩ := h
  exact ⟨⟨by rw [hf.nx.1]; exact k1, by rw [hf.nx.1]; exact k2, k3, k4⟩, h5, by rw [hf.2 nw (fun w => h1 w.symm)]; exact h6, g, by rw [hf.2 ar (fun w => h2 w.symm)]; exact h7, h8⟩
theorem nI_m1 (n : Nat) : nI (n + 1) + (-1) = nI n := by
  rw [← nI_pred n, Int32.sub_eq_add_neg]
theorem X_run {n : Nat} (hB : XB n) (hW : XW n) {kept : Nat} {p : Int32} {o : Nat → Int32} {pad : List Nat} {c b nw ar sk : Nat} {code : List (Nat × Nat)} {h : Nat → Nat} (hc : c < 12) (hb1 : b ≤ nw) (hb2 : b ≤ ar) (hb3 : b ≤ sk) (hn1 : sk ≠ nw) (hn2 : sk ≠ ar) (hl40 : code.length ≤ 40) (h15 : ∀ pc, pc ≤ code.length → h pc ≤ 15)
    (hw : ∀ pc op n, code[pc]? = some (op, n) → op ≤ 10 ∧ n ≤ 9999 ∧ (op = 0 → h (pc + 1) = h pc + 1) ∧ (op = 1 → n < 12 ∧ h (pc + 1) = h pc + 1) ∧ (op = 2 ∨ op = 3 → 1 ≤ h pc ∧ h (pc + 1) = h pc) ∧ (4 ≤ op ∧ op ≤ 8 → 2 ≤ h pc ∧ h (pc + 1) + 1 = h pc) ∧ (op = 9 → pc < n ∧ n ≤ code.length ∧ h n = h pc) ∧ (op = 10 → 1 ≤ h pc ∧ h (pc + 1) + 1 = h pc ∧ pc < n ∧ n ≤ code.length ∧ h n + 1 = h pc)) :
    ∀ (k pc N : Nat) (st : HS) (K : Nat → Nat → Nat) (σ τ : S) (l : List Int32) (rs rs' : List Nat) (d d' : Nat) (v : Int64), RX st K σ kept p o pad → sN σ 5 c ≠ 0 → sC σ c = code → TN st K σ nw ar rs d → TK st K σ sk l → l.length = h pc → pc ≤ code.length → a_run (a_given (a_value (ag n).1 (ag n).2)) code k pc l rs d σ = some (v, rs', d', τ) → k ≤ N →
    ∃ st' K', x_NS_result_L11 (x_NS_given (x_NS_value (eg n).1 (eg n).2)) N st (K 0 0) (K 4 c) nw sk (nI l.length) (nI pc) = some (v, st') ∧ RX st' K' τ kept p o pad ∧ TN st' K' τ nw ar rs' d' ∧ XF b st K σ st' K' τ ∧ PX σ τ ∧ RoX st σ st' τ ∧ KW σ K K' ∧ ∃ x, v = enc x := by
  intro k
  induction k with
  | zero => intro pc N st K σ τ l rs rs' d d' v _ _ _ _ _ _ _ e; cases e
  | succ k ih =>
    intro pc N st K σ τ l rs rs' d d' v hx h5 hcd hT hS hlh hpc e hN
    obtain ⟨N, rfl⟩ : ∃ m, N = m + 1 := ⟨N - 1, by omega⟩
    obtain ⟨-, f1, f2, -, f3, f4⟩ := hx.rfo hc h5
    rw [hcd] at f3 f4
    have hlpc := h15 pc hpc
    rw [a_run] at e
    rw [x_NS_result_L11, f1]
    simp only [Option.bind_some, f3]
    cases hg : code[pc]? with
    | none =>
      rw [hg] at e
      obtain ⟨x, e1, e2⟩ := omi e
      cases e2
      have : code.length ≤ pc := List.getElem?_eq_none_iff.mp hg
      rw [if_pos (nI_le this (by omega))]
      unfold o_end at e1
      split at e1
      · cases e1
        have := hS.get (by simp)
        replace this : hAl st sk 0 = some x.toInt64 := this
        rw [this]
        exact ⟨st, K, rfl, hx, hT, XF.rf, PX.rf, RoX.rf, fun _ _ _ => rfl, some x, rfl⟩
      · cases e1
    | some q =>
      obtain ⟨op, m⟩ := q
      rw [hg] at e
      dsimp only at e
      have hlt : pc < code.length := (List.getElem?_eq_some_iff.mp hg).1
      obtain ⟨w0, w1, w2, w3, w4, w5, w6, w7⟩ := hw pc op m hg
      obtain ⟨g1, g2⟩ := f4 pc _ hg
      replace g1 : hAi st (K 8 c) 0 (nI pc) = some (nI m) := g1
      replace g2 : hAr st (K 7 c) 5 (nI pc) = some (some (hKc st (opX op))) := g2
      have hoi : opX op < 11 := by unfold opX; repeat (first | split | omega)
      obtain ⟨o1, o2⟩ := hx.ko hoi
      rw [if_neg (nI_ge hlt (by omega)), f2]
      unfold x_Enum_ordinal
      simp only [Option.bind_some, g1, g2, o1, o2, nI_1]
      -- going on after a write to the stack
      have next : ∀ (st1 : HS) (l1 : List Int32) (pc1 : Nat), RX st1 K σ kept p o pad → TN st1 K σ nw ar rs d → TK st1 K σ sk l1 → XF b st K σ st1 K σ → hNx st1 = hNx st → hNs st1 = hNs st → l1.length = h pc1 → pc1 ≤ code.length → a_run (a_given (a_value (ag n).1 (ag n).2)) code k pc1 l1 rs d σ = some (v, rs', d', τ) → ∃ st' K', x_NS_result_L11 (x_NS_given (x_NS_value (eg n).1 (eg n).2)) N st1 (K 0 0) (K 4 c) nw sk (nI l1.length) (nI pc1) = some (v, st') ∧ RX st' K' τ kept p o pad ∧ TN st' K' τ nw ar rs' d' ∧ XF b st K σ st' K' τ ∧ PX σ τ ∧ RoX st σ st' τ ∧ KW σ K K' ∧ ∃ x, v = enc x := by
        intro st1 l1 pc1 a1 a2 a3 a4 a5 a6 a7 a8 a9
        obtain ⟨st', K', y1, y2, y3, y4, y5, y6, y7, y8⟩ := ih pc1 N st1 K σ τ l1 rs rs' d d' v a1 h5 hcd a2 a3 a7 a8 a9 (by omega)
        refine ⟨st', K', y1, y2, y3, a4.t y4, y5, ?_, y7, y8⟩
        unfold RoX at y6 ⊢
        rw [a5, a6] at y6
        exact y6
      have wpush : ∀ (l1 : List Int32) (x : Int32) (pc1 : Nat), TK st K σ sk l1 → l1.length + 1 = h pc1 → pc1 ≤ code.length → a_run (a_given (a_value (ag n).1 (ag n).2)) code k pc1 (x :: l1) rs d σ = some (v, rs', d', τ) → ∃ st1, hWl st sk (nI l1.length) x.toInt64 = some st1 ∧ ∃ st' K', x_NS_result_L11 (x_NS_given (x_NS_value (eg n).1 (eg n).2)) N st1 (K 0 0) (K 4 c) nw sk (nI (l1.length + 1)) (nI pc1) = some (v, st') ∧ RX st' K' τ kept p o pad ∧ TN st' K' τ nw ar rs' d' ∧ XF b st K σ st' K' τ ∧ PX σ τ ∧ RoX st σ st' τ ∧ KW σ K K' ∧ ∃ x, v = enc x := by
        intro l1 x pc1 a1 a2 a3 a4
        obtain ⟨st1, y1, y2, y3, y4⟩ := a1.push x (by have := h15 pc1 a3; omega)
        exact ⟨st1, y1, next st1 (x :: l1) pc1 (y4 _ _ _ _ hx) (hT.sk y3 hn1 hn2) y2 (y3.fx (Or.inr hb3) (fun _ _ z => z)) y3.nx.1 y3.nx.2 a2 a3 a4⟩
      -- going on after a read
      have read : ∀ (r : Nat) (l1 : List Int32), r < 12 → TK st K σ sk l1 → l1.length + 1 = h (pc + 1) → (a_given (a_value (ag n).1 (ag n).2) σ r rs d).bind (fun g => if g.1 = BAD then some g else a_run (a_given (a_value (ag n).1 (ag n).2)) code k (pc + 1) (g.1.toInt32 :: l1) g.2.1 g.2.2.1 g.2.2.2) = some (v, rs', d', τ) →
          ∃ st' K', ((x_NS_given (x_NS_value (eg n).1 (eg n).2) st (K 0 0) (K 1 r) nw).bind fun q => x_NS_result_J163 (x_NS_given (x_NS_value (eg n).1 (eg n).2)) (x_NS_result_L11 (x_NS_given (x_NS_value (eg n).1 (eg n).2)) N) q.2 (K 0 0) (K 4 c) nw sk (nI l1.length) (nI (pc + 1)) q.1) = some (v, st') ∧ RX st' K' τ kept p o pad ∧ TN st' K' τ nw ar rs' d' ∧ XF b st K σ st' K' τ ∧ PX σ τ ∧ RoX st σ st' τ ∧ KW σ K K' ∧ ∃ x, v = enc x := by
        intro r l1 a1 a2 a3 a4
        obtain ⟨⟨v', rs1, d1, σ1⟩, e1, e2⟩ := obi a4
        dsimp only at e2
        obtain ⟨st1, K1, y1, y2, y3, y4, y5, y6, y7, y8, y9⟩ := X_given hB hW hT hx a1 hb1 hb2 e1
        rw [y1]
        simp only [Option.bind_some]
        unfold x_NS_result_J163
        rw [show (1099511627776 : Int64) = BAD from rfl]
        by_cases q : v' = BAD
        · rw [if_pos q] at e2
          cases e2
          rw [if_pos ((lg0 _ _).mpr q)]
          refine ⟨st1, K1, ?_, y2, y3, y4, y6, y7, y8, y9⟩
          rw [q]
        · rw [if_neg q] at e2
          rw [if_neg (fun z => q ((lg0 _ _).mp z))]
          obtain ⟨y, hy⟩ : ∃ y : Int32, v' = y.toInt64 := by
            obtain ⟨x, hx⟩ := y9
            cases x with
            | none => exact absurd hx q
            | some y => exact ⟨y, hx⟩
          subst hy
          rw [Int32.toInt32_toInt64] at e2
          have hS1 := a2.ot y5 hn1 hn2 y4.2.1
          have hh := h15 (pc + 1) (by omega)
          obtain ⟨st2, z1, z2, z3, z4⟩ := hS1.push y (by omega)
          simp only [Option.bind_some, z1, nI_1]
          have k0 : K1 0 0 = K 0 0 := y4.2.2.2.2 0 0 (by decide) (by decide)
          have k4 : K1 4 c = K 4 c := y4.2.2.2.2 4 c (by decide) (by decide)
          obtain ⟨st', K', x1, x2, x3, x4, x5, x6, x7, x8⟩ := ih (pc + 1) N st2 K1 σ1 τ (y :: l1) rs1 rs' d1 d' v (z4 _ _ _ _ y2) (by rw [y6.1.f]; exact h5) (by rw [y6.1.2.2.1]; exact hcd) (y3.sk z3 hn1 hn2) z2 a3 (by omega) e2 (by omega)
          rw [k0, k4] at x1
          refine ⟨st', K', x1, x2, x3, (y4.t (z3.fx (Or.inr hb3) (fun _ _ z => z))).t x4, y6.t x5, y7.t ((RoX.f1 z3 (Nat.le_refl (Z σ1))).t x6), fun a ha hw => (x7 a ha (by rw [y6.2.1]; exact hw)).trans (y8 a ha hw), x8⟩
      rcases (show op = 0 ∨ op = 1 ∨ op = 2 ∨ op = 3 ∨ op = 4 ∨ op = 5 ∨ op = 6 ∨ op = 7 ∨ op = 8 ∨ op = 9 ∨ op = 10 by omega) with q | q | q | q | q | q | q | q | q | q | q
      · subst q
        replace o1 : hIs st (hKc st 0) 8 = some () := o1
        rw [show opX 0 = 0 from rfl]
        rw [if_pos (show nI 0 = (0 : Int32) from rfl)]
        rw [if_neg (by decide)] at e
        obtain ⟨q, e1, e2⟩ := obi e
        unfold o_step at e1
        rw [if_pos rfl] at e1
        cases e1
        obtain ⟨st1, y1, y2⟩ := wpush l (nI m) (pc + 1) hS (by rw [w2 rfl, hlh]) (by omega) e2
        rw [y1]
        simp only [Option.bind_some]
        exact y2
      · subst q
        replace o1 : hIs st (hKc st 1) 8 = some () := o1
        rw [show opX 1 = 1 from rfl]
        rw [if_neg (show ¬ nI 1 = (0 : Int32) by decide +kernel), if_pos (show nI 1 = (1 : Int32) from rfl)]
        rw [if_pos (by decide)] at e
        obtain ⟨q, e1, e2⟩ := obi e
        cases e1
        obtain ⟨w31, w32⟩ := w3 rfl
        rw [if_pos rfl, hx.rs.2.2.1]
        simp only [Option.bind_some, hx.rca w31, hx.rs.1]
        exact read m l w31 hS (by rw [w32, hlh]) e2
      · subst q
        replace o1 : hIs st (hKc st 2) 8 = some () := o1
        rw [show opX 2 = 2 from rfl]
        rw [if_neg (show ¬ nI 2 = (0 : Int32) by decide +kernel), if_neg (show ¬ nI 2 = (1 : Int32) by decide +kernel), if_pos (show nI 2 = (2 : Int32) from rfl)]
        rw [if_pos (by decide)] at e
        obtain ⟨q, e1, e2⟩ := obi e
        obtain ⟨w41, w42⟩ := w4 (Or.inl rfl)
        cases l with
        | nil => cases e1
        | cons x l =>
          cases e1
          have ll : l.length + 1 = h pc := hlh
          rw [if_neg (by
            intro w
            have w : hKc st 2 = hKc st 1 := Option.some.inj w
            have a1 := (hx.ko (i := 2) (by decide)).2
            rw [w, (hx.ko (i := 1) (by decide)).2] at a1
            exact absurd a1 (by decide +kernel)), hx.rs.2.2.1]
          simp only [Option.bind_some, List.length_cons, nI_m1, hS.get (by omega), Int32.toInt32_toInt64, X_floor, hx.rca (o_cell_lt x), hx.rs.1]
          exact read (o_cell x) l (o_cell_lt x) hS.drop (by rw [w42]; exact hlh) e2
      · subst q
        replace o1 : hIs st (hKc st 6) 8 = some () := o1
        rw [show opX 3 = 6 from rfl]
        rw [if_neg (show ¬ nI 6 = (0 : Int32) by decide +kernel), if_neg (show ¬ nI 6 = (1 : Int32) by decide +kernel), if_neg (show ¬ nI 6 = (2 : Int32) by decide +kernel), if_neg (show ¬ nI 6 = (3 : Int32) by decide +kernel), if_neg (show ¬ nI 6 = (4 : Int32) by decide +kernel), if_neg (show ¬ nI 6 = (5 : Int32) by decide +kernel), if_pos (show nI 6 = (6 : Int32) from rfl)]
        rw [if_neg (by decide)] at e
        obtain ⟨q, e1, e2⟩ := obi e
        unfold o_step at e1
        rw [if_neg (by decide), if_pos rfl] at e1
        obtain ⟨w41, w42⟩ := w4 (Or.inr rfl)
        cases l with
        | nil => cases e1
        | cons x l =>
          cases e1
          have ll : l.length + 1 = h pc := hlh
          simp only [List.length_cons, nI_pred, hS.get (by omega), Option.bind_some]
          rw [show ((-x.toInt64).toInt32).toInt64 = (-x).toInt64 by rw [Int64.toInt32_neg, Int32.toInt32_toInt64]]
          obtain ⟨st1, y1, y2⟩ := wpush l (-x) (pc + 1) hS.drop (by rw [w42]; exact hlh) (by omega) e2
          rw [y1]
          simp only [Option.bind_some]
          exact y2
      · subst q
        replace o1 : hIs st (hKc st 5) 8 = some () := o1
        rw [show opX 4 = 5 from rfl]
        rw [if_neg (show ¬ nI 5 = (0 : Int32) by decide +kernel), if_neg (show ¬ nI 5 = (1 : Int32) by decide +kernel), if_neg (show ¬ nI 5 = (2 : Int32) by decide +kernel), if_neg (show ¬ nI 5 = (3 : Int32) by decide +kernel), if_neg (show ¬ nI 5 = (4 : Int32) by decide +kernel), if_pos (show nI 5 = (5 : Int32) from rfl)]
        rw [if_neg (by decide)] at e
        obtain ⟨q, e1, e2⟩ := obi e
        unfold o_step at e1
        rw [if_neg (by decide), if_neg (by decide), if_neg (by decide), if_neg (by decide)] at e1
        obtain ⟨w51, w52⟩ := w5 (by decide)
        cases l with
        | nil => cases e1
        | cons y l => cases l with
          | nil => cases e1
          | cons x l =>
            cases e1
            have ll : l.length + 1 + 1 = h pc := hlh
            have a1 := hS.get (by rw [List.length_cons]; omega)
            have a2 := hS.drop.get (by omega)
            rw [List.length_cons] at a1
            simp only [List.length_cons, nI_m1, nI_pred, a1, a2, Option.bind_some]
            rw [show x_NS_both st (hKc st 5) x.toInt64 y.toInt64 = _ from X_both hx (op := 4) (by decide) (by decide) x y]
            simp only [Option.bind_some]
            obtain ⟨st1, y1, y2⟩ := wpush l (o_bin 4 x y) (pc + 1) hS.drop.drop (by omega) (by omega) e2
            rw [y1]
            simp only [Option.bind_some]
            exact y2
      · subst q
        replace o1 : hIs st (hKc st 3) 8 = some () := o1
        rw [show opX 5 = 3 from rfl]
        rw [if_neg (show ¬ nI 3 = (0 : Int32) by decide +kernel), if_neg (show ¬ nI 3 = (1 : Int32) by decide +kernel), if_neg (show ¬ nI 3 = (2 : Int32) by decide +kernel), if_pos (show nI 3 = (3 : Int32) from rfl)]
        rw [if_neg (by decide)] at e
        obtain ⟨q, e1, e2⟩ := obi e
        unfold o_step at e1
        rw [if_neg (by decide), if_neg (by decide), if_neg (by decide), if_neg (by decide)] at e1
        obtain ⟨w51, w52⟩ := w5 (by decide)
        cases l with
        | nil => cases e1
        | cons y l => cases l with
          | nil => cases e1
          | cons x l =>
            cases e1
            have ll : l.length + 1 + 1 = h pc := hlh
            have a1 := hS.get (by rw [List.length_cons]; omega)
            have a2 := hS.drop.get (by omega)
            rw [List.length_cons] at a1
            simp only [List.length_cons, nI_m1, nI_pred, a1, a2, Option.bind_some]
            rw [show x_NS_both st (hKc st 3) x.toInt64 y.toInt64 = _ from X_both hx (op := 5) (by decide) (by decide) x y]
            simp only [Option.bind_some]
            obtain ⟨st1, y1, y2⟩ := wpush l (o_bin 5 x y) (pc + 1) hS.drop.drop (by omega) (by omega) e2
            rw [y1]
            simp only [Option.bind_some]
            exact y2
      · subst q
        replace o1 : hIs st (hKc st 4) 8 = some () := o1
        rw [show opX 6 = 4 from rfl]
        rw [if_neg (show ¬ nI 4 = (0 : Int32) by decide +kernel), if_neg (show ¬ nI 4 = (1 : Int32) by decide +kernel), if_neg (show ¬ nI 4 = (2 : Int32) by decide +kernel), if_neg (show ¬ nI 4 = (3 : Int32) by decide +kernel), if_pos (show nI 4 = (4 : Int32) from rfl)]
        rw [if_neg (by decide)] at e
        obtain ⟨q, e1, e2⟩ := obi e
        unfold o_step at e1
        rw [if_neg (by decide), if_neg (by decide), if_neg (by decide), if_neg (by decide)] at e1
        obtain ⟨w51, w52⟩ := w5 (by decide)
        cases l with
        | nil => cases e1
        | cons y l => cases l with
          | nil => cases e1
          | cons x l =>
            cases e1
            have ll : l.length + 1 + 1 = h pc := hlh
            have a1 := hS.get (by rw [List.length_cons]; omega)
            have a2 := hS.drop.get (by omega)
            rw [List.length_cons] at a1
            simp only [List.length_cons, nI_m1, nI_pred, a1, a2, Option.bind_some]
            rw [show x_NS_both st (hKc st 4) x.toInt64 y.toInt64 = _ from X_both hx (op := 6) (by decide) (by decide) x y]
            simp only [Option.bind_some]
            obtain ⟨st1, y1, y2⟩ := wpush l (o_bin 6 x y) (pc + 1) hS.drop.drop (by omega) (by omega) e2
            rw [y1]
            simp only [Option.bind_some]
            exact y2
      · subst q
        replace o1 : hIs st (hKc st 7) 8 = some () := o1
        rw [show opX 7 = 7 from rfl]
        rw [if_neg (show ¬ nI 7 = (0 : Int32) by decide +kernel), if_neg (show ¬ nI 7 = (1 : Int32) by decide +kernel), if_neg (show ¬ nI 7 = (2 : Int32) by decide +kernel), if_neg (show ¬ nI 7 = (3 : Int32) by decide +kernel), if_neg (show ¬ nI 7 = (4 : Int32) by decide +kernel), if_neg (show ¬ nI 7 = (5 : Int32) by decide +kernel), if_neg (show ¬ nI 7 = (6 : Int32) by decide +kernel), if_pos (show nI 7 = (7 : Int32) from rfl)]
        rw [if_neg (by decide)] at e
        obtain ⟨q, e1, e2⟩ := obi e
        unfold o_step at e1
        rw [if_neg (by decide), if_neg (by decide), if_neg (by decide), if_neg (by decide)] at e1
        obtain ⟨w51, w52⟩ := w5 (by decide)
        cases l with
        | nil => cases e1
        | cons y l => cases l with
          | nil => cases e1
          | cons x l =>
            cases e1
            have ll : l.length + 1 + 1 = h pc := hlh
            have a1 := hS.get (by rw [List.length_cons]; omega)
            have a2 := hS.drop.get (by omega)
            rw [List.length_cons] at a1
            simp only [List.length_cons, nI_m1, nI_pred, a1, a2, Option.bind_some]
            rw [show x_NS_both st (hKc st 7) x.toInt64 y.toInt64 = _ from X_both hx (op := 7) (by decide) (by decide) x y]
            simp only [Option.bind_some]
            obtain ⟨st1, y1, y2⟩ := wpush l (o_bin 7 x y) (pc + 1) hS.drop.drop (by omega) (by omega) e2
            rw [y1]
            simp only [Option.bind_some]
            exact y2
      · subst q
        replace o1 : hIs st (hKc st 8) 8 = some () := o1
        rw [show opX 8 = 8 from rfl]
        rw [if_neg (show ¬ nI 8 = (0 : Int32) by decide +kernel), if_neg (show ¬ nI 8 = (1 : Int32) by decide +kernel), if_neg (show ¬ nI 8 = (2 : Int32) by decide +kernel), if_neg (show ¬ nI 8 = (3 : Int32) by decide +kernel), if_neg (show ¬ nI 8 = (4 : Int32) by decide +kernel), if_neg (show ¬ nI 8 = (5 : Int32) by decide +kernel), if_neg (show ¬ nI 8 = (6 : Int32) by decide +kernel), if_neg (show ¬ nI 8 = (7 : Int32) by decide +kernel), if_pos (show nI 8 = (8 : Int32) from rfl)]
        rw [if_neg (by decide)] at e
        obtain ⟨q, e1, e2⟩ := obi e
        unfold o_step at e1
        rw [if_neg (by decide), if_neg (by decide), if_neg (by decide), if_neg (by decide)] at e1
        obtain ⟨w51, w52⟩ := w5 (by decide)
        cases l with
        | nil => cases e1
        | cons y l => cases l with
          | nil => cases e1
          | cons x l =>
            cases e1
            have ll : l.length + 1 + 1 = h pc := hlh
            have a1 := hS.get (by rw [List.length_cons]; omega)
            have a2 := hS.drop.get (by omega)
            rw [List.length_cons] at a1
            simp only [List.length_cons, nI_m1, nI_pred, a1, a2, Option.bind_some]
            rw [show x_NS_both st (hKc st 8) x.toInt64 y.toInt64 = _ from X_both hx (op := 8) (by decide) (by decide) x y]
            simp only [Option.bind_some]
            obtain ⟨st1, y1, y2⟩ := wpush l (o_bin 8 x y) (pc + 1) hS.drop.drop (by omega) (by omega) e2
            rw [y1]
            simp only [Option.bind_some]
            exact y2
      · subst q
        replace o1 : hIs st (hKc st 10) 8 = some () := o1
        rw [show opX 9 = 10 from rfl]
        rw [if_neg (show ¬ nI 10 = (0 : Int32) by decide +kernel), if_neg (show ¬ nI 10 = (1 : Int32) by decide +kernel), if_neg (show ¬ nI 10 = (2 : Int32) by decide +kernel), if_neg (show ¬ nI 10 = (3 : Int32) by decide +kernel), if_neg (show ¬ nI 10 = (4 : Int32) by decide +kernel), if_neg (show ¬ nI 10 = (5 : Int32) by decide +kernel), if_neg (show ¬ nI 10 = (6 : Int32) by decide +kernel), if_neg (show ¬ nI 10 = (7 : Int32) by decide +kernel), if_neg (show ¬ nI 10 = (8 : Int32) by decide +kernel), if_neg (show ¬ nI 10 = (9 : Int32) by decide +kernel), if_pos (show nI 10 = (10 : Int32) from rfl)]
        rw [if_neg (by decide)] at e
        obtain ⟨q, e1, e2⟩ := obi e
        unfold o_step at e1
        rw [if_neg (by decide), if_neg (by decide), if_pos rfl] at e1
        cases e1
        obtain ⟨w61, w62, w63⟩ := w6 rfl
        exact next st l m hx hT hS XF.rf rfl rfl (by rw [w63, hlh]) w62 e2
      · subst q
        replace o1 : hIs st (hKc st 9) 8 = some () := o1
        rw [show opX 10 = 9 from rfl]
        rw [if_neg (show ¬ nI 9 = (0 : Int32) by decide +kernel), if_neg (show ¬ nI 9 = (1 : Int32) by decide +kernel), if_neg (show ¬ nI 9 = (2 : Int32) by decide +kernel), if_neg (show ¬ nI 9 = (3 : Int32) by decide +kernel), if_neg (show ¬ nI 9 = (4 : Int32) by decide +kernel), if_neg (show ¬ nI 9 = (5 : Int32) by decide +kernel), if_neg (show ¬ nI 9 = (6 : Int32) by decide +kernel), if_neg (show ¬ nI 9 = (7 : Int32) by decide +kernel), if_neg (show ¬ nI 9 = (8 : Int32) by decide +kernel), if_pos (show nI 9 = (9 : Int32) from rfl)]
        rw [if_neg (by decide)] at e
        obtain ⟨q, e1, e2⟩ := obi e
        unfold o_step at e1
        rw [if_neg (by decide), if_neg (by decide), if_neg (by decide), if_pos rfl] at e1
        obtain ⟨w71, w72, w73, w74, w75⟩ := w7 rfl
        cases l with
        | nil => cases e1
        | cons x l =>
          cases e1
          have ll : l.length + 1 = h pc := hlh
          simp only [List.length_cons, nI_m1, hS.get (by omega), Option.bind_some, lg0, i64_0]
          by_cases q : x = 0
          · rw [if_pos q] at e2 ⊢
            exact next st l m hx hT hS.drop XF.rf rfl rfl (by omega) w74 e2
          · rw [if_neg q] at e2 ⊢
            exact next st l (pc + 1) hx hT hS.drop XF.rf rfl rfl (by omega) (by omega) e2
