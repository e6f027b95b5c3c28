theorem X_floor {st : HS} (x : Int32) : x_Math_floorMod st x 12 = some (nI (o_cell x)) := by
  obtain ⟨h1, h2, h3⟩ := rem12 x
  obtain ⟨r1, r2⟩ := rem_cell x
  have hx : (0 ≤ x ^^^ 12) ↔ 0 ≤ x.toInt := by
    have e1 : (x ^^^ 12).toBitVec.msb = decide ((x ^^^ 12).toInt < 0) := BitVec.msb_eq_toInt
    have e2 : x.toBitVec.msb = decide (x.toInt < 0) := BitVec.msb_eq_toInt
    have e3 : (12 : Int32).toBitVec.msb = false := by decide
    have h : decide ((x ^^^ 12).toInt < 0) = decide (x.toInt < 0) := by
      rw [← e1, ← e2, Int32.toBitVec_xor, BitVec.msb_xor, e3, Bool.xor_false]
    rw [Int32.le_iff_toInt_le]
    show (0 : Int) ≤ (x ^^^ 12).toInt ↔ 0 ≤ x.toInt
    have h' : ((x ^^^ 12).toInt < 0) ↔ (x.toInt < 0) := by simpa using h
    omega
  have hs : (0 ≤ x.toInt → 0 ≤ x.toInt - x.toInt.tdiv 12 * 12) ∧ (x.toInt < 0 → x.toInt - x.toInt.tdiv 12 * 12 ≤ 0) := by
    refine ⟨fun h => ?_, fun h => ?_⟩
    · rw [Int.tdiv_eq_ediv_of_nonneg h]; omega
    · have e : x.toInt.tdiv 12 = -((-x.toInt) / 12) := by
        rw [← Int.tdiv_eq_ediv_of_nonneg (by omega : 0 ≤ -x.toInt), Int.neg_tdiv, Int.neg_neg]
      rw [e]; omega
  have h0 : ∀ y : Int32, 0 ≤ y ↔ 0 ≤ y.toInt := fun y => by rw [Int32.le_iff_toInt_le]; rfl
  unfold x_Math_floorMod
  rw [if_neg (by decide)]
  simp only [Option.bind_some]
  by_cases q : 0 ≤ x ^^^ 12
  · rw [if_pos q, r1 ((h0 _).mpr (by rw [h1]; exact hs.1 (hx.mp q)))]
  · rw [if_neg q]
    by_cases q2 : x - x / 12 * 12 = 0
    · rw [if_pos q2, r1 (by rw [q2]; decide)]
    · rw [if_neg q2, r2 (fun w => q2 (by
        have w := (h0 _).mp w
        rw [h1] at w
        have := hs.2 (by rw [hx] at q; omega)
        apply Int32.toInt_inj.mp
        rw [h1]
        show _ = (0 : Int)
        omega))]
theorem a_use_PX {σ : S} {c : Nat} : PX σ (a_use σ c) := ⟨⟨fun _ _ _ _ _ _ _ _ => rfl, fun _ => rfl, fun _ => rfl, fun _ => rfl⟩, fun _ => rfl, fun _ => Nat.le_refl _, fun _ _ => nsm.rf⟩
theorem X_value {n : Nat} (hB : XB n) (hW : XW n) {st : HS} {K : Nat → Nat → Nat} {σ τ : S} {kept : Nat} {p : Int32} {o : Nat → Int32} {pad : List Nat} {c : Nat} {v : Int64} (h : RX st K σ kept p o pad) (hc : c < 12) (h35 : sN σ 35 c = 0) (e : a_value (ag n).1 (ag n).2 σ c = some (v, τ)) :
    ∃ st' K', x_NS_value (eg n).1 (eg n).2 st (K 0 0) (K 1 c) = some (v, st') ∧ RX st' K' τ kept p o pad ∧ XF (hNx st) st K σ st' K' τ ∧ PX σ τ ∧ RoX st σ st' τ ∧ KW σ K K' ∧ ∃ x, v = enc x := by
  obtain ⟨c0, c1, c2, c3, c4, c5, c6, c7, c8, c9, c10, c11, c12⟩ := h.rc hc
  unfold a_value at e
  unfold x_NS_value
  rw [c2]
  simp only [Option.bind_some]
  by_cases q5 : sN σ 5 c = 0
  · rw [if_pos q5] at e
    cases e
    rw [if_pos q5, if_neg (by decide), c4]
    exact ⟨st, K, rfl, h, XF.rf, PX.rf, RoX.rf, fun _ _ _ => rfl, some (sI σ 12 c), rfl⟩
  rw [if_neg q5] at e
  rw [if_neg q5, if_pos rfl, h.rs.1]
  simp only [Option.bind_some]
  obtain ⟨τ1, e1, e2⟩ := obi e
  obtain ⟨ρ, e3, e4⟩ := omi e2
  obtain ⟨st1, K1, g1, g2, g3, g4, g5, g6, g7⟩ := hB st K σ kept p o pad c τ1 h hc e1
  have hd := g7 h35
  have h15 : sN τ1 15 c ≠ 0 := by
    rcases hd with w | w
    · rw [g4.1.f] at w; exact absurd w q5
    · exact w.1
  have k0 : K1 0 0 = K 0 0 := g3.2.2.2.2 0 0 (by decide) (by decide)
  have k1 : K1 1 c = K 1 c := g3.2.2.2.2 1 c (by decide) (by decide)
  rw [g1]
  simp only [Option.bind_some]
  -- the end
  have fin : ∀ (st2 : HS) (K2 : Nat → Nat → Nat), RX st2 K2 ρ kept p o pad → XF (hNx st) st K σ st2 K2 ρ → PX σ ρ → RoX st σ st2 ρ → KW σ K K2 → sN ρ 15 c ≠ 0 → ∃ st' K', x_NS_value_J33 (eg n).1 (eg n).2 st2 (K 0 0) (K 1 c) = some (v, st') ∧ RX st' K' τ kept p o pad ∧ XF (hNx st) st K σ st' K' τ ∧ PX σ τ ∧ RoX st σ st' τ ∧ KW σ K K' ∧ ∃ x, v = enc x := by
    intro st2 K2 r1 r2 r3 r4 r5 r6
    have l0 : K2 0 0 = K 0 0 := r2.2.2.2.2 0 0 (by decide) (by decide)
    have l1 : K2 1 c = K 1 c := r2.2.2.2.2 1 c (by decide) (by decide)
    obtain ⟨st3, y1, y2, y3⟩ := r1.suse (x := sI ρ 24 0 + 1)
    obtain ⟨st4, z1, z2, z3⟩ := y2.nuse (c := c) (x := sI ρ 24 0 + 1) hc r6
    cases e4
    refine ⟨st4, K2, ?_, z2, (r2.t (y3.fx (Or.inl ⟨0, 0, rfl, rfl⟩) (σ' := sIs ρ 24 0 (sI ρ 24 0 + 1)) (lv_ss (fun _ => rfl) (fun _ => rfl)))).t (z3.fx (Or.inl ⟨2, c, ⟨hc, r6⟩, rfl⟩) (lv_ss (fun _ => rfl) (fun _ => rfl))), r3.t a_use_PX, r4.t ((RoX.f1 y3 (Nat.le_refl _)).t (RoX.f1 z3 (Nat.le_refl _))), r5, (r1.nE hc r6).2.2.2.2.2⟩
    have a5 := r1.rs.2.2.2.2.2.2.1
    have b8 : hR st3 (K2 1 c) 1 8 = some (some (K2 2 c)) := by
      have : hR st3 (K2 1 c) 1 8 = some (if sN ρ 15 c = 0 then none else some (K2 2 c)) := (y2.rc hc).2.2.2.2.2.2.2.2.1
      rw [if_neg r6] at this
      exact this
    have b5 : hI st3 (K2 0 0) 0 5 = some (sI ρ 24 0 + 1) := y2.rs.2.2.2.2.2.2.1
    have d8 : hR st4 (K2 1 c) 1 8 = some (some (K2 2 c)) := by
      have : hR st4 (K2 1 c) 1 8 = some (if sN ρ 15 c = 0 then none else some (K2 2 c)) := (z2.rc hc).2.2.2.2.2.2.2.2.1
      rw [if_neg r6] at this
      exact this
    have d1 : hJ st4 (K2 2 c) 3 1 = some (sL ρ c) := (z2.rn hc r6).2.2.1
    rw [← l0, ← l1]
    unfold x_NS_value_J33
    simp only [a5, Option.bind_some, y1, b8, b5, z1, d8, d1]
  unfold x_NS_value_J18
  have d8 := (g2.rc hc).2.2.2.2.2.2.2.2.1
  rw [if_neg h15, k1] at d8
  rw [d8]
  have d0 := (g2.rn hc h15).2.1
  have b16 := (g2.nE hc h15).2.1
  simp only [Option.bind_some, d0, nI0 (show sN τ1 16 c < 2 ^ 31 by omega)]
  by_cases q16 : sN τ1 16 c = 0
  · rw [if_pos q16] at e3
    rw [if_pos q16]
    have hs0 := g2.rs.1
    rw [k0] at hs0
    rw [hs0]
    simp only [Option.bind_some]
    obtain ⟨st2, K2, w1, w2, w3, w4, w5, w6, w7, w8, w9, w10, w11⟩ := hW st1 K1 τ1 kept p o pad c ρ g2 hc (by rw [g4.1.f]; exact q5) (fun _ => q16) e3
    rw [k0, k1] at w1
    rw [w1]
    have ne : ∀ a, sN σ 35 a ≠ 0 → a ≠ c := fun a ha w => by subst w; exact ha h35
    refine fin st2 K2 w2 (g3.t (w3.w g3.2.1)) ⟨g4.1.t w4, fun a => (w5 a).trans (g4.2.1 a), fun a => Nat.le_trans (w6 a) (g4.2.2.1 a), fun a ha => (g4.2.2.2 a ha).t (w7 a (ne a ha) (by rw [g4.2.1]; exact ha))⟩ (g5.t w8) (fun a ha hw => (w9 a ha (ne a hw) (by rw [g4.2.1]; exact hw)).trans (g6 a ha hw)) ?_
    rcases w10 with w | w
    · rw [w4.f, g4.1.f] at w; exact absurd w q5
    · exact w.1
  · rw [if_neg q16] at e3
    cases e3
    rw [if_neg q16]
    exact fin st1 K1 g2 g3 g4 g5 g6 h15
/-! a note that is being made: beside the layout -/
def TN (st : HS) (K : Nat → Nat → Nat) (σ : S) (nw ar : Nat) (rs : List Nat) (d : Nat) : Prop := (nw < hNx st ∧ ar < hNx st ∧ nw ≠ ar ∧ ∀ f a, lv σ f a → K f a ≠ nw ∧ K f a ≠ ar) ∧ d ≤ 2 ∧ st.1 nw = some (.inl (3, [.int 0, .long 0, .int 0, .int 0, .int (nI d), .int 0, .ref ar, .int (nI rs.length)])) ∧ ∃ g, st.1 ar = some (.inr (4, 12, .inr (.inr (.inr (.inr g))))) ∧ rdsOk K rs g
/-- what lies beside the layout and is no part of such a note -/
def OT (st : HS) (K : Nat → Nat → Nat) (σ : S) (st' : HS) (K' : Nat → Nat → Nat) (σ' : S) (nw ar : Nat) : Prop := ∀ q, q < hNx st → q ≠ nw → q ≠ ar → (∀ f a, lv σ f a → K f a ≠ q) → st'.1 q = st.1 q ∧ ∀ f a, lv σ' f a → K' f a ≠ q
theorem XF.nl {st st' : HS} {K K' : Nat → Nat → Nat} {σ σ' : S} (h : XF (hNx st) st K σ st' K' σ') {q : Nat} (hq : q < hNx st) (hn : ∀ f a, lv σ f a → K f a ≠ q) : st'.1 q = st.1 q ∧ ∀ f a, lv σ' f a → K' f a ≠ q := by
  refine ⟨h.2.2.1 q hq hn, fun f a hl w => ?_⟩
  rcases h.2.2.2.1 f a hl with ⟨k1, k2⟩ | k
  · exact hn f a k1 (k2.symm.trans w)
  · omega
theorem rdsOk.k {K K' : Nat → Nat → Nat} {rs : List Nat} {g : Nat → Option Nat} (h : rdsOk K rs g) (hk : ∀ a, K' 1 a = K 1 a) : rdsOk K' rs g := ⟨h.1, h.2.1, fun i r hi => by rw [hk]; exact h.2.2 i r hi⟩
theorem TN.fx {st st' : HS} {K K' : Nat → Nat → Nat} {σ σ' : S} {nw ar d : Nat} {rs : List Nat} (h : TN st K σ nw ar rs d) (f : XF (hNx st) st K σ st' K' σ') : TN st' K' σ' nw ar rs d := by
  obtain ⟨⟨h1, h2, h3, h4⟩, h5, h6, g, h7, h8⟩ := h
  obtain ⟨k1, k2⟩ := f.nl h1 (fun f a hl => (h4 f a hl).1)
  obtain ⟨l1, l2⟩ := f.nl h2 (fun f a hl => (h4 f a hl).2)
  have := f.2.1
  exact ⟨⟨by omega, by omega, h3, fun f a hl => ⟨k2 f a hl, l2 f a hl⟩⟩, h5, by rw [k1]; exact h6, g, by rw [l1]; exact h7, h8.k (fun a => f.2.2.2.2 1 a (by decide) (by decide))⟩
theorem TN.dur {st : HS} {K : Nat → Nat → Nat} {σ : S} {nw ar d d' : Nat} {rs : List Nat} (h : TN st K σ nw ar rs d) (hd : d' ≤ 2) : ∃ st', hP st nw 3 4 (.int (nI d')) = some st' ∧ TN st' K σ nw ar rs d' ∧ F1 st st' nw := by
  obtain ⟨⟨h1, h2, h3, h4⟩, h5, h6, g, h7, h8⟩ := h
  refine ⟨_, hP_of h6 (by decide : 4 < 8), ⟨⟨h1, h2, h3, h4⟩, hd, by rw [hSet_s, if_pos rfl]; rfl, g, by rw [hSet_s, if_neg (fun w => h3 w.symm)]; exact h7, h8⟩, rfl, fun q hq => by rw [hSet_s, if_neg hq]⟩
theorem TN.rx {st st' : HS} {K : Nat → Nat → Nat} {σ : S} {nw ar d : Nat} {rs : List Nat} {kept : Nat} {p : Int32} {o : Nat → Int32} {pad : List Nat} (h : TN st K σ nw ar rs d) (hr : RX st K σ kept p o pad) (hf : F1 st st' nw ∨ F1 st st' ar) : RX st' K σ kept p o pad := by
  obtain ⟨⟨h1, h2, h3, h4⟩, h5, h6, g, h7, h8⟩ := h
  rcases hf with hf | hf
  · exact hr.off hf (fun f a hl => (h4 f a hl).1) h6 (Or.inl ⟨_, _, rfl, by decide⟩)
  · exact hr.off hf (fun f a hl => (h4 f a hl).2) h7 (Or.inr ⟨_, _, rfl, by decide⟩)
theorem X_add {st : HS} {K : Nat → Nat → Nat} {σ : S} {nw ar d r : Nat} {rs : List Nat} {kept : Nat} {p : Int32} {o : Nat → Int32} {pad : List Nat} (h : TN st K σ nw ar rs d) (hr : RX st K σ kept p o pad) (h12 : r < 12) :
    ∃ st', x_Note_add st nw (K 1 r) = some st' ∧ RX st' K σ kept p o pad ∧ TN st' K σ nw ar (a_add rs r) d ∧ st'.2 = st.2 ∧ ∀ q, q ≠ nw → q ≠ ar → st'.1 q = st.1 q := by
  obtain ⟨⟨h1, h2, h3, h4⟩, h5, h6, g, h7, h8⟩ := id h
  have hlen := nodup_len 12 _ h8.2.1 h8.1
  have e7 : hI st nw 3 7 = some (nI rs.length) := hI_of h6 (by decide) rfl
  have e6 : hR st nw 3 6 = some (some ar) := hR_of h6 (by decide) rfl
  have inj : ∀ x, x < 12 → (K 1 x = K 1 r ↔ x = r) := fun x hx => ⟨fun w => (hr.2.2.1 1 x 1 r hx h12 w).2, fun w => by rw [w]⟩
  have loop : ∀ (f i N : Nat), i + f = rs.length → f < N → (∀ j x, j < i → rs[j]? = some x → x ≠ r) → ∃ st', x_Note_add_L2 N st nw (K 1 r) (nI i) = some st' ∧ RX st' K σ kept p o pad ∧ TN st' K σ nw ar (a_add rs r) d ∧ st'.2 = st.2 ∧ ∀ q, q ≠ nw → q ≠ ar → st'.1 q = st.1 q := by
    intro f
    induction f with
    | zero =>
      intro i N hi hN hj
      obtain ⟨N, rfl⟩ : ∃ m, N = m + 1 := ⟨N - 1, by omega⟩
      have hnot : r ∉ rs := fun w => by
        obtain ⟨j, hj1, hj2⟩ := List.mem_iff_getElem.mp w
        exact hj j r (by omega) (by rw [List.getElem?_eq_getElem hj1, hj2]) rfl
      have hnd : (rs ++ [r]).Nodup := by
        rw [List.nodup_append]
        exact ⟨h8.2.1, by simp, fun a ha b hb => by
          rw [List.mem_singleton] at hb
          subst hb
          exact fun w => hnot (by rw [← w]; exact ha)⟩
      have h12' : ∀ x ∈ rs ++ [r], x < 12 := fun x hx => by
        rcases List.mem_append.mp hx with w | w
        · exact h8.1 x w
        · rw [List.mem_singleton] at w; subst w; exact h12
      have hl2 := nodup_len 12 _ hnd h12'
      rw [List.length_append, List.length_singleton] at hl2
      have ew : hWr st ar 4 (nI rs.length) (K 1 r) = some (hSet st ar (.inr (4, 12, .inr (.inr (.inr (.inr (va_up g rs.length (some (K 1 r))))))))) := hWr_of h7 (hr.rc h12).1 (by decide) (by omega) (by decide)
      have f1 : F1 st (hSet st ar (.inr (4, 12, .inr (.inr (.inr (.inr (va_up g rs.length (some (K 1 r))))))))) ar := ⟨rfl, fun q hq => by rw [hSet_s, if_neg hq]⟩
      have x1 := h.rx hr (Or.inr f1)
      have e6' : (hSet st ar (.inr (4, 12, .inr (.inr (.inr (.inr (va_up g rs.length (some (K 1 r))))))))).1 nw = some (.inl (3, [.int 0, .long 0, .int 0, .int 0, .int (nI d), .int 0, .ref ar, .int (nI rs.length)])) := by
        rw [hSet_s, if_neg h3]; exact h6
      have ep := hP_of (k := 7) (v := .int (nI rs.length + 1)) e6' (by decide : 7 < 8)
      have eadd : a_add rs r = rs ++ [r] := by unfold a_add; rw [if_neg hnot]
      refine ⟨hSet (hSet st ar (.inr (4, 12, .inr (.inr (.inr (.inr (va_up g rs.length (some (K 1 r))))))))) nw (.inl (3, [.int 0, .long 0, .int 0, .int 0, .int (nI d), .int 0, .ref ar, .int (nI rs.length + 1)])), ?_, ?_, ?_, ?_, ?_⟩
      · rw [x_Note_add_L2, e7]
        simp only [Option.bind_some]
        rw [if_pos (nI_le (by omega) (by omega)), e6]
        simp only [Option.bind_some, ew, hI_of (k := 7) (v := nI rs.length) e6' (by decide : 3 < 100) rfl, ep]
        rfl
      · exact x1.off (q := nw) ⟨rfl, fun q hq => by rw [hSet_s, if_neg hq]⟩ (fun f a hl => (h4 f a hl).1) e6' (Or.inl ⟨_, _, rfl, by decide⟩)
      · refine ⟨⟨h1, h2, h3, h4⟩, h5, ?_, va_up g rs.length (some (K 1 r)), ?_, ?_⟩
        · rw [hSet_s, if_pos rfl, eadd, List.length_append, List.length_singleton, ← nI_1]
        · rw [hSet_s, if_neg (fun w => h3 w.symm), hSet_s, if_pos rfl]
        · rw [eadd]
          refine ⟨h12', hnd, fun j x hj => ?_⟩
          unfold va_up
          by_cases q : j = rs.length
          · rw [q] at hj
            rw [if_pos q]
            simp at hj
            rw [hj]
          · rw [if_neg q]
            have hlt := (List.getElem?_eq_some_iff.mp hj).1
            rw [List.length_append, List.length_singleton] at hlt
            rw [List.getElem?_append_left (by omega)] at hj
            exact h8.2.2 j x hj
      · rfl
      · intro q q1 q2
        rw [hSet_s, if_neg q1, hSet_s, if_neg q2]
    | succ f ih =>
      intro i N hi hN hj
      obtain ⟨N, rfl⟩ : ∃ m, N = m + 1 := ⟨N - 1, by omega⟩
      have hlt : i < rs.length := by omega
      have hg : rs[i]? = some rs[i] := List.getElem?_eq_getElem hlt
      have hx := h8.1 _ (List.getElem_mem hlt)
      have eg : hAr st ar 4 (nI i) = some (some (K 1 rs[i])) := by rw [hAr_of h7 (by omega) (by decide), h8.2.2 i _ hg]
      rw [x_Note_add_L2, e7]
      simp only [Option.bind_some]
      rw [if_neg (nI_ge hlt (by omega)), e6]
      simp only [Option.bind_some, eg, Option.some.injEq, inj _ hx, nI_1]
      by_cases q : rs[i] = r
      · rw [if_pos q]
        have eadd : a_add rs r = rs := by unfold a_add; rw [if_pos (by rw [← q]; exact List.getElem_mem hlt)]
        rw [eadd]
        exact ⟨st, rfl, hr, h, rfl, fun _ _ _ => rfl⟩
      · rw [if_neg q]
        refine ih (i + 1) N (by omega) (by omega) (fun j x hj1 hj2 => ?_)
        by_cases w : j < i
        · exact hj j x w hj2
        · have : j = i := by omega
          subst this
          rw [hg] at hj2
          cases hj2
          exact q
  exact loop rs.length 0 1000 (by omega) (by omega) (fun j x hj => absurd hj (Nat.not_lt_zero _))
theorem X_given {n : Nat} (hB : XB n) (hW : XW n) {st : HS} {K : Nat → Nat → Nat} {σ τ : S} {kept : Nat} {p : Int32} {o : Nat → Int32} {pad : List Nat} {nw ar d r b : Nat} {rs rs' : List Nat} {d' : Nat} {v : Int64} (h : TN st K σ nw ar rs d) (hr : RX st K σ kept p o pad) (h12 : r < 12) (hb1 : b ≤ nw) (hb2 : b ≤ ar) (e : a_given (a_value (ag n).1 (ag n).2) σ r rs d = some (v, rs', d', τ)) :
    ∃ st' K', x_NS_given (x_NS_value (eg n).1 (eg n).2) st (K 0 0) (K 1 r) nw = some (v, st') ∧ RX st' K' τ kept p o pad ∧ TN st' K' τ nw ar rs' d' ∧ XF b st K σ st' K' τ ∧ OT st K σ st' K' τ nw ar ∧ PX σ τ ∧ RoX st σ st' τ ∧ KW σ K K' ∧ ∃ x, v = enc x := by
  obtain ⟨st1, g1, g2, g3, g4, g5⟩ := X_add h hr h12
  have nx1 : hNx st1 = hNx st := by unfold hNx; rw [g4]
  have ns1 : hNs st1 = hNs st := by unfold hNs; rw [g4]
  have f1 : XF b st K σ st1 K σ := ⟨by rw [g4], by rw [nx1]; exact Nat.le_refl _, fun q hq _ => g5 q (by omega) (by omega), fun f a hl => Or.inl ⟨hl, rfl⟩, fun _ _ _ _ => rfl⟩
  have h6 := h.2.2.1
  obtain ⟨v0, -, -, b35, -⟩ := g2.cE h12
  unfold a_given at e
  unfold x_NS_given
  rw [hIs_of h6 (by decide)]
  simp only [Option.bind_some, g1, (g2.rc h12).2.2.2.1, nI0 (show sN σ 35 r < 2 ^ 31 by omega)]
  by_cases q : sN σ 35 r = 0
  · rw [if_neg (fun w => w q)] at e
    rw [if_pos q, g2.rs.1]
    simp only [Option.bind_some]
    obtain ⟨⟨v', τ'⟩, e1, e2⟩ := omi e
    cases e2
    obtain ⟨st2, K2, l1, l2, l3, l4, l5, l6, l7⟩ := X_value hB hW g2 h12 q e1
    rw [l1]
    simp only [Option.bind_some]
    have t2 := g3.fx l3
    have k1 : K2 1 r = K 1 r := l3.2.2.2.2 1 r (by decide) (by decide)
    obtain ⟨d1, d2⟩ := X_steady l2 h12
    have c0 := (l2.rc h12).1
    rw [k1] at d1 c0
    obtain ⟨st3, m1, m2, m3⟩ := t2.dur (d' := min d (a_steady τ' r)) (by have := h.2.1; omega)
    refine ⟨st3, K2, ?_, t2.rx l2 (Or.inl m3), m2, (f1.t (l3.w (by have := h.1.1; omega))).t (m3.fx (Or.inr hb1) (fun _ _ w => w)), fun q0 z1 z2 z3 z4 => ?_, l4, ?_, l6, l7⟩
    · unfold x_NS_given_J26
      rw [hI_of t2.2.2.1 (by decide) rfl]
      simp only [Option.bind_some, c0, d1, X_min (show d < 2 ^ 31 by have := h.2.1; omega) (show a_steady τ' r < 2 ^ 31 by omega), m1]
    · obtain ⟨y1, y2⟩ := l3.nl (q := q0) (by omega) z4
      exact ⟨by rw [m3.2 q0 z2, y1, g5 q0 z2 z3], y2⟩
    · have := RoX.t l5 (RoX.f1 m3 (Nat.le_refl (Z τ')))
      unfold RoX at this ⊢
      rw [nx1, ns1] at this
      exact this
  · rw [if_pos q] at e
    rw [if_neg q]
    cases e
    obtain ⟨st3, m1, m2, m3⟩ := g3.dur (d' := 0) (by decide)
    refine ⟨st3, K, ?_, g3.rx g2 (Or.inl m3), m2, f1.t (m3.fx (Or.inr hb1) (fun _ _ w => w)), fun q0 z1 z2 z3 z4 => ⟨by rw [m3.2 q0 z2, g5 q0 z2 z3], z4⟩, PX.rf, ?_, fun _ _ _ => rfl, none, rfl⟩
    · show (hP st1 nw 3 4 (.int (nI 0))).bind _ = _
      rw [m1]
      rfl
    · unfold RoX
      rw [m3.nx.1, m3.nx.2, nx1, ns1]
      exact ⟨Nat.le_refl _, Nat.le_refl _⟩
