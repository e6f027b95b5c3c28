/-! the pad: a StringBuilder -/
theorem shr0 (x : Int32) : x >>> ((0 : Int32) &&& 31) = x := by simp
theorem shl0 (x : Int32) : x <<< ((0 : Int32) &&& 31) = x := by simp
theorem hCpy_of {st : HS} {a b n0 n1 m : Nat} {f g : Nat → Int32} (ea : st.1 a = some (.inr (1, n0, .inl f))) (eb : st.1 b = some (.inr (1, n1, .inl g))) (hab : a ≠ b) (h0 : m ≤ n0) (h1 : m ≤ n1) (hm : m < 2 ^ 31) (hf : ∀ i, i < m → fits .byte (.int (f i)) = true) : hCpy st a 0 b 0 (nI m) = some (hSet st b (.inr (1, n1, .inl (va_cpy f g 0 0 m)))) := by
  unfold hCpy
  rw [ea, eb]
  show (if a ≠ b ∧ ¬ (0 : Int32) < 0 ∧ ¬ (0 : Int32) < 0 ∧ ¬ nI m < 0 ∧ (0 : Int32).toNatClampNeg + (nI m).toNatClampNeg ≤ n0 ∧ (0 : Int32).toNatClampNeg + (nI m).toNatClampNeg ≤ n1 ∧ (List.range (nI m).toNatClampNeg).all (fun i => fits .byte (.int (f ((0 : Int32).toNatClampNeg + i)))) = true then some (hSet st b (.inr (1, n1, .inl (va_cpy f g (0 : Int32).toNatClampNeg (0 : Int32).toNatClampNeg (nI m).toNatClampNeg)))) else none) = _
  rw [nI_clamp hm, show (0 : Int32).toNatClampNeg = 0 from rfl, if_pos]
  refine ⟨hab, by decide, by decide, nI_pos hm, by omega, by omega, ?_⟩
  rw [List.all_eq_true]
  intro i hi
  rw [Nat.zero_add]
  exact hf i (List.mem_range.mp hi)
def K11 (K : Nat → Nat → Nat) (n : Nat) : Nat → Nat → Nat := fun f a => if f = 11 then n else K f a
theorem xE.pad {kc : Nat → Nat} {K K' : Nat → Nat → Nat} {σ : S} {kept : Nat} {p : Int32} {o : Nat → Int32} {pad pad' : List Nat} {f a : Nat} {e : Ent} (h : xE kc K σ kept p o pad f a e) (k : ∀ f a, f ≠ 11 → K' f a = K f a) (h1 : f ≠ 10) (h2 : f ≠ 11) : xE kc K' σ kept p o pad' f a e := by
  rcases fam f with q | q | q | q | q | q | q | q | q | q | q | q | q | q | q | q | ⟨n, q⟩
  · subst q
    obtain ⟨k1, k2⟩ := h
    refine ⟨?_, k2⟩
    rw [k1]
    unfold sLs0
    rw [k 9 0 (by decide), k 10 0 (by decide), k 12 0 (by decide), k 15 0 (by decide)]
  · subst q
    obtain ⟨⟨v, k1, k2⟩, k3⟩ := h
    refine ⟨⟨v, fun z => by rw [k 4 a (by decide)]; exact k1 z, ?_⟩, k3⟩
    rw [k2]
    unfold cL
    rw [k 2 a (by decide)]
  · subst q
    obtain ⟨k1, k2⟩ := h
    refine ⟨?_, k2⟩
    rw [k1]
    unfold nL
    rw [k 3 a (by decide)]
  · subst q
    obtain ⟨g, k1, k2⟩ := h
    exact ⟨g, k1, k2.k (fun x => k 1 x (by decide))⟩
  · subst q
    obtain ⟨k1, k2⟩ := h
    refine ⟨?_, k2⟩
    rw [k1, k 5 a (by decide), k 7 a (by decide), k 8 a (by decide)]
  · subst q
    replace h : e = _ := h
    show e = _
    rw [h, k 6 a (by decide)]
  · subst q; exact h
  · subst q; exact h
  · subst q; exact h
  · subst q
    obtain ⟨g, k1, k2⟩ := h
    exact ⟨g, k1, fun x hx => by rw [k 1 x (by decide)]; exact k2 x hx⟩
  · exact absurd q h1
  · exact absurd q h2
  · subst q
    obtain ⟨w1, w2, w3, w4, k1⟩ := h
    exact ⟨w1, w2, w3, w4, by rw [k1, k 13 0 (by decide), k 14 0 (by decide)]⟩
  · subst q; exact h
  · subst q; exact h
  · subst q; exact h
  · subst q; exact h
theorem RX.pad {st st' : HS} {K K' : Nat → Nat → Nat} {σ : S} {kept : Nat} {p : Int32} {o : Nat → Int32} {pad pad' : List Nat} {w : Int32} {N : Nat} {g : Nat → Int32} (h : RX st K σ kept p o pad) (hK : ∀ f a, f ≠ 11 → K' f a = K f a) (h2 : st'.2.2.2 = st.2.2.2) (hn : hNx st ≤ hNx st') (hs : ∀ q, q < hNx st → q ≠ K 10 0 → q ≠ K 11 0 → st'.1 q = st.1 q)
    (e10 : st'.1 (K 10 0) = some (.inl (5, [.ref (K' 11 0), .int 0, .int w, .int (nI pad'.length)]))) (e11 : st'.1 (K' 11 0) = some (.inr (1, N, .inl g)) ∧ pad'.length ≤ N ∧ (N = 16 ∨ N = 34) ∧ (∀ i x, pad'[i]? = some x → g i = nI x) ∧ ∀ i, i < N → fits .byte (.int (g i)) = true) (hk : K' 11 0 = K 11 0 ∨ hNx st ≤ K' 11 0) (hlt : K' 11 0 < hNx st') : RX st' K' σ kept p o pad' := by
  obtain ⟨x1, x2, x3, x5, x6⟩ := h
  have hkc : hKc st' = hKc st := by unfold hKc; rw [h2]
  refine ⟨fun f a hl => ?_, fun f a hl => ?_, fun f a f' a' hl hl' hh => ?_, ?_, x6⟩
  · by_cases q11 : f = 11
    · subst q11
      have ha : a = 0 := hl
      subst ha
      exact ⟨_, e11.1, N, g, rfl, e11.2⟩
    by_cases q10 : f = 10
    · subst q10
      have ha : a = 0 := hl
      subst ha
      rw [hK 10 0 (by decide)]
      exact ⟨_, e10, w, rfl⟩
    obtain ⟨e, k1, k2⟩ := x1 f a hl
    rw [hK f a q11, hkc]
    refine ⟨e, ?_, k2.pad hK q10 q11⟩
    rw [hs _ (x2 f a hl) (fun z => q10 (x3 f a 10 0 hl rfl z).1) (fun z => q11 (x3 f a 11 0 hl rfl z).1)]
    exact k1
  · by_cases q11 : f = 11
    · subst q11
      have ha : a = 0 := hl
      subst ha
      exact hlt
    · rw [hK f a q11]
      have := x2 f a hl
      omega
  · have aux : ∀ f a, f ≠ 11 → lv σ f a → K f a ≠ K' 11 0 := fun f a hf hl z => by
      rcases hk with w | w
      · rw [w] at z; exact hf (x3 f a 11 0 hl rfl z).1
      · have := x2 f a hl; omega
    by_cases q11 : f = 11
    · subst q11
      have ha : a = 0 := hl
      subst ha
      by_cases r11 : f' = 11
      · subst r11
        have ha' : a' = 0 := hl'
        subst ha'
        exact ⟨rfl, rfl⟩
      · rw [hK f' a' r11] at hh
        exact absurd hh.symm (aux f' a' r11 hl')
    · rw [hK f a q11] at hh
      by_cases r11 : f' = 11
      · subst r11
        have ha' : a' = 0 := hl'
        subst ha'
        exact absurd hh (aux f a q11 hl)
      · rw [hK f' a' r11] at hh
        exact x3 f a f' a' hl hl' hh
  · refine x5.kept h2 hn (fun q e hq hqe hw => ?_)
    rw [hs q hq]
    · exact hqe
    · intro z
      subst z
      obtain ⟨e', k1, k2⟩ := x1 10 0 rfl
      rw [k1] at hqe
      cases hqe
      exact hw (xE_st k2)
    · intro z
      subst z
      obtain ⟨e', k1, k2⟩ := x1 11 0 rfl
      rw [k1] at hqe
      cases hqe
      exact hw (xE_st k2)
theorem RX.pE {st : HS} {K : Nat → Nat → Nat} {σ : S} {kept : Nat} {p : Int32} {o : Nat → Int32} {pad : List Nat} (h : RX st K σ kept p o pad) : ∃ w N g, st.1 (K 10 0) = some (.inl (5, [.ref (K 11 0), .int 0, .int w, .int (nI pad.length)])) ∧ st.1 (K 11 0) = some (.inr (1, N, .inl g)) ∧ pad.length ≤ N ∧ (N = 16 ∨ N = 34) ∧ (∀ i x, pad[i]? = some x → g i = nI x) ∧ ∀ i, i < N → fits .byte (.int (g i)) = true := by
  obtain ⟨e, h1, w, h2⟩ := h.at (f := 10) (a := 0) rfl
  obtain ⟨e', h3, N, g, h4, h5⟩ := h.at (f := 11) (a := 0) rfl
  subst h2
  subst h4
  exact ⟨w, N, g, h1, h3, h5⟩
/-- room for one more -/
theorem X_room {st : HS} {K : Nat → Nat → Nat} {σ : S} {kept : Nat} {p : Int32} {o : Nat → Int32} {pad : List Nat} {m : Nat} (h : RX st K σ kept p o pad) (hm : m ≤ 31) :
    ∃ st' K', x_ASB_ensureCapacityInternal st (K 10 0) (nI m) = some st' ∧ RX st' K' σ kept p o pad ∧ (∀ f a, f ≠ 11 → K' f a = K f a) ∧ XT st K σ st' ∧ hNx st' ≤ hNx st + 1 ∧ hNs st' ≤ hNs st + 34 ∧ (K' 11 0 = K 11 0 ∨ hNx st ≤ K' 11 0) ∧ ∃ N g, st'.1 (K' 11 0) = some (.inr (1, N, .inl g)) ∧ m ≤ N := by
  obtain ⟨w, N, g, p1, p2, p3, p4, p5, p6⟩ := h.pE
  have n1031 : K 10 0 ≠ K 11 0 := fun z => absurd (h.2.2.1 10 0 11 0 rfl rfl z).1 (by decide)
  have dec : ∀ N, N ≤ 40 → ∀ m, m ≤ 40 → (nI m - nI N ≤ 0 ↔ m ≤ N) := by decide +kernel
  have r0 : hR st (K 10 0) 5 0 = some (some (K 11 0)) := hR_of p1 (by decide) rfl
  have r1 : hI st (K 10 0) 5 1 = some 0 := hI_of p1 (by decide) rfl
  have rl : hLen st (K 11 0) = some (nI N) := hLen_of p2 (by decide)
  unfold x_ASB_ensureCapacityInternal
  rw [r0]
  simp only [Option.bind_some, rl, r1, shr0, dec N (by omega) m (by omega)]
  by_cases q : m ≤ N
  · rw [if_pos q]
    exact ⟨st, K, rfl, h, fun _ _ _ => rfl, ⟨rfl, Nat.le_refl _, fun _ _ _ => rfl⟩, by omega, by omega, Or.inl rfl, N, g, p2, q⟩
  · rw [if_neg q]
    have hN : N = 16 := by omega
    subst hN
    have e8 : x_ASB_newCapacity st (K 10 0) (nI m) = some (nI 34) := by
      have d1 : ∀ m, m ≤ 31 → ¬ m ≤ 16 → (nI m - nI 16 < nI 16 + 2) := by decide +kernel
      unfold x_ASB_newCapacity x_AS_newLength x_Math_max
      rw [r0]
      simp only [Option.bind_some, rl, r1, shr0, shl0]
      rw [if_pos (d1 m hm q)]
      simp only [Option.bind_some]
      rw [if_neg (show ¬ nI 16 + (nI 16 + 2) ≤ 0 by decide +kernel), if_neg (show ¬ 2147483639 < nI 16 + (nI 16 + 2) by decide +kernel)]
      simp only [Option.bind_some]
      rw [if_neg (show ¬ nI 16 + (nI 16 + 2) = 2147483647 by decide +kernel)]
      exact congrArg some (show nI 16 + (nI 16 + 2) = nI 34 by decide +kernel)
    have en : hNewA st 1 (nI 34) = some (hPush st (.inr (1, 34, .inl (fun _ => 0))) 34) := by
      unfold hNewA
      rw [hsz_n (by decide)]
      rfl
    have lt10 := h.2.1 10 0 rfl
    have lt11 := h.2.1 11 0 rfl
    have p2' : (hPush st (.inr (1, 34, .inl (fun _ => 0))) 34).1 (K 11 0) = some (.inr (1, 16, .inl g)) := by rw [hPush_s, if_neg (by omega)]; exact p2
    have pn : (hPush st (.inr (1, 34, .inl (fun _ => 0))) 34).1 (hNx st) = some (.inr (1, 34, .inl (fun _ => 0))) := by rw [hPush_s, if_pos rfl]
    have ec : hCpy (hPush st (.inr (1, 34, .inl (fun _ => 0))) 34) (K 11 0) 0 (hNx st) 0 (nI 16) = some (hSet (hPush st (.inr (1, 34, .inl (fun _ => 0))) 34) (hNx st) (.inr (1, 34, .inl (va_cpy g (fun _ => 0) 0 0 16)))) := by
      exact hCpy_of p2' pn (by omega) (by decide) (by decide) (by decide) p6
    generalize hs2 : hSet (hPush st (.inr (1, 34, .inl (fun _ => 0))) 34) (hNx st) (.inr (1, 34, .inl (va_cpy g (fun _ => 0) 0 0 16))) = s2 at ec
    have s2n : hNx s2 = hNx st + 1 ∧ hNs s2 = hNs st + 34 ∧ s2.2.2.2 = st.2.2.2 := by rw [← hs2]; exact ⟨rfl, rfl, rfl⟩
    have p1' : s2.1 (K 10 0) = some (.inl (5, [.ref (K 11 0), .int 0, .int w, .int (nI pad.length)])) := by rw [← hs2, hSet_s, if_neg (by omega), hPush_s, if_neg (by omega)]; exact p1
    have ep := hP_of (k := 0) (v := .ref (hNx st)) p1' (by decide : 0 < 4)
    have k11 : K11 K (hNx st) 11 0 = hNx st := rfl
    refine ⟨hSet s2 (K 10 0) (.inl (5, [.ref (hNx st), .int 0, .int w, .int (nI pad.length)])), K11 K (hNx st), ?_, ?_, fun f a hf => by unfold K11; rw [if_neg hf], ⟨s2n.2.2, by show hNx st ≤ hNx s2; omega, fun q hq hn => ?_⟩, by show hNx s2 ≤ _; omega, by show hNs s2 ≤ _; omega, Or.inr (by rw [k11]; exact Nat.le_refl _), 34, va_cpy g (fun _ => 0) 0 0 16, ?_, by omega⟩
    · rw [hIs_of p1 (by decide)]
      simp only [Option.bind_some, e8, r1, shl0]
      unfold x_Arr_copyOf x_Arr_copyOf_J17
      rw [rl]
      simp only [Option.bind_some]
      rw [if_neg (show ¬ nI 34 = nI 16 by decide +kernel), en]
      simp only [Option.bind_some, hLen_of p2' (by decide : 1 % 100 ≤ 5), X_min (show 16 < 2 ^ 31 by decide) (show 34 < 2 ^ 31 by decide)]
      rw [show min 16 34 = 16 from rfl, ec]
      simp only [Option.bind_some]
      unfold x_ASB_ensureCapacityInternal_J35
      rw [show va_rf (some (hNx st)) = Value.ref (hNx st) from rfl, ep]
      rfl
    · refine h.pad (w := w) (N := 34) (g := va_cpy g (fun _ => 0) 0 0 16) (fun f a hf => by unfold K11; rw [if_neg hf]) s2n.2.2 (by show hNx st ≤ hNx s2; omega) (fun q hq q1 q2 => ?_) ?_ ⟨?_, by omega, Or.inr rfl, fun i x hi => ?_, fun i hi => ?_⟩ (Or.inr (by rw [k11]; exact Nat.le_refl _)) (by rw [k11]; show hNx st < hNx s2; omega)
      · rw [hSet_s, if_neg q1, ← hs2, hSet_s, if_neg (by omega), hPush_s, if_neg (by omega)]
      · rw [hSet_s, if_pos rfl]; rfl
      · rw [k11, hSet_s, if_neg (by omega), ← hs2, hSet_s, if_pos rfl]
      · have hlt := (List.getElem?_eq_some_iff.mp hi).1
        unfold va_cpy
        rw [if_pos (by omega)]
        rw [show 0 + (i - 0) = i by omega]
        exact p5 i x hi
      · unfold va_cpy
        split
        · rename_i hz
          rw [show 0 + (i - 0) = i by omega]
          exact p6 i (by omega)
        · show fits .byte (.int 0) = true
          decide
    · rw [hSet_s, if_neg (fun z => hn 10 0 rfl z.symm), ← hs2, hSet_s, if_neg (by omega), hPush_s, if_neg (by omega)]
    · rw [k11, hSet_s, if_neg (by omega), ← hs2, hSet_s, if_pos rfl]
theorem X_append {st : HS} {K : Nat → Nat → Nat} {σ : S} {kept : Nat} {p : Int32} {o : Nat → Int32} {pad : List Nat} {c : Nat} (h : RX st K σ kept p o pad) (hl : pad.length < 30) (hc : c < 128) :
    ∃ st' K', x_SB_append st (K 10 0) (nI c) = some (some (K 10 0), st') ∧ RX st' K' σ kept p o (pad ++ [c]) ∧ (∀ f a, f ≠ 11 → K' f a = K f a) ∧ LN st K σ K' σ ∧ XT st K σ st' ∧ hNx st' ≤ hNx st + 1 ∧ hNs st' ≤ hNs st + 34 := by
  obtain ⟨s1, K1, a1, a2, a3, a4, a5, a6, a9, N, g, a7, a8⟩ := X_room (m := pad.length + 1) h (by omega)
  obtain ⟨w, N0, g0, p1, p2, p3, p4, p5, p6⟩ := a2.pE
  rw [a7] at p2
  cases p2
  obtain ⟨w0, N1, g1, p1', -⟩ := h.pE
  have k10 : K1 10 0 = K 10 0 := a3 10 0 (by decide)
  rw [k10] at p1
  have d8 : ∀ c, c < 128 → (nI c).toInt8.toInt32 = nI c ∧ vp_nar .byte (nI c) = nI c ∧ ¬ (255 < nI c) ∧ fits .byte (.int (nI c)) = true := by decide +kernel
  obtain ⟨e1, e2, e3, e4⟩ := d8 c hc
  have n1 : K 10 0 ≠ K1 11 0 := fun z => absurd (a2.2.2.1 10 0 11 0 rfl rfl (by rw [k10]; exact z)).1 (by decide)
  have ep := hP_of (k := 3) (v := .int (nI (pad.length + 1))) p1 (by decide : 3 < 4)
  generalize hs2 : hSet s1 (K 10 0) (.inl (5, [.ref (K1 11 0), .int 0, .int w, .int (nI (pad.length + 1))])) = s2
  have ep' : hP s1 (K 10 0) 5 3 (.int (nI (pad.length + 1))) = some s2 := by rw [← hs2]; exact ep
  have p2' : s2.1 (K1 11 0) = some (.inr (1, N, .inl g)) := by rw [← hs2, hSet_s, if_neg (fun z => n1 z.symm)]; exact a7
  have ew : hWi s2 (K1 11 0) 1 (nI pad.length) (nI c) = some (hSet s2 (K1 11 0) (.inr (1, N, .inl (upd g pad.length (nI c))))) := hWi_of p2' (by omega) (by omega)
  refine ⟨hSet s2 (K1 11 0) (.inr (1, N, .inl (upd g pad.length (nI c)))), K1, ?_, ?_, a3, fun f a hl => ?_, ⟨?_, ?_, fun q hq hn => ?_⟩, ?_, ?_⟩
  · unfold x_SB_append x_SB_append_J5 x_ASB_append x_ASB_append_J10 x_ASB_isLatin1 x_L1_canEncode
    rw [hIs_of p1' (by decide)]
    simp only [Option.bind_some, hI_of (k := 3) (v := nI pad.length) p1' (by decide) rfl, nI_1, a1, hIs_of p1 (by decide), hI_of (k := 1) (v := 0) p1 (by decide) rfl]
    rw [if_neg (by decide), if_pos trivial]
    simp only [Option.bind_some]
    rw [if_neg (by decide), if_neg e3]
    simp only [Option.bind_some]
    rw [if_neg (by decide), hR_of (k := 0) p1 (by decide) rfl]
    simp only [Option.bind_some, hI_of (k := 3) (v := nI pad.length) p1 (by decide) rfl, nI_1, ep', e1, e2, ew]
  · refine a2.pad (w := w) (N := N) (g := upd g pad.length (nI c)) (fun _ _ _ => rfl) ?_ ?_ (fun q hq q1 q2 => ?_) ?_ ⟨?_, ?_, p4, fun i x hi => ?_, fun i hi => ?_⟩ (Or.inl rfl) ?_
    · rw [← hs2]; rfl
    · rw [← hs2]; exact Nat.le_refl _
    · rw [hSet_s, if_neg q2, ← hs2, hSet_s, if_neg (by rw [← k10]; exact q1)]
    · rw [k10, hSet_s, if_neg n1, ← hs2, hSet_s, if_pos rfl, List.length_append, List.length_singleton]
    · rw [hSet_s, if_pos rfl]
    · rw [List.length_append, List.length_singleton]; exact a8
    · show (if i = pad.length then nI c else g i) = nI x
      by_cases q : i = pad.length
      · rw [if_pos q]
        subst q
        simp at hi
        rw [hi]
      · rw [if_neg q]
        have hlt := (List.getElem?_eq_some_iff.mp hi).1
        rw [List.length_append, List.length_singleton] at hlt
        rw [List.getElem?_append_left (by omega)] at hi
        exact p5 i x hi
    · show fits .byte (.int (if i = pad.length then nI c else g i)) = true
      split
      · exact e4
      · exact p6 i hi
    · have := a2.2.1 11 0 rfl
      rw [← hs2]
      exact this
  · by_cases q : f = 11
    · subst q
      have ha : a = 0 := hl
      subst ha
      rcases a9 with w | w
      · exact Or.inl ⟨11, 0, rfl, w⟩
      · exact Or.inr w
    · exact Or.inl ⟨f, a, hl, a3 f a q⟩
  · rw [← hs2]; exact a4.1
  · rw [← hs2]; exact a4.2.1
  · rw [hSet_s, if_neg, ← hs2, hSet_s, if_neg (fun z => hn 10 0 rfl z.symm)]
    · exact a4.2.2 q hq hn
    · intro z
      rcases a9 with w | w
      · exact hn 11 0 rfl (by rw [z, w])
      · omega
  · rw [← hs2]; exact a5
  · rw [← hs2]; exact a6
