/-! the class' define -/
theorem wt_ops {C : GS} (h : wt C) : ∀ q ∈ C, q.1 ≤ 10 := by
  obtain ⟨h, -, -, -, -, hw⟩ := h
  intro q hq
  obtain ⟨i, hi, e⟩ := List.mem_iff_getElem.mp hq
  exact (hw i q.1 q.2 (by rw [List.getElem?_eq_getElem hi, e])).1
theorem lv_def {σ : S} {c f a : Nat} {t : List Nat} {cd : GS} (hl : lv (a_def σ c t cd) f a) (q : ¬ ((4 ≤ f ∧ f ≤ 8) ∧ a = c)) : lv σ f a := by
  have n4 : 4 ≤ f ∧ f ≤ 8 → (a < 12 ∧ sN (a_def σ c t cd) 5 a ≠ 0) → (a < 12 ∧ sN σ 5 a ≠ 0) := fun z w => ⟨w.1, by
    have hac : a ≠ c := fun y => q ⟨z, y⟩
    have e : sN (a_def σ c t cd) 5 a = sN σ 5 a := by
      show (if (5 : Nat) = 5 ∧ a = c then 1 else _) = _
      rw [if_neg (fun y => hac y.2)]
      rfl
    rw [← e]; exact w.2⟩
  rcases fam f with w | w | w | w | w | w | w | w | w | w | w | w | w | w | w | w | ⟨n, w⟩
  · subst w; exact hl
  · subst w; exact hl
  · subst w; exact hl
  · subst w; exact hl
  · subst w; exact n4 (by decide) hl
  · subst w; exact n4 (by decide) hl
  · subst w; exact n4 (by decide) hl
  · subst w; exact n4 (by decide) hl
  · subst w; exact n4 (by decide) hl
  · subst w; exact hl
  · subst w; exact hl
  · subst w; exact hl
  · subst w; exact hl
  · subst w; exact hl
  · subst w; exact hl
  · subst w; exact hl
  · subst w; exact absurd hl lv_big
theorem X_define {st : HS} {K : Nat → Nat → Nat} {σ : S} {kept : Nat} {p : Int32} {o : Nat → Int32} {pad : List Nat} {s : PS} (h : RX st K σ kept p o pad) (hok : ∀ x ∈ pad, okc x) (hl : pad.length ≤ 30) (hInv : Inv σ) (hb : rev σ + 1 < B20) (e : p_read pad = some s) (h60 : s.2.2.length ≤ 60) (hgood : s.2.1 = false → s.2.2.length ≤ 30 ∧ wt s.2.2) :
    (∀ a, m_isCell a = 0 → ∃ st', x_NS_define st (K 0 0) a = some (-1, st') ∧ RX st' K σ kept p o [] ∧ XT st K σ st' ∧ hNx st' ≤ hNx st + 5 ∧ hNs st' ≤ hNs st + 97) ∧
    ∀ c, c < 12 → (¬ (s.2.1 = false ∧ s.1 = pad.length) → ∃ st', x_NS_define st (K 0 0) (nI c) = some (nI (s.1 + 1), st') ∧ RX st' K σ kept p o [] ∧ XT st K σ st' ∧ hNx st' ≤ hNx st + 5 ∧ hNs st' ≤ hNs st + 97) ∧
      (s.2.1 = false ∧ s.1 = pad.length → ∃ st' K', x_NS_define st (K 0 0) (nI c) = some (0, st') ∧ RX st' K' (a_defq σ c pad s.2.2) kept p o [] ∧ LN st K σ K' (a_defq σ c pad s.2.2) ∧ XT st K σ st' ∧ K' 0 0 = K 0 0 ∧ hNx st' ≤ hNx st + 5 ∧ hNs st' ≤ hNs st + 97) := by
  obtain ⟨w0, N0, g0, pp, -⟩ := h.pE
  obtain ⟨s1, a1, a2, a3, a4, a5, a6, a7⟩ := X_toStr h (fun x hx => okc_lt (hok x hx)) hl
  obtain ⟨s2, b1, b2, b3⟩ := X_clear a2 hl
  have lt : ∀ f a, lv σ f a → K f a < hNx st := h.2.1
  have lt10 := lt 10 0 rfl
  have S2 : Str s2 (hNx st) (hNx st + 1) pad := a3.kept (b3.2 _ (by omega)) (b3.2 _ (by omega))
  have n2 : hNx s2 = hNx st + 2 ∧ hNs s2 = hNs st + 4 + pad.length ∧ s2.2.2.2 = st.2.2.2 := ⟨by rw [b3.nx.1]; exact a4, by rw [b3.nx.2]; exact a5, by rw [b3.1]; exact a6⟩
  have k2 : ∀ q, q < hNx st → (∀ f a, lv σ f a → K f a ≠ q) → s2.1 q = st.1 q := fun q hq hn => by
    rw [b3.2 q (fun z => hn 10 0 rfl z.symm)]
    exact a7 q hq
  have t2 : XT st K σ s2 := ⟨n2.2.2, by omega, k2⟩
  have e10 : ∃ w, s1.1 (K 10 0) = some (.inl (5, w)) := ⟨_, by rw [a7 _ lt10]; exact pp⟩
  -- the beginning
  have start : ∀ (a : Int32) (cc : Option Nat), x_NS_cell st (K 0 0) a = some cc → x_NS_define st (K 0 0) a = x_NS_define_J22 s2 (K 0 0) cc (some (hNx st)) := fun a cc hcc => by
    obtain ⟨w, hw⟩ := e10
    unfold x_NS_define x_NS_define_J13
    rw [h.rs.1]
    simp only [Option.bind_some, hcc, h.rs.2.2.2.1, hIs_of pp (by decide), a1, a2.rs.2.2.2.1, hIs_of hw (by decide), b1]
  refine ⟨fun a ha => ⟨s2, ?_, b2, t2, by omega, by omega⟩, fun c hc => ?_⟩
  · rw [start a none ((X_cell h).2 a ha)]
    unfold x_NS_define_J22
    rw [if_pos rfl]
  obtain ⟨s3, c1, c2, c3, c4⟩ := X_reads b2 S2 e h60
  have n3 : hNx s3 = hNx st + 2 ∧ hNs s3 = hNs st + 4 + pad.length ∧ s3.2.2.2 = st.2.2.2 := ⟨by unfold hNx; rw [c4.1]; exact n2.1, by unfold hNs; rw [c4.1]; exact n2.2.1, by rw [c4.1]; exact n2.2.2⟩
  have k3 : ∀ q, q < hNx st → (∀ f a, lv σ f a → K f a ≠ q) → s3.1 q = st.1 q := fun q hq hn => by
    rw [c4.2 q (fun z => hn 12 0 rfl z.symm) (fun z => hn 13 0 rfl z.symm) (fun z => hn 14 0 rfl z.symm)]
    exact k2 q hq hn
  -- the reading
  have rd : x_Rdr_read s2 (K 12 0) (hNx st) = if s.2.1 = false ∧ s.1 = pad.length then x_Rdr_read_J53 (hNew s3 2) (K 12 0) (hNx s3) else some (none, s3) := by
    have e3 := hI_of (k := 3) (v := bI s.2.1) c3.1 (by decide) rfl
    have e1 := hI_of (k := 1) (v := nI s.1) c3.1 (by decide) rfl
    have e0 := hR_of (k := 0) (b := hNx st) c3.1 (by decide) rfl
    have rest : x_Rdr_read s2 (K 12 0) (hNx st) = ((hP s2 (K 12 0) 4 0 (.ref (hNx st))).bind fun st1 => (hP st1 (K 12 0) 4 1 (.int 0)).bind fun st2 => (hP st2 (K 12 0) 4 2 (.int 0)).bind fun st3 => (hP st3 (K 12 0) 4 3 (.int 0)).bind fun st4 => (hIs st4 (K 12 0) 4).bind fun _ => x_Rdr_formulaK st4 (K 12 0) 0).bind fun st6 => (hI st6 (K 12 0) 4 3).bind fun x7 => if x7 = 0 then (hI st6 (K 12 0) 4 1).bind fun x8 => (hR st6 (K 12 0) 4 0).bind fun x9 => x9.bind fun ad10 => (hIs st6 ad10 6).bind fun u11 => (x_Str_length st6 ad10).bind fun x12 => if x12 ≤ x8 then (some (hNx st6)).bind fun ad13 => (some (hNew st6 2)).bind fun st14 => x_Rdr_read_J53 st14 (K 12 0) ad13 else x_Rdr_read_J46 st6 else x_Rdr_read_J46 st6 := by
      unfold x_Rdr_read
      simp only [Option.bind_assoc]
    rw [rest, c1]
    simp only [Option.bind_some, e3, e1, e0, bI0, hIs_of c3.2.2.2.1.1 (by decide), c3.2.2.2.1.len]
    unfold x_Rdr_read_J46 x_Rdr_read_J73
    have hle := c3.2.2.2.2.1
    by_cases q : s.2.1 = false
    · rw [if_pos q]
      by_cases q2 : s.1 = pad.length
      · rw [if_pos (nI_le (by omega) (by omega)), if_pos ⟨q, q2⟩]
      · rw [if_neg (nI_ge (by omega) (by omega)), if_neg (fun z => q2 z.2)]
    · rw [if_neg q, if_neg (fun z => q z.1)]
  have j22 : x_NS_define st (K 0 0) (nI c) = (x_Rdr_read s2 (K 12 0) (hNx st)).bind fun q5 => x_NS_define_J36 q5.2 (K 0 0) (some (K 1 c)) (hNx st) q5.1 := by
    rw [start (nI c) (some (K 1 c)) ((X_cell h).1 c hc)]
    obtain ⟨e12, h12, v1, v2, v3, v4, h12'⟩ := b2.at (f := 12) (a := 0) rfl
    subst h12'
    unfold x_NS_define_J22
    rw [if_neg (by simp), b2.rs.2.2.2.2.1]
    simp only [Option.bind_some, hIs_of h12 (by decide)]
  refine ⟨fun hn => ⟨s3, ?_, c2, ⟨n3.2.2, by omega, k3⟩, by omega, by omega⟩, fun hy => ?_⟩
  · rw [j22, rd, if_neg hn]
    simp only [Option.bind_some]
    unfold x_NS_define_J36
    rw [if_pos rfl, c2.rs.2.2.2.2.1]
    simp only [Option.bind_some, hI_of (k := 1) (v := nI s.1) c3.1 (by decide) rfl]
    show some (nI 1 + nI s.1, s3) = _
    rw [nI_add, Nat.add_comm]
  -- a good text
  obtain ⟨hcl, hwt⟩ := hgood hy.1
  have kcs : ∀ i, i < 11 → hKc s3 i < hNx s3 := fun i hi => (c2.2.2.2.1.1 i hi).1
  obtain ⟨s4, d1, d2, d3, d4, d5, d6⟩ := X_form c3 h60 (wt_ops hwt) (c2.2.1 13 0 rfl) (c2.2.1 14 0 rfl) kcs
  have R4 := c2.grow d6 (by omega) d3
  have S4 : Str s4 (hNx st) (hNx st + 1) pad := c3.2.2.2.1.kept (d3 _ (by omega)) (d3 _ (by omega))
  have k4 : ∀ q, q < hNx st → (∀ f a, lv σ f a → K f a ≠ q) → s4.1 q = st.1 q := fun q hq hn => by rw [d3 q (by omega)]; exact k3 q hq hn
  have hkc : hKc s4 = hKc s3 := by unfold hKc; rw [d6]
  have n4 : hNx s4 = hNx st + 5 ∧ hNs s4 ≤ hNs st + 97 ∧ s4.2.2.2 = st.2.2.2 := ⟨by omega, by omega, d6.trans n3.2.2⟩
  have j36 : x_NS_define st (K 0 0) (nI c) = x_NS_define_J36 s4 (K 0 0) (some (K 1 c)) (hNx st) (some (hNx s3)) := by
    rw [j22, rd, if_pos hy]
    unfold x_Rdr_read_J53 x_Rdr_read_J73
    have e0 : (hNew s3 2).1 (K 12 0) = _ := (show (hNew s3 2).1 (K 12 0) = s3.1 (K 12 0) from by
      show (if K 12 0 = hNx s3 then _ else s3.1 (K 12 0)) = _
      rw [if_neg (by have := lt 12 0 rfl; omega)]).trans c3.1
    rw [hR_of (k := 0) (b := hNx st) e0 (by decide) rfl, hR_of (k := 4) (b := K 13 0) e0 (by decide) rfl, hR_of (k := 5) (b := K 14 0) e0 (by decide) rfl, hI_of (k := 2) (v := nI s.2.2.length) e0 (by decide) rfl]
    simp only [Option.bind_some, d1]
  obtain ⟨y0, y1, y2, y3, y4, y5, y6, y7, y8, y9, y10, y11, y12⟩ := R4.rc hc
  -- the change
  have hcd : a_cd σ c ≤ 2 := by
    obtain ⟨v, -, -, -, b13, -⟩ := h.cE hc
    unfold a_cd; split <;> omega
  have j76 : ∃ st' K', x_NS_define_J76 s4 (K 0 0) (K 1 c) (some (hNx s3)) = some (0, st') ∧ RX st' K' (a_def σ c pad s.2.2) kept p o [] ∧ LN st K σ K' (a_def σ c pad s.2.2) ∧ XT st K σ st' ∧ K' 0 0 = K 0 0 ∧ hNx st' ≤ hNx st + 5 ∧ hNs st' ≤ hNs st + 97 := by
    obtain ⟨s5, f1, f2, f3, f4⟩ := X_change (d := a_cd σ c) R4 hcd hb
    -- behind the note
    have j107 : ∀ (s6 : HS), RX s6 K (a_chg σ (a_cd σ c)) kept p o [] → XF (hNx s4) s4 K σ s6 K (a_chg σ (a_cd σ c)) → s6.2 = s4.2 → ∃ st' K', x_NS_define_J107 s6 (K 0 0) (K 1 c) (some (hNx s3)) = some (0, st') ∧ RX st' K' (a_def σ c pad s.2.2) kept p o [] ∧ LN st K σ K' (a_def σ c pad s.2.2) ∧ XT st K σ st' ∧ K' 0 0 = K 0 0 ∧ hNx st' ≤ hNx st + 5 ∧ hNs st' ≤ hNs st + 97 := by
      intro s6 r1 r2 r3
      have nx6 : hNx s6 = hNx s4 ∧ hNs s6 = hNs s4 := ⟨by unfold hNx; rw [r3], by unfold hNs; rw [r3]⟩
      have kc6 : hKc s6 = hKc s3 := by
        have : hKc s6 = hKc s4 := by unfold hKc; rw [r3]
        rw [this, hkc]
      have same : ∀ q, hNx st ≤ q → q < hNx s4 → s6.1 q = s4.1 q := fun q q1 q2 => r2.2.2.1 q q2 (fun f a hf => by have := lt f a hf; omega)
      obtain ⟨v, v1, v2, v3⟩ := r1.cE hc
      have p1 := hP_of (k := 1) (v := .int 0) v2 (by decide : 1 < 12)
      generalize hs7 : hSet s6 (K 1 c) (.inl (1, (cL K (a_chg σ (a_cd σ c)) o c v).set 1 (.int 0))) = s7 at p1
      have v4 : s7.1 (K 1 c) = some (.inl (1, (cL K (a_chg σ (a_cd σ c)) o c v).set 1 (.int 0))) := by rw [← hs7, hSet_s, if_pos rfl]
      have p2 := hP_of (k := 7) (v := .ref (hNx s3)) v4 (by decide : 7 < 12)
      generalize hs8 : hSet s7 (K 1 c) (.inl (1, ((cL K (a_chg σ (a_cd σ c)) o c v).set 1 (.int 0)).set 7 (.ref (hNx s3)))) = s8 at p2
      have fF : F1 s6 s8 (K 1 c) := ⟨by rw [← hs8, ← hs7]; rfl, fun q hq => by rw [← hs8, hSet_s, if_neg hq, ← hs7, hSet_s, if_neg hq]⟩
      have ec : s8.1 (K 1 c) = some (.inl (1, cL K (σF (a_chg σ (a_cd σ c)) c pad s.2.2) o c (.ref (hNx s3)))) := by
        rw [← hs8, hSet_s, if_pos rfl]
        unfold cL
        rw [(σF_c (σ := a_chg σ (a_cd σ c)) (t := pad) (cd := s.2.2)).1]
        rfl
      have F6 : Fo s6 (hKc s6) (hNx s3) (hNx s3 + 1) (hNx s3 + 2) (hNx st) s.2.2 := by
        obtain ⟨z1, ⟨u1, z2, z3⟩, u2, z4, z5⟩ := d2
        rw [kc6]
        exact ⟨by rw [same _ (by omega) (by omega)]; exact z1, ⟨u1, by rw [same _ (by omega) (by omega)]; exact z2, z3⟩, u2, by rw [same _ (by omega) (by omega)]; exact z4, z5⟩
      have S6 : Str s6 (hNx st) (hNx st + 1) pad := S4.kept (same _ (by omega) (by omega)) (same _ (by omega) (by omega))
      have R8 := r1.newF hc F6 S6 hok hwt (by omega) (by omega) (fun f a hf => by
        have := lt f a (lv_ss (fun _ => rfl) (fun _ => rfl) f a hf)
        omega) fF ec
      have k31 : K3 K c (hNx s3) (hNx st) (hNx st + 1) (hNx s3 + 1) (hNx s3 + 2) 1 c = K 1 c := K3_o (by omega)
      have k30 : K3 K c (hNx s3) (hNx st) (hNx st + 1) (hNx s3 + 1) (hNx s3 + 2) 0 0 = K 0 0 := K3_o (by omega)
      obtain ⟨s9, m1, m2, m3⟩ := R8.calt (v := rev σ + 1) hc hb
      rw [k31] at m1 m3
      have e4 : hI s8 (K 0 0) 0 4 = some (nI (rev σ + 1)) := by
        have := R8.rs.2.2.2.2.2.1
        rw [k30] at this
        exact this
      refine ⟨s9, K3 K c (hNx s3) (hNx st) (hNx st + 1) (hNx s3 + 1) (hNx s3 + 2), ?_, m2, fun f a hl => ?_, ⟨?_, ?_, fun q hq hn => ?_⟩, k30, ?_, ?_⟩
      · unfold x_NS_define_J107
        rw [p1]
        simp only [Option.bind_some]
        rw [show va_rf (some (hNx s3)) = Value.ref (hNx s3) from rfl, p2]
        simp only [Option.bind_some, e4, m1]
      · by_cases q : (4 ≤ f ∧ f ≤ 8) ∧ a = c
        · right
          obtain ⟨k4, k5, k6, k7, k8⟩ := K3_4 (K := K) (c := c) (fo := hNx s3) (sa := hNx st) (sb := hNx st + 1) (f1 := hNx s3 + 1) (f2 := hNx s3 + 2)
          obtain ⟨q1, rfl⟩ := q
          rcases (show f = 4 ∨ f = 5 ∨ f = 6 ∨ f = 7 ∨ f = 8 by omega) with w | w | w | w | w <;> subst w
          · rw [k4]; omega
          · rw [k5]; omega
          · rw [k6]; omega
          · rw [k7]; omega
          · rw [k8]; omega
        · exact Or.inl ⟨f, a, lv_def hl q, K3_o q⟩
      · rw [m3.1, fF.1, r3]; exact n4.2.2
      · rw [m3.nx.1, fF.nx.1, nx6.1]; omega
      · have z : q ≠ K 1 c := fun w => hn 1 c hc w.symm
        rw [m3.2 q z, fF.2 q z, r2.2.2.1 q (by omega) hn]
        exact k4 q hq hn
      · rw [m3.nx.1, fF.nx.1, nx6.1]; omega
      · rw [m3.nx.2, fF.nx.2, nx6.2]; omega
    have i1 : hI s5 (K 1 c) 1 1 = some (if sN σ 5 c = 0 then 1 else 0) := (f2.rc hc).2.2.1
    have j92 : ∃ st' K', x_NS_define_J92 s4 (K 0 0) (K 1 c) (some (hNx s3)) (nI (a_cd σ c)) (K 0 0) = some (0, st') ∧ RX st' K' (a_def σ c pad s.2.2) kept p o [] ∧ LN st K σ K' (a_def σ c pad s.2.2) ∧ XT st K σ st' ∧ K' 0 0 = K 0 0 ∧ hNx st' ≤ hNx st + 5 ∧ hNs st' ≤ hNs st + 97 := by
      unfold x_NS_define_J92
      rw [R4.rs.1]
      simp only [Option.bind_some, f1, i1]
      by_cases q5 : sN σ 5 c = 0
      · have q15 : sN σ 15 c = 0 := by
          by_cases z : sN σ 15 c = 0
          · exact z
          · exact absurd q5 ((hInv.no c hc).2 z).1
        obtain ⟨s6, g1, g2, g3⟩ := f2.cnul hc
        rw [sNs_same (show sN (a_chg σ (a_cd σ c)) 15 c = 0 from q15)] at g2
        rw [if_pos q5, if_neg (by decide), g1]
        exact j107 s6 g2 (f3.t (g3.fx (Or.inl ⟨1, c, hc, rfl⟩) (fun _ _ z => z))) (g3.1.trans f4)
      · rw [if_neg q5, if_pos rfl]
        exact j107 s5 f2 f3 f4
    unfold x_NS_define_J76
    rw [y2]
    simp only [Option.bind_some, y5]
    by_cases q5 : sN σ 5 c = 0
    · rw [show a_cd σ c = sN σ 13 c by unfold a_cd; rw [if_pos q5]] at j92
      rw [if_pos q5, if_neg (by decide)]
      exact j92
    · rw [show a_cd σ c = 2 by unfold a_cd; rw [if_neg q5]] at j92
      rw [if_neg q5, if_pos rfl]
      exact j92
  rw [j36]
  unfold x_NS_define_J36
  rw [if_neg (by simp)]
  simp only [Option.bind_some, y2]
  unfold a_defq
  by_cases q5 : sN σ 5 c = 0
  · rw [if_pos q5, if_neg (by decide), if_neg (fun z => z.1 q5)]
    exact j76
  · obtain ⟨o0', -, -, -, -, -⟩ := R4.rfo hc q5
    have Sc : Str s4 (K 5 c) (K 6 c) (sT σ c) := by
      obtain ⟨e4', h4, h4', -, w2, w3⟩ := R4.at (f := 4) (a := c) ⟨hc, q5⟩
      obtain ⟨e5', h5, h5'⟩ := R4.at (f := 5) (a := c) ⟨hc, q5⟩
      obtain ⟨e6', h6, g6, h6', k6⟩ := R4.at (f := 6) (a := c) ⟨hc, q5⟩
      replace h5' : e5' = _ := h5'
      subst h5'
      subst h6'
      exact ⟨h5, fun x hx => okc_lt (w3 x hx), w2, g6, h6, k6⟩
    rw [if_neg q5, if_pos rfl]
    simp only [y12 q5, Option.bind_some, o0', hIs_of Sc.1 (by decide), Sc.eq S4]
    by_cases qt : sT σ c = pad
    · rw [if_pos qt, if_neg (by decide), if_pos ⟨q5, qt⟩]
      exact ⟨s4, K, rfl, R4, fun f a hl => Or.inl ⟨f, a, hl, rfl⟩, ⟨n4.2.2, by omega, k4⟩, rfl, by omega, n4.2.1⟩
    · rw [if_neg qt, if_pos rfl, if_neg (fun z => qt z.2)]
      exact j76
