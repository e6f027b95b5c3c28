theorem hsz_n {k : Nat} (h : k ≤ 100000) : hsz (nI k) = some k := by
  unfold hsz
  have e : (nI k).toNatClampNeg = k := by
    unfold Int32.toNatClampNeg
    rw [nI_toInt (by omega)]
    rfl
  rw [e, if_neg]
  rintro (w | w)
  · exact nI_pos (by omega) w
  · omega
theorem X_work {n : Nat} (hB : XB n) (hW : XW n) : XW (n + 1) := by
  intro st K σ kept p o pad c τ h hc h5 hd e
  replace e : a_work (a_res (a_given (a_value (ag n).1 (ag n).2))) σ c = some τ := e
  show ∃ st' K', x_NS_workOut (x_NS_result (x_NS_given (x_NS_value (eg n).1 (eg n).2))) st (K 0 0) (K 1 c) = some st' ∧ _
  obtain ⟨⟨v, rs, d, ρ⟩, e1, e2⟩ := omi e
  replace e1 : a_run (a_given (a_value (ag n).1 (ag n).2)) (sC σ c) 100 0 [] [] 2 (sNs σ 35 c 1) = some (v, rs, d, ρ) := e1
  replace e2 : a_note ρ c (sN σ 35 c) v rs d = τ := e2
  obtain ⟨c0, c1, c2, c3, c4, c5, c6, c7, c8, c9, c10, c11, c12⟩ := h.rc hc
  obtain ⟨v0, -, -, b35, b2, b3, b4⟩ := h.cE hc
  obtain ⟨s1, x1, x2, x3⟩ := h.mark (v := 1) hc (by decide)
  obtain ⟨s2, y1, y2, y3⟩ := x2.cwork hc
  obtain ⟨s3, z1, z2, z3⟩ := y2.swork (p + 1)
  have nx3 : hNx s3 = hNx st ∧ hNs s3 = hNs st := ⟨by rw [z3.nx.1, y3.nx.1, x3.nx.1], by rw [z3.nx.2, y3.nx.2, x3.nx.2]⟩
  -- the new objects
  have z2a := z2.push (e0 := .inl (3, hdf 3)) (n := 8)
  have z2b := z2a.push (e0 := .inr (4, 12, .inr (.inr (.inr (.inr (fun _ => none)))))) (n := 12)
  have lt3 : ∀ f a, lv (sNs σ 35 c 1) f a → K f a < hNx s3 := z2.2.1
  generalize hs4 : hPush s3 (.inl (3, hdf 3)) 8 = s4 at z2a z2b
  have n4 : hNx s4 = hNx s3 + 1 ∧ hNs s4 = hNs s3 + 8 := by rw [← hs4]; exact ⟨rfl, rfl⟩
  generalize hs5 : hPush s4 (.inr (4, 12, .inr (.inr (.inr (.inr (fun _ => none)))))) 12 = s5 at z2b
  have n5 : hNx s5 = hNx s3 + 2 ∧ hNs s5 = hNs s3 + 20 := by rw [← hs5]; exact ⟨by show hNx s4 + 1 = _; omega, by show hNs s4 + 12 = _; omega⟩
  have l5 : s5.1 (hNx s3) = some (.inl (3, hdf 3)) := by
    rw [← hs5, hPush_s, if_neg (by omega), ← hs4, hPush_s, if_pos rfl]
  have a5 : s5.1 (hNx s3 + 1) = some (.inr (4, 12, .inr (.inr (.inr (.inr (fun _ => none)))))) := by
    rw [← hs5, hPush_s, if_pos n4.1.symm]
  have nl : ∀ f a, lv (sNs σ 35 c 1) f a → K f a ≠ hNx s3 := fun f a hl => by have := lt3 f a hl; omega
  obtain ⟨s6, q1, q2, q3, q4⟩ := off_set 6 (.ref (hNx s3 + 1)) z2b l5 (by decide) (by decide : 6 < 8) nl
  obtain ⟨s7, r1, r2, r3, r4⟩ := off_set 4 (.int 2) q2 q3 (by decide) (by decide : 4 < 8) nl
  have z2c := r2.push (e0 := .inr (3, 16, .inr (.inl (fun _ => 0)))) (n := 16)
  generalize hs8 : hPush s7 (.inr (3, 16, .inr (.inl (fun _ => 0)))) 16 = s8 at z2c
  have n7 : hNx s7 = hNx s3 + 2 ∧ hNs s7 = hNs s3 + 20 := ⟨by rw [r4.nx.1, q4.nx.1]; exact n5.1, by rw [r4.nx.2, q4.nx.2]; exact n5.2⟩
  have n8 : hNx s8 = hNx s3 + 3 ∧ hNs s8 = hNs s3 + 36 := by rw [← hs8]; exact ⟨by show hNx s7 + 1 = _; omega, by show hNs s7 + 16 = _; omega⟩
  have hT : TN s8 K (sNs σ 35 c 1) (hNx s3) (hNx s3 + 1) [] 2 := by
    refine ⟨⟨by omega, by omega, by omega, fun f a hl => ⟨nl f a hl, by have := lt3 f a hl; omega⟩⟩, by decide, ?_, (fun _ => none), ?_, (fun r hr => by cases hr), List.nodup_nil, (fun i r hi => by simp at hi)⟩
    · rw [← hs8, hPush_s, if_neg (by omega), r3]; rfl
    · rw [← hs8, hPush_s, if_neg (by omega), r4.2 _ (by omega), q4.2 _ (by omega)]; exact a5
  have hS : TK s8 K (sNs σ 35 c 1) (hNx s3 + 2) [] := by
    refine ⟨⟨by omega, fun f a hl => by have := lt3 f a hl; omega⟩, (fun _ => 0), ?_, (fun i x hi => by simp at hi)⟩
    rw [← hs8, hPush_s, if_pos n7.1.symm]
  obtain ⟨hh, w1, w2, w3, w4, w5⟩ := (z2c.rfo hc h5).2.2.2.1
  obtain ⟨s9, K9, m1, m2, m3, m4, m5, m6, m7, m8⟩ := X_run (b := hNx s3) (nw := hNx s3) (ar := hNx s3 + 1) (sk := hNx s3 + 2) hB hW hc (Nat.le_refl _) (by omega) (by omega) (by omega) (by omega) w3 w4 w5 100 0 1000 s8 K (sNs σ 35 c 1) ρ [] [] rs 2 d v z2c h5 rfl hT hS (by rw [w1]; rfl) (Nat.zero_le _) e1 (by decide)
  have k0 : K9 0 0 = K 0 0 := m4.2.2.2.2 0 0 (by decide) (by decide)
  have k1 : K9 1 c = K 1 c := m4.2.2.2.2 1 c (by decide) (by decide)
  have m35 : ∀ a, sN (sNs σ 35 c 1) 35 a = if a = c then 1 else sN σ 35 a := fun a => by
    rw [sN_sNs]
    by_cases q : a = c
    · rw [if_pos ⟨rfl, q⟩, if_pos q]
    · rw [if_neg (fun z => q z.2), if_neg q]
  have hm := m5.2.2.2 c (by rw [m35, if_pos rfl]; decide)
  have k2 : K9 2 c = K 2 c := m7 c hc (by rw [m35, if_pos rfl]; decide)
  have r35 : sN ρ 35 c = 1 := by rw [m5.2.1, m35, if_pos rfl]
  have r15 : sN ρ 15 c = sN σ 15 c := hm.1
  obtain ⟨s10, f1, f2, f3, f4, f5⟩ := X_filled (b := hNx s3) (was := sN σ 35 c) (gr := x_NS_result (x_NS_given (x_NS_value (eg n).1 (eg n).2))) m2 hc m3 r35 m8 b35 (Nat.le_refl _) (by omega)
  rw [e2] at f2 f3
  have zc0 : zc τ c = 0 := by
    rw [← e2]
    unfold zc
    have e18 : sN (a_note ρ c (sN σ 35 c) v rs d) 18 c = rev (a_note ρ c (sN σ 35 c) v rs d) := by rw [note_N]; simp; rfl
    have e15 : sN (a_note ρ c (sN σ 35 c) v rs d) 15 c ≠ 0 := by rw [note_N]; simp
    have e16 : ¬ sN (a_note ρ c (sN σ 35 c) v rs d) 16 c = 0 := by rw [note_N]; simp
    split
    · rfl
    · rw [if_pos ⟨e15, e18⟩]; try rw [if_neg e16]
  have zl : ∀ a, zc τ a ≤ zc ρ a := fun a => by
    by_cases q : a = c
    · subst q; rw [zc0]; exact Nat.zero_le _
    · rw [← e2, zc_sm (ss_note (τ := ρ)) (note_o q)]; exact Nat.le_refl _
  have zr : ∀ a, zc ρ a ≤ zc σ a := fun a => Nat.le_trans (m5.2.2.1 a) (by rw [PX.mk1.2.1]; exact Nat.le_refl _)
  have zc1 : 1 ≤ zc ρ c := by
    rw [zc_sm m5.1 hm]
    show 1 ≤ zc (sNs σ 35 c 1) c
    rw [PX.mk1.2.1]
    unfold zc
    rw [if_neg h5]
    split
    · rename_i q
      rw [if_pos (hd (Or.inr q))]
      exact Nat.le_refl _
    · decide
  have hZ := Z_lt hc zl (by omega)
  have hZ1 : Z (sNs σ 35 c 1) = Z σ := Z_mark
  refine ⟨s10, K2 K9 c (hNx s3) (hNx s3 + 1), ?_, f2, ?_, ?_, fun a => ?_, fun a => Nat.le_trans (zl a) (zr a), fun a hac ha => ?_, ?_, fun a ha hac hw => ?_, ?_, ?_⟩
  · unfold x_NS_workOut
    rw [c3]
    simp only [Option.bind_some]
    rw [show hP st (K 1 c) 1 2 (.int 1) = some s1 from x1]
    simp only [Option.bind_some]
    have d9 := (x2.rc hc).2.2.2.2.2.2.2.2.2.1
    rw [d9]
    simp only [Option.bind_some]
    rw [y1]
    simp only [Option.bind_some]
    have d6 := y2.rs.2.2.2.2.2.2.2.1
    rw [d6]
    simp only [Option.bind_some]
    rw [Int32.add_assoc, z1]
    simp only [Option.bind_some]
    have d8 : hR s3 (K 1 c) 1 8 = some (if sN σ 15 c = 0 then none else some (K 2 c)) := (z2.rc hc).2.2.2.2.2.2.2.2.1
    rw [d8]
    simp only [Option.bind_some]
    rw [show hNew s3 3 = s4 from hs4]
    unfold x_NS_workOut_J38 x_Note_init x_Note_init_J10
    have en : hNewA s4 4 12 = some s5 := by
      unfold hNewA
      rw [show hsz 12 = some 12 from hsz_n (by decide), ← hs5]
      rfl
    simp only [Option.bind_some, en, n4.1, q1]
    unfold x_NS_workOut_J42
    rw [r1]
    have d7 := (r2.rc hc).2.2.2.2.2.2.2.2.2.2.2.2 h5
    simp only [Option.bind_some, d7, r2.rs.1]
    unfold x_NS_result x_NS_result_J4
    have en2 : hNewA s7 3 16 = some s8 := by
      unfold hNewA
      rw [show hsz 16 = some 16 from hsz_n (by decide), ← hs8]
      rfl
    rw [en2]
    simp only [Option.bind_some, n7.1]
    rw [show x_NS_result_L11 (x_NS_given (x_NS_value (eg n).1 (eg n).2)) 1000 s8 (K 0 0) (K 4 c) (hNx s3) (hNx s3 + 2) 0 0 = some (v, s9) from m1]
    simp only [Option.bind_some]
    rw [r15, k0, k1, k2] at f1
    exact f1
  · -- the frame
    have a1 : XF (hNx st) st K σ s1 K (sNs σ 35 c 1) := x3.fx (Or.inl ⟨1, c, hc, rfl⟩) (lv_ss (fun _ => rfl) (fun _ => rfl))
    have a2 : XF (hNx st) s1 K (sNs σ 35 c 1) s2 K (sNs σ 35 c 1) := y3.fx (Or.inl ⟨1, c, hc, rfl⟩) (fun _ _ z => z)
    have a3 : XF (hNx st) s2 K (sNs σ 35 c 1) s3 K (sNs σ 35 c 1) := z3.fx (Or.inl ⟨0, 0, rfl, rfl⟩) (fun _ _ z => z)
    have a4 : XF (hNx st) s3 K (sNs σ 35 c 1) s4 K (sNs σ 35 c 1) := by rw [← hs4]; exact XF.push (by omega)
    have a5 : XF (hNx st) s4 K (sNs σ 35 c 1) s5 K (sNs σ 35 c 1) := by rw [← hs5]; exact XF.push (by omega)
    have a6 : XF (hNx st) s5 K (sNs σ 35 c 1) s6 K (sNs σ 35 c 1) := q4.fx (Or.inr (by omega)) (fun _ _ z => z)
    have a7 : XF (hNx st) s6 K (sNs σ 35 c 1) s7 K (sNs σ 35 c 1) := r4.fx (Or.inr (by omega)) (fun _ _ z => z)
    have a8 : XF (hNx st) s7 K (sNs σ 35 c 1) s8 K (sNs σ 35 c 1) := by rw [← hs8]; exact XF.push (by omega)
    exact ((((((((a1.t a2).t a3).t a4).t a5).t a6).t a7).t a8).t (m4.w (by omega))).t (f3.w (by omega))
  · rw [← e2]; exact (ss_mark.t m5.1).t ss_note
  · rw [← e2, note_N]
    by_cases q : a = c
    · rw [if_pos ⟨rfl, q⟩, q]
    · rw [if_neg (fun z => q z.2), if_neg (fun z => q z.2), if_neg (fun z => q z.2), if_neg (fun z => q z.2), if_neg (fun z => q z.2), if_neg (fun z => q z.2), m5.2.1, m35, if_neg q]
  · rw [← e2]
    exact (nsm_mark.t (m5.2.2.2 a (by rw [m35, if_neg hac]; exact ha))).t (note_o hac)
  · unfold RoX at m6 ⊢
    rw [f4, f5]
    omega
  · rw [K2_o (fun z => hac z.2) (fun z => hac z.2)]
    exact m7 a ha (by rw [m35, if_neg hac]; exact hw)
  · right
    rw [← e2]
    exact ⟨by rw [note_N]; simp, by rw [note_N]; simp; rfl⟩
  · rw [← e2, note_N]; simp
theorem X_all : ∀ n, XB n ∧ XW n := by
  intro n
  induction n with
  | zero => exact ⟨fun st K σ kept p o pad c τ _ _ e => (by cases e), fun st K σ kept p o pad c τ _ _ _ _ e => (by cases e)⟩
  | succ n ih => exact ⟨X_bring ih.1 ih.2, X_work ih.1 ih.2⟩
