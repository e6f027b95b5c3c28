theorem PX.mk1 {σ : S} {c v : Nat} : ss σ (sNs σ 35 c v) ∧ (∀ a, zc (sNs σ 35 c v) a = zc σ a) ∧ ∀ a, nsm σ (sNs σ 35 c v) a := ⟨ss_mark, fun a => zc_sm ss_mark nsm_mark, fun a => nsm_mark⟩
theorem Z_eq {σ τ : S} (h : ∀ a, zc τ a = zc σ a) : Z τ = Z σ := by unfold Z; simp only [h]
/-- confirmed or passed: the end -/
theorem X_fin {st : HS} {K : Nat → Nat → Nat} {σ : S} {kept : Nat} {p : Int32} {o : Nat → Int32} {pad : List Nat} {c w : Nat} {gu : HS → Nat → Nat → Option (Int32 × HS)} {gw : HS → Nat → Nat → Option HS} (h : RX st K σ kept p o pad) (hc : c < 12) (h15 : sN σ 15 c ≠ 0) (hw : w = 1 ∨ w = 2) :
    ∃ st', ((hI st (K 1 c) 1 (9 + w)).bind fun x1 => (hP st (K 1 c) 1 (9 + w) (.int (x1 + 1))).bind fun st2 => (hI st2 (K 0 0) 0 (6 + w)).bind fun x3 => (hP st2 (K 0 0) 0 (6 + w) (.int (x3 + 1))).bind fun st4 => (hR st4 (K 1 c) 1 8).bind fun x5 => (hI st4 (K 0 0) 0 4).bind fun x6 => x5.bind fun ad7 => (hP st4 ad7 3 2 (.int x6)).bind fun st8 => x_NS_bring_J175 gu gw st8 (K 1 c)) = some st' ∧ RX st' K (a_fin σ c w) kept p o pad ∧ XF (hNx st) st K σ st' K (a_fin σ c w) ∧ hNx st' = hNx st ∧ hNs st' = hNs st := by
  obtain ⟨c0, c1, c2, c3, c4, c5, c6, c7, c8, c9, c10, c11, c12⟩ := h.rc hc
  obtain ⟨s0, s1, s2, s3, s4, s5, s6, s7, s8, s9, s10⟩ := h.rs
  obtain ⟨st1, g1, g2, g3⟩ := h.ccnt (x := sI σ 25 (3 * c + w) + 1) hc hw
  obtain ⟨st2, l1, l2, l3⟩ := g2.scnt (x := sI σ 26 w + 1) hw
  obtain ⟨st3, m1, m2, m3⟩ := l2.nver (v := rev σ) hc h15 h.sE.2
  obtain ⟨st4, k1, k2, k3⟩ := m2.mark (v := 0) hc (by decide)
  have t8 : hR st2 (K 1 c) 1 8 = some (some (K 2 c)) := by
    have := (l2.rc hc).2.2.2.2.2.2.2.2.1
    rw [show sN (sIs (sIs σ 25 (3 * c + w) (sI σ 25 (3 * c + w) + 1)) 26 w (sI σ 26 w + 1)) 15 c = sN σ 15 c from rfl, if_neg h15] at this
    exact this
  have t4 : hI st2 (K 0 0) 0 4 = some (nI (rev σ)) := l2.rs.2.2.2.2.2.1
  have ra : hI st (K 1 c) 1 (9 + w) = some (sI σ 25 (3 * c + w)) := by
    rcases hw with e | e <;> subst e
    · exact c10
    · exact c11
  have rb : hI st1 (K 0 0) 0 (6 + w) = some (sI σ 26 w) := by
    rcases hw with e | e <;> subst e
    · exact g2.rs.2.2.2.2.2.2.2.2.1
    · exact g2.rs.2.2.2.2.2.2.2.2.2.1
  have ls : ∀ {τ : S}, (∀ a, sN τ 5 a = sN σ 5 a) → (∀ a, sN τ 15 a = sN σ 15 a) → ∀ f a, lv τ f a → lv σ f a := fun a b => lv_ss a b
  refine ⟨st4, ?_, k2, ?_, ?_, ?_⟩
  · rw [ra]
    simp only [Option.bind_some, g1, rb, l1, t8, t4, m1]
    unfold x_NS_bring_J175
    show (hP st3 (K 1 c) 1 2 (.int (nI 0))).bind _ = _
    rw [k1]
    rfl
  · refine XF.t (g3.fx (Or.inl ⟨1, c, hc, rfl⟩) (σ' := sIs σ 25 (3 * c + w) (sI σ 25 (3 * c + w) + 1)) (lv_ss (fun _ => rfl) (fun _ => rfl))) ?_
    refine XF.t (l3.fx (Or.inl ⟨0, 0, rfl, rfl⟩) (σ' := sIs (sIs σ 25 (3 * c + w) (sI σ 25 (3 * c + w) + 1)) 26 w (sI σ 26 w + 1)) (lv_ss (fun _ => rfl) (fun _ => rfl))) ?_
    refine XF.t (m3.fx (Or.inl ⟨2, c, ⟨hc, h15⟩, rfl⟩) (σ' := sNs (sIs (sIs σ 25 (3 * c + w) (sI σ 25 (3 * c + w) + 1)) 26 w (sI σ 26 w + 1)) 18 c (rev σ)) (lv_ss (fun _ => rfl) (fun _ => rfl))) ?_
    exact k3.fx (Or.inl ⟨1, c, hc, rfl⟩) (lv_ss (fun _ => rfl) (fun _ => rfl))
  · rw [k3.nx.1, m3.nx.1, l3.nx.1, g3.nx.1]
  · rw [k3.nx.2, m3.nx.2, l3.nx.2, g3.nx.2]
theorem a_fin_35 {σ : S} {c w a : Nat} : sN (a_fin σ c w) 35 a = if a = c then 0 else sN σ 35 a := by
  unfold a_fin a_cnt
  rw [sN_sNs]
  by_cases q : a = c
  · rw [if_pos ⟨rfl, q⟩, if_pos q]
  · rw [if_neg (fun z => q z.2), if_neg q]
    rw [sN_sNs, if_neg (by omega)]
    rfl
theorem a_fin_nsm {σ : S} {c w a : Nat} (h : a ≠ c) : nsm σ (a_fin σ c w) a := by
  unfold nsm a_fin a_cnt
  simp only [sN_sNs, sN_sIs, sN_sLs, sN_sRs, sI_sNs, sI_sIs, sI_sLs, sI_sRs, sL_sNs, sL_sIs, sL_sLs, sL_sRs, sR_sNs, sR_sIs, sR_sLs, sR_sRs, sT_sNs, sT_sIs, sT_sLs, sT_sRs, sC_sNs, sC_sIs, sC_sLs, sC_sRs]
  simp [h]
theorem X_bring {n : Nat} (hB : XB n) (hW : XW n) : XB (n + 1) := by
  intro st K σ kept p o pad c τ h hc e
  replace e : a_bring (a_unch (ag n).1) (ag n).2 σ c = some τ := e
  show ∃ st' K', x_NS_bring (x_NS_unchanged (eg n).1) (eg n).2 st (K 0 0) (K 1 c) = some st' ∧ _
  obtain ⟨c0, c1, c2, c3, c4, c5, c6, c7, c8, c9, c10, c11, c12⟩ := h.rc hc
  obtain ⟨s0, s1, s2, s3, s4, s5, s6, s7, s8, s9, s10⟩ := h.rs
  obtain ⟨v, -, -, b1, b2, b3, b4⟩ := h.cE hc
  have brev := h.sE.2
  have same : (sN σ 35 c = 0 → a_done σ c) → ∃ st' K', some st = some st' ∧ RX st' K' σ kept p o pad ∧ XF (hNx st) st K σ st' K' σ ∧ PX σ σ ∧ RoX st σ st' σ ∧ KW σ K K' ∧ (sN σ 35 c = 0 → a_done σ c) := fun hd => ⟨st, K, rfl, h, XF.rf, PX.rf, RoX.rf, fun _ _ _ => rfl, hd⟩
  unfold a_bring at e
  unfold x_NS_bring
  rw [c2]
  simp only [Option.bind_some]
  by_cases q5 : sN σ 5 c = 0
  · rw [if_pos (Or.inl q5)] at e
    cases e
    rw [if_pos q5, if_neg (by decide)]
    exact same (fun _ => Or.inl q5)
  rw [if_neg q5, if_pos rfl, c3]
  simp only [Option.bind_some, nI0 (show sN σ 35 c < 2 ^ 31 by omega)]
  by_cases q35n : sN σ 35 c ≠ 0
  · have q35 := q35n
    rw [if_pos (Or.inr (Or.inl q35))] at e
    cases e
    rw [if_neg q35]
    exact same (fun w => absurd w q35)
  have q35 : sN σ 35 c = 0 := by omega
  rw [if_pos q35, c8]
  simp only [Option.bind_some]
  by_cases qd : sN σ 15 c ≠ 0 ∧ sN σ 18 c = rev σ
  · rw [if_pos (Or.inr (Or.inr qd))] at e
    cases e
    obtain ⟨n0, n1, n2, n3, n4, n5, n6, n7, n8⟩ := h.rn hc qd.1
    rw [if_neg qd.1, if_neg (by simp)]
    simp only [Option.bind_some, n3, s5]
    rw [if_pos (by rw [qd.2])]
    exact same (fun _ => Or.inr qd)
  rw [if_neg (by
    rintro (w | w | w)
    · exact q5 w
    · exact w q35
    · exact qd w)] at e
  -- not done
  have hzc : zc σ c = 2 := by unfold zc; rw [if_neg q5, if_neg qd]
  have toJ : (if (if sN σ 15 c = 0 then none else some (K 2 c)) = none then x_NS_bring_J36 (x_NS_unchanged (eg n).1) (eg n).2 st (K 0 0) (K 1 c) else (if sN σ 15 c = 0 then none else some (K 2 c)).bind fun ad5 => (hI st ad5 3 2).bind fun x6 => (hI st (K 0 0) 0 4).bind fun x7 => if x6 = x7 then some st else x_NS_bring_J36 (x_NS_unchanged (eg n).1) (eg n).2 st (K 0 0) (K 1 c)) = x_NS_bring_J36 (x_NS_unchanged (eg n).1) (eg n).2 st (K 0 0) (K 1 c) := by
    by_cases q15 : sN σ 15 c = 0
    · rw [if_pos q15, if_pos rfl]
    · obtain ⟨n0, n1, n2, n3, n4, n5, n6, n7, n8⟩ := h.rn hc q15
      rw [if_neg q15, if_neg (by simp)]
      simp only [Option.bind_some, n3, s5]
      rw [if_neg (fun w => qd ⟨q15, (nI_eq (B20_lt (h.nE hc q15).2.2.1) (B20_lt brev)).mp w⟩)]
  rw [toJ]
  obtain ⟨st1, g1, g2, g3⟩ := h.mark (v := 1) hc (by decide)
  have f1 : XF (hNx st) st K σ st1 K (sNs σ 35 c 1) := g3.fx (Or.inl ⟨1, c, hc, rfl⟩) (lv_ss (fun _ => rfl) (fun _ => rfl))
  have hz1 : Z (sNs σ 35 c 1) = Z σ := Z_mark
  have n1x := g3.nx
  have m35 : ∀ a, sN (sNs σ 35 c 1) 35 a = if a = c then 1 else sN σ 35 a := fun a => by
    rw [sN_sNs]
    by_cases q : a = c
    · rw [if_pos ⟨rfl, q⟩, if_pos q]
    · rw [if_neg (fun z => q z.2), if_neg q]
  -- the work
  have work : ∀ (st2 : HS) (K2 : Nat → Nat → Nat) (σ2 τ' : S), RX st2 K2 σ2 kept p o pad → XF (hNx st) st K σ st2 K2 σ2 → PX (sNs σ 35 c 1) σ2 → RoX st σ st2 σ2 → KW σ K K2 → (ag n).2 σ2 c = some τ' → τ = sNs τ' 35 c 0 → ∃ st' K', x_NS_bring_J170 (x_NS_unchanged (eg n).1) (eg n).2 st2 (K 0 0) (K 1 c) = some st' ∧ RX st' K' τ kept p o pad ∧ XF (hNx st) st K σ st' K' τ ∧ PX σ τ ∧ RoX st σ st' τ ∧ KW σ K K' ∧ (sN σ 35 c = 0 → a_done τ c) := by
    intro st2 K2 σ2 τ' r1 r2 r3 r4 r5 ew ht
    have hm := r3.2.2.2 c (by rw [m35, if_pos rfl]; decide)
    have k0 : K2 0 0 = K 0 0 := r2.2.2.2.2 0 0 (by decide) (by decide)
    have k1 : K2 1 c = K 1 c := r2.2.2.2.2 1 c (by decide) (by decide)
    obtain ⟨st3, K3, w1, w2, w3, w4, w5, w6, w7, w8, w9, w10, w11⟩ := hW st2 K2 σ2 kept p o pad c τ' r1 hc (by rw [r3.1.f]; exact q5) (fun hd => by
      rcases hd with hd | hd
      · rw [r3.1.f] at hd; exact absurd hd q5
      · rw [hm.1, hm.2.2.1, r3.1.rev] at hd; exact absurd hd qd) ew
    have k0' : K3 0 0 = K2 0 0 := w3.2.2.2.2 0 0 (by decide) (by decide)
    have k1' : K3 1 c = K2 1 c := w3.2.2.2.2 1 c (by decide) (by decide)
    obtain ⟨st4, l1, l2, l3⟩ := w2.mark (v := 0) hc (by decide)
    have ss1 : ss σ τ := by rw [ht]; exact ((ss_mark.t r3.1).t w4).t ss_mark
    have f35 : ∀ a, sN τ 35 a = sN σ 35 a := fun a => by
      rw [ht, sN_sNs]
      by_cases q : a = c
      · rw [if_pos ⟨rfl, q⟩, q, q35]
      · rw [if_neg (fun z => q z.2), w5, r3.2.1, m35, if_neg q]
    have hz : Z τ = Z τ' := by rw [ht]; exact Z_mark
    subst ht
    refine ⟨st4, K3, ?_, l2, (r2.t (w3.w r2.2.1)).t (l3.fx (Or.inl ⟨1, c, hc, rfl⟩) (lv_ss (fun _ => rfl) (fun _ => rfl))), ⟨ss1, f35, fun a => ?_, fun a ha => ?_⟩, r4.t (w8.t (RoX.f1 l3 (by rw [hz]; exact Nat.le_refl _))), fun a ha hw => ?_, fun _ => ?_⟩
    · unfold x_NS_bring_J170 x_NS_bring_J175
      have hs0 := r1.rs.1
      rw [k0] at hs0
      rw [hs0]
      simp only [Option.bind_some]
      rw [k0, k1] at w1
      rw [w1]
      rw [k1', k1] at l1
      show (hP st3 (K 1 c) 1 2 (.int (nI 0))).bind _ = _
      rw [l1]
      rfl
    · have z1 := (PX.mk1 (σ := τ') (c := c) (v := 0)).2.1 a
      have z2 := w6 a
      have z3 := r3.2.2.1 a
      have z4 := (PX.mk1 (σ := σ) (c := c) (v := 1)).2.1 a
      omega
    · have hac : a ≠ c := fun w => by rw [w] at ha; exact ha q35
      refine ((nsm_mark.t (r3.2.2.2 a (by rw [m35, if_neg hac]; exact ha))).t (w7 a hac (by rw [r3.2.1, m35, if_neg hac]; exact ha))).t nsm_mark
    · have hac : a ≠ c := fun w => by rw [w] at hw; exact hw q35
      exact (w9 a ha hac (by rw [r3.2.1, m35, if_neg hac]; exact hw)).trans (r5 a ha hw)
    · rcases w10 with w | w
      · exact Or.inl w
      · exact Or.inr w
  -- confirmed or passed
  have fin : ∀ (st2 : HS) (K2 : Nat → Nat → Nat) (σ2 ρ : S) (w : Nat), RX st2 K2 σ2 kept p o pad → XF (hNx st) st K σ st2 K2 σ2 → PX (sNs σ 35 c 1) ρ → (σ2 = ρ ∨ ∃ l, σ2 = sNs ρ 20 c l) → RoX st σ st2 σ2 → KW σ K K2 → sN σ 15 c ≠ 0 → τ = a_fin σ2 c w → ∀ st', RX st' K2 τ kept p o pad → XF (hNx st2) st2 K2 σ2 st' K2 τ → hNx st' = hNx st2 → hNs st' = hNs st2 → RX st' K2 τ kept p o pad ∧ XF (hNx st) st K σ st' K2 τ ∧ PX σ τ ∧ RoX st σ st' τ ∧ KW σ K K2 ∧ (sN σ 35 c = 0 → a_done τ c) := by
    intro st2 K2 σ2 ρ w r1 r2 r3 r6 r4 r5 q15 ht st' y1 y2 y3 y4
    have hm := r3.2.2.2 c (by rw [m35, if_pos rfl]; decide)
    have s20 : ss ρ σ2 ∧ (∀ a, sN σ2 35 a = sN ρ 35 a) ∧ (∀ a, zc σ2 a = zc ρ a) ∧ (∀ a, a ≠ c → nsm ρ σ2 a) ∧ sN σ2 15 c = sN ρ 15 c := by
      rcases r6 with e | ⟨l, e⟩
      · subst e; exact ⟨ss.rf, fun _ => rfl, fun _ => rfl, fun _ _ => nsm.rf, rfl⟩
      · subst e
        refine ⟨ss_20, fun _ => rfl, fun _ => rfl, fun a ha => ⟨rfl, rfl, rfl, rfl, ?_, rfl, rfl⟩, rfl⟩
        rw [sN_sNs, if_neg (fun z => ha z.2)]
    have ss1 : ss σ τ := by rw [ht]; exact ((ss_mark.t r3.1).t s20.1).t ss_fin
    have h18 : sN τ 18 c = rev τ := by
      rw [ss1.rev, ht]
      unfold a_fin
      rw [sN_sNs, if_neg (by omega), sN_sNs, if_pos ⟨rfl, rfl⟩, (s20.1).rev, r3.1.rev]
      rfl
    have h15 : sN τ 15 c ≠ 0 := by
      rw [ht]
      show sN σ2 15 c ≠ 0
      rw [s20.2.2.2.2, hm.1]; exact q15
    have zle : ∀ a, zc τ a ≤ zc σ2 a := fun a => by
      by_cases q : a = c
      · subst q
        have : zc σ2 a = 2 := by
          have e1 : zc σ2 a = zc σ a := by
            rw [s20.2.2.1 a, zc_sm r3.1 hm]
            exact (PX.mk1 (σ := σ) (c := a) (v := 1)).2.1 a
          rw [e1, hzc]
        rw [this]; exact zc_le
      · rw [ht]
        rw [zc_sm (ss_fin (σ := σ2) (c := c) (w := w)) (a_fin_nsm q)]
        exact Nat.le_refl _
    refine ⟨y1, r2.t (y2.w r2.2.1), ⟨ss1, fun a => ?_, fun a => ?_, fun a ha => ?_⟩, r4.t ?_, r5, fun _ => Or.inr ⟨h15, h18⟩⟩
    · rw [ht, a_fin_35]
      by_cases q : a = c
      · rw [if_pos q, q, q35]
      · rw [if_neg q, s20.2.1, r3.2.1, m35, if_neg q]
    · have z1 := zle a
      have z2 := s20.2.2.1 a
      have z3 := r3.2.2.1 a
      have z4 := (PX.mk1 (σ := σ) (c := c) (v := 1)).2.1 a
      omega
    · have hac : a ≠ c := fun w => by rw [w] at ha; exact ha q35
      have y := (nsm_mark.t (r3.2.2.2 a (by rw [m35, if_neg hac]; exact ha))).t (s20.2.2.2.1 a hac)
      rw [ht]
      exact y.t (a_fin_nsm hac)
    · have := Z_le zle
      unfold RoX
      rw [y3, y4]
      omega
  have kw1 : KW σ K K := fun _ _ _ => rfl
  have px1 : PX (sNs σ 35 c 1) (sNs σ 35 c 1) := PX.rf
  have ro1 : RoX st σ st1 (sNs σ 35 c 1) := RoX.f1 g3 (by rw [hz1]; exact Nat.le_refl _)
  unfold x_NS_bring_J36
  rw [show (hP st (K 1 c) 1 2 (.int 1)) = some st1 from g1]
  simp only [Option.bind_some]
  have d8 : hR st1 (K 1 c) 1 8 = some (if sN σ 15 c = 0 then none else some (K 2 c)) := (g2.rc hc).2.2.2.2.2.2.2.2.1
  rw [d8]
  simp only [Option.bind_some]
  by_cases q15 : sN σ 15 c = 0
  · rw [if_neg (fun w => w.1 q15), if_neg (fun w => w.1 q15)] at e
    obtain ⟨τ', e1, e2⟩ := omi e
    rw [if_pos q15, if_pos rfl]
    unfold x_NS_bring_J104
    rw [d8, if_pos q15]
    simp only [Option.bind_some]
    rw [if_pos trivial]
    exact work st1 K _ τ' g2 f1 px1 ro1 kw1 e1 e2.symm
  · rw [if_neg q15, if_neg (by simp)]
    have h15' : sN (sNs σ 35 c 1) 15 c ≠ 0 := q15
    obtain ⟨n0, n1, n2, n3, n4, n5, n6, n7, n8⟩ := g2.rn hc h15'
    obtain ⟨-, nb1, nb2, nb3, nb4, -⟩ := h.nE hc q15
    obtain ⟨ch1, ch2⟩ := g2.rch (d := sN σ 20 c) nb4
    replace n5 : hI st1 (K 2 c) 3 4 = some (nI (sN σ 20 c)) := n5
    replace n3 : hI st1 (K 2 c) 3 2 = some (nI (sN σ 18 c)) := n3
    replace ch2 : sN σ 4 (sN σ 20 c) < B20 := ch2
    replace ch1 : hAi st1 (K 15 0) 0 (nI (sN σ 20 c)) = some (nI (sN σ 4 (sN σ 20 c))) := ch1
    simp only [Option.bind_some, g2.rs.2.2.2.2.2.2.2.2.2.2, n5, ch1, n3]
    by_cases qp : sN σ 4 (sN σ 20 c) ≤ sN σ 18 c
    · rw [if_pos ⟨q15, qp⟩] at e
      rw [if_neg (nI_nlt qp (B20_lt nb2))]
      obtain ⟨st2, y1, y2, y3, y4, y5⟩ := X_fin (w := 2) (gu := x_NS_unchanged (eg n).1) (gw := (eg n).2) g2 hc h15' (Or.inr rfl)
      refine ⟨st2, K, y1, fin st1 K _ _ 2 g2 f1 px1 (Or.inl rfl) ro1 kw1 q15 (by cases e; rfl) st2 (by cases e; exact y2) (by cases e; exact y3) y4 y5⟩
    · rw [if_neg (fun w => qp w.2)] at e
      rw [if_pos (nI_lt (by omega) (B20_lt ch2))]
      unfold x_NS_bring_J104
      rw [d8, if_neg q15]
      simp only [Option.bind_some]
      have d6 : hI st1 (K 1 c) 1 6 = some (nI (sN σ 11 c)) := (g2.rc hc).2.2.2.2.2.2.2.1
      rw [if_neg (by simp), d6]
      simp only [Option.bind_some, n3, g2.rs.1]
      by_cases qa : sN σ 11 c ≤ sN σ 18 c
      · rw [if_pos ⟨q15, qa⟩] at e
        rw [if_neg (nI_nlt qa (B20_lt nb2))]
        obtain ⟨⟨b, σ2⟩, e1, e2⟩ := obi e
        obtain ⟨r1, r2, r3, r4⟩ := g2.rrd hc h15'
        obtain ⟨st2, K2, ρ, l, y1, y2, y3, y4, y5, y6, y7⟩ := X_unchL hB hc (sR (sNs σ 35 c 1) c) [] 2 st1 K (sNs σ 35 c 1) σ2 b 1000 g2 rfl h15' (by rw [m35, if_pos rfl]; decide) (by decide) e1 (by omega)
        replace y1 : x_NS_unchanged (eg n).1 st1 (K 0 0) (K 2 c) = some (bI b, st2) := y1
        rw [y1]
        simp only [Option.bind_some]
        have kw2 : KW σ K K2 := fun a ha hw => y7 a ha (by
          rw [m35]
          split
          · decide
          · exact hw)
        have f2 : XF (hNx st) st K σ st2 K2 σ2 := f1.t (y3.w f1.2.1)
        have k0 : K2 0 0 = K 0 0 := f2.2.2.2.2 0 0 (by decide) (by decide)
        have k1 : K2 1 c = K 1 c := f2.2.2.2.2 1 c (by decide) (by decide)
        unfold x_NS_bring_J133
        cases b with
        | true =>
          rw [if_neg (by decide)]
          have e3 : τ = a_fin σ2 c 1 := by
            have := e2
            dsimp only at this
            rw [if_pos rfl] at this
            cases this; rfl
          rw [if_pos rfl] at y5
          have hm := y4.2.2.2 c (by rw [m35, if_pos rfl]; decide)
          have h15'' : sN σ2 15 c ≠ 0 := by
            rw [y5]
            show sN ρ 15 c ≠ 0
            rw [hm.1]; exact q15
          obtain ⟨st3, z1, z2, z3, z4, z5⟩ := X_fin (w := 1) (gu := x_NS_unchanged (eg n).1) (gw := (eg n).2) y2 hc h15'' (Or.inl rfl)
          rw [k0, k1] at z1
          exact ⟨st3, K2, z1, fin st2 K2 σ2 ρ 1 y2 f2 y4 (Or.inr ⟨l, y5⟩) (ro1.t y6) kw2 q15 e3 st3 (by rw [e3]; exact z2) (by rw [e3]; exact z3) z4 z5⟩
        | false =>
          rw [if_pos (by decide)]
          have e3 : ((ag n).2 σ2 c).map (fun τ => sNs τ 35 c 0) = some τ := by
            have := e2
            dsimp only at this
            rw [if_neg (by decide)] at this
            exact this
          rw [if_neg (by decide)] at y5
          obtain ⟨τ', e4, e5⟩ := omi e3
          exact work st2 K2 σ2 τ' y2 f2 (by rw [y5]; exact y4) (ro1.t y6) kw2 e4 e5.symm
      · rw [if_neg (fun w => qa w.2)] at e
        rw [if_pos (nI_lt (by omega) (B20_lt b4))]
        obtain ⟨τ', e1, e2⟩ := omi e
        exact work st1 K _ τ' g2 f1 px1 ro1 kw1 e1 e2.symm
