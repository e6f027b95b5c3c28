theorem note_sel {τ : S} {c was d : Nat} {v : Int64} {rs : List Nat} : (∀ a, a ≠ c → nsm τ (a_note τ c was v rs d) a) ∧ sN (a_note τ c was v rs d) 15 c = 1 ∧ sN (a_note τ c was v rs d) 16 c = 1 ∧ sN (a_note τ c was v rs d) 18 c = rev τ ∧ sN (a_note τ c was v rs d) 35 c = was := by
  refine ⟨fun a ha => ?_, ?_, ?_, ?_, ?_⟩
  · unfold nsm a_note a_use a_cnt
    simp only [sN_sNs, sN_sIs, sN_sLs, sN_sRs, sI_sNs, sI_sIs, sI_sLs, sI_sRs, sL_sNs, sL_sIs, sL_sLs, sL_sRs, sR_sNs, sR_sIs, sR_sLs, sR_sRs, sT_sNs, sT_sIs, sT_sLs, sT_sRs, sC_sNs, sC_sIs, sC_sLs, sC_sRs]
    simp [ha]
  · unfold a_note a_use a_cnt; simp only [sN_sNs, sN_sIs, sN_sLs, sN_sRs, sI_sNs, sI_sIs, sI_sLs, sI_sRs, sL_sNs, sL_sIs, sL_sLs, sL_sRs, sR_sNs, sR_sIs, sR_sLs, sR_sRs, sT_sNs, sT_sIs, sT_sLs, sT_sRs, sC_sNs, sC_sIs, sC_sLs, sC_sRs]; simp
  · unfold a_note a_use a_cnt; simp only [sN_sNs, sN_sIs, sN_sLs, sN_sRs, sI_sNs, sI_sIs, sI_sLs, sI_sRs, sL_sNs, sL_sIs, sL_sLs, sL_sRs, sR_sNs, sR_sIs, sR_sLs, sR_sRs, sT_sNs, sT_sIs, sT_sLs, sT_sRs, sC_sNs, sC_sIs, sC_sLs, sC_sRs]; simp
  · unfold a_note a_use a_cnt; simp only [sN_sNs, sN_sIs, sN_sLs, sN_sRs, sI_sNs, sI_sIs, sI_sLs, sI_sRs, sL_sNs, sL_sIs, sL_sLs, sL_sRs, sR_sNs, sR_sIs, sR_sLs, sR_sRs, sT_sNs, sT_sIs, sT_sLs, sT_sRs, sC_sNs, sC_sIs, sC_sLs, sC_sRs]; simp [rev]
  · unfold a_note a_use a_cnt; simp only [sN_sNs, sN_sIs, sN_sLs, sN_sRs, sI_sNs, sI_sIs, sI_sLs, sI_sRs, sL_sNs, sL_sIs, sL_sLs, sL_sRs, sR_sNs, sR_sIs, sR_sLs, sR_sRs, sT_sNs, sT_sIs, sT_sLs, sT_sRs, sC_sNs, sC_sIs, sC_sLs, sC_sRs]; simp
theorem M_work {n : Nat} (hB : SB n) (hW : SW n) : SW (n + 1) := by
  intro σ c ms f hI hc hf hC hn hR hF hfu hnv
  have hI1 := inv_mk hI c
  have s1 : ss σ (sNs σ 35 c 1) := ss_mark
  have hf1 : sN (sNs σ 35 c 1) 5 c ≠ 0 := by rw [s1.f]; exact hf
  have hwt := hI1.wt hc hf1
  obtain ⟨hd, hEd, h12⟩ := E_run hf1 hwt
  have hnd := RD_nodup hf1 hwt
  obtain ⟨h, w0, w1, w2, w3, w4⟩ := hwt
  obtain ⟨ms1, r1, r2, r3, r4, r5⟩ := run_2 hR (by omega) hF
  have hX : FX ms1 f c 0 [] [] := ⟨r3, ⟨r4.1, r4.2.1, fun i x hi => by simp at hi⟩, ⟨by simp, r4.2.2.1, fun i x hi => by simp at hi⟩, r4.2.2.2⟩
  obtain ⟨τ, ms', kk, y1, y2, y3, y4, y5, y6⟩ := M_run (was := sN σ 35 c) hB hW w1 w3 w4 100 0 [] [] 2 (sNs σ 35 c 1) ms1 _ _ hI1 hc hf1 hC.mk (by omega) rfl hd (fun r hr => ⟨hr, h12 r hr⟩) hnd (fun r hr => by cases hr) rfl (Nat.zero_le _) (by rw [w0]; rfl) r2 hX hfu
  obtain ⟨τ', t1, t2, t3⟩ := T_run (T_all n).1 (T_all n).2 100 0 [] [] 2 (sNs σ 35 c 1) _ _ hI1 hc hf1 hC.mk (by omega) hd (fun r hr => ⟨hr, h12 r hr⟩) (fun r hr => by cases hr) rfl
  rw [y1] at t1
  simp only [Option.some.injEq, Prod.mk.injEq, true_and] at t1
  subst t1
  refine ⟨a_note τ c (sN σ 35 c) (enc (Eo (sNs σ 35 c 1) c)) (RD (sNs σ 35 c 1) c) (fmin (Ed (sNs σ 35 c 1)) (RD (sNs σ 35 c 1) c)), ms', 1 + kk, ?_, r1.t y2, y3, y4, r5.t y5, ?_⟩
  · show a_work _ σ c = _
    unfold a_work a_res
    rw [y1]
    rfl
  · obtain ⟨q1, q2, q3, q4, -⟩ := note_sel (τ := τ) (c := c) (was := sN σ 35 c) (v := enc (Eo (sNs σ 35 c 1) c)) (rs := RD (sNs σ 35 c 1) c) (d := fmin (Ed (sNs σ 35 c 1)) (RD (sNs σ 35 c 1) c))
    have sn : ss τ (a_note τ c (sN σ 35 c) (enc (Eo (sNs σ 35 c 1) c)) (RD (sNs σ 35 c 1) c) (fmin (Ed (sNs σ 35 c 1)) (RD (sNs σ 35 c 1) c))) := ss_note
    generalize a_note τ c (sN σ 35 c) (enc (Eo (sNs σ 35 c 1) c)) (RD (sNs σ 35 c 1) c) (fmin (Ed (sNs σ 35 c 1)) (RD (sNs σ 35 c 1) c)) = ρ at *
    have hnc := t2.2.2.2.2 c (by rw [mk_self]; decide)
    have hzρ : zc ρ c = 0 := by
      unfold zc
      rw [sn.f, t2.1.f, if_neg hf1, if_pos ⟨by rw [q2]; decide, by rw [q4, sn.rev]⟩, if_neg (by rw [q3]; decide)]
    have hzτ : 0 < zc τ c := by
      rw [zc_sm t2.1 hnc, zc_sm s1 nsm_mark]
      unfold zc
      rw [if_neg hf]
      by_cases hd : sN σ 15 c ≠ 0 ∧ sN σ 18 c = rev σ
      · rw [if_pos hd, if_pos (hnv (Or.inr hd))]; omega
      · rw [if_neg hd]; omega
    have hZ : Z ρ + 1 ≤ Z τ := Z_lt hc (fun a => by
      by_cases e : a = c
      · subst e; omega
      · rw [zc_sm sn (q1 a e)]; exact Nat.le_refl _) (by omega)
    rw [Z_mark] at y6
    omega
/-- going through the reads -/
theorem M_unchL {n : Nat} (hB : SB n) {c f : Nat} : ∀ (ys xs : List Nat) (least : Nat) (σ : S) (ms : MS), Inv σ → c < 12 → sN σ 5 c ≠ 0 → sN σ 35 c ≠ 0 → sN σ 15 c ≠ 0 → ¬ utd σ c → sN σ 11 c ≤ sN σ 18 c → Ch σ c → 2 * uw σ + 2 ≤ n →
    sR σ c = xs ++ ys → (∀ r ∈ xs, a_done σ r ∧ sN σ 35 r = 0 ∧ a_since σ r ≤ sN σ 18 c) → least = fmin (Ed σ) xs → RM ms σ → FR ms f c 1 → mA ms 30 f = nI xs.length → f + uw σ = 11 →
    ∃ b τ ms' k, a_unchL (ag n).1 c ys least σ = some (b, if b = true then sNs τ 20 c (fmin (Ed σ) (xs ++ ys)) else τ) ∧ Post σ τ ∧ Run k ms ms' ∧ (b = true → RM ms' (a_fin (sNs τ 20 c (fmin (Ed σ) (xs ++ ys))) c 1) ∧ mI ms' 27 = nI f) ∧ (b = false → RM ms' τ ∧ FR ms' f c 2) ∧ FS ms ms' f ∧ k + 400 * Z τ ≤ 400 * Z σ + 2 * ys.length + 1 := by
  intro ys
  induction ys with
  | nil =>
    intro xs least σ ms hI hc hf hw hn hu ha hC hm hR hx hl hM hF hat hfu
    have h12 : ∀ r ∈ sR σ c, r < 12 := ((hI.no c hc).2 hn).2.2.2.2.1
    have hR' : sR σ c = xs := by rw [hR, List.append_nil]
    obtain ⟨ms', k1, k2, k3, k4⟩ := L_thr_end hM hI hc (by omega) hF (by rw [hR']; exact hat) h12 (fun r hr => (hx r (by rw [← hR']; exact hr)).1)
    refine ⟨true, σ, ms', 1, ?_, Post.rf hI, run_1 (by omega) hF k1, fun _ => ⟨?_, k3⟩, (fun e => by cases e), k4, by simp; omega⟩
    · rw [a_unchL, hl, List.append_nil]; rfl
    · rw [List.append_nil, ← hR']; exact k2
  | cons r ys ih =>
    intro xs least σ ms hI hc hf hw hn hu ha hC hm hR hx hl hM hF hat hfu
    obtain ⟨m, rfl⟩ : ∃ m, n = m + 1 := ⟨n - 1, by omega⟩
    have hr12 : r < 12 := ((hI.no c hc).2 hn).2.2.2.2.1 r (by rw [hR]; simp)
    obtain ⟨w, x, h1, h2, h3⟩ := hI.ol c hc hf hn hu ha
    have hx12 : ∀ q ∈ xs, q < 12 := fun q hq => ((hI.no c hc).2 hn).2.2.2.2.1 q (by rw [hR]; simp [hq])
    have hag : ∀ q ∈ xs, Eo σ q = w q := fun q hq => by
      obtain ⟨d1, d2, d3⟩ := hx q hq
      have e := h3 q (by rw [hR]; simp [hq]) (by
        rcases d1 with d1 | d1
        · exact Or.inl d1
        · exact Or.inr d1.1) d3
      rw [done_cur hI (hx12 q hq) d1] at e
      exact (enc_inj e).symm
    have hrd : r ∈ RD σ c := by
      have := d_same _ _ _ _ _ _ _ _ h1 (E_run hf (hI.wt hc hf)).1 xs.length (fun j hj q hq => hag q (by
        rw [hR, List.getElem?_append_left hj] at hq
        exact List.mem_of_getElem? hq)) r (by rw [hR, List.getElem?_append_right (Nat.le_refl _)]; simp)
      exact List.mem_of_getElem? this
    have hgr : (sR σ c)[xs.length]? = some r := by rw [hR, List.getElem?_append_right (Nat.le_refl _)]; simp
    obtain ⟨p1, p2, p3, p4⟩ := L_thr_step hM hc (by omega) hF hat hgr hr12
    by_cases hwr : sN σ 35 r = 0
    · -- bringing it
      have phA : ∃ τ ms1 k1, (ag (m + 1)).1 σ r = some τ ∧ Post σ τ ∧ a_done τ r ∧ Run k1 ms ms1 ∧ RM ms1 τ ∧ FR ms1 f c 1 ∧ mA ms1 30 f = nI xs.length ∧ FS ms ms1 f ∧ k1 + 400 * Z τ ≤ 400 * Z σ + 1 := by
        by_cases hd : a_done σ r
        · exact ⟨σ, ms, 0, br_done hd, Post.rf hI, hd, Run.rf, hM, hF, hat, FS.rf, by omega⟩
        · have huw := uw_mark hr12 hwr
          have h5 : sN σ 5 r ≠ 0 := fun e => hd (Or.inl e)
          obtain ⟨m2, l1, l2, l3, l4⟩ := p2 hwr hd (by omega)
          obtain ⟨τ, m3, k, b1, b2, b3, b4, b5, b6⟩ := hB σ r m2 (f + 1) hI hr12 h5 hwr hd (hC.r hf hrd) hm l2 l3 (by omega)
          obtain ⟨τ', t1, t2, t3⟩ := (T_all (m + 1)).1 σ r hI hr12 (fun _ _ => hC.r hf hrd) hm
          rw [b1] at t1
          cases t1
          obtain ⟨f1, f2, f3, -⟩ := (l4.t b5).1 f (by omega)
          exact ⟨τ, m3, 1 + k, b1, t2, t3 hwr, (run_1 (by omega) hF l1).t b2, b3, ⟨b4, f1.trans hF.2.1, f2.trans hF.2.2⟩, f3.trans hat, (l4.t b5).le (by omega), by omega⟩
      obtain ⟨τ, ms1, k1, g1, g2, g3, g4, g5, g6, g7, g8, g9⟩ := phA
      have hnc := g2.2.2.2.2 c hw
      have hwt : sN τ 35 r = 0 := by rw [g2.2.1]; exact hwr
      have hgt : (sR τ c)[xs.length]? = some r := by rw [hnc.2.2.2.2.2.2]; exact hgr
      obtain ⟨o1, o2, o3, o4⟩ := L_thr_step g5 hc (by omega) g6 g7 hgt hr12
      rw [a_unchL, g1]
      show ∃ b τ' ms' k, (if sN τ 35 r ≠ 0 ∨ sN τ 18 c < a_since τ r then some (false, τ) else a_unchL (ag (m + 1)).1 c ys (min least (a_steady τ r)) τ) = _ ∧ _
      by_cases hq : sN τ 18 c < a_since τ r
      · rw [if_pos (Or.inr hq)]
        obtain ⟨m2, l1, l2, l3, l4⟩ := o3 hwt g3 hq
        exact ⟨false, τ, m2, k1 + 1, rfl, g2, g4.t (run_1 (by omega) g6 l1), (fun e => by cases e), fun _ => ⟨l2, l3⟩, g8.t l4, by simp; omega⟩
      · rw [if_neg (fun q => by rcases q with q | q; exact q hwt; exact hq q)]
        obtain ⟨m2, l1, l2, l3, l4, l5⟩ := o4 hwt g3 hq
        obtain ⟨b, ρ, ms', k, y1, y2, y3, y4, y5, y6, y7⟩ := ih (xs ++ [r]) (min least (a_steady τ r)) τ m2 g2.2.2.1 hc (by rw [g2.1.f]; exact hf) (by rw [g2.2.1]; exact hw) (by rw [hnc.1]; exact hn) (fun q => hu ((utd_sm g2.1 hnc).mp q)) (by rw [g2.1.alt, hnc.2.2.1]; exact ha) (hC.s g2.1 g2.2.1) (by rw [uw_congr g2.2.1]; exact hm) (by rw [hnc.2.2.2.2.2.2, hR]; simp) (fun q hq' => by
          rcases List.mem_append.mp hq' with hq' | hq'
          · obtain ⟨d1, d2, d3⟩ := hx q hq'
            obtain ⟨e1, e2, -⟩ := g2.2.2.2.1 q d1
            exact ⟨e1, by rw [g2.2.1]; exact d2, by rw [e2, hnc.2.2.1]; exact d3⟩
          · simp at hq'; subst hq'; exact ⟨g3, hwt, by omega⟩) (by rw [fmin_app, hl, done_steady g2.2.2.1 hr12 g3, g2.1.EdE]) l2 l3 (by rw [l4]; simp) (by rw [uw_congr g2.2.1]; exact hfu)
        rw [g2.1.EdE, List.append_assoc] at y1 y4
        exact ⟨b, ρ, ms', k1 + 1 + k, y1, g2.t y2, (g4.t (run_1 (by omega) g6 l1)).t y3, y4, y5, (g8.t l5).t y6, by simp; omega⟩
    · have hbr : (ag (m + 1)).1 σ r = some σ := by
        show a_bring _ _ σ r = _
        unfold a_bring
        rw [if_pos (Or.inr (Or.inl hwr))]
      rw [a_unchL, hbr]
      show ∃ b τ' ms' k, (if sN σ 35 r ≠ 0 ∨ sN σ 18 c < a_since σ r then some (false, σ) else a_unchL (ag (m + 1)).1 c ys (min least (a_steady σ r)) σ) = _ ∧ _
      rw [if_pos (Or.inl hwr)]
      obtain ⟨m2, l1, l2, l3, l4⟩ := p1 hwr
      exact ⟨false, σ, m2, 1, rfl, Post.rf hI, run_1 (by omega) hF l1, (fun e => by cases e), fun _ => ⟨l2, l3⟩, l4, by simp; omega⟩
theorem zc_fin {σ τ : S} {c w : Nat} (hc : c < 12) (hs : ss σ τ) (hne : ∀ a, a ≠ c → nsm σ τ a) (h15 : sN τ 15 c ≠ 0) (hnd : ¬ a_done σ c) : Z (a_fin τ c w) + 1 ≤ Z σ := by
  have hf : sN σ 5 c ≠ 0 := fun e => hnd (Or.inl e)
  have s2 : ss σ (a_fin τ c w) := hs.t ss_fin
  have q : ∀ a, a ≠ c → nsm τ (a_fin τ c w) a := fun a ha => by
    unfold nsm a_fin a_cnt
    simp only [sN_sNs, sN_sIs, sN_sLs, sN_sRs, sI_sNs, sI_sIs, sI_sLs, sI_sRs, sL_sNs, sL_sIs, sL_sLs, sL_sRs, sR_sNs, sR_sIs, sR_sLs, sR_sRs, sT_sNs, sT_sIs, sT_sLs, sT_sRs, sC_sNs, sC_sIs, sC_sLs, sC_sRs]
    simp [ha]
  have c15 : sN (a_fin τ c w) 15 c = sN τ 15 c := by unfold a_fin a_cnt; simp only [sN_sNs, sN_sIs, sN_sLs, sN_sRs, sI_sNs, sI_sIs, sI_sLs, sI_sRs, sL_sNs, sL_sIs, sL_sLs, sL_sRs, sR_sNs, sR_sIs, sR_sLs, sR_sRs, sT_sNs, sT_sIs, sT_sLs, sT_sRs, sC_sNs, sC_sIs, sC_sLs, sC_sRs]; simp
  have c18 : sN (a_fin τ c w) 18 c = rev σ := by rw [← hs.rev]; unfold a_fin a_cnt; simp only [sN_sNs, sN_sIs, sN_sLs, sN_sRs, sI_sNs, sI_sIs, sI_sLs, sI_sRs, sL_sNs, sL_sIs, sL_sLs, sL_sRs, sR_sNs, sR_sIs, sR_sLs, sR_sRs, sT_sNs, sT_sIs, sT_sLs, sT_sRs, sC_sNs, sC_sIs, sC_sLs, sC_sRs]; simp [rev]
  have e2 : zc σ c = 2 := by unfold zc; rw [if_neg hf, if_neg (fun q => hnd (Or.inr q))]
  have e1 : zc (a_fin τ c w) c ≤ 1 := by
    unfold zc
    rw [s2.f, if_neg hf, if_pos ⟨by rw [c15]; exact h15, by rw [c18, s2.rev]⟩]
    split <;> omega
  exact Z_lt hc (fun a => by
    by_cases e : a = c
    · subst e; omega
    · rw [zc_sm s2 ((hne a e).t (q a e))]; exact Nat.le_refl _) (by omega)
theorem M_bring {n : Nat} (hB : SB n) (hW : SW n) : SB (n + 1) := by
  intro σ c ms f hI hc hf hw hnd hC hn hR hF hfu
  have hu1 := uw_mark hc hw
  have hf12 : f < 12 := by omega
  have s1 : ss σ (sNs σ 35 c 1) := ss_mark
  have hI1 := inv_mk hI c
  have hf1 : sN (sNs σ 35 c 1) 5 c ≠ 0 := by rw [s1.f]; exact hf
  show ∃ τ ms' k, a_bring (a_unch (ag n).1) (ag n).2 σ c = some τ ∧ _
  unfold a_bring
  rw [if_neg (fun q => by
    rcases q with q | q | q
    · exact hf q
    · exact q hw
    · exact hnd (Or.inr q))]
  by_cases h1 : sN σ 15 c ≠ 0 ∧ sN σ 4 (sN σ 20 c) ≤ sN σ 18 c
  · rw [if_pos h1]
    obtain ⟨ms', k1, k2, k3, k4⟩ := L_enter_pass hR hc hf12 hF h1.1 ((hI.no c hc).2 h1.1).2.1 h1.2
    have := zc_fin (w := 2) hc s1 (fun a _ => nsm_mark) h1.1 hnd
    exact ⟨_, ms', 1, rfl, run_0 hf12 hF k1, k2, k3, k4, by omega⟩
  · rw [if_neg h1]
    obtain ⟨ms1, k1, k2, k3, k4, k5⟩ := L_enter_else hR hc hf12 hF (fun q => ((hI.no c hc).2 q).2.1) h1
    have r0 := run_0 hf12 hF k1
    -- working it out
    have wo : ∀ (τ : S) (m2 : MS), Post (sNs σ 35 c 1) τ → RM m2 τ → FR m2 f c 2 → ∃ ρ ms' k, (Option.map (fun τ => sNs τ 35 c 0) ((ag n).2 τ c)) = some ρ ∧ Run k m2 ms' ∧ RM ms' ρ ∧ mI ms' 27 = nI f ∧ FS m2 ms' f ∧ k + 400 * Z ρ + 98 ≤ 400 * Z τ := fun τ m2 hp hRm hFm => by
      have hw1 : sN τ 35 c = 1 := by rw [hp.2.1, mk_self]
      have hw1' : sN τ 35 c ≠ 0 := by rw [hw1]; decide
      have hnc := hp.2.2.2.2 c (by rw [mk_self]; decide)
      have hcg := uw_congr hp.2.1
      have hmk := uw_mark' hw1'
      obtain ⟨ρ, ms', k, b1, b2, b3, b4, b5, b6⟩ := hW τ c m2 f hp.2.2.1 hc (by rw [hp.1.f]; exact hf1) (hC.mk.s hp.1 hp.2.1) (by omega) (by rw [sNs_same hw1]; exact hRm) hFm (by omega) (fun q => absurd ((done_sm s1 nsm_mark).mp ((done_sm hp.1 hnc).mp q)) hnd)
      rw [b1]
      refine ⟨_, ms', k, rfl, b2, b3, b4, b5, ?_⟩
      rw [Z_mark]
      exact b6
    by_cases h2 : sN σ 15 c ≠ 0 ∧ sN σ 11 c ≤ sN σ 18 c
    · rw [if_pos h2]
      have k3' : FR ms1 f c 1 := by
        have e : (if sN (sNs σ 35 c 1) 15 c ≠ 0 ∧ sN (sNs σ 35 c 1) 11 c ≤ sN (sNs σ 35 c 1) 18 c then 1 else 2) = 1 := if_pos h2
        rw [e] at k3; exact k3
      have hu0 : ¬ utd (sNs σ 35 c 1) c := fun q => h1 ((utd_sm s1 nsm_mark).mp q)
      obtain ⟨b, τ, ms', k, y1, y2, y3, y4, y5, y6, y7⟩ := M_unchL hB (sR σ c) [] 2 (sNs σ 35 c 1) ms1 hI1 hc hf1 (by rw [mk_self]; decide) h2.1 hu0 h2.2 hC.mk (by omega) rfl (fun r hr => by cases hr) rfl k2 k3' k4 (by omega)
      have hlen := (hR.2.2.1 c hc).1
      have hlen : (sR σ c).length ≤ 12 := hlen
      rw [Z_mark] at y7
      have y1' : a_unch (ag n).1 (sNs σ 35 c 1) c = some (b, if b = true then sNs τ 20 c (fmin (Ed (sNs σ 35 c 1)) (sR σ c)) else τ) := y1
      rw [y1']
      cases b with
      | false =>
        obtain ⟨y51, y52⟩ := y5 rfl
        obtain ⟨ρ, ms2, kk, b1, b2, b3, b4, b5, b6⟩ := wo τ ms' y2 y51 y52
        exact ⟨ρ, ms2, 1 + k + kk, b1, (r0.t y3).t b2, b3, b4, (k5.t y6).t b5, by omega⟩
      | true =>
        obtain ⟨y41, y42⟩ := y4 rfl
        have hnc := y2.2.2.2.2 c (by rw [mk_self]; decide)
        have hz := zc_fin (σ := τ) (τ := sNs τ 20 c (fmin (Ed (sNs σ 35 c 1)) (sR σ c))) (w := 1) hc ss_20 (fun a ha => by
          unfold nsm
          simp only [sN_sNs, sN_sIs, sN_sLs, sN_sRs, sI_sNs, sI_sIs, sI_sLs, sI_sRs, sL_sNs, sL_sIs, sL_sLs, sL_sRs, sR_sNs, sR_sIs, sR_sLs, sR_sRs, sT_sNs, sT_sIs, sT_sLs, sT_sRs, sC_sNs, sC_sIs, sC_sLs, sC_sRs]
          simp [ha]) (by rw [sN_sNs, if_neg (by omega), hnc.1]; exact h2.1) (fun q => hnd ((done_sm s1 nsm_mark).mp ((done_sm y2.1 hnc).mp q)))
        exact ⟨_, ms', 1 + k, rfl, r0.t y3, y41, y42, k5.t y6, by
          show _ + 400 * Z (a_fin (sNs τ 20 c (fmin (Ed (sNs σ 35 c 1)) (sR σ c))) c 1) ≤ _
          omega⟩
    · rw [if_neg h2]
      have k3' : FR ms1 f c 2 := by
        have e : (if sN (sNs σ 35 c 1) 15 c ≠ 0 ∧ sN (sNs σ 35 c 1) 11 c ≤ sN (sNs σ 35 c 1) 18 c then 1 else 2) = 2 := if_neg h2
        rw [e] at k3; exact k3
      obtain ⟨ρ, ms2, kk, b1, b2, b3, b4, b5, b6⟩ := wo _ ms1 (Post.rf hI1) k2 k3'
      rw [Z_mark] at b6
      exact ⟨ρ, ms2, 1 + kk, b1, r0.t b2, b3, b4, k5.t b5, by omega⟩
theorem M_all : ∀ n, SB n ∧ SW n := by
  intro n
  induction n with
  | zero => exact ⟨fun σ c ms f _ _ _ _ _ _ h => by omega, fun σ c ms f _ _ _ _ h => by omega⟩
  | succ n ih => exact ⟨M_bring ih.1 ih.2, M_work ih.1 ih.2⟩
