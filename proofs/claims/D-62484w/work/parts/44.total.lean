theorem ss_mark {σ : S} {c v : Nat} : ss σ (sNs σ 35 c v) := ⟨fun k a h1 h2 h3 h4 h5 h6 => by rw [sN_sNs, if_neg (by omega)], fun _ => rfl, fun _ => rfl, fun _ => rfl⟩
theorem nsm_mark {σ : S} {c v a : Nat} : nsm σ (sNs σ 35 c v) a := by
  unfold nsm
  simp only [sN_sNs, sN_sIs, sN_sLs, sN_sRs, sI_sNs, sI_sIs, sI_sLs, sI_sRs, sL_sNs, sL_sIs, sL_sLs, sL_sRs, sR_sNs, sR_sIs, sR_sLs, sR_sRs, sT_sNs, sT_sIs, sT_sLs, sT_sRs, sC_sNs, sC_sIs, sC_sLs, sC_sRs]
  simp
theorem inv_mk {σ : S} (h : Inv σ) (c : Nat) : Inv (sNs σ 35 c 1) := inv_mark h ss_mark (fun _ => nsm_mark) (fun a ha => by
  rw [sN_sNs]
  split
  · decide
  · exact ha)
theorem mk_self {σ : S} {c : Nat} : sN (sNs σ 35 c 1) 35 c = 1 := by rw [sN_sNs, if_pos ⟨rfl, rfl⟩]
theorem mk_ne {σ : S} {c a v : Nat} (h : a ≠ c) : sN (sNs σ 35 c v) 35 a = sN σ 35 a := by rw [sN_sNs, if_neg (fun q => h q.2)]
theorem Ch.mk {σ : S} {c : Nat} (h : Ch σ c) : Ch (sNs σ 35 c 1) c := fun a h1 h2 h3 => ss_mark.LtE (h a h1 h2 (by rw [mk_ne h2] at h3; exact h3))
/-- a read is brought, or at work and bad -/
def okr (σ : S) (r : Nat) : Prop := (a_done σ r ∧ sN σ 35 r = 0) ∨ (sN σ 35 r ≠ 0 ∧ EV σ r = none)
theorem okr_post {σ τ : S} (h : Post σ τ) {r : Nat} (k : okr σ r) : okr τ r := by
  unfold okr
  rw [h.2.1, h.1.EVE]
  rcases k with ⟨k1, k2⟩ | k
  · exact Or.inl ⟨(h.2.2.2.1 r k1).1, k2⟩
  · exact Or.inr k
theorem okr_utd {σ : S} (h : Inv σ) {r : Nat} (h12 : r < 12) (k : okr σ r) (hf : sN σ 5 r ≠ 0) : utd σ r ∨ (sN σ 35 r ≠ 0 ∧ EV σ r = none) := by
  rcases k with ⟨k, -⟩ | k
  · exact Or.inl (done_utd h h12 hf k)
  · exact Or.inr k
/-- the value of a cell that is not at work -/
theorem T_value {n : Nat} (hB : TB n) (hW : TW n) {σ : S} {c : Nat} (h : Inv σ) (hc : c < 12) (hw : sN σ 35 c = 0) (hC : sN σ 5 c ≠ 0 → Ch σ c) (hn : 2 * uw σ + 2 ≤ n) :
    ∃ τ, a_value (ag n).1 (ag n).2 σ c = some (enc (Eo σ c), τ) ∧ Post σ τ ∧ a_done τ c := by
  unfold a_value
  by_cases hf : sN σ 5 c = 0
  · rw [if_pos hf, Eo_input hf]
    exact ⟨σ, rfl, Post.rf h, Or.inl hf⟩
  · rw [if_neg hf]
    obtain ⟨τ, h1, h2, h3⟩ := hB σ c h hc (fun _ _ => hC hf) hn
    rw [h1]
    show ∃ ρ, Option.map _ (if sN τ 16 c = 0 then (ag n).2 τ c else some τ) = _ ∧ _
    have use : ∀ ρ : S, Post σ ρ → a_done ρ c → ∃ ρ', some (sL ρ c, a_use ρ c) = some (enc (Eo σ c), ρ') ∧ Post σ ρ' ∧ a_done ρ' c := fun ρ hp hd => by
      have e1 : sL ρ c = enc (Eo σ c) := by
        have := done_cur hp.2.2.1 hc hd
        unfold cur at this
        rw [hp.1.f, if_neg hf, hp.1.EoE] at this
        exact this
      have s1 : ss ρ (a_use ρ c) := ⟨fun _ _ _ _ _ _ _ _ => rfl, fun a => by unfold a_use; simp only [sN_sNs, sN_sIs, sN_sLs, sN_sRs, sI_sNs, sI_sIs, sI_sLs, sI_sRs, sL_sNs, sL_sIs, sL_sLs, sL_sRs, sR_sNs, sR_sIs, sR_sLs, sR_sRs, sT_sNs, sT_sIs, sT_sLs, sT_sRs, sC_sNs, sC_sIs, sC_sLs, sC_sRs]; simp, fun _ => rfl, fun _ => rfl⟩
      have s2 : ∀ a, nsm ρ (a_use ρ c) a := fun a => nsm.rf
      refine ⟨a_use ρ c, by rw [e1], hp.t ⟨s1, fun _ => rfl, inv_mark hp.2.2.1 s1 s2 (fun _ h => h), fun a ha => kp_sm s1 (s2 a) ha, fun a _ => s2 a⟩, (done_sm s1 (s2 c)).mpr hd⟩
    by_cases hv : sN τ 16 c = 0
    · rw [if_pos hv]
      obtain ⟨ρ, g1, g2, g3, g4, g5, g6, g7, g8⟩ := hW τ c h2.2.2.1 hc (by rw [h2.1.f]; exact hf) ((hC hf).s h2.1 h2.2.1) (by
        have := uw_mark hc (show sN τ 35 c = 0 by rw [h2.2.1]; exact hw)
        have := uw_congr h2.2.1
        omega)
      rw [g1]
      refine use ρ (h2.t ⟨g2, g3, g4, g5, fun a ha => ?_⟩) g7
      by_cases e : a = c
      · subst e; rw [h2.2.1] at ha; exact absurd hw ha
      · exact g6 a e ha
    · rw [if_neg hv]
      exact use τ h2 (h3 hw)
/-- a formula is worked out -/
theorem T_run {n : Nat} (hB : TB n) (hW : TW n) {c : Nat} {code : List (Nat × Nat)} : ∀ (k pc : Nat) (st : List Int32) (rs : List Nat) (d : Nat) (σ : S) (x : Option Int32) (rs' : List Nat),
    Inv σ → c < 12 → sN σ 5 c ≠ 0 → Ch σ c → 2 * uw σ + 2 ≤ n → d_run (Eo σ) code k pc st rs = some (x, rs') → (∀ r ∈ rs', r ∈ RD σ c ∧ r < 12) → (∀ r ∈ rs, okr σ r) → d = fmin (Ed σ) rs →
    ∃ τ, a_run (a_given (a_value (ag n).1 (ag n).2)) code k pc st rs d σ = some (enc x, rs', fmin (Ed σ) rs', τ) ∧ Post σ τ ∧ ∀ r ∈ rs', okr τ r := by
  intro k
  induction k with
  | zero => intro pc st rs d σ x rs' _ _ _ _ _ h; cases h
  | succ k ih =>
    intro pc st rs d σ x rs' hI hc hf hC hn h hr hok hd
    rw [d_run] at h
    rw [a_run]
    rcases e0 : code[pc]? with _ | ⟨op, no⟩
    · rw [e0] at h
      obtain ⟨y, hy, h⟩ := omi h
      simp only [Prod.mk.injEq] at h
      obtain ⟨rfl, rfl⟩ := h
      rw [hy]
      exact ⟨σ, by rw [hd]; rfl, Post.rf hI, hok⟩
    · rw [e0] at h
      dsimp only at h ⊢
      split at h
      · rename_i hop
        obtain ⟨q, hq, h⟩ := obi h
        rw [if_pos hop, hq]
        show ∃ τ, Option.bind (a_given _ σ q.1 rs d) _ = _ ∧ _
        have hm : q.1 ∈ rs' := by
          split at h
          · cases h; exact a_add_mem
          · exact (d_pre _ _ _ _ _ _ h).subset a_add_mem
        obtain ⟨hq1, hq2⟩ := hr _ hm
        by_cases hw : sN σ 35 q.1 = 0
        · obtain ⟨τ, g1, g2, g3⟩ := T_value hB hW hI hq2 hw (fun hfr => hC.r hf hq1) hn
          have hst : a_steady τ q.1 = Ed σ q.1 := by rw [done_steady g2.2.2.1 hq2 g3, g2.1.EdE]
          have hfm : min d (a_steady τ q.1) = fmin (Ed σ) (a_add rs q.1) := by rw [hst, hd, fmin_add]
          have hok' : ∀ r ∈ a_add rs q.1, okr τ r := fun r hr => by
            rcases a_add_iff.mp hr with h1 | h1
            · exact okr_post g2 (hok r h1)
            · subst h1; exact Or.inl ⟨g3, by rw [g2.2.1]; exact hw⟩
          have hg : a_given (a_value (ag n).1 (ag n).2) σ q.1 rs d = some (enc (Eo σ q.1), a_add rs q.1, fmin (Ed σ) (a_add rs q.1), τ) := by
            unfold a_given
            rw [if_neg (by rw [hw]; exact fun h => h rfl), g1, ← hfm]
            rfl
          rw [hg]
          show ∃ ρ, (if enc (Eo σ q.1) = BAD then _ else a_run _ code k (pc + 1) ((enc (Eo σ q.1)).toInt32 :: q.2) (a_add rs q.1) (fmin (Ed σ) (a_add rs q.1)) τ) = _ ∧ _
          cases e : Eo σ q.1 with
          | none =>
            rw [e] at h
            simp only [Option.some.injEq, Prod.mk.injEq] at h
            obtain ⟨rfl, rfl⟩ := h
            rw [if_pos (show enc none = BAD from rfl)]
            exact ⟨τ, rfl, g2, hok'⟩
          | some v =>
            rw [e] at h
            rw [if_neg (show ¬ enc (some v) = BAD from enc_ne v), show (enc (some v)).toInt32 = v from Int32.toInt32_toInt64 v]
            obtain ⟨ρ, k1, k2, k3⟩ := ih (pc + 1) (v :: q.2) (a_add rs q.1) (fmin (Ed σ) (a_add rs q.1)) τ x rs' g2.2.2.1 hc (by rw [g2.1.f]; exact hf) (hC.s g2.1 g2.2.1) (by rw [uw_congr g2.2.1]; exact hn) (by rw [g2.1.EoE]; exact h) (by rw [g2.1.RDE]; exact hr) hok' (by rw [g2.1.EdE])
            rw [g2.1.EdE] at k1
            exact ⟨ρ, k1, g2.t k2, k3⟩
        · have hb := hC.bad hf hq1 hq2 hw
          rw [Eo_none hb] at h
          simp only [Option.some.injEq, Prod.mk.injEq] at h
          obtain ⟨rfl, rfl⟩ := h
          have hg : a_given (a_value (ag n).1 (ag n).2) σ q.1 rs d = some (BAD, a_add rs q.1, 0, σ) := by
            unfold a_given
            rw [if_pos hw]
          rw [hg]
          show ∃ ρ, (if BAD = BAD then some (BAD, a_add rs q.1, 0, σ) else a_run (a_given (a_value (ag n).1 (ag n).2)) code k (pc + 1) (BAD.toInt32 :: q.2) (a_add rs q.1) 0 σ) = _ ∧ _
          rw [if_pos rfl, fmin_add, Ed_none hb, Nat.min_zero]
          refine ⟨σ, rfl, Post.rf hI, fun r hr => ?_⟩
          rcases a_add_iff.mp hr with h1 | h1
          · exact hok r h1
          · subst h1; exact Or.inr ⟨hw, hb⟩
      · rename_i hop
        obtain ⟨q, hq, h⟩ := obi h
        rw [if_neg hop, hq]
        exact ih _ _ _ _ _ _ _ hI hc hf hC hn h hr hok hd
theorem ss_note {τ : S} {c was d : Nat} {v : Int64} {rs : List Nat} : ss τ (a_note τ c was v rs d) := by
  refine ⟨fun k a h1 h2 h3 h4 h5 h6 => ?_, fun a => ?_, fun _ => rfl, fun _ => rfl⟩
  · unfold a_note a_use a_cnt
    simp only [sN_sNs, sN_sIs, sN_sLs, sN_sRs, sI_sNs, sI_sIs, sI_sLs, sI_sRs, sL_sNs, sL_sIs, sL_sLs, sL_sRs, sR_sNs, sR_sIs, sR_sLs, sR_sRs, sT_sNs, sT_sIs, sT_sLs, sT_sRs, sC_sNs, sC_sIs, sC_sLs, sC_sRs]
    rw [if_neg (by omega), if_neg (by omega), if_neg (by omega), if_neg (by omega), if_neg (by omega), if_neg (by omega)]
  · unfold a_note a_use a_cnt
    simp only [sN_sNs, sN_sIs, sN_sLs, sN_sRs, sI_sNs, sI_sIs, sI_sLs, sI_sRs, sL_sNs, sL_sIs, sL_sLs, sL_sRs, sR_sNs, sR_sIs, sR_sLs, sR_sRs, sT_sNs, sT_sIs, sT_sLs, sT_sRs, sC_sNs, sC_sIs, sC_sLs, sC_sRs]
    simp
theorem T_work {n : Nat} (hB : TB n) (hW : TW n) : TW (n + 1) := by
  intro σ c hI hc hf hC hn
  have hI1 := inv_mk hI c
  have s1 : ss σ (sNs σ 35 c 1) := ss_mark
  have hf1 : sN (sNs σ 35 c 1) 5 c ≠ 0 := by rw [s1.f]; exact hf
  obtain ⟨hd, hEd, h12⟩ := E_run hf1 (hI1.wt hc hf1)
  obtain ⟨τ, g1, g2, g3⟩ := T_run hB hW 100 0 [] [] 2 (sNs σ 35 c 1) _ _ hI1 hc hf1 hC.mk (by omega) hd (fun r hr => ⟨hr, h12 r hr⟩) (fun r hr => by cases hr) rfl
  rw [← hEd] at g1
  have hst : ss σ τ := s1.t g2.1
  have hfl : ∀ a, a ≠ c → sN τ 35 a = sN σ 35 a := fun a ha => by rw [g2.2.1, mk_ne ha]
  have hnc : nsm σ τ c := nsm_mark.t (g2.2.2.2.2 c (by rw [mk_self]; decide))
  have hdn : ∀ a, a_done σ a → kp σ τ a := fun a ha => (kp_sm s1 nsm_mark ha).t (g2.2.2.2.1 a ((done_sm s1 nsm_mark).mpr ha))
  refine ⟨a_note τ c (sN σ 35 c) (enc (Eo (sNs σ 35 c 1) c)) (RD (sNs σ 35 c 1) c) (Ed (sNs σ 35 c 1) c), ?_, ?_⟩
  · show a_work _ σ c = _
    unfold a_work a_res
    rw [g1]
    rfl
  · have sn : ss τ (a_note τ c (sN σ 35 c) (enc (Eo (sNs σ 35 c 1) c)) (RD (sNs σ 35 c 1) c) (Ed (sNs σ 35 c 1) c)) := ss_note
    rw [s1.EoE, s1.EdE, s1.RDE] at sn ⊢
    have sel : ∀ a, a ≠ c → nsm τ (a_note τ c (sN σ 35 c) (enc (Eo σ c)) (RD σ c) (Ed σ c)) a ∧ sN (a_note τ c (sN σ 35 c) (enc (Eo σ c)) (RD σ c) (Ed σ c)) 35 a = sN τ 35 a := fun a ha => by
      unfold nsm a_note a_use a_cnt
      simp only [sN_sNs, sN_sIs, sN_sLs, sN_sRs, sI_sNs, sI_sIs, sI_sLs, sI_sRs, sL_sNs, sL_sIs, sL_sLs, sL_sRs, sR_sNs, sR_sIs, sR_sLs, sR_sRs, sT_sNs, sT_sIs, sT_sLs, sT_sRs, sC_sNs, sC_sIs, sC_sLs, sC_sRs]
      simp [ha]
    have c15 : sN (a_note τ c (sN σ 35 c) (enc (Eo σ c)) (RD σ c) (Ed σ c)) 15 c = 1 := by
      unfold a_note a_use a_cnt; simp only [sN_sNs, sN_sIs, sN_sLs, sN_sRs, sI_sNs, sI_sIs, sI_sLs, sI_sRs, sL_sNs, sL_sIs, sL_sLs, sL_sRs, sR_sNs, sR_sIs, sR_sLs, sR_sRs, sT_sNs, sT_sIs, sT_sLs, sT_sRs, sC_sNs, sC_sIs, sC_sLs, sC_sRs]; simp
    have c16 : sN (a_note τ c (sN σ 35 c) (enc (Eo σ c)) (RD σ c) (Ed σ c)) 16 c = 1 := by
      unfold a_note a_use a_cnt; simp only [sN_sNs, sN_sIs, sN_sLs, sN_sRs, sI_sNs, sI_sIs, sI_sLs, sI_sRs, sL_sNs, sL_sIs, sL_sLs, sL_sRs, sR_sNs, sR_sIs, sR_sLs, sR_sRs, sT_sNs, sT_sIs, sT_sLs, sT_sRs, sC_sNs, sC_sIs, sC_sLs, sC_sRs]; simp
    have c18 : sN (a_note τ c (sN σ 35 c) (enc (Eo σ c)) (RD σ c) (Ed σ c)) 18 c = rev τ := by
      unfold a_note a_use a_cnt; simp only [sN_sNs, sN_sIs, sN_sLs, sN_sRs, sI_sNs, sI_sIs, sI_sLs, sI_sRs, sL_sNs, sL_sIs, sL_sLs, sL_sRs, sR_sNs, sR_sIs, sR_sLs, sR_sRs, sT_sNs, sT_sIs, sT_sLs, sT_sRs, sC_sNs, sC_sIs, sC_sLs, sC_sRs]; simp [rev]
    have c20 : sN (a_note τ c (sN σ 35 c) (enc (Eo σ c)) (RD σ c) (Ed σ c)) 20 c = Ed σ c := by
      unfold a_note a_use a_cnt; simp only [sN_sNs, sN_sIs, sN_sLs, sN_sRs, sI_sNs, sI_sIs, sI_sLs, sI_sRs, sL_sNs, sL_sIs, sL_sLs, sL_sRs, sR_sNs, sR_sIs, sR_sLs, sR_sRs, sT_sNs, sT_sIs, sT_sLs, sT_sRs, sC_sNs, sC_sIs, sC_sLs, sC_sRs]; simp
    have c35 : sN (a_note τ c (sN σ 35 c) (enc (Eo σ c)) (RD σ c) (Ed σ c)) 35 c = sN σ 35 c := by
      unfold a_note a_use a_cnt; simp only [sN_sNs, sN_sIs, sN_sLs, sN_sRs, sI_sNs, sI_sIs, sI_sLs, sI_sRs, sL_sNs, sL_sIs, sL_sLs, sL_sRs, sR_sNs, sR_sIs, sR_sLs, sR_sRs, sT_sNs, sT_sIs, sT_sLs, sT_sRs, sC_sNs, sC_sIs, sC_sLs, sC_sRs]; simp
    have cL : sL (a_note τ c (sN σ 35 c) (enc (Eo σ c)) (RD σ c) (Ed σ c)) c = enc (Eo σ c) := by
      unfold a_note a_use a_cnt; simp only [sN_sNs, sN_sIs, sN_sLs, sN_sRs, sI_sNs, sI_sIs, sI_sLs, sI_sRs, sL_sNs, sL_sIs, sL_sLs, sL_sRs, sR_sNs, sR_sIs, sR_sLs, sR_sRs, sT_sNs, sT_sIs, sT_sLs, sT_sRs, sC_sNs, sC_sIs, sC_sLs, sC_sRs]; simp
    have cR : sR (a_note τ c (sN σ 35 c) (enc (Eo σ c)) (RD σ c) (Ed σ c)) c = RD σ c := by
      unfold a_note a_use a_cnt; simp only [sN_sNs, sN_sIs, sN_sLs, sN_sRs, sI_sNs, sI_sIs, sI_sLs, sI_sRs, sL_sNs, sL_sIs, sL_sLs, sL_sRs, sR_sNs, sR_sIs, sR_sLs, sR_sRs, sT_sNs, sT_sIs, sT_sLs, sT_sRs, sC_sNs, sC_sIs, sC_sLs, sC_sRs]; simp
    have c19 : sN (a_note τ c (sN σ 35 c) (enc (Eo σ c)) (RD σ c) (Ed σ c)) 19 c = if sN τ 15 c ≠ 0 ∧ (sN τ 18 c = rev τ ∨ (sN τ 16 c ≠ 0 ∧ sL τ c = enc (Eo σ c))) then sN τ 19 c else rev τ := by
      unfold a_note a_use a_cnt; simp only [sN_sNs, sN_sIs, sN_sLs, sN_sRs, sI_sNs, sI_sIs, sI_sLs, sI_sRs, sL_sNs, sL_sIs, sL_sLs, sL_sRs, sR_sNs, sR_sIs, sR_sLs, sR_sRs, sT_sNs, sT_sIs, sT_sLs, sT_sRs, sC_sNs, sC_sIs, sC_sLs, sC_sRs]; simp [rev]
    generalize a_note τ c (sN σ 35 c) (enc (Eo σ c)) (RD σ c) (Ed σ c) = ρ at *
    have hft : sN τ 5 c ≠ 0 := by rw [hst.f]; exact hf
    have hdc : a_done ρ c := Or.inr ⟨by rw [c15]; decide, by rw [c18, sn.rev]⟩
    have hsame : sN τ 15 c ≠ 0 → sN τ 18 c = rev τ → sL τ c = enc (Eo σ c) := fun h1 h2 => by
      have := done_cur g2.2.2.1 hc (Or.inr ⟨h1, h2⟩)
      unfold cur at this
      rw [if_neg hft, hst.EoE] at this
      exact this
    refine ⟨hst.t sn, fun a => ?_, ?_, fun a ha => ?_, fun a ha hw => ?_, hdc, by rw [c16]; decide⟩
    · by_cases e : a = c
      · subst e; exact c35
      · rw [(sel a e).2, hfl a e]
    · refine inv_upd g2.2.2.1 sn (fun a ha => sel a ha) hc hft (by rw [c15]; decide) c18 (by rw [cL, hst.EoE]) (by rw [cR, hst.RDE]) (by rw [c20, hst.EdE]) (fun r hr hfr => ?_) ?_
      · rw [hst.RDE] at hr
        rw [s1.RDE] at g3 h12
        exact okr_utd g2.2.2.1 (h12 r hr) (g3 r hr) hfr
      · rw [c19]
        split
        · rename_i hcd
          refine Or.inr ⟨rfl, hcd.1, ?_⟩
          rw [cL]
          rcases hcd.2 with h1 | h1
          · exact (hsame hcd.1 h1).symm
          · exact h1.2.symm
        · exact Or.inl rfl
    · by_cases e : a = c
      · subst e
        refine ⟨hdc, ?_, fun _ => by rw [c16]; decide⟩
        rcases ha with ha | ha
        · exact absurd ha hf
        · unfold a_since
          rw [(hst.t sn).f, if_neg hf, if_neg (by rw [c15]; decide), if_neg hf, if_neg ha.1, c19, if_pos ⟨by rw [hnc.1]; exact ha.1, Or.inl (by rw [hnc.2.2.1, hst.rev]; exact ha.2)⟩, hnc.2.2.2.1]
      · exact (hdn a ha).t (kp_sm sn (sel a e).1 (hdn a ha).1)
    · exact (nsm_mark.t (g2.2.2.2.2 a (by rw [mk_ne ha]; exact hw))).t (sel a ha).1
/-- going through the reads of a note -/
theorem T_unchL {n : Nat} (hB : TB n) {c : Nat} : ∀ (ys xs : List Nat) (least : Nat) (σ : S), Inv σ → c < 12 → sN σ 5 c ≠ 0 → sN σ 35 c ≠ 0 → sN σ 15 c ≠ 0 → ¬ utd σ c → sN σ 11 c ≤ sN σ 18 c → Ch σ c → 2 * uw σ + 2 ≤ n →
    sR σ c = xs ++ ys → (∀ r ∈ xs, a_done σ r ∧ sN σ 35 r = 0 ∧ a_since σ r ≤ sN σ 18 c) → least = fmin (Ed σ) xs →
    ∃ b τ, a_unchL (ag n).1 c ys least σ = some (b, if b = true then sNs τ 20 c (fmin (Ed σ) (xs ++ ys)) else τ) ∧ Post σ τ ∧ (b = true → ∀ r ∈ xs ++ ys, a_done τ r ∧ sN τ 35 r = 0 ∧ a_since τ r ≤ sN τ 18 c) := by
  intro ys
  induction ys with
  | nil =>
    intro xs least σ hI hc hf hw hn hu ha hC hm hR hx hl
    refine ⟨true, σ, ?_, Post.rf hI, fun _ r hr => hx r (by simpa using hr)⟩
    rw [a_unchL, hl, List.append_nil]
    rfl
  | cons r ys ih =>
    intro xs least σ hI hc hf hw hn hu ha hC hm hR hx hl
    have hr12 : r < 12 := ((hI.no c hc).2 hn).2.2.2.2.1 r (by rw [hR]; simp)
    obtain ⟨w, x, h1, h2, h3⟩ := hI.ol c hc hf hn hu ha
    have hx12 : ∀ q ∈ xs, q < 12 := fun q hq => ((hI.no c hc).2 hn).2.2.2.2.1 q (by rw [hR]; simp [hq])
    have hag : ∀ q ∈ xs, Eo σ q = w q := fun q hq => by
      obtain ⟨d1, d2, d3⟩ := hx q hq
      have e := h3 q (by rw [hR]; simp [hq]) (by
        rcases d1 with d1 | d1
        · exact Or.inl d1
        · exact Or.inr d1.1) d3
      rw [done_cur hI (hx12 q hq) d1] at e
      exact (enc_inj e).symm
    have hrd : r ∈ RD σ c := by
      have := d_same _ _ _ _ _ _ _ _ h1 (E_run hf (hI.wt hc hf)).1 xs.length (fun j hj q hq => hag q (by
        rw [hR, List.getElem?_append_left hj] at hq
        exact List.mem_of_getElem? hq)) r (by rw [hR, List.getElem?_append_right (Nat.le_refl _)]; simp)
      exact List.mem_of_getElem? this
    obtain ⟨τ, g1, g2, g3⟩ := hB σ r hI hr12 (fun _ _ => hC.r hf hrd) hm
    have hnc := g2.2.2.2.2 c hw
    rw [a_unchL, g1]
    show ∃ b τ', (if sN τ 35 r ≠ 0 ∨ sN τ 18 c < a_since τ r then some (false, τ) else a_unchL (ag n).1 c ys (min least (a_steady τ r)) τ) = _ ∧ _
    by_cases hq : sN τ 35 r ≠ 0 ∨ sN τ 18 c < a_since τ r
    · rw [if_pos hq]
      exact ⟨false, τ, rfl, g2, fun e => by cases e⟩
    · rw [if_neg hq]
      have hq1 : sN τ 35 r = 0 := by
        by_cases e : sN τ 35 r = 0
        · exact e
        · exact absurd (Or.inl e) hq
      have hq2 : a_since τ r ≤ sN τ 18 c := by
        by_cases e : sN τ 18 c < a_since τ r
        · exact absurd (Or.inr e) hq
        · omega
      have hdr : a_done τ r := g3 (by rw [← g2.2.1]; exact hq1)
      obtain ⟨b, ρ, k1, k2, k3⟩ := ih (xs ++ [r]) (min least (a_steady τ r)) τ g2.2.2.1 hc (by rw [g2.1.f]; exact hf) (by rw [g2.2.1]; exact hw) (by rw [hnc.1]; exact hn) (fun q => hu ((utd_sm g2.1 hnc).mp q)) (by rw [g2.1.alt, hnc.2.2.1]; exact ha) (hC.s g2.1 g2.2.1) (by rw [uw_congr g2.2.1]; exact hm) (by rw [hnc.2.2.2.2.2.2, hR]; simp) (fun q hq => by
        rcases List.mem_append.mp hq with hq | hq
        · obtain ⟨d1, d2, d3⟩ := hx q hq
          obtain ⟨e1, e2, -⟩ := g2.2.2.2.1 q d1
          exact ⟨e1, by rw [g2.2.1]; exact d2, by rw [e2, hnc.2.2.1]; exact d3⟩
        · simp at hq; subst hq; exact ⟨hdr, hq1, hq2⟩) (by rw [fmin_app, hl, done_steady g2.2.2.1 hr12 hdr, g2.1.EdE])
      rw [g2.1.EdE, List.append_assoc] at k1
      exact ⟨b, ρ, k1, g2.t k2, fun hb q hq => k3 hb q (by simpa using hq)⟩
theorem ss_fin {σ : S} {c w : Nat} : ss σ (a_fin σ c w) := by
  refine ⟨fun k a h1 h2 h3 h4 h5 h6 => ?_, fun a => ?_, fun _ => rfl, fun _ => rfl⟩
  · unfold a_fin a_cnt
    simp only [sN_sNs, sN_sIs, sN_sLs, sN_sRs, sI_sNs, sI_sIs, sI_sLs, sI_sRs, sL_sNs, sL_sIs, sL_sLs, sL_sRs, sR_sNs, sR_sIs, sR_sLs, sR_sRs, sT_sNs, sT_sIs, sT_sLs, sT_sRs, sC_sNs, sC_sIs, sC_sLs, sC_sRs]
    rw [if_neg (by omega), if_neg (by omega)]
  · unfold a_fin a_cnt
    simp only [sN_sNs, sN_sIs, sN_sLs, sN_sRs, sI_sNs, sI_sIs, sI_sLs, sI_sRs, sL_sNs, sL_sIs, sL_sLs, sL_sRs, sR_sNs, sR_sIs, sR_sLs, sR_sRs, sT_sNs, sT_sIs, sT_sLs, sT_sRs, sC_sNs, sC_sIs, sC_sLs, sC_sRs]
    simp
theorem ss_20 {σ : S} {c v : Nat} : ss σ (sNs σ 20 c v) := ⟨fun k a h1 h2 h3 h4 h5 h6 => by rw [sN_sNs, if_neg (by omega)], fun _ => rfl, fun _ => rfl, fun _ => rfl⟩
/-- a note is passed or confirmed: all is there -/
theorem T_fin {σ τ : S} {c w : Nat} (h : Inv σ) (hs : ss σ τ) (hne : ∀ a, a ≠ c → nsm σ τ a ∧ sN τ 35 a = sN σ 35 a) (hc : c < 12) (hf : sN σ 5 c ≠ 0) (h15 : sN τ 15 c = sN σ 15 c) (h15' : sN σ 15 c ≠ 0) (hL : sL τ c = sL σ c) (hR : sR τ c = sR σ c) (h19 : sN τ 19 c = sN σ 19 c)
    (hl : sL σ c = enc (Eo σ c)) (hr : sR σ c = RD σ c) (h20 : sN τ 20 c = Ed σ c) (hk : ∀ r ∈ RD σ c, sN σ 5 r ≠ 0 → utd σ r ∨ (sN σ 35 r ≠ 0 ∧ EV σ r = none)) :
    Inv (a_fin τ c w) ∧ a_done (a_fin τ c w) c ∧ a_since (a_fin τ c w) c = a_since σ c ∧ ∀ a, a ≠ c → nsm σ (a_fin τ c w) a ∧ sN (a_fin τ c w) 35 a = sN σ 35 a := by
  have sel : ∀ a, a ≠ c → nsm σ (a_fin τ c w) a ∧ sN (a_fin τ c w) 35 a = sN σ 35 a := fun a ha => by
    have q : nsm τ (a_fin τ c w) a ∧ sN (a_fin τ c w) 35 a = sN τ 35 a := by
      unfold nsm a_fin a_cnt
      simp only [sN_sNs, sN_sIs, sN_sLs, sN_sRs, sI_sNs, sI_sIs, sI_sLs, sI_sRs, sL_sNs, sL_sIs, sL_sLs, sL_sRs, sR_sNs, sR_sIs, sR_sLs, sR_sRs, sT_sNs, sT_sIs, sT_sLs, sT_sRs, sC_sNs, sC_sIs, sC_sLs, sC_sRs]
      simp [ha]
    exact ⟨(hne a ha).1.t q.1, q.2.trans (hne a ha).2⟩
  have c15 : sN (a_fin τ c w) 15 c = sN σ 15 c := by unfold a_fin a_cnt; simp only [sN_sNs, sN_sIs, sN_sLs, sN_sRs, sI_sNs, sI_sIs, sI_sLs, sI_sRs, sL_sNs, sL_sIs, sL_sLs, sL_sRs, sR_sNs, sR_sIs, sR_sLs, sR_sRs, sT_sNs, sT_sIs, sT_sLs, sT_sRs, sC_sNs, sC_sIs, sC_sLs, sC_sRs]; simp [h15]
  have c18 : sN (a_fin τ c w) 18 c = rev σ := by rw [← hs.rev]; unfold a_fin a_cnt; simp only [sN_sNs, sN_sIs, sN_sLs, sN_sRs, sI_sNs, sI_sIs, sI_sLs, sI_sRs, sL_sNs, sL_sIs, sL_sLs, sL_sRs, sR_sNs, sR_sIs, sR_sLs, sR_sRs, sT_sNs, sT_sIs, sT_sLs, sT_sRs, sC_sNs, sC_sIs, sC_sLs, sC_sRs]; simp [rev]
  have c19 : sN (a_fin τ c w) 19 c = sN σ 19 c := by unfold a_fin a_cnt; simp only [sN_sNs, sN_sIs, sN_sLs, sN_sRs, sI_sNs, sI_sIs, sI_sLs, sI_sRs, sL_sNs, sL_sIs, sL_sLs, sL_sRs, sR_sNs, sR_sIs, sR_sLs, sR_sRs, sT_sNs, sT_sIs, sT_sLs, sT_sRs, sC_sNs, sC_sIs, sC_sLs, sC_sRs]; simp [h19]
  have c20 : sN (a_fin τ c w) 20 c = Ed σ c := by unfold a_fin a_cnt; simp only [sN_sNs, sN_sIs, sN_sLs, sN_sRs, sI_sNs, sI_sIs, sI_sLs, sI_sRs, sL_sNs, sL_sIs, sL_sLs, sL_sRs, sR_sNs, sR_sIs, sR_sLs, sR_sRs, sT_sNs, sT_sIs, sT_sLs, sT_sRs, sC_sNs, sC_sIs, sC_sLs, sC_sRs]; simp [h20]
  have cL : sL (a_fin τ c w) c = sL σ c := hL
  have cR : sR (a_fin τ c w) c = sR σ c := hR
  have s2 : ss σ (a_fin τ c w) := hs.t ss_fin
  refine ⟨inv_upd h s2 sel hc hf (by rw [c15]; exact h15') c18 (by rw [cL, hl]) (by rw [cR, hr]) c20 hk (Or.inr ⟨c19, h15', cL⟩), Or.inr ⟨by rw [c15]; exact h15', by rw [c18, s2.rev]⟩, ?_, sel⟩
  unfold a_since
  rw [s2.f, c15, c19, s2.born]
theorem T_bring {n : Nat} (hB : TB n) (hW : TW n) : TB (n + 1) := by
  intro σ c hI hc hC hn
  show ∃ τ, a_bring (a_unch (ag n).1) (ag n).2 σ c = some τ ∧ _
  unfold a_bring
  by_cases h0 : sN σ 5 c = 0 ∨ sN σ 35 c ≠ 0 ∨ (sN σ 15 c ≠ 0 ∧ sN σ 18 c = rev σ)
  · rw [if_pos h0]
    refine ⟨σ, rfl, Post.rf hI, fun hw => ?_⟩
    rcases h0 with h0 | h0 | h0
    · exact Or.inl h0
    · exact absurd hw h0
    · exact Or.inr h0
  · rw [if_neg h0]
    have hf : sN σ 5 c ≠ 0 := fun e => h0 (Or.inl e)
    have hw : sN σ 35 c = 0 := by
      by_cases e : sN σ 35 c = 0
      · exact e
      · exact absurd (Or.inr (Or.inl e)) h0
    have hnd : ¬ a_done σ c := fun q => by
      rcases q with q | q
      · exact hf q
      · exact h0 (Or.inr (Or.inr q))
    have hC := hC hf hw
    have s1 : ss σ (sNs σ 35 c 1) := ss_mark
    have hI1 := inv_mk hI c
    have hf1 : sN (sNs σ 35 c 1) 5 c ≠ 0 := by rw [s1.f]; exact hf
    have hu1 := uw_mark hc hw
    -- from a state of the inside to the end
    have wrap : ∀ τ : S, ss σ τ → Inv τ → (∀ a, a ≠ c → sN τ 35 a = sN σ 35 a) → sN τ 35 c = 0 → (∀ a, a_done σ a → kp σ τ a) → (∀ a, a ≠ c → sN σ 35 a ≠ 0 → nsm σ τ a) → a_done τ c → ∃ ρ, some τ = some ρ ∧ Post σ ρ ∧ (sN σ 35 c = 0 → a_done ρ c) :=
      fun τ k1 k2 k3 k4 k5 k6 k7 => ⟨τ, rfl, ⟨k1, fun a => by
        by_cases e : a = c
        · subst e; rw [k4, hw]
        · exact k3 a e, k2, k5, fun a ha => k6 a (fun e => by subst e; exact ha hw) ha⟩, fun _ => k7⟩
    -- working it out
    have wo : ∀ τ : S, Post (sNs σ 35 c 1) τ → ∃ ρ, (Option.map (fun τ => sNs τ 35 c 0) ((ag n).2 τ c)) = some ρ ∧ Post σ ρ ∧ (sN σ 35 c = 0 → a_done ρ c) := fun τ hp => by
      have hw1 : sN τ 35 c ≠ 0 := by rw [hp.2.1, mk_self]; decide
      obtain ⟨ρ, g1, g2, g3, g4, g5, g6, g7, g8⟩ := hW τ c hp.2.2.1 hc (by rw [hp.1.f]; exact hf1) (hC.mk.s hp.1 hp.2.1) (by
        rw [uw_mark' hw1, uw_congr hp.2.1]
        omega)
      rw [g1]
      have s2 : ss σ (sNs ρ 35 c 0) := (s1.t hp.1).t (g2.t ss_mark)
      have hdc : a_done (sNs ρ 35 c 0) c := (done_sm ss_mark nsm_mark).mpr g7
      refine wrap (sNs ρ 35 c 0) s2 ?_ (fun a ha => by rw [mk_ne ha, g3, hp.2.1, mk_ne ha]) (by rw [sN_sNs, if_pos ⟨rfl, rfl⟩]) (fun a ha => ?_) (fun a ha ha2 => ?_) hdc
      · have hfr : sN ρ 5 c ≠ 0 := by rw [g2.f, hp.1.f]; exact hf1
        have huc := done_utd g4 hc hfr g7
        obtain ⟨u1, u2, u3⟩ := g4.up c hc hfr huc
        have e18 : sN ρ 18 c = rev ρ := by
          rcases g7 with q | q
          · exact absurd q hfr
          · exact q.2
        refine inv_upd g4 ss_mark (fun a ha => ⟨nsm_mark, mk_ne ha⟩) hc hfr huc.1 e18 u1 u2 u3 (fun r hr => ?_) (Or.inr ⟨rfl, huc.1, rfl⟩)
        rw [← u2] at hr
        exact g4.rd c hc hfr huc r hr
      · have q1 := (kp_sm s1 nsm_mark ha).t (hp.2.2.2.1 a ((done_sm s1 nsm_mark).mpr ha))
        have q2 := q1.t (g5 a q1.1)
        exact q2.t (kp_sm ss_mark nsm_mark q2.1)
      · exact ((nsm_mark.t (hp.2.2.2.2 a (by rw [mk_ne ha]; exact ha2))).t (g6 a ha (by rw [hp.2.1, mk_ne ha]; exact ha2))).t nsm_mark
    by_cases h1 : sN σ 15 c ≠ 0 ∧ sN σ 4 (sN σ 20 c) ≤ sN σ 18 c
    · rw [if_pos h1]
      obtain ⟨u1, u2, u3⟩ := hI.up c hc hf h1
      obtain ⟨k1, k2, k3, k4⟩ := T_fin (w := 2) hI s1 (fun a ha => ⟨nsm_mark, mk_ne ha⟩) hc hf rfl h1.1 rfl rfl rfl u1 u2 (by rw [← u3]; rfl) (fun r hr => hI.rd c hc hf h1 r (by rw [u2]; exact hr))
      refine wrap _ (s1.t ss_fin) k1 (fun a ha => (k4 a ha).2) (by unfold a_fin; rw [sN_sNs, if_pos ⟨rfl, rfl⟩]) (fun a ha => ?_) (fun a ha _ => (k4 a ha).1) k2
      by_cases e : a = c
      · subst e; exact absurd ha hnd
      · exact kp_sm (s1.t ss_fin) (k4 a e).1 ha
    · rw [if_neg h1]
      by_cases h2 : sN σ 15 c ≠ 0 ∧ sN σ 11 c ≤ sN σ 18 c
      · rw [if_pos h2]
        have hu0 : ¬ utd (sNs σ 35 c 1) c := fun q => h1 ((utd_sm s1 nsm_mark).mp q)
        obtain ⟨b, τ, g1, g2, g3⟩ := T_unchL hB (sR σ c) [] 2 (sNs σ 35 c 1) hI1 hc hf1 (by rw [mk_self]; decide) h2.1 hu0 h2.2 hC.mk (by omega) rfl (fun r hr => by cases hr) rfl
        have hnc := g2.2.2.2.2 c (by rw [mk_self]; decide)
        have g1' : a_unch (ag n).1 (sNs σ 35 c 1) c = some (b, if b = true then sNs τ 20 c (fmin (Ed (sNs σ 35 c 1)) (sR σ c)) else τ) := g1
        rw [g1']
        cases b with
        | false => exact wo τ g2
        | true =>
          have hft : sN τ 5 c ≠ 0 := by rw [g2.1.f]; exact hf1
          have hrt : sR τ c = sR σ c := hnc.2.2.2.2.2.2
          have h15t : sN τ 15 c ≠ 0 := by rw [hnc.1]; exact h2.1
          obtain ⟨w, x, j1, j2, j3⟩ := g2.2.2.1.ol c hc hft h15t (fun q => hu0 ((utd_sm g2.1 hnc).mp q)) (by rw [g2.1.alt, hnc.2.2.1]; exact h2.2)
          have h12 : ∀ q ∈ sR τ c, q < 12 := ((g2.2.2.1.no c hc).2 h15t).2.2.2.2.1
          have hag : ∀ q ∈ sR τ c, Eo τ q = w q := fun q hq => by
            obtain ⟨d1, d2, d3⟩ := g3 rfl q (by rw [hrt] at hq; exact hq)
            have e := j3 q hq (by
              rcases d1 with d1 | d1
              · exact Or.inl d1
              · exact Or.inr d1.1) d3
            rw [done_cur g2.2.2.1 (h12 q hq) d1] at e
            exact (enc_inj e).symm
          obtain ⟨f1, f2, f3⟩ := E_fix hft (d_agree _ _ _ _ _ _ j1 hag)
          have hdτ : sN (sNs τ 20 c (fmin (Ed (sNs σ 35 c 1)) (sR σ c))) 20 c = Ed τ c := by
            rw [sN_sNs, if_pos ⟨rfl, rfl⟩, f3, hrt, g2.1.EdE]
          obtain ⟨k1, k2, k3, k4⟩ := T_fin (w := 1) (τ := sNs τ 20 c (fmin (Ed (sNs σ 35 c 1)) (sR σ c))) g2.2.2.1 ss_20 (fun a ha => by
            unfold nsm
            simp only [sN_sNs, sN_sIs, sN_sLs, sN_sRs, sI_sNs, sI_sIs, sI_sLs, sI_sRs, sL_sNs, sL_sIs, sL_sLs, sL_sRs, sR_sNs, sR_sIs, sR_sLs, sR_sRs, sT_sNs, sT_sIs, sT_sLs, sT_sRs, sC_sNs, sC_sIs, sC_sLs, sC_sRs]
            simp [ha]) hc hft (by rw [sN_sNs]; simp) h15t rfl rfl (by rw [sN_sNs]; simp) (by rw [j2, f1]) f2.symm hdτ (fun r hr hfr => Or.inl (by
              rw [f2] at hr
              exact done_utd g2.2.2.1 (h12 r hr) hfr (g3 rfl r (by rw [hrt] at hr; exact hr)).1))
          have s3 : ss τ (a_fin (sNs τ 20 c (fmin (Ed (sNs σ 35 c 1)) (sR σ c))) c 1) := ss_20.t ss_fin
          refine wrap (a_fin (sNs τ 20 c (fmin (Ed (sNs σ 35 c 1)) (sR σ c))) c 1) ((s1.t g2.1).t s3) k1 (fun a ha => by rw [(k4 a ha).2, g2.2.1, mk_ne ha]) (by unfold a_fin; rw [sN_sNs, if_pos ⟨rfl, rfl⟩]) (fun a ha => ?_) (fun a ha ha2 => ?_) k2
          · by_cases e : a = c
            · subst e; exact absurd ha hnd
            · have q1 := (kp_sm s1 nsm_mark ha).t (g2.2.2.2.1 a ((done_sm s1 nsm_mark).mpr ha))
              exact q1.t (kp_sm s3 (k4 a e).1 q1.1)
          · exact (nsm_mark.t (g2.2.2.2.2 a (by rw [mk_ne ha]; exact ha2))).t (k4 a ha).1
      · rw [if_neg h2]
        exact wo _ (Post.rf hI1)
theorem T_all : ∀ n, TB n ∧ TW n := by
  intro n
  induction n with
  | zero => exact ⟨fun σ c _ _ _ h => by omega, fun σ c _ _ _ _ h => by omega⟩
  | succ n ih => exact ⟨T_bring ih.1 ih.2, T_work ih.1 ih.2⟩
