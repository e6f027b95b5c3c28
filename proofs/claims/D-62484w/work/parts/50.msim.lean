/-! the model's loop does what bringing and working out do -/
def SB (n : Nat) : Prop := ∀ σ c ms f, Inv σ → c < 12 → sN σ 5 c ≠ 0 → sN σ 35 c = 0 → ¬ a_done σ c → Ch σ c → 2 * uw σ + 2 ≤ n → RM ms (sNs σ 35 c 1) → FR ms f c 0 → f + uw σ = 12 →
  ∃ τ ms' k, (ag n).1 σ c = some τ ∧ Run k ms ms' ∧ RM ms' τ ∧ mI ms' 27 = nI f ∧ FS ms ms' f ∧ k + 400 * Z τ ≤ 400 * Z σ
def SW (n : Nat) : Prop := ∀ σ c ms f, Inv σ → c < 12 → sN σ 5 c ≠ 0 → Ch σ c → 2 * uw (sNs σ 35 c 1) + 3 ≤ n → RM ms (sNs σ 35 c 1) → FR ms f c 2 → f + uw (sNs σ 35 c 1) = 11 → (a_done σ c → sN σ 16 c = 0) →
  ∃ τ ms' k, (ag n).2 σ c = some τ ∧ Run k ms ms' ∧ RM ms' (sNs τ 35 c 0) ∧ mI ms' 27 = nI f ∧ FS ms ms' f ∧ k + 400 * Z τ + 98 ≤ 400 * Z σ
theorem br_done {n : Nat} {σ : S} {r : Nat} (h : a_done σ r) : (ag (n + 1)).1 σ r = some σ := by
  show a_bring _ _ σ r = _
  unfold a_bring
  rw [if_pos (by
    rcases h with h | h
    · exact Or.inl h
    · exact Or.inr (Or.inr h))]
theorem sNs_same {σ : S} {k c v : Nat} (h : sN σ k c = v) : sNs σ k c v = σ := by
  unfold sNs
  have : (fun k' c' => if k' = k ∧ c' = c then v else σ.1 k' c') = σ.1 := funext fun k' => funext fun c' => by
    split
    · rename_i q; rw [q.1, q.2]; exact h.symm
    · rfl
  rw [this]
/-- the looks at a cell until it is brought and has its value -/
theorem M_value {n : Nat} (hB : SB n) (hW : SW n) {σ : S} {ms : MS} {f c pc op no r : Nat} {st : List Int32} {rs : List Nat} {q : Nat × List Int32} (hI : Inv σ) (hc : c < 12) (hr : r < 12) (h35 : sN σ 35 r = 0) (hC : sN σ 5 r ≠ 0 → Ch σ r) (hn : 2 * uw σ + 2 ≤ n)
    (hR : RM ms σ) (hX : FX ms f c pc st rs) (hf : f + uw σ = 11) (hnd : (a_add rs r).Nodup) (h12 : ∀ q ∈ a_add rs r, q < 12) (hg : (sC σ c)[pc]? = some (op, no)) (h1 : op = 1 ∨ op = 2) (hl : st.length ≤ 15) (hq : o_read op no st = some q) (hqr : q.1 = r) :
    ∃ ρ ms' rs2 k, a_value (ag n).1 (ag n).2 σ r = some (enc (Eo σ r), gv ρ r) ∧ Post σ ρ ∧ a_done ρ r ∧ (sN ρ 5 r ≠ 0 → sN ρ 16 r ≠ 0) ∧ Run k ms ms' ∧ RM ms' ρ ∧ FX ms' f c pc st rs2 ∧ a_add rs2 r = a_add rs r ∧ FS ms ms' f ∧ k + 400 * Z ρ ≤ 400 * Z σ + 2 := by
  obtain ⟨m, rfl⟩ : ∃ m, n = m + 1 := ⟨n - 1, by omega⟩
  have hf12 : f < 12 := by omega
  have huw := uw_mark hr h35
  by_cases h5 : sN σ 5 r = 0
  · refine ⟨σ, ms, rs, 0, ?_, Post.rf hI, Or.inl h5, fun w => absurd h5 w, Run.rf, hR, hX, rfl, FS.rf, by omega⟩
    unfold a_value gv
    rw [if_pos h5, if_pos h5, Eo_input h5]; rfl
  · have hpc : pc < (sC σ c).length := (List.getElem?_eq_some_iff.mp hg).1
    -- bringing
    have phA : ∃ τ ms1 rs1 k1, (ag (m + 1)).1 σ r = some τ ∧ Post σ τ ∧ a_done τ r ∧ Run k1 ms ms1 ∧ RM ms1 τ ∧ FX ms1 f c pc st rs1 ∧ a_add rs1 r = a_add rs r ∧ FS ms ms1 f ∧ k1 + 400 * Z τ ≤ 400 * Z σ + 1 := by
      by_cases hd : a_done σ r
      · exact ⟨σ, ms, rs, 0, br_done hd, Post.rf hI, hd, Run.rf, hR, hX, rfl, FS.rf, by omega⟩
      · obtain ⟨ml, l1, l2, l3, l4⟩ := L_look hR hf12 hr hX hnd h12
        obtain ⟨m2, s1, s2, s3, s4⟩ := L_J83_start (c := c) l2 hr (by omega) l3.1.1 h35 hd
        have hadv : m_advance ms (nI f) (nI c) = some m2 := by rw [L_advr hR hc hf12 hX hg h1 hl hq, hqr, l1, s1]
        obtain ⟨τ, m3, k, b1, b2, b3, b4, b5, b6⟩ := hB σ r m2 (f + 1) hI hr h5 h35 hd (hC h5) hn s2 s3 (by omega)
        obtain ⟨τ', t1, t2, t3⟩ := (T_all (m + 1)).1 σ r hI hr (fun _ _ => hC h5) hn
        rw [b1] at t1
        cases t1
        refine ⟨τ, m3, a_add rs r, 1 + k, b1, t2, t3 h35, (run_3a hR hc hf12 hX.1 hX.2.1.1 hpc hadv).t b2, b3, l3.s hl (s4.t b5) b4, a_add_idem, l4.t ((s4.t b5).le (by omega)), by omega⟩
    obtain ⟨τ, ms1, rs1, k1, a1, a2, a3, a4, a5, a6, a7, a8, a9⟩ := phA
    have h5t : sN τ 5 r ≠ 0 := by rw [a2.1.f]; exact h5
    have h35t : sN τ 35 r = 0 := by rw [a2.2.1]; exact h35
    have hgt : (sC τ c)[pc]? = some (op, no) := by rw [a2.1.2.2.1]; exact hg
    have hpct : pc < (sC τ c).length := by rw [a2.1.2.2.1]; exact hpc
    have hval : ∀ ρ : S, Post σ ρ → a_done ρ r → sL ρ r = enc (Eo σ r) := fun ρ hp hd => by
      have := done_cur hp.2.2.1 hr hd
      unfold cur at this
      rw [hp.1.f, if_neg h5, hp.1.EoE] at this
      exact this
    by_cases h16 : sN τ 16 r = 0
    · obtain ⟨ml, l1, l2, l3, l4⟩ := L_look a5 hf12 hr a6 (by rw [a7]; exact hnd) (by rw [a7]; exact h12)
      obtain ⟨m2, s1, s2, s3, s4⟩ := L_J83_start2 (c := c) l2 hr (by omega) l3.1.1 h35t a3 h5t h16
      have hadv : m_advance ms1 (nI f) (nI c) = some m2 := by rw [L_advr a5 hc hf12 a6 hgt h1 hl hq, hqr, l1, s1]
      have huwt := uw_mark hr h35t
      have hcg := uw_congr a2.2.1
      obtain ⟨ρ, m3, k, b1, b2, b3, b4, b5, b6⟩ := hW τ r m2 (f + 1) a2.2.2.1 hr h5t ((hC h5).s a2.1 a2.2.1) (by omega) s2 s3 (by omega) (fun _ => h16)
      obtain ⟨ρ', t1, t2, t3, t4, t5, t6, t7, t8⟩ := (T_all (m + 1)).2 τ r a2.2.2.1 hr h5t ((hC h5).s a2.1 a2.2.1) (by omega)
      rw [b1] at t1
      cases t1
      have hP : Post σ ρ := a2.t ⟨t2, t3, t4, t5, fun a ha => by
        by_cases e : a = r
        · subst e; exact absurd h35t ha
        · exact t6 a e ha⟩
      have h35r : sN ρ 35 r = 0 := by rw [t3]; exact h35t
      rw [sNs_same h35r] at b3
      refine ⟨ρ, m3, a_add rs1 r, k1 + (1 + k), ?_, hP, t7, fun _ => t8, a4.t ((run_3a a5 hc hf12 a6.1 a6.2.1.1 hpct hadv).t b2), b3, l3.s hl (s4.t b5) b4, by rw [a_add_idem, a7], a8.t (l4.t ((s4.t b5).le (by omega))), by omega⟩
      unfold a_value gv
      rw [if_neg h5, a1]
      show Option.map _ (if sN τ 16 r = 0 then (ag (m + 1)).2 τ r else some τ) = _
      rw [if_pos h16, b1, if_neg (by rw [hP.1.f]; exact h5), ← hval ρ hP t7]
      rfl
    · refine ⟨τ, ms1, rs1, k1, ?_, a2, a3, fun _ => h16, a4, a5, a6, a7, a8, by omega⟩
      unfold a_value gv
      rw [if_neg h5, a1]
      show Option.map _ (if sN τ 16 r = 0 then (ag (m + 1)).2 τ r else some τ) = _
      rw [if_neg h16, if_neg h5t, ← hval τ a2 a3]
      rfl
theorem gv_post {ρ : S} {r : Nat} (h : Inv ρ) : Post ρ (gv ρ r) := by
  obtain ⟨s1, s2, s3⟩ := gv_ss (σ := ρ) (r := r)
  exact ⟨s1, s3, inv_mark h s1 s2 (fun a ha => by rw [s3]; exact ha), fun a ha => kp_sm s1 (s2 a) ha, fun a _ => s2 a⟩
theorem gv_Z {ρ : S} {r : Nat} : Z (gv ρ r) = Z ρ := by
  obtain ⟨s1, s2, s3⟩ := gv_ss (σ := ρ) (r := r)
  unfold Z
  simp only [zc_sm s1 (s2 _)]
/-- a formula is worked out in the open cell f -/
theorem M_run {n : Nat} (hB : SB n) (hW : SW n) {c f was : Nat} {code : List (Nat × Nat)} {h : Nat → Nat} (hl1 : h code.length = 1) (h15 : ∀ pc, pc ≤ code.length → h pc ≤ 15)
    (hs : ∀ pc op n, code[pc]? = some (op, n) → op ≤ 10 ∧ n ≤ 9999 ∧ (op = 0 → h (pc + 1) = h pc + 1) ∧ (op = 1 → n < 12 ∧ h (pc + 1) = h pc + 1) ∧ (op = 2 ∨ op = 3 → 1 ≤ h pc ∧ h (pc + 1) = h pc) ∧ (4 ≤ op ∧ op ≤ 8 → 2 ≤ h pc ∧ h (pc + 1) + 1 = h pc) ∧
      (op = 9 → pc < n ∧ n ≤ code.length ∧ h n = h pc) ∧ (op = 10 → 1 ≤ h pc ∧ h (pc + 1) + 1 = h pc ∧ pc < n ∧ n ≤ code.length ∧ h n + 1 = h pc)) :
    ∀ (k pc : Nat) (st : List Int32) (rs : List Nat) (d : Nat) (σ : S) (ms : MS) (x : Option Int32) (rs' : List Nat),
    Inv σ → c < 12 → sN σ 5 c ≠ 0 → Ch σ c → 2 * uw σ + 2 ≤ n → sC σ c = code → d_run (Eo σ) code k pc st rs = some (x, rs') → (∀ r ∈ rs', r ∈ RD σ c ∧ r < 12) → rs'.Nodup → (∀ r ∈ rs, a_done σ r ∧ sN σ 35 r = 0) → d = fmin (Ed σ) rs →
    pc ≤ code.length → st.length = h pc → RM ms σ → FX ms f c pc st rs → f + uw σ = 11 →
    ∃ τ ms' kk, a_run (a_given (a_value (ag n).1 (ag n).2)) code k pc st rs d σ = some (enc x, rs', fmin (Ed σ) rs', τ) ∧ Run kk ms ms' ∧ RM ms' (sNs (a_note τ c was (enc x) rs' (fmin (Ed σ) rs')) 35 c 0) ∧ mI ms' 27 = nI f ∧ FS ms ms' f ∧ kk + 400 * Z τ ≤ 400 * Z σ + 3 * k := by
  intro k
  induction k with
  | zero => intro pc st rs d σ ms x rs' _ _ _ _ _ _ h; cases h
  | succ k ih =>
    intro pc st rs d σ ms x rs' hI hc hf hC hn hcode hrun hr hnd hok hd hpc hst hR hX hfu
    have hf12 : f < 12 := by omega
    have hpre := d_pre _ _ _ _ _ _ hrun
    have hl15 : st.length ≤ 15 := by rw [hst]; exact h15 pc hpc
    rw [d_run] at hrun
    rw [a_run]
    rcases e0 : code[pc]? with _ | ⟨op, no⟩
    · rw [e0] at hrun
      obtain ⟨y, hy, hrun⟩ := omi hrun
      simp only [Prod.mk.injEq] at hrun
      obtain ⟨rfl, rfl⟩ := hrun
      rw [hy]
      have hpe : pc = code.length := by have := List.getElem?_eq_none_iff.mp e0; omega
      have hsty : st = [y] := by
        unfold o_end at hy
        split at hy
        · cases hy; rfl
        · cases hy
      subst hsty
      have htop : mL ms 32 (16 * f) = y.toInt64 := hX.2.1.top
      obtain ⟨ms', k1, k2, k3, k4⟩ := L_worked (v := y.toInt64) (was := was) hR hI hc hf12 hX.1 hX.2.2.1 (fun r hr' => (hr r hr').2) (Or.inl ⟨hX.2.2.2, fun r hr => (hok r hr).1⟩)
      refine ⟨σ, ms', 1, by rw [hd]; rfl, run_3e hR hc hf12 hX.1 (by rw [hcode, ← hpe]; exact hX.2.1.1) (by rw [htop]; exact k1), k2, k3, k4, by omega⟩
    · rw [e0] at hrun
      dsimp only at hrun ⊢
      obtain ⟨g1, g2, g3, g4, g5, g6, g7, g8⟩ := hs pc op no e0
      have hpl : pc < code.length := (List.getElem?_eq_some_iff.mp e0).1
      have hgc : (sC σ c)[pc]? = some (op, no) := by rw [hcode]; exact e0
      split at hrun
      · rename_i hop
        obtain ⟨q, hq, hrun⟩ := obi hrun
        rw [if_pos hop, hq]
        show ∃ τ ms' kk, Option.bind (a_given _ σ q.1 rs d) _ = _ ∧ _
        have hm : a_add rs q.1 <+: rs' := by
          split at hrun
          · cases hrun; exact List.prefix_refl _
          · exact d_pre _ _ _ _ _ _ hrun
        obtain ⟨hq1, hq2⟩ := hr _ (hm.subset a_add_mem)
        have hnd' : (a_add rs q.1).Nodup := hm.sublist.nodup hnd
        have h12' : ∀ r ∈ a_add rs q.1, r < 12 := fun r hr' => (hr r (hm.subset hr')).2
        have hq2l : q.2.length + 1 = h (pc + 1) := by
          rcases hop with rfl | rfl
          · unfold o_read at hq; rw [if_pos rfl] at hq; cases hq
            have := (g4 rfl).2
            show st.length + 1 = _
            omega
          · unfold o_read at hq; rw [if_neg (by decide)] at hq
            cases st with
            | nil => cases hq
            | cons y t =>
              cases hq
              have := g5 (Or.inl rfl)
              simp at hst
              show t.length + 1 = _
              omega
        by_cases hw : sN σ 35 q.1 = 0
        · obtain ⟨ρ, ms1, rs2, k1, v1, v2, v3, v4, v5, v6, v7, v8, v9, v10⟩ := M_value hB hW hI hc hq2 hw (fun hfr => hC.r hf hq1) hn hR hX hfu hnd' h12' hgc hop hl15 hq rfl
          have hpg : Post σ (gv ρ q.1) := v2.t (gv_post v2.2.2.1)
          have hdg : a_done (gv ρ q.1) q.1 := (done_sm gv_ss.1 (gv_ss.2.1 _)).mpr v3
          have hsteady : a_steady (gv ρ q.1) q.1 = Ed σ q.1 := by rw [done_steady hpg.2.2.1 hq2 hdg, hpg.1.EdE]
          have hg : a_given (a_value (ag n).1 (ag n).2) σ q.1 rs d = some (enc (Eo σ q.1), a_add rs q.1, fmin (Ed σ) (a_add rs q.1), gv ρ q.1) := by
            unfold a_given
            rw [if_neg (by rw [hw]; exact fun h => h rfl), v1]
            show some (_, _, min d (a_steady (gv ρ q.1) q.1), _) = _
            rw [hsteady, hd, fmin_add]
          rw [hg]
          show ∃ τ ms' kk, (if enc (Eo σ q.1) = BAD then some (enc (Eo σ q.1), a_add rs q.1, fmin (Ed σ) (a_add rs q.1), gv ρ q.1) else a_run _ code k (pc + 1) ((enc (Eo σ q.1)).toInt32 :: q.2) (a_add rs q.1) (fmin (Ed σ) (a_add rs q.1)) (gv ρ q.1)) = _ ∧ _
          have hokρ : ∀ r ∈ a_add rs q.1, a_done ρ r ∧ sN ρ 35 r = 0 := fun r hr' => by
            rcases a_add_iff.mp hr' with h1 | h1
            · exact ⟨(v2.2.2.2.1 r (hok r h1).1).1, by rw [v2.2.1]; exact (hok r h1).2⟩
            · subst h1; exact ⟨v3, by rw [v2.2.1]; exact hw⟩
          obtain ⟨ml, l1, l2, l3, l4⟩ := L_look v6 hf12 hq2 v7 (by rw [v8]; exact hnd') (by rw [v8]; exact h12')
          rw [v8] at l3
          have hgρ : (sC ρ c)[pc]? = some (op, no) := by rw [v2.1.2.2.1]; exact hgc
          obtain ⟨j1, j2⟩ := L_J83_get (was := was) l2 v2.2.2.1 hc hf12 hq2 l3 h12' (by rw [v2.2.1]; exact hw) v3 v4 hgρ hop hl15 hq (fun r hr' => (hokρ r hr').1)
          have hcur : cur ρ q.1 = enc (Eo σ q.1) := by rw [done_cur v2.2.2.1 hq2 v3, v2.1.EoE]
          have hadv : m_advance ms1 (nI f) (nI c) = m_look_J83 ml (nI f) (nI c) (nI q.1) := by rw [L_advr v6 hc hf12 v7 hgρ hop hl15 hq, l1]
          have hpcρ : pc < (sC ρ c).length := by rw [v2.1.2.2.1, hcode]; exact hpl
          cases e : Eo σ q.1 with
          | none =>
            rw [e] at hrun hcur
            simp only [Option.some.injEq, Prod.mk.injEq] at hrun
            obtain ⟨rfl, rfl⟩ := hrun
            obtain ⟨ms', m1, m2, m3, m4⟩ := j1 hcur
            rw [hpg.1.EdE] at m2
            rw [m1] at hadv
            refine ⟨gv ρ q.1, ms', k1 + 1, by rw [if_pos (show enc none = BAD from rfl)], v5.t (run_3a v6 hc hf12 v7.1 v7.2.1.1 hpcρ hadv), m2, m3, v9.t (l4.t m4), by rw [gv_Z]; omega⟩
          | some v =>
            rw [e] at hrun hcur
            obtain ⟨ms', m1, m2, m3, m4⟩ := j2 v hcur
            rw [m1] at hadv
            rw [if_neg (show ¬ enc (some v) = BAD from enc_ne v), show (enc (some v)).toInt32 = v from Int32.toInt32_toInt64 v]
            obtain ⟨τ, ms'', kk, y1, y2, y3, y4, y5, y6⟩ := ih (pc + 1) (v :: q.2) (a_add rs q.1) (fmin (Ed σ) (a_add rs q.1)) (gv ρ q.1) ms' x rs' hpg.2.2.1 hc (by rw [hpg.1.f]; exact hf) (hC.s hpg.1 hpg.2.1) (by rw [uw_congr hpg.2.1]; exact hn) (by rw [hpg.1.2.2.1]; exact hcode) (by rw [hpg.1.EoE]; exact hrun) (by rw [hpg.1.RDE]; exact hr) hnd (fun r hr' => ⟨(done_sm gv_ss.1 (gv_ss.2.1 _)).mpr (hokρ r hr').1, by rw [gv_ss.2.2]; exact (hokρ r hr').2⟩) (by rw [hpg.1.EdE]) (by omega) (by simp; omega) m2 m3 (by rw [uw_congr hpg.2.1]; exact hfu)
            rw [hpg.1.EdE] at y1 y3
            rw [gv_Z] at y6
            exact ⟨τ, ms'', k1 + 1 + kk, y1, (v5.t (run_3a v6 hc hf12 v7.1 v7.2.1.1 hpcρ hadv)).t y2, y3, y4, (v9.t (l4.t m4)).t y5, by omega⟩
        · have hb := hC.bad hf hq1 hq2 hw
          rw [Eo_none hb] at hrun
          simp only [Option.some.injEq, Prod.mk.injEq] at hrun
          obtain ⟨rfl, rfl⟩ := hrun
          have hg : a_given (a_value (ag n).1 (ag n).2) σ q.1 rs d = some (BAD, a_add rs q.1, 0, σ) := by
            unfold a_given
            rw [if_pos hw]
          have h0 : fmin (Ed σ) (a_add rs q.1) = 0 := by rw [fmin_add, Ed_none hb, Nat.min_zero]
          rw [hg]
          show ∃ τ ms' kk, (if BAD = BAD then some (BAD, a_add rs q.1, 0, σ) else a_run (a_given (a_value (ag n).1 (ag n).2)) code k (pc + 1) (BAD.toInt32 :: q.2) (a_add rs q.1) 0 σ) = _ ∧ _
          rw [if_pos rfl, h0]
          obtain ⟨ml, l1, l2, l3, l4⟩ := L_look hR hf12 hq2 hX hnd' h12'
          obtain ⟨ms', m1, m2, m3, m4⟩ := L_J83_work (was := was) l2 hI hc hf12 hq2 l3 h12' hw h0
          rw [h0] at m2
          have hadv : m_advance ms (nI f) (nI c) = some ms' := by rw [L_advr hR hc hf12 hX hgc hop hl15 hq, l1, m1]
          exact ⟨σ, ms', 1, rfl, run_3a hR hc hf12 hX.1 hX.2.1.1 (by rw [hcode]; exact hpl) hadv, m2, m3, l4.t m4, by omega⟩
      · rename_i hop
        obtain ⟨q, hq, hrun⟩ := obi hrun
        rw [if_neg hop, hq]
        obtain ⟨ms1, m1, m2, m3, m4⟩ := L_adv hR hc hf12 hX hgc hop g1 hl15 (show o_step op no pc st = some (q.1, q.2) from hq)
        have hh : q.1 ≤ code.length ∧ q.2.length = h q.1 := by
          unfold o_step at hq
          by_cases o0 : op = 0
          · rw [if_pos o0] at hq; cases hq
            have := g3 o0
            exact ⟨by show pc + 1 ≤ _; omega, by simp; omega⟩
          rw [if_neg o0] at hq
          by_cases o3 : op = 3
          · rw [if_pos o3] at hq
            cases st with
            | nil => cases hq
            | cons y t =>
              cases hq
              have := g5 (Or.inr o3)
              simp at hst
              exact ⟨by show pc + 1 ≤ _; omega, by simp; omega⟩
          rw [if_neg o3] at hq
          by_cases o9 : op = 9
          · rw [if_pos o9] at hq; cases hq
            have := g7 o9
            exact ⟨by show no ≤ _; omega, by show st.length = h no; omega⟩
          rw [if_neg o9] at hq
          by_cases o10 : op = 10
          · rw [if_pos o10] at hq
            cases st with
            | nil => cases hq
            | cons y t =>
              replace hq : some (if y = 0 then no else pc + 1, t) = some q := hq
              cases hq
              have := g8 o10
              simp at hst
              by_cases qy : y = 0
              · rw [if_pos qy]; exact ⟨by show no ≤ _; omega, by show t.length = h no; omega⟩
              · rw [if_neg qy]; exact ⟨by show pc + 1 ≤ _; omega, by show t.length = h (pc + 1); omega⟩
          rw [if_neg o10] at hq
          match st, hq with
          | y :: z :: t, hq =>
            cases hq
            have := g6 (by omega)
            simp at hst
            exact ⟨by show pc + 1 ≤ _; omega, by simp; omega⟩
          | [y], hq => cases hq
          | [], hq => cases hq
        obtain ⟨τ, ms'', kk, y1, y2, y3, y4, y5, y6⟩ := ih q.1 q.2 rs d σ ms1 x rs' hI hc hf hC hn hcode hrun hr hnd hok hd hh.1 hh.2 m2 m3 hfu
        exact ⟨τ, ms'', 1 + kk, y1, (run_3a hR hc hf12 hX.1 hX.2.1.1 (by rw [hcode]; exact hpl) m1).t y2, y3, y4, m4.t y5, by omega⟩
