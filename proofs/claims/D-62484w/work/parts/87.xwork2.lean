theorem off_set {st : HS} {K : Nat → Nat → Nat} {σ : S} {kept : Nat} {p : Int32} {o : Nat → Int32} {pad : List Nat} {nw ci : Nat} {fs : List Value} (k : Nat) (v : Value) (h : RX st K σ kept p o pad) (e : st.1 nw = some (.inl (ci, fs))) (hci : ci < 100) (hk : k < fs.length) (hn : ∀ f a, lv σ f a → K f a ≠ nw) : ∃ st', hP st nw ci k v = some st' ∧ RX st' K σ kept p o pad ∧ st'.1 nw = some (.inl (ci, fs.set k v)) ∧ F1 st st' nw :=
  ⟨_, hP_of e hk, h.off (q := nw) ⟨rfl, fun q hq => by rw [hSet_s, if_neg hq]⟩ hn e (Or.inl ⟨_, _, rfl, hci⟩), by rw [hSet_s, if_pos rfl], ⟨rfl, fun q hq => by rw [hSet_s, if_neg hq]⟩⟩
theorem sNs_sNs {σ : S} {k c v w : Nat} : sNs (sNs σ k c v) k c w = sNs σ k c w := by
  unfold sNs
  have : (fun k' c' => if k' = k ∧ c' = c then w else if k' = k ∧ c' = c then v else σ.1 k' c') = (fun k' c' => if k' = k ∧ c' = c then w else σ.1 k' c') := funext fun k' => funext fun c' => by
    split
    · rfl
    · rfl
  exact Prod.ext this rfl
theorem note_N {ρ : S} {c was d : Nat} {v : Int64} {rs : List Nat} (k a : Nat) : sN (a_note ρ c was v rs d) k a = if k = 35 ∧ a = c then was else if k = 20 ∧ a = c then d else if k = 18 ∧ a = c then rev ρ else if k = 16 ∧ a = c then 1 else if k = 15 ∧ a = c then 1 else if k = 19 ∧ a = c then (if sN ρ 15 c ≠ 0 ∧ (sN ρ 18 c = rev ρ ∨ (sN ρ 16 c ≠ 0 ∧ sL ρ c = v)) then sN ρ 19 c else rev ρ) else sN ρ k a := rfl
theorem note_I {ρ : S} {c was d : Nat} {v : Int64} {rs : List Nat} (k a : Nat) : sI (a_note ρ c was v rs d) k a = if k = 23 ∧ a = c then sI ρ 24 0 + 1 else if k = 24 ∧ a = 0 then sI ρ 24 0 + 1 else if k = 26 ∧ a = 0 then sI ρ 26 0 + 1 else if k = 25 ∧ a = 3 * c + 0 then sI ρ 25 (3 * c + 0) + 1 else sI ρ k a := rfl
theorem note_o {ρ : S} {c was d a : Nat} {v : Int64} {rs : List Nat} (h : a ≠ c) : nsm ρ (a_note ρ c was v rs d) a := by
  have e : ∀ k, sN (a_note ρ c was v rs d) k a = sN ρ k a := fun k => by
    rw [note_N, if_neg (fun z => h z.2), if_neg (fun z => h z.2), if_neg (fun z => h z.2), if_neg (fun z => h z.2), if_neg (fun z => h z.2), if_neg (fun z => h z.2)]
  refine ⟨e 15, e 16, e 18, e 19, e 20, ?_, ?_⟩
  · show (if a = c then v else sL ρ a) = _
    rw [if_neg h]
  · show (if a = c then rs else sR ρ a) = _
    rw [if_neg h]
theorem F1.k2 {b : Nat} {st st' : HS} {K : Nat → Nat → Nat} {σ σ' : S} {a c nw ar : Nat} (h : F1 st st' a) (ha : (∃ f x, lv σ f x ∧ K f x = a) ∨ b ≤ a) (h1 : b ≤ nw) (h2 : b ≤ ar) (hl : ∀ f x, lv σ' f x → ¬ (f = 2 ∧ x = c) → ¬ (f = 3 ∧ x = c) → lv σ f x) : XF b st K σ st' (K2 K c nw ar) σ' := by
  refine ⟨by rw [h.1], by unfold hNx; rw [h.1]; exact Nat.le_refl _, fun q hq hn => h.2 q ?_, fun f x hf => ?_, fun f x g1 g2 => K2_o (fun z => g1 z.1) (fun z => g2 z.1)⟩
  · rcases ha with ⟨f, c, h1, h2⟩ | ha
    · subst h2
      exact fun e => hn f c h1 e.symm
    · omega
  · by_cases q2 : f = 2 ∧ x = c
    · obtain ⟨rfl, rfl⟩ := q2; rw [K2_2]; exact Or.inr h1
    by_cases q3 : f = 3 ∧ x = c
    · obtain ⟨rfl, rfl⟩ := q3; rw [K2_3]; exact Or.inr h2
    rw [K2_o q2 q3]
    exact Or.inl ⟨hl f x hf q2 q3, rfl⟩
/-- the note is filled and handed to its cell -/
theorem X_filled {st : HS} {K : Nat → Nat → Nat} {ρ : S} {kept : Nat} {p : Int32} {o : Nat → Int32} {pad : List Nat} {c nw ar d was b : Nat} {v : Int64} {rs : List Nat} {gr : HS → Nat → Nat → Nat → Option (Int64 × HS)} (h : RX st K ρ kept (p + 1) (fun a => if a = c then o a + 1 else o a) pad) (hc : c < 12) (hT : TN st K ρ nw ar rs d) (h35 : sN ρ 35 c = 1) (hv : ∃ x, v = enc x) (hw : was ≤ 1) (hb1 : b ≤ nw) (hb2 : b ≤ ar) :
    ∃ st', x_NS_workOut_J62 gr st (K 0 0) (K 1 c) (nI was) (if sN ρ 15 c = 0 then none else some (K 2 c)) nw v nw = some st' ∧ RX st' (K2 K c nw ar) (a_note ρ c was v rs d) kept p o pad ∧ XF b st K ρ st' (K2 K c nw ar) (a_note ρ c was v rs d) ∧ hNx st' = hNx st ∧ hNs st' = hNs st := by
  obtain ⟨⟨t1, t2, t3, t4⟩, t5, t6, g, t7, t8⟩ := hT
  have nl : ∀ f a, lv ρ f a → K f a ≠ nw := fun f a hl => (t4 f a hl).1
  obtain ⟨s1, a1, a2, a3, a4⟩ := off_set 1 (.long v) h t6 (by decide) (by decide : 1 < 8) nl
  obtain ⟨s2, b1, b2, b3, b4⟩ := off_set 0 (.int 1) a2 a3 (by decide) (by decide : 0 < 8) nl
  have brev := h.sE.2
  generalize hsn : (if sN ρ 15 c ≠ 0 ∧ (sN ρ 18 c = rev ρ ∨ (sN ρ 16 c ≠ 0 ∧ sL ρ c = v)) then sN ρ 19 c else rev ρ) = sn
  have hsb : sn < B20 := by
    rw [← hsn]
    split
    · rename_i q; exact (h.nE hc q.1).2.2.2.1
    · exact brev
  -- since when
  have since : x_NS_workOut_J62 gr st (K 0 0) (K 1 c) (nI was) (if sN ρ 15 c = 0 then none else some (K 2 c)) nw v nw = x_NS_workOut_J131 gr s2 (K 0 0) (K 1 c) (nI was) nw (nI sn) nw := by
    have r4 := b2.rs.2.2.2.2.2.1
    unfold x_NS_workOut_J62
    rw [a1]
    simp only [Option.bind_some]
    rw [b1]
    simp only [Option.bind_some]
    by_cases q15 : sN ρ 15 c = 0
    · rw [if_pos q15, if_pos rfl]
      rw [if_neg (fun z => z.1 q15)] at hsn
      unfold x_NS_workOut_J110 x_NS_workOut_J111
      rw [if_pos rfl, r4, hsn]
      rfl
    · obtain ⟨n0, n1, n2, n3, n4, n5, n6, n7, n8⟩ := b2.rn hc q15
      obtain ⟨-, nb1, nb2, nb3, nb4, -⟩ := b2.nE hc q15
      have ev : hJ s2 nw 3 1 = some v := hJ_of b3 (by decide) rfl
      rw [if_neg q15, if_neg (by simp)]
      simp only [Option.bind_some, n3, r4, nI_eq (B20_lt nb2) (B20_lt brev)]
      have yes : x_NS_workOut_J106 gr s2 (K 0 0) (K 1 c) (nI was) (K 2 c) nw = x_NS_workOut_J131 gr s2 (K 0 0) (K 1 c) (nI was) nw (nI (sN ρ 19 c)) nw := by
        unfold x_NS_workOut_J106 x_NS_workOut_J111
        rw [if_neg (by decide)]
        simp only [Option.bind_some, n4]
      have no : x_NS_workOut_J110 gr s2 (K 0 0) (K 1 c) (nI was) (some (K 2 c)) nw = x_NS_workOut_J131 gr s2 (K 0 0) (K 1 c) (nI was) nw (nI (rev ρ)) nw := by
        unfold x_NS_workOut_J110 x_NS_workOut_J111
        rw [if_pos rfl, r4]
        rfl
      rw [yes, no]
      by_cases q18 : sN ρ 18 c = rev ρ
      · rw [if_pos q18]
        rw [if_pos ⟨q15, Or.inl q18⟩] at hsn
        rw [hsn]
      · rw [if_neg q18]
        simp only [n1, n2, ev, Option.bind_some, lg0, nI0 (show sN ρ 16 c < 2 ^ 31 by omega)]
        by_cases q16 : sN ρ 16 c = 0
        · rw [if_pos q16]
          rw [if_neg (by
            rintro ⟨-, z | z⟩
            · exact q18 z
            · exact z.1 q16)] at hsn
          rw [hsn]
        · rw [if_neg q16]
          by_cases qv : sL ρ c = v
          · rw [if_pos qv]
            rw [if_pos ⟨q15, Or.inr ⟨q16, qv⟩⟩] at hsn
            rw [hsn]
          · rw [if_neg qv]
            rw [if_neg (by
              rintro ⟨-, z | z⟩
              · exact q18 z
              · exact qv z.2)] at hsn
            rw [hsn]
  rw [since]
  obtain ⟨s3, c1, c2, c3, c4⟩ := off_set 3 (.int (nI sn)) b2 b3 (by decide) (by decide : 3 < 8) nl
  obtain ⟨s4, d1, d2, d3, d4⟩ := off_set 2 (.int (nI (rev ρ))) c2 c3 (by decide) (by decide : 2 < 8) nl
  obtain ⟨s5, e1, e2, e3⟩ := d2.suse (x := sI ρ 24 0 + 1)
  have k0n : nw ≠ K 0 0 := fun z => nl 0 0 rfl z.symm
  have d3' : s5.1 nw = _ := (e3.2 nw k0n).trans d3
  have nl' : ∀ f a, lv (sIs ρ 24 0 (sI ρ 24 0 + 1)) f a → K f a ≠ nw := fun f a hl => nl f a (lv_ss (fun _ => rfl) (fun _ => rfl) f a hl)
  obtain ⟨s6, f1, f2, f3, f4⟩ := off_set 5 (.int (sI ρ 24 0 + 1)) e2 d3' (by decide) (by decide : 5 < 8) nl'
  have hx : ∀ _ : Nat, hNx s6 = hNx st ∧ hNs s6 = hNs st := fun _ => ⟨by rw [f4.nx.1, e3.nx.1, d4.nx.1, c4.nx.1, b4.nx.1, a4.nx.1], by rw [f4.nx.2, e3.nx.2, d4.nx.2, c4.nx.2, b4.nx.2, a4.nx.2]⟩
  have ear : s6.1 ar = some (.inr (4, 12, .inr (.inr (.inr (.inr g))))) := by
    have z : ar ≠ nw := fun w => t3 w.symm
    rw [f4.2 ar z, e3.2 ar (fun w => (t4 0 0 rfl).2 w.symm), d4.2 ar z, c4.2 ar z, b4.2 ar z, a4.2 ar z]
    exact t7
  obtain ⟨v0, -, -, bb1, bb2, bb3, bb4⟩ := h.cE hc
  obtain ⟨s7, g1, g2, g3⟩ := f2.newN (σ' := a_note ρ c 1 v rs d) (p' := p) (o' := o) (nw := nw) (ar := ar) (g := g) hc (by rw [(hx 0).1]; exact t1) (by rw [(hx 0).1]; exact t2) t3 (fun f a hl => t4 f a (lv_ss (fun _ => rfl) (fun _ => rfl) f a hl)) (by
      rw [f3]
      unfold nL
      have e16 : sN (a_note ρ c 1 v rs d) 16 c = 1 := by rw [note_N]; simp
      have e18 : sN (a_note ρ c 1 v rs d) 18 c = rev ρ := by rw [note_N]; simp
      have e19 : sN (a_note ρ c 1 v rs d) 19 c = sn := by rw [note_N, hsn]; simp
      have e20 : sN (a_note ρ c 1 v rs d) 20 c = d := by rw [note_N]; simp
      have e23 : sI (a_note ρ c 1 v rs d) 23 c = sI ρ 24 0 + 1 := by rw [note_I]; simp
      rw [e16, e18, e19, e20, e23, K2_3]
      have el : sL (a_note ρ c 1 v rs d) c = v := by
        show (if c = c then v else _) = v
        rw [if_pos rfl]
      have er : sR (a_note ρ c 1 v rs d) c = rs := by
        show (if c = c then rs else _) = rs
        rw [if_pos rfl]
      rw [el, er]
      rfl) ear (by
      have er : sR (a_note ρ c 1 v rs d) c = rs := by
        show (if c = c then rs else _) = rs
        rw [if_pos rfl]
      rw [er]
      exact t8) (by
      have el : sL (a_note ρ c 1 v rs d) c = v := by
        show (if c = c then v else _) = v
        rw [if_pos rfl]
      rw [el]
      refine ⟨?_, ?_, ?_, ?_, hv⟩
      · rw [note_N]; simp
      · rw [note_N]; simp; exact brev
      · rw [note_N, hsn]; simp; exact hsb
      · rw [note_N]; simp; exact t5) (by rw [note_N]; simp) (by
      refine ⟨rfl, ?_, rfl, rfl, rfl, rfl, ?_, ?_, ?_⟩
      · rw [note_N, if_pos ⟨rfl, rfl⟩]; exact h35.symm
      · show sI (a_note ρ c 1 v rs d) 25 (3 * c) + o c = sI ρ 25 (3 * c) + (if c = c then o c + 1 else o c)
        rw [note_I, if_neg (by omega), if_neg (by omega), if_neg (by omega), if_pos ⟨rfl, rfl⟩, if_pos rfl]
        rw [Nat.add_zero, Int32.add_assoc, Int32.add_comm 1]
      · show sI (a_note ρ c 1 v rs d) 25 (3 * c + 1) = sI ρ 25 (3 * c + 1)
        rw [note_I, if_neg (by omega), if_neg (by omega), if_neg (by omega), if_neg (by omega)]
      · show sI (a_note ρ c 1 v rs d) 25 (3 * c + 2) = sI ρ 25 (3 * c + 2)
        rw [note_I, if_neg (by omega), if_neg (by omega), if_neg (by omega), if_neg (by omega)]) (fun a ha hac => by
      obtain ⟨n1, n2, n3, n4, n5, n6, n7⟩ := note_o (ρ := ρ) (was := 1) (d := d) (v := v) (rs := rs) hac
      have eI : ∀ j, j < 3 → sI (a_note ρ c 1 v rs d) 25 (3 * a + j) = sI ρ 25 (3 * a + j) := fun j hj => by
        rw [note_I, if_neg (by omega), if_neg (by omega), if_neg (by omega), if_neg (by omega)]
      refine ⟨?_, n1, ?_, n7⟩
      · unfold cV
        rw [n1, show 3 * a = 3 * a + 0 from rfl, eI 0 (by decide)]
        show (_, sN (a_note ρ c 1 v rs d) 35 a, _, _, _, _, _, _, _, _) = _
        rw [note_N 35 a, if_neg (fun z => hac z.2), if_neg (fun z => hac z.2), if_neg (fun z => hac z.2), if_neg (fun z => hac z.2), if_neg (fun z => hac z.2), if_neg (fun z => hac z.2), Nat.add_zero]
        rw [eI 1 (by decide), eI 2 (by decide)]
        dsimp only
        rw [if_neg hac]
        rfl
      · unfold nV
        rw [n2, n3, n4, n5, n6, n7, note_I 23 a, if_neg (fun z => hac z.2), if_neg (by omega), if_neg (by omega), if_neg (by omega)]
        rfl) (fun a => ⟨rfl, rfl, rfl⟩) (by
      unfold sV
      show (_, _, sI ρ 26 0 + 1 + p, _, _) = (_, _, sI ρ 26 0 + (p + 1), _, _)
      rw [Int32.add_assoc, Int32.add_comm 1]
      rfl) (fun d => rfl)
  obtain ⟨s8, j1, j2, j3⟩ := g2.mark (v := was) hc hw
  rw [show sNs (a_note ρ c 1 v rs d) 35 c was = a_note ρ c was v rs d from sNs_sNs] at j2
  have kk : K2 K c nw ar 1 c = K 1 c := K2_o (by omega) (by omega)
  rw [kk] at j1 j3
  refine ⟨s8, ?_, j2, ?_, by rw [j3.nx.1, g3.nx.1]; exact (hx 0).1, by rw [j3.nx.2, g3.nx.2]; exact (hx 0).2⟩
  · have r4 := c2.rs.2.2.2.2.2.1
    have r5 := d2.rs.2.2.2.2.2.2.1
    have r6 : hI s5 (K 0 0) 0 5 = some (sI ρ 24 0 + 1) := e2.rs.2.2.2.2.2.2.1
    have eb : bchk (nI was) = some (nI was) := by
      unfold bchk
      rcases (show was = 0 ∨ was = 1 by omega) with z | z <;> subst z
      · rw [if_pos (show nI 0 = (0 : Int32) ∨ nI 0 = 1 from Or.inl rfl)]
      · rw [if_pos (show nI 1 = (0 : Int32) ∨ nI 1 = 1 from Or.inr rfl)]
    unfold x_NS_workOut_J131
    simp only [c1, Option.bind_some, r4, d1, r5, e1, r6, f1, g1, eb, j1]
  · have z1 : XF b st K ρ s4 K ρ := (((a4.fx (Or.inr hb1) (fun _ _ z => z)).t (b4.fx (Or.inr hb1) (fun _ _ z => z))).t (c4.fx (Or.inr hb1) (fun _ _ z => z))).t (d4.fx (Or.inr hb1) (fun _ _ z => z))
    have z2 : XF b s4 K ρ s5 K (sIs ρ 24 0 (sI ρ 24 0 + 1)) := e3.fx (Or.inl ⟨0, 0, rfl, rfl⟩) (lv_ss (fun _ => rfl) (fun _ => rfl))
    have z3 : XF b s5 K (sIs ρ 24 0 (sI ρ 24 0 + 1)) s6 K (sIs ρ 24 0 (sI ρ 24 0 + 1)) := f4.fx (Or.inr hb1) (fun _ _ z => z)
    have z4 : XF b s6 K (sIs ρ 24 0 (sI ρ 24 0 + 1)) s7 (K2 K c nw ar) (a_note ρ c 1 v rs d) := g3.k2 (Or.inl ⟨1, c, hc, rfl⟩) hb1 hb2 (fun f x hl q2 q3 => by
      rcases fam f with q | q | q | q | q | q | q | q | q | q | q | q | q | q | q | q | ⟨n, q⟩
      · subst q; exact hl
      · subst q; exact hl
      · subst q; exact ⟨hl.1, by have := hl.2; rw [(note_o (fun z => q2 ⟨rfl, z⟩)).1] at this; exact this⟩
      · subst q; exact ⟨hl.1, by have := hl.2; rw [(note_o (fun z => q3 ⟨rfl, z⟩)).1] at this; exact this⟩
      · subst q; exact hl
      · subst q; exact hl
      · subst q; exact hl
      · subst q; exact hl
      · subst q; exact hl
      · subst q; exact hl
      · subst q; exact hl
      · subst q; exact hl
      · subst q; exact hl
      · subst q; exact hl
      · subst q; exact hl
      · subst q; exact hl
      · subst q; exact absurd hl lv_big)
    have z5 : XF b s7 (K2 K c nw ar) (a_note ρ c 1 v rs d) s8 (K2 K c nw ar) (a_note ρ c was v rs d) := j3.fx (Or.inl ⟨1, c, hc, kk⟩) (lv_ss (fun _ => rfl) (fun _ => rfl))
    exact (((z1.t z2).t z3).t z4).t z5
