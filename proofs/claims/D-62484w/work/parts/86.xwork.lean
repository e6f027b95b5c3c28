def K2 (K : Nat → Nat → Nat) (c nw ar : Nat) : Nat → Nat → Nat := fun f a => if f = 2 ∧ a = c then nw else if f = 3 ∧ a = c then ar else K f a
theorem K2_o {K : Nat → Nat → Nat} {c nw ar f a : Nat} (h : ¬ (f = 2 ∧ a = c)) (g : ¬ (f = 3 ∧ a = c)) : K2 K c nw ar f a = K f a := by unfold K2; rw [if_neg h, if_neg g]
theorem K2_2 {K : Nat → Nat → Nat} {c nw ar : Nat} : K2 K c nw ar 2 c = nw := by unfold K2; rw [if_pos ⟨rfl, rfl⟩]
theorem K2_3 {K : Nat → Nat → Nat} {c nw ar : Nat} : K2 K c nw ar 3 c = ar := by unfold K2; rw [if_neg (by omega), if_pos ⟨rfl, rfl⟩]
theorem xE.k2 {kc : Nat → Nat} {K : Nat → Nat → Nat} {σ : S} {kept : Nat} {p : Int32} {o : Nat → Int32} {pad : List Nat} {c nw ar f a : Nat} {e : Ent} (h : xE kc K σ kept p o pad f a e) (h1 : f = 1 ∨ f = 2 ∨ f = 3 → a ≠ c) : xE kc (K2 K c nw ar) σ kept p o pad f a e := by
  have k : ∀ f' a', f' ≠ 2 → f' ≠ 3 → K2 K c nw ar f' a' = K f' a' := fun f' a' x y => K2_o (fun z => x z.1) (fun z => y z.1)
  rcases fam f with q | q | q | q | q | q | q | q | q | q | q | q | q | q | q | q | ⟨n, q⟩
  · subst q
    obtain ⟨k1, k2⟩ := h
    refine ⟨?_, k2⟩
    rw [k1]
    unfold sLs0
    rw [k 9 0 (by decide) (by decide), k 10 0 (by decide) (by decide), k 12 0 (by decide) (by decide), k 15 0 (by decide) (by decide)]
  · subst q
    have hac := h1 (Or.inl rfl)
    obtain ⟨⟨v, k1, k2⟩, k3⟩ := h
    refine ⟨⟨v, fun z => by rw [k 4 a (by decide) (by decide)]; exact k1 z, ?_⟩, k3⟩
    rw [k2]
    unfold cL
    rw [K2_o (f := 2) (fun z => hac z.2) (fun z => hac z.2)]
  · subst q
    have hac := h1 (Or.inr (Or.inl rfl))
    obtain ⟨k1, k2⟩ := h
    refine ⟨?_, k2⟩
    rw [k1]
    unfold nL
    rw [K2_o (f := 3) (fun z => hac z.2) (fun z => hac z.2)]
  · subst q
    obtain ⟨g, k1, k2⟩ := h
    exact ⟨g, k1, k2.k (fun x => k 1 x (by decide) (by decide))⟩
  · subst q
    obtain ⟨k1, k2⟩ := h
    refine ⟨?_, k2⟩
    rw [k1, k 5 a (by decide) (by decide), k 7 a (by decide) (by decide), k 8 a (by decide) (by decide)]
  · subst q
    replace h : e = _ := h
    show e = _
    rw [h, k 6 a (by decide) (by decide)]
  · subst q; exact h
  · subst q; exact h
  · subst q; exact h
  · subst q
    obtain ⟨g, k1, k2⟩ := h
    exact ⟨g, k1, fun x hx => by rw [k 1 x (by decide) (by decide)]; exact k2 x hx⟩
  · subst q
    obtain ⟨w, k1⟩ := h
    exact ⟨w, by rw [k1, k 11 0 (by decide) (by decide)]⟩
  · subst q; exact h
  · subst q
    obtain ⟨w1, w2, w3, w4, k1⟩ := h
    exact ⟨w1, w2, w3, w4, by rw [k1, k 13 0 (by decide) (by decide), k 14 0 (by decide) (by decide)]⟩
  · subst q; exact h
  · subst q; exact h
  · subst q; exact h
  · subst q; exact h
theorem lvN {σ σ' : S} {o o' : Nat → Int32} {c f a : Nat} (hco : ∀ a, a < 12 → a ≠ c → cV σ' o' a = cV σ o a ∧ sN σ' 15 a = sN σ 15 a ∧ nV σ' a = nV σ a ∧ sR σ' a = sR σ a) (hf : ∀ a, sN σ' 5 a = sN σ 5 a ∧ sT σ' a = sT σ a ∧ sC σ' a = sC σ a) (hl : lv σ' f a) (q2 : ¬ (f = 2 ∧ a = c)) (q3 : ¬ (f = 3 ∧ a = c)) : lv σ f a := by
  rcases fam f with q | q | q | q | q | q | q | q | q | q | q | q | q | q | q | q | ⟨n, q⟩
  · subst q; exact hl
  · subst q; exact hl
  · subst q; exact ⟨hl.1, by rw [← (hco a hl.1 (fun z => q2 ⟨rfl, z⟩)).2.1]; exact hl.2⟩
  · subst q; exact ⟨hl.1, by rw [← (hco a hl.1 (fun z => q3 ⟨rfl, z⟩)).2.1]; exact hl.2⟩
  · subst q; exact ⟨hl.1, by rw [← (hf a).1]; exact hl.2⟩
  · subst q; exact ⟨hl.1, by rw [← (hf a).1]; exact hl.2⟩
  · subst q; exact ⟨hl.1, by rw [← (hf a).1]; exact hl.2⟩
  · subst q; exact ⟨hl.1, by rw [← (hf a).1]; exact hl.2⟩
  · subst q; exact ⟨hl.1, by rw [← (hf a).1]; exact hl.2⟩
  · subst q; exact hl
  · subst q; exact hl
  · subst q; exact hl
  · subst q; exact hl
  · subst q; exact hl
  · subst q; exact hl
  · subst q; exact hl
  · subst q; exact absurd hl lv_big
/-- a cell gets a new note -/
theorem RX.newN {st : HS} {K : Nat → Nat → Nat} {σ σ' : S} {kept : Nat} {p p' : Int32} {o o' : Nat → Int32} {pad : List Nat} {c nw ar : Nat} {g : Nat → Option Nat} (h : RX st K σ kept p o pad) (hc : c < 12) (h1 : nw < hNx st) (h2 : ar < hNx st) (h3 : nw ≠ ar) (h4 : ∀ f a, lv σ f a → K f a ≠ nw ∧ K f a ≠ ar)
    (e1 : st.1 nw = some (.inl (3, nL (K2 K c nw ar) σ' c))) (e2 : st.1 ar = some (.inr (4, 12, .inr (.inr (.inr (.inr g)))))) (hg : rdsOk K (sR σ' c) g) (hb : sN σ' 16 c ≤ 1 ∧ sN σ' 18 c < B20 ∧ sN σ' 19 c < B20 ∧ sN σ' 20 c ≤ 2 ∧ ∃ x, sL σ' c = enc x) (h15 : sN σ' 15 c ≠ 0)
    (hcc : sN σ' 5 c = sN σ 5 c ∧ sN σ' 35 c = sN σ 35 c ∧ sI σ' 12 c = sI σ 12 c ∧ sN σ' 13 c = sN σ 13 c ∧ sN σ' 14 c = sN σ 14 c ∧ sN σ' 11 c = sN σ 11 c ∧ sI σ' 25 (3 * c) + o' c = sI σ 25 (3 * c) + o c ∧ sI σ' 25 (3 * c + 1) = sI σ 25 (3 * c + 1) ∧ sI σ' 25 (3 * c + 2) = sI σ 25 (3 * c + 2))
    (hco : ∀ a, a < 12 → a ≠ c → cV σ' o' a = cV σ o a ∧ sN σ' 15 a = sN σ 15 a ∧ nV σ' a = nV σ a ∧ sR σ' a = sR σ a) (hf : ∀ a, sN σ' 5 a = sN σ 5 a ∧ sT σ' a = sT σ a ∧ sC σ' a = sC σ a) (hs : sV σ' p' = sV σ p) (hch : ∀ d, sN σ' 4 d = sN σ 4 d) :
    ∃ st', hP st (K 1 c) 1 8 (.ref nw) = some st' ∧ RX st' (K2 K c nw ar) σ' kept p' o' pad ∧ F1 st st' (K 1 c) := by
  obtain ⟨v, g1, g2, g3⟩ := h.cE hc
  obtain ⟨x1, x2, x3, x5, x6⟩ := h
  refine ⟨_, hP_of g2 (by decide : 8 < 12), ⟨fun f a hl => ?_, fun f a hl => ?_, fun f a f' a' hl hl' hk => ?_, ?_, x6⟩, ⟨rfl, fun q hq => by rw [hSet_s, if_neg hq]⟩⟩
  · -- the contents
    show ∃ e, (hSet st (K 1 c) _).1 _ = some e ∧ xE (hKc st) _ _ _ _ _ _ f a e
    by_cases q2 : f = 2 ∧ a = c
    · obtain ⟨rfl, rfl⟩ := q2
      refine ⟨_, ?_, rfl, hb⟩
      rw [K2_2, hSet_s, if_neg (fun w => (h4 1 a hc).1 w.symm), e1]
    by_cases q3 : f = 3 ∧ a = c
    · obtain ⟨rfl, rfl⟩ := q3
      refine ⟨_, ?_, g, rfl, hg.k (fun x => K2_o (by omega) (by omega))⟩
      rw [K2_3, hSet_s, if_neg (fun w => (h4 1 a hc).2 w.symm), e2]
    rw [K2_o q2 q3]
    by_cases q1 : f = 1 ∧ a = c
    · obtain ⟨rfl, rfl⟩ := q1
      obtain ⟨c1, c2, c3, c4, c5, c6, c7, c8, c9⟩ := hcc
      refine ⟨_, by rw [hSet_s, if_pos rfl], ⟨v, fun z => ?_, ?_⟩, ?_⟩
      · rw [K2_o (by omega) (by omega)]
        exact g1 (by rw [← c1]; exact z)
      · have : (cL K σ o a v).set 8 (.ref nw) = cL (K2 K a nw ar) σ' o' a v := by
          unfold cL
          rw [c1, c2, c3, c4, c5, c6, c7, c8, c9, if_neg h15, K2_2]
          rfl
        rw [this]
      · rw [c2, c4, c5, c6]; exact g3
    · have hlv : lv σ f a := lvN hco hf hl q2 q3
      obtain ⟨e, k1, k2⟩ := x1 f a hlv
      refine ⟨e, ?_, ?_⟩
      · rw [hSet_s, if_neg (fun w => q1 (x3 f a 1 c hlv hc w))]; exact k1
      · refine xE.k2 (xE.oth k2 hl (fun w => (hco a w.2 (fun z => q1 ⟨w.1, z⟩)).1) (fun w1 w2 _ => (hco a w2 (fun z => q2 ⟨w1, z⟩)).2.2.1) (fun w1 w2 _ => (hco a w2 (fun z => q3 ⟨w1, z⟩)).2.2.2) (fun _ _ _ => (hf a).2) (fun _ _ => hs) (fun _ _ d _ => hch d)) ?_
        rintro (w | w | w) z
        · exact q1 ⟨w, z⟩
        · exact q2 ⟨w, z⟩
        · exact q3 ⟨w, z⟩
  · -- the places are old
    show K2 K c nw ar f a < hNx st
    by_cases q2 : f = 2 ∧ a = c
    · obtain ⟨rfl, rfl⟩ := q2; rw [K2_2]; exact h1
    by_cases q3 : f = 3 ∧ a = c
    · obtain ⟨rfl, rfl⟩ := q3; rw [K2_3]; exact h2
    rw [K2_o q2 q3]
    exact x2 f a (lvN hco hf hl q2 q3)
  · -- and differ
    by_cases q2 : f = 2 ∧ a = c
    · obtain ⟨rfl, rfl⟩ := q2
      rw [K2_2] at hk
      by_cases r2 : f' = 2 ∧ a' = a
      · exact ⟨r2.1.symm, r2.2.symm⟩
      by_cases r3 : f' = 3 ∧ a' = a
      · obtain ⟨rfl, rfl⟩ := r3; rw [K2_3] at hk; exact absurd hk h3
      rw [K2_o r2 r3] at hk
      exact absurd hk.symm (h4 f' a' (lvN hco hf hl' r2 r3)).1
    by_cases q3 : f = 3 ∧ a = c
    · obtain ⟨rfl, rfl⟩ := q3
      rw [K2_3] at hk
      by_cases r2 : f' = 2 ∧ a' = a
      · obtain ⟨rfl, rfl⟩ := r2; rw [K2_2] at hk; exact absurd hk.symm h3
      by_cases r3 : f' = 3 ∧ a' = a
      · exact ⟨r3.1.symm, r3.2.symm⟩
      rw [K2_o r2 r3] at hk
      exact absurd hk.symm (h4 f' a' (lvN hco hf hl' r2 r3)).2
    rw [K2_o q2 q3] at hk
    have hlv := lvN hco hf hl q2 q3
    by_cases r2 : f' = 2 ∧ a' = c
    · obtain ⟨rfl, rfl⟩ := r2; rw [K2_2] at hk; exact absurd hk (h4 f a hlv).1
    by_cases r3 : f' = 3 ∧ a' = c
    · obtain ⟨rfl, rfl⟩ := r3; rw [K2_3] at hk; exact absurd hk (h4 f a hlv).2
    rw [K2_o r2 r3] at hk
    exact x3 f a f' a' hlv (lvN hco hf hl' r2 r3) hk
  · refine x5.kept rfl (Nat.le_refl _) (fun q e hq hqe hw => ?_)
    rw [hSet_s, if_neg]
    · exact hqe
    · intro w
      subst w
      rw [g2] at hqe
      cases hqe
      exact hw (Or.inl ⟨_, _, rfl, by decide⟩)
