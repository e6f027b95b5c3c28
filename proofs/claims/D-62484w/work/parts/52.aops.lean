/-! what changes the sheet -/
def sTs (σ : S) (c : Nat) (v : List Nat) : S := (σ.1, σ.2.1, σ.2.2.1, σ.2.2.2.1, fun c' => if c' = c then v else σ.2.2.2.2.1 c', σ.2.2.2.2.2)
def sCs (σ : S) (c : Nat) (v : List (Nat × Nat)) : S := (σ.1, σ.2.1, σ.2.2.1, σ.2.2.2.1, σ.2.2.2.2.1, fun c' => if c' = c then v else σ.2.2.2.2.2 c')
def a_chg (σ : S) (d : Nat) : S := (fun k c => if k = 3 ∧ c = 0 then rev σ + 1 else if k = 4 ∧ c ≤ d then rev σ + 1 else σ.1 k c, σ.2)
def a_cd (σ : S) (c : Nat) : Nat := if sN σ 5 c = 0 then sN σ 13 c else 2
def a_def (σ : S) (c : Nat) (t : List Nat) (cd : List (Nat × Nat)) : S := sCs (sTs (sNs (sNs (a_chg σ (a_cd σ c)) 5 c 1) 11 c (rev σ + 1)) c t) c cd
def a_set (σ : S) (c : Nat) (n : Int32) (d : Nat) : S := sNs (sIs (sNs (sNs (sNs (if sN σ 5 c ≠ 0 ∨ sI σ 12 c ≠ n then sNs (a_chg σ (a_cd σ c)) 14 c (rev σ + 1) else a_chg σ (a_cd σ c)) 5 c 0) 15 c 0) 16 c 0) 12 c n) 13 c d
/-- what does not hang on the changed input -/
theorem ev_keep {σ τ : S} {x d : Nat} (h5 : sN σ 5 x = 0) (hd : sN σ 13 x = d) (hst : ∀ a, a ≠ x → sN τ 5 a = sN σ 5 a ∧ sN τ 13 a = sN σ 13 a ∧ sI τ 12 a = sI σ 12 a ∧ sC τ a = sC σ a) :
    ∀ n a (q : Int32 × Nat), ev n σ a = some q → d < q.2 → a ≠ x ∧ ev n τ a = some q := by
  intro n
  induction n with
  | zero =>
    intro a q h hq
    have hf : sN σ 5 a = 0 := by
      by_cases e : sN σ 5 a = 0
      · exact e
      · obtain ⟨m, rs, e1, -⟩ := ev_step e h; omega
    rw [ev_input hf] at h
    have hne : a ≠ x := fun e => by subst e; cases h; omega
    obtain ⟨k1, k2, k3, k4⟩ := hst a hne
    exact ⟨hne, by rw [ev_input (by rw [k1]; exact hf), k2, k3]; exact h⟩
  | succ n ih =>
    intro a q h hq
    by_cases hf : sN σ 5 a = 0
    · rw [ev_input hf] at h
      have hne : a ≠ x := fun e => by subst e; cases h; omega
      obtain ⟨k1, k2, k3, k4⟩ := hst a hne
      exact ⟨hne, by rw [ev_input (by rw [k1]; exact hf), k2, k3]; exact h⟩
    · have hne : a ≠ x := fun e => by subst e; exact hf h5
      refine ⟨hne, ?_⟩
      obtain ⟨k1, k2, k3, k4⟩ := hst a hne
      obtain ⟨m, rs, e, g1, g2, g3⟩ := ev_step hf h
      have e : m = n := by omega
      subst e
      have h4 : ∀ r ∈ rs, ev m τ r = ev m σ r := fun r hr => by
        obtain ⟨p, hp⟩ := g3 r hr
        rw [hp]
        refine (ih r p hp ?_).2
        have := fmin_le (f := fun r => ((ev m σ r).map (·.2)).getD 0) hr
        rw [← g2] at this
        replace this : q.2 ≤ ((ev m σ r).map (·.2)).getD 0 := this
        rw [hp] at this
        have : q.2 ≤ p.2 := this
        omega
      rw [ev, if_neg (by rw [k1]; exact hf), k4]
      rw [d_agree (o' := fun r => (ev m τ r).map (·.1)) _ _ _ _ _ _ g1 (fun r hr => by show (ev m τ r).map _ = _; rw [h4 r hr])]
      show some (q.1, fmin (fun r => ((ev m τ r).map (·.2)).getD 0) rs) = some q
      rw [fmin_congr (g := fun r => ((ev m σ r).map (·.2)).getD 0) (fun r hr => by show ((ev m τ r).map _).getD 0 = _; rw [h4 r hr]), ← g2]
theorem inv_change {σ τ : S} {x d : Nat} (h : Inv σ) (hw : ∀ a, sN σ 35 a = 0) (hx : x < 12) (hd : d = a_cd σ x) (hrev : rev τ = rev σ + 1) (hchg : ∀ i, sN τ 4 i = if i ≤ d then rev σ + 1 else sN σ 4 i)
    (hst : ∀ a, a ≠ x → sN τ 5 a = sN σ 5 a ∧ sN τ 11 a = sN σ 11 a ∧ sN τ 13 a = sN σ 13 a ∧ sN τ 14 a = sN σ 14 a ∧ sI τ 12 a = sI σ 12 a ∧ sC τ a = sC σ a)
    (hno : ∀ a, a ≠ x → nsm σ τ a) (hnx : (sN τ 15 x = 0 ∧ sN τ 16 x = 0) ∨ (nsm σ τ x ∧ sN σ 5 x ≠ 0 ∧ sN τ 5 x ≠ 0))
    (hxx : (sN τ 5 x = 0 ∧ sN τ 13 x ≤ 2 ∧ sN τ 11 x ≤ rev σ + 1 ∧ (sN τ 14 x = rev σ + 1 ∨ (sN σ 5 x = 0 ∧ sN τ 14 x = sN σ 14 x ∧ sI τ 12 x = sI σ 12 x))) ∨ (sN τ 5 x ≠ 0 ∧ sN τ 11 x = rev σ + 1 ∧ wt (sC τ x) ∧ sN τ 13 x ≤ 2 ∧ sN τ 14 x ≤ rev σ + 1)) : Inv τ := by
  have nsx : ∀ a, sN τ 15 a ≠ 0 → nsm σ τ a ∧ sN σ 5 a ≠ 0 ∧ sN τ 5 a ≠ 0 ∨ (a ≠ x) := fun a ha => by
    by_cases e : a = x
    · subst e
      rcases hnx with hnx | hnx
      · exact absurd hnx.1 ha
      · exact Or.inl hnx
    · exact Or.inr e
  have nsa : ∀ a, sN τ 15 a ≠ 0 → nsm σ τ a := fun a ha => by
    rcases nsx a ha with q | q
    · exact q.1
    · exact hno a q
  have ver : ∀ a, a < 12 → sN τ 15 a ≠ 0 → sN τ 18 a ≤ rev σ ∧ sN τ 20 a ≤ 2 := fun a h12 ha => by
    have hn := nsa a ha
    rw [hn.2.2.1, hn.2.2.2.2.1]
    have := (h.no a h12).2 (by rw [← hn.1]; exact ha)
    exact ⟨this.2.2.1, this.2.1⟩
  have hinx : sN σ 5 x = 0 → sN τ 15 x = 0 := fun q => by
    rcases hnx with hnx | hnx
    · exact hnx.1
    · exact absurd q hnx.2.1
  -- what is up to date afterwards was so, is no x, and hangs on no x
  have up : ∀ a, a < 12 → sN τ 5 a ≠ 0 → utd τ a → a ≠ x ∧ utd σ a ∧ sN σ 5 a ≠ 0 ∧ sN σ 5 x = 0 ∧ sN σ 13 x = d ∧ d < sN σ 20 a ∧ sN σ 20 a = Ed σ a := fun a h12 fa ua => by
    obtain ⟨v1, v2⟩ := ver a h12 ua.1
    have hn := nsa a ua.1
    have u2 := ua.2
    rw [hchg] at u2
    have hlt : d < sN τ 20 a := by
      by_cases q : sN τ 20 a ≤ d
      · rw [if_pos q] at u2; omega
      · omega
    rw [if_neg (by omega)] at u2
    have h5x : sN σ 5 x = 0 := by
      by_cases q : sN σ 5 x = 0
      · exact q
      · unfold a_cd at hd; rw [if_neg q] at hd; omega
    have h13 : sN σ 13 x = d := by unfold a_cd at hd; rw [if_pos h5x] at hd; exact hd.symm
    have hne : a ≠ x := fun e => by subst e; exact ua.1 (hinx h5x)
    have ua' : utd σ a := ⟨by rw [← hn.1]; exact ua.1, by rw [← hn.2.2.2.2.1, ← hn.2.2.1]; exact u2⟩
    have fa' : sN σ 5 a ≠ 0 := by rw [← (hst a hne).1]; exact fa
    exact ⟨hne, ua', fa', h5x, h13, by rw [← hn.2.2.2.2.1]; exact hlt, (h.up a h12 fa' ua').2.2⟩
  refine ⟨⟨by omega, fun i hi => ?_, fun a ha => ?_⟩, fun a ha => ?_, fun a ha fa ua => ?_, fun a ha fa na ua aa => ?_, fun a ha fa ua r hr fr => ?_⟩
  · rw [hchg, hrev]
    split
    · omega
    · have := h.st.2.1 i hi; omega
  · rw [hrev]
    by_cases e : a = x
    · subst e
      rcases hxx with ⟨y1, y2, y3, y4⟩ | ⟨y1, y2, y3, y4, y5⟩
      · refine ⟨fun q => absurd y1 q, y2, ?_, y3⟩
        rcases y4 with y4 | ⟨-, y4, -⟩
        · omega
        · rw [y4]; have := (h.st.2.2 a ha).2.2.1; omega
      · exact ⟨fun _ => y3, y4, y5, by omega⟩
    · obtain ⟨k1, k2, k3, k4, k5, k6⟩ := hst a e
      rw [k1, k2, k3, k4, k6]
      obtain ⟨q1, q2, q3, q4⟩ := h.st.2.2 a ha
      exact ⟨q1, q2, by omega, by omega⟩
  · rw [hrev]
    by_cases e : a = x
    · subst e
      rcases hnx with ⟨y1, y2⟩ | ⟨hn, y2, y3⟩
      · exact ⟨fun q => absurd y2 q, fun q => absurd y1 q⟩
      · rw [hn.1, hn.2.1, hn.2.2.1, hn.2.2.2.1, hn.2.2.2.2.1, hn.2.2.2.2.2.2]
        obtain ⟨q1, q2⟩ := h.no a ha
        refine ⟨q1, fun q => ?_⟩
        obtain ⟨p1, p2, p3, p4, p5, p6⟩ := q2 q
        exact ⟨y3, p2, by omega, by omega, p5, p6⟩
    · have hn := hno a e
      rw [hn.1, hn.2.1, hn.2.2.1, hn.2.2.2.1, hn.2.2.2.2.1, hn.2.2.2.2.2.2, (hst a e).1]
      obtain ⟨q1, q2⟩ := h.no a ha
      refine ⟨q1, fun q => ?_⟩
      obtain ⟨p1, p2, p3, p4, p5, p6⟩ := q2 q
      exact ⟨p1, p2, by omega, by omega, p5, p6⟩
  · obtain ⟨hne, ua', fa', h5x, h13, hlt, hed⟩ := up a ha fa ua
    obtain ⟨u1, u2, u3⟩ := h.up a ha fa' ua'
    have hn := hno a hne
    have hEV : ∃ q, EV σ a = some q := by
      cases e : EV σ a with
      | none => rw [Ed_none e] at hed; omega
      | some q => exact ⟨q, rfl⟩
    obtain ⟨q, hq⟩ := hEV
    obtain ⟨n, hev⟩ := EV_of hq
    have hqd : Ed σ a = q.2 := by unfold Ed; rw [hq]; rfl
    have hkeep := ev_keep h5x h13 (fun a ha => ⟨(hst a ha).1, (hst a ha).2.2.1, (hst a ha).2.2.2.2.1, (hst a ha).2.2.2.2.2⟩) n a q hev (by omega)
    have hτ := EV_some hkeep.2
    have eo : Eo τ a = Eo σ a := by unfold Eo; rw [hτ, hq]
    have ed : Ed τ a = Ed σ a := by unfold Ed; rw [hτ, hq]
    have er : RD τ a = RD σ a := by
      obtain ⟨m, rs, -, g1, -, g3⟩ := ev_step fa' hev
      obtain ⟨m', rs', -, g1', -, g3'⟩ := ev_step fa hkeep.2
      have a1 := d_agree (o' := Eo σ) _ _ _ _ _ _ g1 (fun r hr => by
        obtain ⟨p, hp⟩ := g3 r hr
        show (EV σ r).map _ = (ev m σ r).map _
        rw [hp, EV_some hp])
      have a2 := d_agree (o' := Eo τ) _ _ _ _ _ _ g1' (fun r hr => by
        obtain ⟨p, hp⟩ := g3' r hr
        show (EV τ r).map _ = (ev m' τ r).map _
        rw [hp, EV_some hp])
      have a3 : ∀ r ∈ RD σ a, Eo τ r = Eo σ r := fun r hr => by
        rw [(E_fix fa' a1).2.1] at hr
        obtain ⟨p, hp⟩ := g3 r hr
        have hle : Ed σ a ≤ Ed σ r := by
          rw [(E_fix fa' a1).2.2]
          exact fmin_le hr
        have hpd : Ed σ r = p.2 := by unfold Ed; rw [EV_some hp]; rfl
        have := (ev_keep h5x h13 (fun a ha => ⟨(hst a ha).1, (hst a ha).2.2.1, (hst a ha).2.2.2.2.1, (hst a ha).2.2.2.2.2⟩) m r p hp (by omega)).2
        unfold Eo
        rw [EV_some this, EV_some hp]
      rw [(hst a hne).2.2.2.2.2] at a2
      rw [(E_fix fa' a1).2.1] at a3 ⊢
      have a4 := d_agree (o' := Eo τ) _ _ _ _ _ _ a1 a3
      rw [a2] at a4
      cases a4
      rw [← (hst a hne).2.2.2.2.2] at a2
      exact (E_fix fa a2).2.1
    rw [eo, ed, er, hn.2.2.2.2.2.1, hn.2.2.2.2.2.2, hn.2.2.2.2.1]
    exact ⟨u1, u2, u3⟩
  · have hn := nsa a na
    obtain ⟨v1, v2⟩ := ver a ha na
    have hne : a ≠ x := fun e => by
      subst e
      rcases hxx with ⟨y1, -⟩ | ⟨-, y2, -⟩
      · exact fa y1
      · omega
    have fa' : sN σ 5 a ≠ 0 := by rw [← (hst a hne).1]; exact fa
    have na' : sN σ 15 a ≠ 0 := by rw [← hn.1]; exact na
    have aa' : sN σ 11 a ≤ sN σ 18 a := by rw [← (hst a hne).2.1, ← hn.2.2.1]; exact aa
    -- what r is worth afterwards
    have curk : ∀ r, (sN τ 5 r = 0 ∨ sN τ 15 r ≠ 0) → a_since τ r ≤ sN τ 18 a → (sN σ 5 r = 0 ∨ sN σ 15 r ≠ 0) ∧ a_since σ r = a_since τ r ∧ cur τ r = cur σ r ∧ (sN σ 5 r = 0 ↔ sN τ 5 r = 0) := fun r hi hs => by
      by_cases e : r = x
      · subst e
        rcases hxx with ⟨y1, y2, y3, y4⟩ | ⟨y1, y2, y3, y4, y5⟩
        · unfold a_since at hs
          rw [if_pos y1] at hs
          rcases y4 with y4 | ⟨z1, z2, z3⟩
          · omega
          · refine ⟨Or.inl z1, ?_, ?_, by rw [z1, y1]⟩
            · unfold a_since; rw [if_pos y1, if_pos z1, z2]
            · unfold cur; rw [if_pos y1, if_pos z1, z3]
        · have n15 : sN τ 15 r ≠ 0 := by
            rcases hi with hi | hi
            · exact absurd hi y1
            · exact hi
          rcases hnx with ⟨z1, -⟩ | ⟨hn2, z2, z3⟩
          · exact absurd z1 n15
          · refine ⟨Or.inr (by rw [← hn2.1]; exact n15), ?_, ?_, ⟨fun q => absurd q z2, fun q => absurd q z3⟩⟩
            · unfold a_since; rw [if_neg z2, if_neg z3, hn2.1, hn2.2.2.2.1]
            · unfold cur; rw [if_neg z2, if_neg z3, hn2.2.2.2.2.2.1]
      · have hn2 := hno r e
        obtain ⟨k1, k2, k3, k4, k5, k6⟩ := hst r e
        rw [k1, hn2.1] at hi
        refine ⟨hi, ?_, ?_, by rw [k1]⟩
        · unfold a_since; rw [k1, hn2.1, k4, hn2.2.2.2.1]
        · unfold cur; rw [k1, k5, hn2.2.2.2.2.2.1]
    by_cases hu : utd σ a
    · obtain ⟨u1, u2, u3⟩ := h.up a ha fa' hu
      refine ⟨Eo σ, Eo σ a, ?_, by rw [hn.2.2.2.2.2.1]; exact u1, fun r hr hi hs => ?_⟩
      · rw [(hst a hne).2.2.2.2.2, hn.2.2.2.2.2.2, u2]
        exact (E_run fa' (h.wt ha fa')).1
      · obtain ⟨c1, c2, c3, c4⟩ := curk r hi hs
        rw [c3]
        rw [hn.2.2.2.2.2.2] at hr
        have hr12 : r < 12 := ((h.no a ha).2 na').2.2.2.2.1 r hr
        unfold cur
        by_cases q : sN σ 5 r = 0
        · rw [if_pos q, Eo_input q]; rfl
        · rw [if_neg q]
          rcases h.rd a ha fa' hu r hr q with w | w
          · exact (h.up r hr12 q w).1.symm
          · exact absurd (hw r) w.1
    · obtain ⟨w, y, j1, j2, j3⟩ := h.ol a ha fa' na' hu aa'
      refine ⟨w, y, by rw [(hst a hne).2.2.2.2.2, hn.2.2.2.2.2.2]; exact j1, by rw [hn.2.2.2.2.2.1]; exact j2, fun r hr hi hs => ?_⟩
      obtain ⟨c1, c2, c3, c4⟩ := curk r hi hs
      rw [c3]
      rw [hn.2.2.2.2.2.2] at hr
      exact j3 r hr c1 (by rw [c2, ← hn.2.2.1]; exact hs)
  · obtain ⟨hne, ua', fa', h5x, h13, hlt, hed⟩ := up a ha fa ua
    obtain ⟨u1, u2, u3⟩ := h.up a ha fa' ua'
    have hn := hno a hne
    rw [hn.2.2.2.2.2.2, u2] at hr
    have hle : Ed σ a ≤ Ed σ r := by
      rw [(E_run fa' (h.wt ha fa')).2.1]
      exact fmin_le hr
    have hr12 := (E_run fa' (h.wt ha fa')).2.2 r hr
    have hrx : r ≠ x := fun e => by
      subst e
      rw [Ed_input h5x] at hle
      omega
    have fr' : sN σ 5 r ≠ 0 := by rw [← (hst r hrx).1]; exact fr
    rcases h.rd a ha fa' ua' r (by rw [u2]; exact hr) fr' with w | w
    · refine Or.inl ⟨by rw [(hno r hrx).1]; exact w.1, ?_⟩
      rw [(hno r hrx).2.2.2.2.1, (hno r hrx).2.2.1, hchg, (h.up r hr12 fr' w).2.2, if_neg (by omega), ← (h.up r hr12 fr' w).2.2]
      exact w.2
    · exact absurd (hw r) w.1
