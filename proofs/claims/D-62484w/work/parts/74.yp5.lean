theorem fl_app : ∀ (P Q C : GS), fl (P ++ Q) C = fl Q (fl P C) := by
  intro P
  induction P with
  | nil => intro Q C; rfl
  | cons q P ih =>
    intro Q C
    rw [List.cons_append, fl, fl]
    split
    · exact ih _ _
    · exact ih _ _
theorem pone_f {pf : PF} {s : PS} {d : Nat} (h : s.2.1 = false) : p_one pf s d = pf s d := by unfold p_one; rw [if_neg (by rw [h]; decide)]
theorem pone_t {pf : PF} {s : PS} {d : Nat} (h : s.2.1 = true) : p_one pf s d = some s := by unfold p_one; rw [if_pos h]
theorem pk_stop {t : List Nat} {s : PS} (h : s.2.1 = true) : pk t s = 0 := by unfold pk; rw [if_pos h]
/-! a level of the grammar: r is the least rank of what may wait -/
def LC (t : List Nat) (s s' : PS) (G : GS) (r : Nat) (ex : PS → GS → Prop) : Prop := s'.1 ≤ t.length ∧ (s'.2.1 = false → ∃ m P Cm, YRun t m true s.1 G s.2.2 false s'.1 (P ++ G) Cm ∧ (∀ q ∈ P, r ≤ rk q.1) ∧ fl P Cm = s'.2.2 ∧ ex s' (P ++ G)) ∧ (s'.2.1 = true → ∃ m, ∀ n, y_f t (n + m) true s.1 G s.2.2 = some (.inl s'.1))
def LV (t : List Nat) (pX : PF) (r : Nat) (ex : PS → GS → Prop) : Prop := ∀ (s s' : PS) (d : Nat) (G : GS), s.2.1 = false → s.1 ≤ t.length → pX s d = some s' → y_deep G = d → d ≤ 5 → tR G r → LC t s s' G r ex
def PL (t : List Nat) (pX : PF) : Prop := ∀ (s s' : PS) (d : Nat), s.1 ≤ t.length → pX s d = some s' → s'.1 ≤ t.length
theorem pl_one {t : List Nat} {pX : PF} (h : PL t pX) : PL t (p_one pX) := fun s s' d hs e => by
  unfold p_one at e
  split at e
  · cases e; exact hs
  · exact h s s' d hs e
theorem pk_room {t : List Nat} {s : PS} (h : pk t s ≠ 0) : (pA s).1 ≤ t.length := (pkk_lt h).2
theorem pl_prod {t : List Nat} {pX : PF} (h : PL t pX) : PL t (p_prod t pX) := by
  have hl : ∀ N (s s' : PS) (d : Nat), s.1 ≤ t.length → p_prodL t pX N s d = some s' → s'.1 ≤ t.length := by
    intro N
    induction N with
    | zero => intro s s' d _ e; cases e
    | succ N ih =>
      intro s s' d hs e
      rw [p_prodL] at e
      split at e
      · rename_i q
        obtain ⟨s2, e1, e2⟩ := obi e
        exact ih (pPut s2 4 0) s' d (h _ s2 d (pk_room (by rw [q]; decide)) e1) e2
      · cases e; exact hs
  intro s s' d hs e
  obtain ⟨s1, e1, e2⟩ := obi e
  exact hl _ s1 s' d (h s s1 d hs e1) e2
theorem pl_sum {t : List Nat} {pX : PF} (h : PL t pX) : PL t (p_sum t pX) := by
  have hl : ∀ N (s s' : PS) (d : Nat), s.1 ≤ t.length → p_sumL t pX N s d = some s' → s'.1 ≤ t.length := by
    intro N
    induction N with
    | zero => intro s s' d _ e; cases e
    | succ N ih =>
      intro s s' d hs e
      rw [p_sumL] at e
      split at e
      · rename_i q
        obtain ⟨s2, e1, e2⟩ := obi e
        exact ih (pPut s2 _ 0) s' d (h _ s2 d (pk_room (by omega)) e1) e2
      · cases e; exact hs
  intro s s' d hs e
  obtain ⟨s1, e1, e2⟩ := obi e
  exact hl _ s1 s' d (h s s1 d hs e1) e2
theorem pl_cmp {t : List Nat} {pX : PF} (h : PL t pX) : PL t (p_cmp t pX) := by
  intro s s' d hs e
  obtain ⟨s1, e1, e2⟩ := obi e
  have h1 := h s s1 d hs e1
  split at e2
  · rename_i q
    obtain ⟨s2, e3, e4⟩ := obi e2
    have h2 := h _ s2 d (pk_room (by omega)) e3
    cases e4
    exact h2
  · cases e2; exact h1
theorem pl_need {t : List Nat} {s : PS} {c : Nat} (hc : c ≠ 0) (h : s.1 ≤ t.length) : (pNeed t s c).1 ≤ t.length := by
  unfold pNeed
  split
  · exact h
  · split
    · rename_i q; exact pk_room (by rw [q]; exact hc)
    · exact h
theorem pl_all {t : List Nat} : ∀ n, PL t (pn t n).1 ∧ PL t (pn t n).2 := by
  intro n
  induction n with
  | zero => exact ⟨fun s s' d _ e => (by cases e), fun s s' d _ e => (by cases e)⟩
  | succ n ih =>
    refine ⟨fun s s' d hs e => ?_, fun s s' d hs e => ?_⟩
    · replace e : p_formula t (p_cmp t (p_sum t (p_prod t (p_one (pn t n).2)))) (p_one (pn t n).1) s d = some s' := e
      obtain ⟨s1, e1, e2⟩ := obi e
      have h1 := pl_cmp (pl_sum (pl_prod (pl_one ih.2))) s s1 d hs e1
      split at e2
      · rename_i q
        obtain ⟨s2, e3, e4⟩ := obi e2
        obtain ⟨s3, e5, e6⟩ := obi e4
        have h2 := pl_one ih.1 (pPut (pA s1) 10 0) s2 d (pk_room (by rw [q]; decide)) e3
        have h3 := pl_one ih.1 (pW (pPut (pNeed t s2 58) 9 0) s1.2.2.length (s2.2.2.length + 1)) s3 d (show (pNeed t s2 58).1 ≤ t.length from pl_need (by decide) h2) e5
        cases e6
        exact h3
      · cases e2; exact h1
    · replace e : p_unit t (p_one (pn t n).1) (p_one (pn t n).2) s d = some s' := e
      unfold p_unit at e
      split at e
      · rename_i q
        cases e
        exact pk_room (t := t) (s := s) (by omega)
      split at e
      · cases e
        exact (dig_ok 4 s 0 1 hs (by decide)).2.1
      split at e
      · rename_i q
        obtain ⟨s2, e1, e2⟩ := obi e
        have h2 := pl_one ih.1 _ s2 _ (pk_room (t := t) (s := s) (by omega)) e1
        cases e2
        exact pl_need (by decide) h2
      split at e
      · rename_i q
        obtain ⟨s2, e1, e2⟩ := obi e
        have h2 := pl_one ih.2 _ s2 _ (pk_room (t := t) (s := s) (by omega)) e1
        cases e2
        exact h2
      · cases e; exact hs
theorem lv_unit {t : List Nat} {n : Nat} (hU : YU t n) : LV t (p_one (pn t n).2) 4 (fun _ _ => True) := by
  intro s s' d G hs hk e hd hd5 hG
  rw [pone_f hs] at e
  obtain ⟨h1, h2⟩ := hU s s' d [] G hs hk e hd hd5 (fun q hq => by cases hq) hG
  refine ⟨(pl_all n).2 s s' d hk e, fun w => ?_, h2⟩
  obtain ⟨m, hm⟩ := h1 w
  exact ⟨m, [], s'.2.2, hm, (fun q hq => by cases hq), rfl, trivial⟩
theorem y_cmpd_app : ∀ (P G : GS), (∀ q ∈ P, 2 ≤ rk q.1) → y_cmpd (P ++ G) = y_cmpd G := by
  intro P
  induction P with
  | nil => intro G _; rfl
  | cons q P ih =>
    intro G hP
    have hq := hP q (by simp)
    rw [List.cons_append, show y_cmpd (q :: (P ++ G)) = if rk q.1 = 0 then false else (rk q.1 == 1) || y_cmpd (P ++ G) from rfl, if_neg (by omega), ih G (fun z hz => hP z (by simp [hz]))]
    have : (rk q.1 == 1) = false := by simp; omega
    rw [this, Bool.false_or]
/-- an operator and what stands behind it -/
theorem lv_op {t : List Nat} {pX : PF} {r c k0 m d : Nat} {ex : PS → GS → Prop} {s1 s2 : PS} {P G G0 C0 Cm : GS} (sub : LV t pX (r + 1) ex) (hr : rk c = r) (hr1 : 1 ≤ r) (hr3 : r ≤ 3) (hc : pk t s1 = c) (run : YRun t m true k0 G0 C0 false s1.1 (P ++ G) Cm) (hP : ∀ q ∈ P, (if r = 1 then 2 else r) ≤ rk q.1) (hf : fl P Cm = s1.2.2) (hG : tR G r) (hcm : r = 1 → y_cmpd (P ++ G) = false) (hd : y_deep G = d) (hd5 : d ≤ 5) (e : pX (pA s1) d = some s2) :
    s2.1 ≤ t.length ∧ (s2.2.1 = false → ∃ m P' Cm', YRun t m true k0 G0 C0 false s2.1 ((P' ++ [(c, 0)]) ++ G) Cm' ∧ (∀ q ∈ P', r + 1 ≤ rk q.1) ∧ fl (P' ++ [(c, 0)]) Cm' = s2.2.2 ++ [(opOf c, 0)] ∧ ex s2 ((P' ++ [(c, 0)]) ++ G)) ∧ (s2.2.1 = true → ∃ m, ∀ n, y_f t (n + m) true k0 G0 C0 = some (.inl s2.1)) := by
  have hc0 : c ≠ 0 := by intro w; subst w; have : rk 0 = 0 := by decide
                         omega
  obtain ⟨hs1, hg⟩ := pk_get hc hc0
  have hn : ¬ ((rk c = 1 ∧ y_cmpd (P ++ G) = true) ∨ rk c = 4 ∨ c = 40 ∨ (65 ≤ c ∧ c ≤ 76) ∨ (48 ≤ c ∧ c ≤ 57)) := by
    intro w
    rcases w with w | w | w | w | w
    · rw [hcm (by omega)] at w; cases w.2
    · omega
    · subst w; have : rk 40 = 0 := by decide
      omega
    · unfold rk at hr; repeat (first | (split at hr <;> omega) | split at hr | omega)
    · unfold rk at hr; repeat (first | (split at hr <;> omega) | split at hr | omega)
  have hset : y_set (if rk c = 1 then 2 else rk c) (P ++ G) Cm = (G, s1.2.2) := by
    rw [hr, y_set_fl _ (by split <;> omega) P G Cm hP (fun q G' hq => by have := hG q G' hq; split <;> omega), hf]
  have hy : y_one t false s1.1 c (P ++ G) Cm = some ((c, 0) :: G, s1.2.2) := by
    unfold y_one y_go
    rw [if_neg (by decide), if_neg hn, if_pos (by omega), hset]
  have h1 := y_step hg hy
  have hu : y_u false c = true := by
    unfold y_u
    rw [if_neg (by decide)]
    have : c ≠ 41 := by intro w; subst w; have : rk 41 = 0 := by decide
                        omega
    simpa using this
  rw [hu, show y_k t false s1.1 c = s1.1 + 1 by unfold y_k; rw [if_neg (by simp)]] at h1
  have run2 := run.t h1
  have hdp : y_deep ((c, 0) :: G) = d := by
    rw [y_deep, if_neg, hd, Nat.zero_add]
    intro w
    rcases w with w | w
    · replace w : c = 40 := w
      subst w; have : rk 40 = 0 := by decide
      omega
    · replace w : rk c = 4 := w
      omega
  obtain ⟨l1, l2, l3⟩ := sub (pA s1) s2 d ((c, 0) :: G) hs1 (pk_room (by rw [hc]; exact hc0)) e hdp hd5 (fun q G' hq => by cases hq; show ¬ r + 1 ≤ rk c; omega)
  refine ⟨l1, fun w => ?_, fun w => ?_⟩
  · obtain ⟨m', P', Cm', g1, g2, g3, g4⟩ := l2 w
    refine ⟨m + 1 + m', P', Cm', ?_, g2, ?_, ?_⟩
    · rw [List.append_assoc]; exact run2.t g1
    · rw [fl_app, g3]
      show (if 1 ≤ rk c then _ else _) = _
      rw [if_pos (by omega)]
      rfl
    · rw [List.append_assoc]; exact g4
  · obtain ⟨m', hm⟩ := l3 w
    exact ⟨m' + (m + 1), fun n => by rw [← Nat.add_assoc, run2]; exact hm n⟩
theorem lv_prod {t : List Nat} {pX : PF} (sub : LV t pX 4 (fun _ _ => True)) : LV t (p_prod t pX) 3 (fun s _ => pk t s ≠ 42) := by
  intro s s' d G hs hk e hd hd5 hG
  obtain ⟨s1, e1, e2⟩ := obi e
  obtain ⟨l1, l2, l3⟩ := sub s s1 d G hs hk e1 hd hd5 (fun q G' hq => by have := hG q G' hq; omega)
  have loop : ∀ N (s1 : PS), s1.1 ≤ t.length → (s1.2.1 = false → ∃ m P Cm, YRun t m true s.1 G s.2.2 false s1.1 (P ++ G) Cm ∧ (∀ q ∈ P, 3 ≤ rk q.1) ∧ fl P Cm = s1.2.2) → (s1.2.1 = true → ∃ m, ∀ n, y_f t (n + m) true s.1 G s.2.2 = some (.inl s1.1)) → p_prodL t pX N s1 d = some s' → LC t s s' G 3 (fun s _ => pk t s ≠ 42) := by
    intro N
    induction N with
    | zero => intro s1 _ _ _ e; cases e
    | succ N ih =>
      intro s1 h1 h2 h3 e
      rw [p_prodL] at e
      by_cases q : pk t s1 = 42
      · rw [if_pos q] at e
        obtain ⟨s2, e1, e2⟩ := obi e
        obtain ⟨m, P, Cm, g1, g2, g3⟩ := h2 (pk_get q (by decide)).1
        obtain ⟨o1, o2, o3⟩ := lv_op (r := 3) (c := 42) sub (by decide) (by decide) (by decide) q g1 (by rw [if_neg (by decide)]; exact g2) g3 hG (fun w => by cases w) hd hd5 e1
        refine ih (pPut s2 4 0) o1 (fun w => ?_) o3 e2
        obtain ⟨m', P', Cm', k1, k2, k3, k4⟩ := o2 w
        refine ⟨m', _, Cm', k1, fun z hz => ?_, k3⟩
        rcases List.mem_append.mp hz with w | w
        · have := k2 z w; omega
        · rw [List.mem_singleton] at w; subst w; decide
      · rw [if_neg q] at e
        cases e
        refine ⟨h1, fun w => ?_, h3⟩
        obtain ⟨m, P, Cm, g1, g2, g3⟩ := h2 w
        exact ⟨m, P, Cm, g1, g2, g3, q⟩
  refine loop 1000 s1 l1 (fun w => ?_) l3 e2
  obtain ⟨m, P, Cm, g1, g2, g3, -⟩ := l2 w
  exact ⟨m, P, Cm, g1, fun q hq => by have := g2 q hq; omega, g3⟩
theorem lv_sum {t : List Nat} {pX : PF} (sub : LV t pX 3 (fun s _ => pk t s ≠ 42)) : LV t (p_sum t pX) 2 (fun s _ => pk t s ≠ 42 ∧ pk t s ≠ 43 ∧ pk t s ≠ 45) := by
  intro s s' d G hs hk e hd hd5 hG
  obtain ⟨s1, e1, e2⟩ := obi e
  obtain ⟨l1, l2, l3⟩ := sub s s1 d G hs hk e1 hd hd5 (fun q G' hq => by have := hG q G' hq; omega)
  have loop : ∀ N (s1 : PS), s1.1 ≤ t.length → (s1.2.1 = false → pk t s1 ≠ 42 ∧ ∃ m P Cm, YRun t m true s.1 G s.2.2 false s1.1 (P ++ G) Cm ∧ (∀ q ∈ P, 2 ≤ rk q.1) ∧ fl P Cm = s1.2.2) → (s1.2.1 = true → ∃ m, ∀ n, y_f t (n + m) true s.1 G s.2.2 = some (.inl s1.1)) → p_sumL t pX N s1 d = some s' → LC t s s' G 2 (fun s _ => pk t s ≠ 42 ∧ pk t s ≠ 43 ∧ pk t s ≠ 45) := by
    intro N
    induction N with
    | zero => intro s1 _ _ _ e; cases e
    | succ N ih =>
      intro s1 h1 h2 h3 e
      rw [p_sumL] at e
      by_cases q : pk t s1 = 43 ∨ pk t s1 = 45
      · rw [if_pos q] at e
        obtain ⟨s2, e1, e2⟩ := obi e
        obtain ⟨h42, m, P, Cm, g1, g2, g3⟩ := h2 (pk_get (t := t) (s := s1) rfl (by omega)).1
        have hr : rk (pk t s1) = 2 := by rcases q with w | w <;> rw [w] <;> decide
        obtain ⟨o1, o2, o3⟩ := lv_op (r := 2) (c := pk t s1) sub hr (by decide) (by decide) rfl g1 (by rw [if_neg (by decide)]; exact g2) g3 hG (fun w => by cases w) hd hd5 e1
        refine ih (pPut s2 _ 0) o1 (fun w => ?_) o3 e2
        obtain ⟨m', P', Cm', k1, k2, k3, k4⟩ := o2 w
        have ho : opOf (pk t s1) = if pk t s1 = 43 then 5 else 6 := by rcases q with w | w <;> rw [w] <;> decide
        rw [ho] at k3
        refine ⟨k4, m', _, Cm', k1, fun z hz => ?_, k3⟩
        rcases List.mem_append.mp hz with w | w
        · have := k2 z w; omega
        · rw [List.mem_singleton] at w; subst w; show 2 ≤ rk (pk t s1); omega
      · rw [if_neg q] at e
        cases e
        refine ⟨h1, fun w => ?_, h3⟩
        obtain ⟨h42, m, P, Cm, g1, g2, g3⟩ := h2 w
        exact ⟨m, P, Cm, g1, g2, g3, h42, by omega, by omega⟩
  refine loop 1000 s1 l1 (fun w => ?_) l3 e2
  obtain ⟨m, P, Cm, g1, g2, g3, g4⟩ := l2 w
  exact ⟨g4, m, P, Cm, g1, fun q hq => by have := g2 q hq; omega, g3⟩
theorem lv_cmp {t : List Nat} {pX : PF} (sub : LV t pX 2 (fun s _ => pk t s ≠ 42 ∧ pk t s ≠ 43 ∧ pk t s ≠ 45)) : LV t (p_cmp t pX) 1 (fun s G => pk t s ≠ 42 ∧ pk t s ≠ 43 ∧ pk t s ≠ 45 ∧ (pk t s = 60 ∨ pk t s = 61 → y_cmpd G = true)) := by
  intro s s' d G hs hk e hd hd5 hG
  obtain ⟨s1, e1, e2⟩ := obi e
  obtain ⟨l1, l2, l3⟩ := sub s s1 d G hs hk e1 hd hd5 (fun q G' hq => by have := hG q G' hq; omega)
  have hcG : y_cmpd G = false := by
    cases G with
    | nil => rfl
    | cons q G => rw [y_cmpd, if_pos (by have := hG q G rfl; omega)]
  by_cases q : pk t s1 = 60 ∨ pk t s1 = 61
  · rw [if_pos q] at e2
    obtain ⟨s2, e3, e4⟩ := obi e2
    obtain ⟨m, P, Cm, g1, g2, g3, g4⟩ := l2 (pk_get (t := t) (s := s1) rfl (by omega)).1
    have hr : rk (pk t s1) = 1 := by rcases q with w | w <;> rw [w] <;> decide
    obtain ⟨o1, o2, o3⟩ := lv_op (r := 1) (c := pk t s1) sub hr (by decide) (by decide) rfl g1 (by rw [if_pos rfl]; exact g2) g3 hG (fun _ => by rw [y_cmpd_app P G g2, hcG]) hd hd5 e3
    cases e4
    refine ⟨o1, fun w => ?_, o3⟩
    obtain ⟨m', P', Cm', k1, k2, k3, k4⟩ := o2 w
    have ho : opOf (pk t s1) = if pk t s1 = 60 then 7 else 8 := by rcases q with w | w <;> rw [w] <;> decide
    rw [ho] at k3
    refine ⟨m', _, Cm', k1, fun z hz => ?_, k3, k4.1, k4.2.1, k4.2.2, fun _ => ?_⟩
    · rcases List.mem_append.mp hz with w | w
      · have := k2 z w; omega
      · rw [List.mem_singleton] at w; subst w; show 1 ≤ rk (pk t s1); omega
    · rw [List.append_assoc, y_cmpd_app P' _ k2]
      show (if rk (pk t s1) = 0 then false else (rk (pk t s1) == 1) || y_cmpd G) = true
      rw [if_neg (by omega), hr]
      rfl
  · rw [if_neg q] at e2
    cases e2
    refine ⟨l1, fun w => ?_, l3⟩
    obtain ⟨m, P, Cm, g1, g2, g3, g4⟩ := l2 w
    exact ⟨m, P, Cm, g1, (fun z hz => by have := g2 z hz; omega), g3, g4.1, g4.2.1, g4.2.2, fun w => absurd w q⟩
