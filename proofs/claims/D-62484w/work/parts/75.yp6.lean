theorem yp_formula {t : List Nat} (hok : ∀ z ∈ t, okc z) {n : Nat} (hF : YF t n) (hU : YU t n) : YF t (n + 1) := by
  intro s s' d G hs hk e hd hd5 hG
  replace e : p_formula t (p_cmp t (p_sum t (p_prod t (p_one (pn t n).2)))) (p_one (pn t n).1) s d = some s' := e
  refine ⟨(pl_all (n + 1)).1 s s' d hk e, ?_⟩
  obtain ⟨s1, e1, e2⟩ := obi e
  obtain ⟨l1, l2, l3⟩ := lv_cmp (lv_sum (lv_prod (lv_unit hU))) s s1 d G hs hk e1 hd hd5 hG
  by_cases q : pk t s1 = 63
  · rw [if_pos q] at e2
    obtain ⟨s2, e3, e4⟩ := obi e2
    obtain ⟨s3, e5, e6⟩ := obi e4
    obtain ⟨hs1, hg⟩ := pk_get q (by decide)
    obtain ⟨m, P, Cm, g1, g2, g3, g4⟩ := l2 hs1
    rw [pone_f (show (pPut (pA s1) 10 0).2.1 = false from hs1)] at e3
    have hy : y_one t false s1.1 63 (P ++ G) Cm = some ((63, s1.2.2.length) :: G, s1.2.2 ++ [(10, 0)]) := by
      have n63 : ¬ ((rk 63 = 1 ∧ y_cmpd (P ++ G) = true) ∨ rk 63 = 4 ∨ 63 = 40 ∨ (65 ≤ 63 ∧ 63 ≤ 76) ∨ (48 ≤ 63 ∧ 63 ≤ 57)) := by
        have h1 : rk 63 = 0 := by decide
        omega
      unfold y_one y_go
      rw [if_neg (by decide), if_neg n63, if_neg (by decide), if_pos rfl, y_set_fl 1 (by decide) P G Cm g2 hG, g3]
    have h1 := y_step hg hy
    rw [show y_u false 63 = true from rfl, show y_k t false s1.1 63 = s1.1 + 1 by unfold y_k; rw [if_neg (by simp)]] at h1
    have run1 := g1.t h1
    have hd2 : y_deep ((63, s1.2.2.length) :: G) = d := by
      rw [y_deep, if_neg (show ¬ ((63 : Nat) = 40 ∨ rk 63 = 4) by decide), hd, Nat.zero_add]
    obtain ⟨f1, f2, f3⟩ := hF (pPut (pA s1) 10 0) s2 d ((63, s1.2.2.length) :: G) hs1 (pk_room (t := t) (s := s1) (by rw [q]; decide)) e3 hd2 hd5 (fun z G' hz => by cases hz; show ¬ 1 ≤ rk 63; decide)
    by_cases z : s2.2.1 = true
    · have e0 : pNeed t s2 58 = s2 := by unfold pNeed; rw [if_pos z]
      rw [e0, pone_t (show (pW (pPut s2 9 0) s1.2.2.length (s2.2.2.length + 1)).2.1 = true from z)] at e5
      cases e5
      cases e6
      refine ⟨(fun w => by replace w : s2.2.1 = false := w; rw [z] at w; cases w), fun _ => ?_⟩
      obtain ⟨m', hm⟩ := f3 z
      exact ⟨m' + (m + 1), fun n => by rw [← Nat.add_assoc, run1]; exact hm n⟩
    · have z' : s2.2.1 = false := by simpa using z
      obtain ⟨m', P', Cm', k1, k2, k3, k4⟩ := f2 z'
      have run2 := run1.t k1
      have haw : y_aw ((63, s1.2.2.length) :: G) = 63 := by rw [y_aw, if_neg (show ¬ ((63 : Nat) = 58 ∨ rk 63 ≠ 0) by decide)]
      by_cases z2 : pk t s2 = 58
      · have e0 : pNeed t s2 58 = pA s2 := by unfold pNeed; rw [if_neg z, if_pos z2]
        rw [e0, pone_f (show (pW (pPut (pA s2) 9 0) s1.2.2.length (s2.2.2.length + 1)).2.1 = false from z')] at e5
        obtain ⟨-, hg2⟩ := pk_get (t := t) (s := s2) z2 (by decide)
        have hy2 : y_one t false s2.1 58 (P' ++ (63, s1.2.2.length) :: G) Cm' = some ((58, s2.2.2.length) :: G, cW (s2.2.2 ++ [(9, 0)]) s1.2.2.length (s2.2.2.length + 1)) := by
          have n58 : ¬ ((rk 58 = 1 ∧ y_cmpd (P' ++ (63, s1.2.2.length) :: G) = true) ∨ rk 58 = 4 ∨ 58 = 40 ∨ (65 ≤ 58 ∧ 58 ≤ 76) ∨ (48 ≤ 58 ∧ 58 ≤ 57)) := by
            have h1 : rk 58 = 0 := by decide
            omega
          unfold y_one y_go
          rw [if_neg (by decide), if_neg n58, if_neg (by decide), if_neg (by decide), y_aw_app P' _ k2, haw, if_neg (by decide), y_cl_fl P' _ Cm' k2, k3]
          rw [show y_cl ((63, s1.2.2.length) :: G) s2.2.2 = ((63, s1.2.2.length) :: G, s2.2.2) from rfl]
          dsimp only
          rw [if_pos rfl]
        have h2 := y_step hg2 hy2
        rw [show y_u false 58 = true from rfl, show y_k t false s2.1 58 = s2.1 + 1 by unfold y_k; rw [if_neg (by simp)]] at h2
        have run3 := run2.t h2
        have hd3 : y_deep ((58, s2.2.2.length) :: G) = d := by
          rw [y_deep, if_neg (show ¬ ((58 : Nat) = 40 ∨ rk 58 = 4) by decide), hd, Nat.zero_add]
        obtain ⟨v1, v2, v3⟩ := hF _ s3 d ((58, s2.2.2.length) :: G) (show (pW (pPut (pA s2) 9 0) s1.2.2.length (s2.2.2.length + 1)).2.1 = false from z') (pk_room (t := t) (s := s2) (by rw [z2]; decide)) e5 hd3 hd5 (fun z G' hz => by cases hz; show ¬ 1 ≤ rk 58; decide)
        cases e6
        refine ⟨fun w => ?_, fun w => ?_⟩
        · obtain ⟨m2, P2, C2, w1, w2, w3, w4⟩ := v2 w
          refine ⟨m + 1 + m' + 1 + m2, P2 ++ [(58, s2.2.2.length)], C2, ?_, fun x hx => ?_, ?_, ?_⟩
          · rw [List.append_assoc]; exact run3.t w1
          · rcases List.mem_append.mp hx with y | y
            · exact w2 x y
            · rw [List.mem_singleton] at y; subst y; exact Or.inr rfl
          · rw [fl_app, w3]
            show (if 1 ≤ rk 58 then _ else _) = _
            rw [if_neg (by decide)]
            rfl
          · rw [List.append_assoc]; exact w4
        · obtain ⟨m2, hm⟩ := v3 w
          exact ⟨m2 + (m + 1 + m' + 1), fun n => by rw [← Nat.add_assoc, run3]; exact hm n⟩
      · have e0 : pNeed t s2 58 = pStop s2 := by unfold pNeed; rw [if_neg z, if_neg z2]
        rw [e0, pone_t (show (pW (pPut (pStop s2) 9 0) s1.2.2.length (s2.2.2.length + 1)).2.1 = true from rfl)] at e5
        cases e5
        cases e6
        refine ⟨(fun w => by cases w), fun _ => ?_⟩
        by_cases zl : s2.1 < t.length
        · have hg2 : t[s2.1]? = some (pk t s2) := by
            unfold pk
            rw [if_neg z, List.getD_eq_getElem?_getD, List.getElem?_eq_getElem zl]; rfl
          have hy2 : y_one t false s2.1 (pk t s2) (P' ++ (63, s1.2.2.length) :: G) Cm' = none := by
            unfold y_one
            rw [if_neg (by decide)]
            exact go_none (hok _ (List.mem_of_getElem? hg2)) k4.1 k4.2.1 k4.2.2.1 k4.2.2.2.1 k4.2.2.2.2 k2 (fun _ => by rw [haw]; decide) (fun w => absurd w z2)
          exact ⟨1 + (m + 1 + m'), fun n => by rw [← Nat.add_assoc, run2 (n + 1)]; exact y_fail hg2 hy2 n⟩
        · refine ⟨1 + (m + 1 + m'), fun n => ?_⟩
          rw [← Nat.add_assoc, run2 (n + 1), y_f, if_pos (by omega), y_aw_app P' _ k2, haw, if_pos (Or.inr (by decide))]
          show some (Sum.inl t.length) = some (Sum.inl s2.1)
          rw [show t.length = s2.1 by omega]
  · rw [if_neg q] at e2
    cases e2
    refine ⟨fun w => ?_, l3⟩
    obtain ⟨m, P, Cm, g1, g2, g3, g4⟩ := l2 w
    exact ⟨m, P, Cm, g1, (fun z hz => Or.inl (g2 z hz)), g3, g4.1, g4.2.1, g4.2.2.1, q, g4.2.2.2⟩
theorem yp_all {t : List Nat} (hl : t.length ≤ 30) (hok : ∀ z ∈ t, okc z) : ∀ n, YF t n ∧ YU t n := by
  intro n
  induction n with
  | zero => exact ⟨fun s s' d G _ _ e => (by cases e), fun s s' d U G _ _ e => (by cases e)⟩
  | succ n ih => exact ⟨yp_formula hok ih.1 ih.2, yp_unit hl hok ih.1 ih.2⟩
/-- more fuel changes nothing -/
theorem y_f_up {t : List Nat} : ∀ (n : Nat) (u : Bool) (k : Nat) (G C : GS) (r : Nat ⊕ GS), y_f t n u k G C = some r → ∀ m, y_f t (n + m) u k G C = some r := by
  intro n
  induction n with
  | zero => intro u k G C r e; cases e
  | succ n ih =>
    intro u k G C r e m
    rw [show n + 1 + m = (n + m) + 1 by omega]
    rw [y_f] at e ⊢
    by_cases q : t.length ≤ k
    · rw [if_pos q] at e ⊢; exact e
    · rw [if_neg q] at e ⊢
      cases h : y_one t u k (t.getD k 0) G C with
      | none => rw [h] at e; exact e
      | some v => rw [h] at e; exact ih _ _ _ _ _ e m
/-- the two readers -/
theorem y_p {t : List Nat} (hl : t.length ≤ 30) (hok : ∀ z ∈ t, okc z) {s : PS} (e : p_read t = some s) {n : Nat} {r : Nat ⊕ GS} (hr : y_f t n true 0 [] [] = some r) :
    r = if s.2.1 = false ∧ s.1 = t.length then .inr s.2.2 else .inl s.1 := by
  obtain ⟨h1, h2, h3⟩ := (yp_all hl hok 100).1 (0, false, []) s 0 [] rfl (Nat.zero_le _) e rfl (by decide) (fun q G' hq => by cases hq)
  by_cases z : s.2.1 = true
  · obtain ⟨m, hm⟩ := h3 z
    have := y_f_up _ _ _ _ _ _ hr m
    rw [hm n] at this
    cases this
    rw [if_neg (fun w => by rw [z] at w; cases w.1)]
  · have z' : s.2.1 = false := by simpa using z
    obtain ⟨m, P, Cm, g1, g2, g3, g4⟩ := h2 z'
    have := y_f_up _ _ _ _ _ _ hr (1 + m)
    rw [show n + (1 + m) = (n + 1) + m by omega] at this
    have g1' := g1 (n + 1)
    replace g1' : y_f t (n + 1 + m) true 0 [] [] = y_f t (n + 1) false s.1 (P ++ []) Cm := g1'
    rw [g1'] at this
    by_cases zl : s.1 < t.length
    · have hg2 : t[s.1]? = some (pk t s) := by
        unfold pk
        rw [if_neg z, List.getD_eq_getElem?_getD, List.getElem?_eq_getElem zl]; rfl
      have hy2 : y_one t false s.1 (pk t s) (P ++ []) Cm = none := by
        unfold y_one
        rw [if_neg (by decide)]
        exact go_none (hok _ (List.mem_of_getElem? hg2)) g4.1 g4.2.1 g4.2.2.1 g4.2.2.2.1 g4.2.2.2.2 g2 (fun _ => by decide) (fun _ => by decide)
      rw [y_fail hg2 hy2 n] at this
      cases this
      rw [if_neg (by omega)]
    · rw [y_f, if_pos (by omega), y_aw_app P _ g2, if_neg (by rw [show y_aw [] = 0 from rfl]; simp), y_cl_fl P _ Cm g2, g3] at this
      cases this
      rw [if_pos ⟨z', by omega⟩]
      rfl
