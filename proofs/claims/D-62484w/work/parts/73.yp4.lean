theorem yp_unit {t : List Nat} (hl : t.length ≤ 30) (hok : ∀ z ∈ t, okc z) {n : Nat} (hF : YF t n) (hU : YU t n) : YU t (n + 1) := by
  intro s s' d U G0 hs hk e hd hd5 hUr hG0
  replace e : p_unit t (p_one (pn t n).1) (p_one (pn t n).2) s d = some s' := e
  have one : ∀ (pf : PF) (z : PS) (dd : Nat), z.2.1 = false → p_one pf z dd = pf z dd := fun pf z dd hz => by unfold p_one; rw [if_neg (by rw [hz]; decide)]
  have hset : ∀ C : GS, y_set 4 (U ++ G0) C = (G0, fl U C) := fun C => y_set_fl 4 (by decide) U G0 C (fun q hq => by rw [hUr q hq]; exact Nat.le_refl _) hG0
  unfold p_unit at e
  by_cases q1 : 65 ≤ pk t s ∧ pk t s ≤ 76
  · rw [if_pos q1] at e
    cases e
    obtain ⟨-, hg⟩ := pk_get (t := t) (s := s) rfl (by omega)
    refine ⟨fun _ => ⟨1, ?_⟩, fun z => by have z : s.2.1 = true := z; rw [hs] at z; cases z⟩
    have hy : y_one t true s.1 (pk t s) (U ++ G0) s.2.2 = some (G0, fl U (s.2.2 ++ [(1, pk t s - 65)])) := by
      unfold y_one y_begin
      rw [if_pos rfl, if_pos q1, hset]
    have := y_step hg hy
    rw [show y_u true (pk t s) = false by unfold y_u; simp; omega, show y_k t true s.1 (pk t s) = s.1 + 1 by unfold y_k; rw [if_neg (by omega)]] at this
    exact this
  rw [if_neg q1] at e
  by_cases q2 : 48 ≤ pk t s ∧ pk t s ≤ 57
  · rw [if_pos q2] at e
    cases e
    obtain ⟨-, hg⟩ := pk_get (t := t) (s := s) rfl (by omega)
    have hp : pk t s = t.getD s.1 0 := by unfold pk; rw [if_neg (by rw [hs]; decide)]
    have hex : y_ex t 4 s.1 = 1 + y_ex t 3 (s.1 + 1) := by rw [y_ex, ← hp, if_pos q2]
    rw [dig_eq 4 s 0 hs, hex]
    refine ⟨fun _ => ⟨1, ?_⟩, fun z => by have z : s.2.1 = true := z; rw [hs] at z; cases z⟩
    have hy : y_one t true s.1 (pk t s) (U ++ G0) s.2.2 = some (G0, fl U (s.2.2 ++ [(0, y_nF t 4 s.1 0)])) := by
      unfold y_one y_begin
      rw [if_pos rfl, if_neg q1, if_pos q2, hset]
    have := y_step hg hy
    rw [show y_u true (pk t s) = false by unfold y_u; simp; omega, show y_k t true s.1 (pk t s) = s.1 + (1 + y_ex t 3 (s.1 + 1)) by unfold y_k; rw [if_pos ⟨rfl, q2⟩]; omega] at this
    exact this
  rw [if_neg q2] at e
  -- an opening sign
  have opn : (pk t s = 40 ∨ pk t s = 45 ∨ pk t s = 64) → d < 5 → YRun t 1 true s.1 (U ++ G0) s.2.2 true (s.1 + 1) ((if pk t s = 45 then 200 else pk t s, 0) :: (U ++ G0)) s.2.2 ∧ s.1 + 1 ≤ t.length := fun q3 q4 => by
    obtain ⟨-, hg⟩ := pk_get (t := t) (s := s) rfl (by omega)
    have hy : y_one t true s.1 (pk t s) (U ++ G0) s.2.2 = some ((if pk t s = 45 then 200 else pk t s, 0) :: (U ++ G0), s.2.2) := by
      unfold y_one y_begin
      rw [if_pos rfl, if_neg q1, if_neg q2, if_pos ⟨q3, by omega⟩]
    have := y_step hg hy
    rw [show y_u true (pk t s) = true by unfold y_u; simp; omega, show y_k t true s.1 (pk t s) = s.1 + 1 by unfold y_k; rw [if_neg (by omega)]] at this
    have hlt := (List.getElem?_eq_some_iff.mp hg).1
    exact ⟨this, by omega⟩
  by_cases q3 : d < 5 ∧ pk t s = 40
  · rw [if_pos q3] at e
    obtain ⟨s2, e1, e2⟩ := obi e
    rw [one _ _ _ (show (pA s).2.1 = false from hs)] at e1
    obtain ⟨o1, o2⟩ := opn (Or.inl q3.2) q3.1
    rw [if_neg (by omega), q3.2] at o1
    obtain ⟨f0, f1, f2⟩ := hF (pA s) s2 (d + 1) ((40, 0) :: (U ++ G0)) hs o2 e1 (by rw [y_deep, if_pos (Or.inl rfl)]; omega) (by omega) (fun q G' hq => by cases hq; decide)
    cases e2
    unfold pNeed
    by_cases z : s2.2.1 = true
    · rw [if_pos z]
      refine ⟨(fun w => by rw [z] at w; cases w), fun _ => ?_⟩
      obtain ⟨m, hm⟩ := f2 z
      exact ⟨m + 1, fun n => by rw [← Nat.add_assoc, o1]; exact hm n⟩
    · have z' : s2.2.1 = false := by simpa using z
      rw [if_neg z]
      obtain ⟨m, P, Cm, g1, g2, g3, g4⟩ := f1 z'
      have haw : y_aw ((40, 0) :: (U ++ G0)) = 40 := by rw [y_aw, if_neg (by decide)]
      by_cases z2 : pk t s2 = 41
      · rw [if_pos z2]
        refine ⟨fun _ => ?_, fun w => by have w : s2.2.1 = true := w; rw [z'] at w; cases w⟩
        obtain ⟨-, hg⟩ := pk_get (t := t) (s := s2) z2 (by decide)
        have hy : y_one t false s2.1 41 (P ++ (40, 0) :: (U ++ G0)) Cm = some (G0, fl U s2.2.2) := by
          have n41 : ¬ ((rk 41 = 1 ∧ y_cmpd (P ++ (40, 0) :: (U ++ G0)) = true) ∨ rk 41 = 4 ∨ 41 = 40 ∨ (65 ≤ 41 ∧ 41 ≤ 76) ∨ (48 ≤ 41 ∧ 41 ≤ 57)) := by
            have h1 : rk 41 = 0 := by decide
            omega
          unfold y_one y_go
          rw [if_neg (by decide), if_neg n41, if_neg (by decide), if_neg (by decide), y_aw_app P _ g2, haw, if_neg (by decide), y_cl_fl P _ Cm g2, g3]
          rw [show y_cl ((40, 0) :: (U ++ G0)) s2.2.2 = ((40, 0) :: (U ++ G0), s2.2.2) from rfl]
          dsimp only
          rw [if_neg (by decide), hset]
        have h2 := y_step hg hy
        rw [show y_u false 41 = false from rfl, show y_k t false s2.1 41 = s2.1 + 1 by unfold y_k; rw [if_neg (by simp)]] at h2
        exact ⟨1 + m + 1, (o1.t g1).t h2⟩
      · rw [if_neg z2]
        refine ⟨(fun w => by cases w), fun _ => ?_⟩
        by_cases zl : s2.1 < t.length
        · have hg : t[s2.1]? = some (pk t s2) := by
            unfold pk
            rw [if_neg z, List.getD_eq_getElem?_getD, List.getElem?_eq_getElem zl]; rfl
          have hy : y_one t false s2.1 (pk t s2) (P ++ (40, 0) :: (U ++ G0)) Cm = none := by
            unfold y_one
            rw [if_neg (by decide)]
            exact go_none (hok _ (List.mem_of_getElem? hg)) g4.1 g4.2.1 g4.2.2.1 g4.2.2.2.1 g4.2.2.2.2 g2 (fun w => absurd w z2) (fun _ => by rw [haw]; decide)
          exact ⟨1 + (1 + m), fun n => by rw [← Nat.add_assoc, (o1.t g1) (n + 1)]; exact y_fail hg hy n⟩
        · refine ⟨1 + (1 + m), fun n => ?_⟩
          rw [← Nat.add_assoc, (o1.t g1) (n + 1), y_f, if_pos (by omega), y_aw_app P _ g2, haw, if_pos (Or.inr (by decide))]
          show some (Sum.inl t.length) = some (Sum.inl s2.1)
          rw [show t.length = s2.1 by omega]
  rw [if_neg q3] at e
  by_cases q4 : d < 5 ∧ (pk t s = 45 ∨ pk t s = 64)
  · rw [if_pos q4] at e
    obtain ⟨s2, e1, e2⟩ := obi e
    rw [one _ _ _ (show (pA s).2.1 = false from hs)] at e1
    obtain ⟨o1, o2⟩ := opn (Or.inr q4.2) q4.1
    have r4 : rk (if pk t s = 45 then 200 else pk t s) = 4 := by
      rcases q4.2 with w | w
      · rw [if_pos w]; decide
      · rw [if_neg (by omega), w]; decide
    obtain ⟨f1, f2⟩ := hU (pA s) s2 (d + 1) ((if pk t s = 45 then 200 else pk t s, 0) :: U) G0 hs o2 e1 (by rw [List.cons_append, y_deep, if_pos (Or.inr r4)]; omega) (by omega) (fun q hq => by
      rcases List.mem_cons.mp hq with w | w
      · subst w; exact r4
      · exact hUr q w) hG0
    cases e2
    refine ⟨fun w => ?_, fun w => ?_⟩
    · obtain ⟨m, hm⟩ := f1 w
      have hfl : ∀ x : Nat, rk x = 4 → fl ((x, 0) :: U) s2.2.2 = fl U (s2.2.2 ++ [(opOf x, 0)]) := fun x hx => by rw [fl, if_pos (by show 1 ≤ rk x; omega)]
      rw [hfl _ r4] at hm
      have ho : opOf (if pk t s = 45 then 200 else pk t s) = if pk t s = 45 then 3 else 2 := by
        rcases q4.2 with w | w
        · rw [if_pos w, if_pos w]; rfl
        · rw [if_neg (by omega), if_neg (by omega), w]; rfl
      rw [ho] at hm
      exact ⟨1 + m, o1.t hm⟩
    · obtain ⟨m, hm⟩ := f2 w
      exact ⟨m + 1, fun n => by rw [← Nat.add_assoc, o1]; exact hm n⟩
  rw [if_neg q4] at e
  cases e
  refine ⟨(fun w => by cases w), fun _ => ⟨1, fun n => ?_⟩⟩
  by_cases zl : s.1 < t.length
  · have hg : t[s.1]? = some (pk t s) := by
      unfold pk
      rw [if_neg (by rw [hs]; decide), List.getD_eq_getElem?_getD, List.getElem?_eq_getElem zl]; rfl
    refine y_fail hg ?_ n
    unfold y_one y_begin
    rw [if_pos rfl, if_neg q1, if_neg q2, if_neg (fun w => by omega)]
  · rw [y_f, if_pos (by omega), if_pos (Or.inl rfl)]
    show some (Sum.inl t.length) = some (Sum.inl s.1)
    rw [show t.length = s.1 by omega]
