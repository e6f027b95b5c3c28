/-- the top has less than a rank -/
def tR (G : GS) (r : Nat) : Prop := ∀ q G', G = q :: G' → ¬ r ≤ rk q.1
theorem y_aw_app : ∀ (P G : GS), (∀ q ∈ P, 1 ≤ rk q.1 ∨ q.1 = 58) → y_aw (P ++ G) = y_aw G := by
  intro P
  induction P with
  | nil => intro G _; rfl
  | cons q P ih =>
    intro G hP
    have hq := hP q (by simp)
    rw [List.cons_append, show y_aw (q :: (P ++ G)) = if q.1 = 58 ∨ rk q.1 ≠ 0 then y_aw (P ++ G) else q.1 from rfl, if_pos (by omega)]
    exact ih G (fun z hz => hP z (by simp [hz]))
/-- one good character -/
theorem y_step {t : List Nat} {u : Bool} {k c : Nat} {G C : GS} {q : GS × GS} (hk : t[k]? = some c) (h : y_one t u k c G C = some q) : YRun t 1 u k G C (y_u u c) (y_k t u k c) q.1 q.2 := fun n => by
  have hlt := (List.getElem?_eq_some_iff.mp hk).1
  have hgd : t.getD k 0 = c := by rw [List.getD_eq_getElem?_getD, hk]; rfl
  rw [y_f, if_neg (by omega), hgd, h]
theorem y_fail {t : List Nat} {u : Bool} {k c : Nat} {G C : GS} (hk : t[k]? = some c) (h : y_one t u k c G C = none) (n : Nat) : y_f t (n + 1) u k G C = some (.inl k) := by
  have hlt := (List.getElem?_eq_some_iff.mp hk).1
  have hgd : t.getD k 0 = c := by rw [List.getD_eq_getElem?_getD, hk]; rfl
  rw [y_f, if_neg (by omega), hgd, h]
theorem pk_get {t : List Nat} {s : PS} {c : Nat} (h : pk t s = c) (hc : c ≠ 0) : s.2.1 = false ∧ t[s.1]? = some c := by
  obtain ⟨h1, h2⟩ := pkk_lt (t := t) (s := s) (by rw [h]; exact hc)
  refine ⟨h1, ?_⟩
  unfold pk at h
  rw [if_neg (by rw [h1]; decide), List.getD_eq_getElem?_getD, List.getElem?_eq_getElem h2] at h
  rw [List.getElem?_eq_getElem h2]
  exact congrArg some h
