/-! the model's reader and the class' reader find the same -/
def YRun (t : List Nat) (m : Nat) (u : Bool) (k : Nat) (G C : GS) (u' : Bool) (k' : Nat) (G' C' : GS) : Prop := ∀ n, y_f t (n + m) u k G C = y_f t n u' k' G' C'
theorem YRun.t {t : List Nat} {m m' k k' k'' : Nat} {u u' u'' : Bool} {G G' G'' C C' C'' : GS} (h : YRun t m u k G C u' k' G' C') (h2 : YRun t m' u' k' G' C' u'' k'' G'' C'') : YRun t (m + m') u k G C u'' k'' G'' C'' := fun n => by
  rw [show n + (m + m') = (n + m') + m by omega, h, h2]
/-- the signs that wait above a base, settled -/
def fl : GS → GS → GS
  | [], C => C
  | q :: P, C => if 1 ≤ rk q.1 then fl P (C ++ [(opOf q.1, 0)]) else fl P (cW C q.2 C.length)
theorem y_set_fl (r : Nat) (hr : 1 ≤ r) : ∀ (P G C : GS), (∀ q ∈ P, r ≤ rk q.1) → (∀ q G', G = q :: G' → ¬ r ≤ rk q.1) → y_set r (P ++ G) C = (G, fl P C) := by
  intro P
  induction P with
  | nil =>
    intro G C _ hG
    show y_set r G C = (G, C)
    cases G with
    | nil => rfl
    | cons q G => rw [y_set, if_neg (hG q G rfl)]
  | cons q P ih =>
    intro G C hP hG
    have hq := hP q (by simp)
    rw [List.cons_append, y_set, if_pos hq, fl, if_pos (by omega)]
    exact ih G _ (fun z hz => hP z (by simp [hz])) hG
theorem y_cl_fl : ∀ (P G C : GS), (∀ q ∈ P, 1 ≤ rk q.1 ∨ q.1 = 58) → y_cl (P ++ G) C = y_cl G (fl P C) := by
  intro P
  induction P with
  | nil => intro G C _; rfl
  | cons q P ih =>
    intro G C hP
    have hq := hP q (by simp)
    rw [List.cons_append, show y_cl (q :: (P ++ G)) C = if 1 ≤ rk q.1 then y_cl (P ++ G) (C ++ [(opOf q.1, 0)]) else if q.1 = 58 then y_cl (P ++ G) (cW C q.2 C.length) else (q :: (P ++ G), C) from rfl, fl]
    by_cases h : 1 ≤ rk q.1
    · rw [if_pos h, if_pos h]; exact ih G _ (fun z hz => hP z (by simp [hz]))
    · rw [if_neg h, if_neg h, if_pos (by omega)]; exact ih G _ (fun z hz => hP z (by simp [hz]))
