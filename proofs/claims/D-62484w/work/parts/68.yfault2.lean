theorem rY.mono {ms : MS} {t : List Nat} {G C : GS} {B B' : Nat} (h : rY ms t G C B) (hb : B ≤ B') (h31 : B' ≤ 31) : rY ms t G C B' := by
  obtain ⟨z1, z2, z3, z4, z5, z6, z7⟩ := h
  exact ⟨z1, z2, z3, by omega, by omega, h31, z7⟩
def bI (b : Bool) : Int32 := if b = true then 1 else 0
/-- the steps made, in the model's columns -/
def rMk (ms : MS) (C : GS) : Prop := mI ms 40 = nI C.length ∧ ∀ i q, C[i]? = some q → mA ms 41 i = nI q.1 ∧ mA ms 42 i = nI q.2
theorem bI0 (b : Bool) : bI b = 0 ↔ b = false := by cases b <;> decide
theorem L_f90 {ms : MS} {t : List Nat} {k14 : MS → Int32 → Int32 → Option (Int32 × MS)} {c : Nat} {u o : Bool} (hp : rP ms t) (ht : ∀ z ∈ t, z < 128) (hc : c < 128) : ∀ (f N k d : Nat), d + f = 4 → f < N → k ≤ t.length → u = true ∧ 48 ≤ c ∧ c ≤ 57 → m_fault_L90 k14 N ms (bI u) (nI k) (nI c) (bI o) (nI d) = m_fault_J136 k14 ms (bI u) (nI (k + y_ex t f k)) (nI c) (bI o) := by
  intro f
  induction f with
  | zero =>
    intro N k d hd hN hk hu
    obtain ⟨N, rfl⟩ : ∃ m, N = m + 1 := ⟨N - 1, by omega⟩
    rw [m_fault_L90, if_neg (fun e => by rw [bI0, hu.1] at e; cases e), if_neg (fun e => (isD_n (show c < 65536 by omega)).mp e hu.2), hp.2.1]
    rw [y_ex, Nat.add_zero]
    by_cases q : t.length ≤ k
    · rw [if_pos (nI_le q (by have := hp.1; omega))]
    · rw [if_neg (nI_ge (by omega) (by have := hp.1; omega))]
      have hlt : k < t.length := by omega
      have hl := hp.1
      simp only [mrd_n (k := 1) (show k < mn 1 from (by omega : k < 30)), Option.bind_some]
      split
      · rfl
      · rw [if_pos (show (4 : Int32) ≤ nI d from nI_le (a := 4) (by omega) (by omega))]
  | succ f ih =>
    intro N k d hd hN hk hu
    obtain ⟨N, rfl⟩ : ∃ m, N = m + 1 := ⟨N - 1, by omega⟩
    have hl := hp.1
    rw [m_fault_L90, if_neg (fun e => by rw [bI0, hu.1] at e; cases e), if_neg (fun e => (isD_n (show c < 65536 by omega)).mp e hu.2), hp.2.1]
    rw [y_ex]
    by_cases q : t.length ≤ k
    · rw [if_pos (nI_le q (by omega)), List.getD_eq_getElem?_getD, List.getElem?_eq_none q]
      simp
    · have hlt : k < t.length := by omega
      have hgi : t[k]? = some t[k] := List.getElem?_eq_getElem hlt
      have hz := ht _ (List.getElem_mem hlt)
      have hgd : t.getD k 0 = t[k] := by rw [List.getD_eq_getElem?_getD, hgi]; rfl
      rw [if_neg (nI_ge hlt (by omega)), hgd]
      simp only [mrd_n (k := 1) (show k < mn 1 from (by omega : k < 30)), Option.bind_some, hp.2.2 k _ hgi, isD_n (show t[k] < 65536 by omega), nI_1]
      by_cases qd : 48 ≤ t[k] ∧ t[k] ≤ 57
      · rw [if_neg (show ¬ ¬ (48 ≤ t[k] ∧ t[k] ≤ 57) from fun w => w qd), if_pos qd, if_neg (show ¬ (4 : Int32) ≤ nI d from nI_ge (b := 4) (by omega) (by decide)), ih N (k + 1) (d + 1) (by omega) (by omega) (by omega) hu]
        rw [show k + 1 + y_ex t f (k + 1) = k + (1 + y_ex t f (k + 1)) by omega]
      · rw [if_pos (show ¬ (48 ≤ t[k] ∧ t[k] ≤ 57) from qd), if_neg qd, Nat.add_zero]
