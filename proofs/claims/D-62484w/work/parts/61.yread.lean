/-! the model's reader: signs (top first, with the place to be mended) and steps -/
def rk (c : Nat) : Nat := if c = 200 ∨ c = 64 then 4 else if c = 42 then 3 else if c = 43 ∨ c = 45 then 2 else if c = 60 ∨ c = 61 then 1 else 0
def opOf (c : Nat) : Nat := if c = 200 then 3 else if c = 64 then 2 else if c = 42 then 4 else if c = 43 then 5 else if c = 45 then 6 else if c = 60 then 7 else 8
abbrev GS : Type := List (Nat × Nat)
def y_w : GS → Nat
  | [] => 0
  | q :: G => (if rk q.1 = 0 then 0 else 1) + y_w G
def y_set (r : Nat) : GS → GS → GS × GS
  | [], C => ([], C)
  | q :: G, C => if r ≤ rk q.1 then y_set r G (C ++ [(opOf q.1, 0)]) else (q :: G, C)
def y_deep : GS → Nat
  | [] => 0
  | q :: G => (if q.1 = 40 ∨ rk q.1 = 4 then 1 else 0) + y_deep G
def y_cmpd : GS → Bool
  | [] => false
  | q :: G => if rk q.1 = 0 then false else (rk q.1 == 1) || y_cmpd G
def y_aw : GS → Nat
  | [] => 0
  | q :: G => if q.1 = 58 ∨ rk q.1 ≠ 0 then y_aw G else q.1
/-- pops the formulas behind a : , with the operators between -/
def y_cl : GS → GS → GS × GS
  | [], C => ([], C)
  | q :: G, C => if 1 ≤ rk q.1 then y_cl G (C ++ [(opOf q.1, 0)]) else if q.1 = 58 then y_cl G (cW C q.2 C.length) else (q :: G, C)
def rY (ms : MS) (t : List Nat) (G C : GS) (B : Nat) : Prop := rP ms t ∧ (mI ms 37 = nI G.length ∧ ∀ i q, G.reverse[i]? = some q → mA ms 38 i = nI q.1 ∧ mA ms 39 i = nI q.2) ∧ (mI ms 40 = nI C.length ∧ ∀ i q, C[i]? = some q → mA ms 41 i = nI q.1 ∧ mA ms 42 i = nI q.2) ∧ C.length + y_w G ≤ B ∧ G.length ≤ B ∧ B ≤ 31 ∧ (∀ q ∈ G, q.1 ≤ 200 ∧ (q.1 = 58 ∨ q.1 = 63 → q.2 < C.length))
theorem rank_n {c : Nat} (h : c ≤ 60000) : m_rank (nI c) = nI (rk c) - 1 := by
  have eq : ∀ k : Nat, k < 65536 → (nI c = nI k ↔ c = k) := fun k hk => nI_eq (by omega) (by omega)
  unfold m_rank m_rank_J13 m_rank_J39 m_rank_J55 rk
  simp only [show (200 : Int32) = nI 200 from rfl, show (64 : Int32) = nI 64 from rfl, show (42 : Int32) = nI 42 from rfl, show (43 : Int32) = nI 43 from rfl, show (45 : Int32) = nI 45 from rfl, show (60 : Int32) = nI 60 from rfl, show (61 : Int32) = nI 61 from rfl, eq 200 (by decide), eq 64 (by decide), eq 42 (by decide), eq 43 (by decide), eq 45 (by decide), eq 60 (by decide), eq 61 (by decide)]
  by_cases a1 : c = 200
  · rw [if_pos a1, if_pos (Or.inl a1)]; decide +kernel
  rw [if_neg a1]
  by_cases a2 : c = 64
  · rw [if_pos a2, if_pos (Or.inr a2)]; decide +kernel
  rw [if_neg a2, if_neg (show ¬ (c = 200 ∨ c = 64) by omega)]
  by_cases a3 : c = 42
  · rw [if_pos a3, if_pos a3]; decide +kernel
  rw [if_neg a3, if_neg a3]
  by_cases a4 : c = 43
  · rw [if_pos a4, if_pos (Or.inl a4)]; decide +kernel
  rw [if_neg a4]
  by_cases a5 : c = 45
  · rw [if_pos a5, if_pos (Or.inr a5)]; decide +kernel
  rw [if_neg a5, if_neg (show ¬ (c = 43 ∨ c = 45) by omega)]
  by_cases a6 : c = 60
  · rw [if_pos a6, if_pos (Or.inl a6)]; decide +kernel
  rw [if_neg a6]
  by_cases a7 : c = 61
  · rw [if_pos a7, if_pos (Or.inr a7)]; decide +kernel
  rw [if_neg a7, if_neg (show ¬ (c = 60 ∨ c = 61) by omega)]
  decide +kernel
theorem rk_le (c : Nat) : rk c ≤ 4 := by unfold rk; repeat (first | split | omega)
theorem rank_lt {c r : Nat} (h : c ≤ 60000) (hr : r ≤ 4) (x : Int32) (hx : x = nI r - 1) : m_rank (nI c) < x ↔ rk c < r := by
  rw [rank_n h, hx]
  have := rk_le c
  generalize rk c = k at *
  have : ∀ a, a ≤ 4 → ∀ b, b ≤ 4 → (nI a - 1 < nI b - 1 ↔ a < b) := by decide +kernel
  exact this k (by omega) r hr
theorem y_set_w (r : Nat) (hr : 1 ≤ r) : ∀ (G C : GS), (y_set r G C).2.length + y_w (y_set r G C).1 = C.length + y_w G ∧ (y_set r G C).1.length ≤ G.length ∧ C.length ≤ (y_set r G C).2.length ∧ ∀ q ∈ (y_set r G C).1, q ∈ G := by
  intro G
  induction G with
  | nil => intro C; exact ⟨rfl, Nat.le_refl _, Nat.le_refl _, fun q h => h⟩
  | cons q G ih =>
    intro C
    rw [y_set]
    split
    · rename_i h
      obtain ⟨h1, h2, h3, h4⟩ := ih (C ++ [(opOf q.1, 0)])
      rw [List.length_append, List.length_singleton] at h1 h3
      refine ⟨?_, by rw [List.length_cons]; omega, by omega, fun z hz => List.mem_cons_of_mem _ (h4 z hz)⟩
      rw [y_w, if_neg (by omega)]
      omega
    · exact ⟨rfl, Nat.le_refl _, Nat.le_refl _, fun q h => h⟩
