def isLet (c : Nat) : Prop := 65 ≤ c ∧ c ≤ 76
def isDig (c : Nat) : Prop := 48 ≤ c ∧ c ≤ 57
/-- the number that begins at k -/
def y_nF (t : List Nat) : Nat → Nat → Nat → Nat
  | 0, _, n => n
  | k + 1, i, n => if 48 ≤ t.getD i 0 ∧ t.getD i 0 ≤ 57 then y_nF t k (i + 1) (10 * n + t.getD i 0 - 48) else n
def y_begin (t : List Nat) (k c : Nat) (G C : GS) : Option (GS × GS) :=
  if 65 ≤ c ∧ c ≤ 76 then some (y_set 4 G (C ++ [(1, c - 65)]))
  else if 48 ≤ c ∧ c ≤ 57 then some (y_set 4 G (C ++ [(0, y_nF t 4 k 0)]))
  else if (c = 40 ∨ c = 45 ∨ c = 64) ∧ y_deep G ≠ 5 then some ((if c = 45 then 200 else c, 0) :: G, C)
  else none
def y_go (c : Nat) (G C : GS) : Option (GS × GS) :=
  if (rk c = 1 ∧ y_cmpd G = true) ∨ rk c = 4 ∨ c = 40 ∨ (65 ≤ c ∧ c ≤ 76) ∨ (48 ≤ c ∧ c ≤ 57) then none
  else if rk c ≠ 0 then some ((c, 0) :: (y_set (if rk c = 1 then 2 else rk c) G C).1, (y_set (if rk c = 1 then 2 else rk c) G C).2)
  else if c = 63 then some ((63, (y_set 1 G C).2.length) :: (y_set 1 G C).1, (y_set 1 G C).2 ++ [(10, 0)])
  else if y_aw G ≠ (if c = 58 then 63 else 40) then none
  else match (y_cl G C).1 with
    | [] => none
    | q :: G2 => if c = 58 then some ((58, (y_cl G C).2.length) :: G2, cW ((y_cl G C).2 ++ [(9, 0)]) q.2 ((y_cl G C).2.length + 1)) else some (y_set 4 G2 (y_cl G C).2)
theorem isL_n {c : Nat} (hc : c < 65536) : m_isLetter (nI c) = 0 ↔ ¬ (65 ≤ c ∧ c ≤ 76) := by
  unfold m_isLetter
  by_cases q1 : c < 65
  · rw [if_pos (show nI c < (65 : Int32) from nI_lt (b := 65) q1 (by decide))]; simp; omega
  · rw [if_neg (show ¬ nI c < (65 : Int32) from nI_nlt (b := 65) (by omega) (by omega))]
    by_cases q2 : 76 < c
    · rw [if_pos (show (76 : Int32) < nI c from nI_lt (a := 76) q2 (by omega))]; simp; omega
    · rw [if_neg (show ¬ (76 : Int32) < nI c from nI_nlt (a := 76) (by omega) (by decide))]; simp; omega
theorem isD_n {c : Nat} (hc : c < 65536) : m_isDigit (nI c) = 0 ↔ ¬ (48 ≤ c ∧ c ≤ 57) := by
  unfold m_isDigit
  by_cases q1 : c < 48
  · rw [if_pos (show nI c < (48 : Int32) from nI_lt (b := 48) q1 (by decide))]; simp; omega
  · rw [if_neg (show ¬ nI c < (48 : Int32) from nI_nlt (b := 48) (by omega) (by omega))]
    by_cases q2 : 57 < c
    · rw [if_pos (show (57 : Int32) < nI c from nI_lt (a := 57) q2 (by omega))]; simp; omega
    · rw [if_neg (show ¬ (57 : Int32) < nI c from nI_nlt (a := 57) (by omega) (by decide))]; simp; omega
theorem L_begin {ms : MS} {σ : S} {t : List Nat} {G C : GS} {B k c : Nat} (h : rY ms t G C B) (hR : RM ms σ) (hB : B ≤ 30) (hk : t[k]? = some c) (ht : ∀ z ∈ t, z < 128) :
    (∀ q, y_begin t k c G C = some q → ∃ ms', m_begin ms (nI c) (nI k) = some (1, ms') ∧ rY ms' t q.1 q.2 (B + 1) ∧ RM ms' σ ∧ mI ms' 0 = mI ms 0) ∧ (y_begin t k c G C = none → m_begin ms (nI c) (nI k) = some (0, ms)) := by
  have hlt := (List.getElem?_eq_some_iff.mp hk).1
  have hc : c < 128 := ht c (List.mem_of_getElem? hk)
  have hp1 := h.1.1
  have hb := h.2.2.2.1
  have hbg := h.2.2.2.2.1
  have unit : ∀ (op n : Nat) (x y : Int32), x = nI op → y = nI n → ∃ ms', ((m_make ms x y).bind fun st1 => (m_settle st1 3).bind fun st2 => some ((1 : Int32), st2)) = some (1, ms') ∧ rY ms' t (y_set 4 G (C ++ [(op, n)])).1 (y_set 4 G (C ++ [(op, n)])).2 (B + 1) ∧ RM ms' σ ∧ mI ms' 0 = mI ms 0 := fun op n x y hx hy => by
    obtain ⟨m1, k1, k2, k3, k4⟩ := L_make (B' := B + 1) h hR (by omega) (by omega) (by omega) hx hy
    obtain ⟨m2, l1, l2, l3, l4⟩ := L_settle (r := 4) (x := 3) (by omega) (by decide +kernel) G (C ++ [(op, n)]) m1 1000 k2 k3 (by omega)
    refine ⟨m2, ?_, l2, l3, l4.trans k4⟩
    rw [k1]
    simp only [Option.bind_some]
    unfold m_settle
    rw [l1]
    rfl
  -- the number
  have num : ∀ (f i n : Nat), k ≤ i → i + f = k + 4 → i ≤ t.length → ∀ N, f < N → m_begin_L35 N ms (nI k) (nI n) (nI i) = m_begin_J87 ms (nI (y_nF t f i n)) := by
    intro f
    induction f with
    | zero =>
      intro i n h1 h2 h3 N hN
      obtain ⟨N, rfl⟩ : ∃ m, N = m + 1 := ⟨N - 1, by omega⟩
      have e4 : nI k + 4 = nI (k + 4) := by rw [show (4 : Int32) = nI 4 from rfl, nI_add]
      rw [m_begin_L35, h.1.2.1, e4, if_pos (show nI (k + 4) ≤ nI i from nI_le (by omega) (by omega))]
      simp [y_nF]
    | succ f ih =>
      intro i n h1 h2 h3 N hN
      obtain ⟨N, rfl⟩ : ∃ m, N = m + 1 := ⟨N - 1, by omega⟩
      have e4 : nI k + 4 = nI (k + 4) := by rw [show (4 : Int32) = nI 4 from rfl, nI_add]
      rw [m_begin_L35, h.1.2.1, e4]
      by_cases q : t.length ≤ i
      · rw [if_pos (nI_le q (by omega)), y_nF, List.getD_eq_getElem?_getD, List.getElem?_eq_none q]
        simp
      · have hil : i < t.length := by omega
        have hgi : t[i]? = some t[i] := List.getElem?_eq_getElem hil
        have hz := ht _ (List.getElem_mem hil)
        rw [if_neg (nI_ge hil (by omega)), if_neg (nI_ge (by omega) (by omega))]
        have hgd : t.getD i 0 = t[i] := by rw [List.getD_eq_getElem?_getD, hgi]; rfl
        simp only [mrd_n (k := 1) (show i < mn 1 from (by omega : i < 30)), Option.bind_some, h.1.2.2 i _ hgi, isD_n (show t[i] < 65536 by omega)]
        rw [y_nF, hgd]
        by_cases qd : 48 ≤ t[i] ∧ t[i] ≤ 57
        · rw [if_neg (fun w => w qd), if_pos qd]
          have e : (10 : Int32) * nI n + nI t[i] - 48 = nI (10 * n + t[i] - 48) := by
            rw [nI_mk 10 10 rfl, nI_add]
            obtain ⟨d, hd⟩ : ∃ d, 10 * n + t[i] = d + 48 := ⟨10 * n + t[i] - 48, by omega⟩
            rw [hd, show d + 48 - 48 = d by omega, ← nI_add, show (48 : Int32) = nI 48 from rfl, Int32.add_sub_cancel]
          rw [e, nI_1]
          exact ih (i + 1) _ (by omega) (by omega) (by omega) N (by omega)
        · rw [if_pos qd, if_neg qd]
  unfold m_begin y_begin
  simp only [isL_n (show c < 65536 by omega), isD_n (show c < 65536 by omega)]
  by_cases q1 : 65 ≤ c ∧ c ≤ 76
  · rw [if_neg (show ¬ ¬ (65 ≤ c ∧ c ≤ 76) from fun w => w q1), if_pos q1]
    refine ⟨fun q e => ?_, fun e => by cases e⟩
    cases e
    refine unit 1 (c - 65) 1 (nI c - 65) rfl ?_
    obtain ⟨d, hd⟩ : ∃ d, c = d + 65 := ⟨c - 65, by omega⟩
    rw [hd, show d + 65 - 65 = d by omega, ← nI_add, show (65 : Int32) = nI 65 from rfl, Int32.add_sub_cancel]
  rw [if_pos (show ¬ (65 ≤ c ∧ c ≤ 76) from q1), if_neg q1]
  by_cases q2 : 48 ≤ c ∧ c ≤ 57
  · rw [if_neg (show ¬ ¬ (48 ≤ c ∧ c ≤ 57) from fun w => w q2), if_pos q2]
    refine ⟨fun q e => ?_, fun e => by cases e⟩
    cases e
    rw [show (0 : Int32) = nI 0 from rfl, num 4 k 0 (Nat.le_refl _) rfl (by omega) 1000 (by decide)]
    exact unit 0 _ 0 _ rfl rfl
  rw [if_pos (show ¬ (48 ≤ c ∧ c ≤ 57) from q2), if_neg q2]
  have eq : ∀ j : Nat, j < 65536 → (nI c = nI j ↔ c = j) := fun j hj => nI_eq (by omega) (by omega)
  simp only [show (40 : Int32) = nI 40 from rfl, show (45 : Int32) = nI 45 from rfl, show (64 : Int32) = nI 64 from rfl, eq 40 (by decide), eq 45 (by decide), eq 64 (by decide)]
  have hdl := y_deep_le G
  have J : m_begin_J118 ms (nI c) = if y_deep G = 5 then some (0, ms) else if c = 45 then m_begin_J142 ms 200 else m_begin_J142 ms (nI c) := by
    unfold m_begin_J118
    rw [L_deep h.g h.2.1.1]
    simp only [Option.bind_some, show (5 : Int32) = nI 5 from rfl, nI_eq (show y_deep G < 2 ^ 31 by omega) (show 5 < 2 ^ 31 by decide), show (45 : Int32) = nI 45 from rfl, eq 45 (by decide)]
  have e3 : (if c = 40 then m_begin_J118 ms (nI c) else if c = 45 then m_begin_J118 ms (nI c) else if c = 64 then m_begin_J118 ms (nI c) else some (0, ms)) = if c = 40 ∨ c = 45 ∨ c = 64 then m_begin_J118 ms (nI c) else some (0, ms) := by
    by_cases z1 : c = 40
    · rw [if_pos z1, if_pos (Or.inl z1)]
    · rw [if_neg z1]
      by_cases z2 : c = 45
      · rw [if_pos z2, if_pos (Or.inr (Or.inl z2))]
      · rw [if_neg z2]
        by_cases z3 : c = 64
        · rw [if_pos z3, if_pos (Or.inr (Or.inr z3))]
        · rw [if_neg z3, if_neg (by omega)]
  rw [e3, J]
  by_cases q3 : c = 40 ∨ c = 45 ∨ c = 64
  · rw [if_pos q3]
    by_cases q5 : y_deep G = 5
    · rw [if_pos q5, if_neg (fun w => w.2 q5)]
      exact ⟨(fun q e => by cases e), fun _ => rfl⟩
    · rw [if_neg q5, if_pos ⟨q3, q5⟩]
      refine ⟨fun q e => ?_, fun e => by cases e⟩
      cases e
      have w01 : ∀ z : Nat, (if rk z = 0 then 0 else 1) ≤ 1 := fun z => by split <;> omega
      obtain ⟨m1, k1, k2, k3, k4⟩ := L_put (B' := B + 1) (c := if c = 45 then 200 else c) (n := 0) (x := nI (if c = 45 then 200 else c)) (y := 0) h hR (by have := w01 (if c = 45 then 200 else c); omega) (by omega) (by omega) (by split <;> omega) (fun w => by
        by_cases z : c = 45
        · rw [if_pos z] at w; omega
        · rw [if_neg z] at w; omega) rfl rfl
      refine ⟨m1, ?_, k2, k3, k4⟩
      have : (if c = 45 then m_begin_J142 ms 200 else m_begin_J142 ms (nI c)) = m_begin_J142 ms (nI (if c = 45 then 200 else c)) := by split <;> rfl
      rw [this]
      unfold m_begin_J142
      rw [k1]
      rfl
  · rw [if_neg q3, if_neg (fun w => q3 w.1)]
    exact ⟨(fun q e => by cases e), fun _ => rfl⟩
