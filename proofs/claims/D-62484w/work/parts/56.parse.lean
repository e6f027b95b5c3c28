/-! reading a formula, as the class does it: place, whether it stopped, the steps so far (in the model's numbers) -/
abbrev PS : Type := Nat × Bool × List (Nat × Nat)
def pk (t : List Nat) (s : PS) : Nat := if s.2.1 = true then 0 else t.getD s.1 0
def pA (s : PS) : PS := (s.1 + 1, s.2)
def pPut (s : PS) (op n : Nat) : PS := (s.1, s.2.1, s.2.2 ++ [(op, n)])
def pStop (s : PS) : PS := (s.1, true, s.2.2)
def pNeed (t : List Nat) (s : PS) (c : Nat) : PS := if s.2.1 = true then s else if pk t s = c then pA s else pStop s
def cW (C : List (Nat × Nat)) (i v : Nat) : List (Nat × Nat) := match C[i]? with
  | some q => C.set i (q.1, v)
  | none => C
def pW (s : PS) (i v : Nat) : PS := (s.1, s.2.1, cW s.2.2 i v)
abbrev PF : Type := PS → Nat → Option PS
def p_formula (t : List Nat) (pc po : PF) (s : PS) (d : Nat) : Option PS :=
  (pc s d).bind fun s1 => if pk t s1 = 63 then
    (po (pPut (pA s1) 10 0) d).bind fun s2 =>
    (po (pW (pPut (pNeed t s2 58) 9 0) s1.2.2.length (s2.2.2.length + 1)) d).bind fun s3 => some (pW s3 s2.2.2.length s3.2.2.length)
  else some s1
def p_one (pf : PF) (s : PS) (d : Nat) : Option PS := if s.2.1 = true then some s else pf s d
def p_cmp (t : List Nat) (ps : PF) (s : PS) (d : Nat) : Option PS :=
  (ps s d).bind fun s1 => if pk t s1 = 60 ∨ pk t s1 = 61 then (ps (pA s1) d).bind fun s2 => some (pPut s2 (if pk t s1 = 60 then 7 else 8) 0) else some s1
def p_sumL (t : List Nat) (pp : PF) : Nat → PS → Nat → Option PS
  | 0, _, _ => none
  | n + 1, s, d => if pk t s = 43 ∨ pk t s = 45 then (pp (pA s) d).bind fun s2 => p_sumL t pp n (pPut s2 (if pk t s = 43 then 5 else 6) 0) d else some s
def p_sum (t : List Nat) (pp : PF) (s : PS) (d : Nat) : Option PS := (pp s d).bind fun s1 => p_sumL t pp 1000 s1 d
def p_prodL (t : List Nat) (pu : PF) : Nat → PS → Nat → Option PS
  | 0, _, _ => none
  | n + 1, s, d => if pk t s = 42 then (pu (pA s) d).bind fun s2 => p_prodL t pu n (pPut s2 4 0) d else some s
def p_prod (t : List Nat) (pu : PF) (s : PS) (d : Nat) : Option PS := (pu s d).bind fun s1 => p_prodL t pu 1000 s1 d
def p_dig (t : List Nat) : Nat → PS → Nat → PS × Nat
  | 0, s, n => (s, n)
  | k + 1, s, n => if 48 ≤ pk t s ∧ pk t s ≤ 57 then p_dig t k (pA s) (10 * n + pk t s - 48) else (s, n)
def p_unit (t : List Nat) (po pu : PF) (s : PS) (d : Nat) : Option PS :=
  if 65 ≤ pk t s ∧ pk t s ≤ 76 then some (pPut (pA s) 1 (pk t s - 65))
  else if 48 ≤ pk t s ∧ pk t s ≤ 57 then some (pPut (p_dig t 4 s 0).1 0 (p_dig t 4 s 0).2)
  else if d < 5 ∧ pk t s = 40 then (po (pA s) (d + 1)).bind fun s2 => some (pNeed t s2 41)
  else if d < 5 ∧ (pk t s = 45 ∨ pk t s = 64) then (pu (pA s) (d + 1)).bind fun s2 => some (pPut s2 (if pk t s = 45 then 3 else 2) 0)
  else some (pStop s)
def pn (t : List Nat) : Nat → PF × PF
  | 0 => (fun _ _ => none, fun _ _ => none)
  | n + 1 => (p_formula t (p_cmp t (p_sum t (p_prod t (p_one (pn t n).2)))) (p_one (pn t n).1), p_unit t (p_one (pn t n).1) (p_one (pn t n).2))
/-- what a text is: the steps, or the place where it stops -/
def p_read (t : List Nat) : Option PS := (pn t 100).1 (0, false, []) 0
/-- well-made from i to j: it leaves one value more; M is the highest -/
def tw (C : List (Nat × Nat)) (i j H M : Nat) : Prop := i < j ∧ ∃ h : Nat → Nat, h i = H ∧ h j = H + 1 ∧ (∀ pc, i ≤ pc → pc ≤ j → h pc ≤ M) ∧ ∀ pc, i ≤ pc → pc < j → ∃ op n, C[pc]? = some (op, n) ∧ op ≤ 10 ∧ n ≤ 9999 ∧
  (op = 0 → h (pc + 1) = h pc + 1) ∧ (op = 1 → n < 12 ∧ h (pc + 1) = h pc + 1) ∧ (op = 2 ∨ op = 3 → 1 ≤ h pc ∧ h (pc + 1) = h pc) ∧ (4 ≤ op ∧ op ≤ 8 → 2 ≤ h pc ∧ h (pc + 1) + 1 = h pc) ∧
  (op = 9 → pc < n ∧ n ≤ j ∧ h n = h pc) ∧ (op = 10 → 1 ≤ h pc ∧ h (pc + 1) + 1 = h pc ∧ pc < n ∧ n ≤ j ∧ h n + 1 = h pc)
theorem tw.wt {C : List (Nat × Nat)} {M : Nat} (h : tw C 0 C.length 0 M) (hM : M ≤ 15) (hl : C.length ≤ 40) : wt C := by
  obtain ⟨-, h, h1, h2, h3, h4⟩ := h
  refine ⟨h, h1, h2, hl, fun pc hp => Nat.le_trans (h3 pc (Nat.zero_le _) hp) hM, fun pc op n e => ?_⟩
  obtain ⟨op', n', e', r⟩ := h4 pc (Nat.zero_le _) (List.getElem?_eq_some_iff.mp e).1
  rw [e] at e'
  cases e'
  exact r
theorem tw.cg {C C' : List (Nat × Nat)} {i j H M : Nat} (h : tw C i j H M) (hc : ∀ pc, i ≤ pc → pc < j → C'[pc]? = C[pc]?) : tw C' i j H M := by
  obtain ⟨h0, h, h1, h2, h3, h4⟩ := h
  exact ⟨h0, h, h1, h2, h3, fun pc a b => by rw [hc pc a b]; exact h4 pc a b⟩
theorem tw.le {C : List (Nat × Nat)} {i j H M M' : Nat} (h : tw C i j H M) (hm : M ≤ M') : tw C i j H M' := by
  obtain ⟨h0, h, h1, h2, h3, h4⟩ := h
  exact ⟨h0, h, h1, h2, fun pc a b => Nat.le_trans (h3 pc a b) hm, h4⟩
/-- one step that gives a value -/
theorem tw_leaf {C : List (Nat × Nat)} {i H op n : Nat} (e : C[i]? = some (op, n)) (hop : op = 0 ∨ (op = 1 ∧ n < 12)) (hn : n ≤ 9999) : tw C i (i + 1) H (H + 1) := by
  refine ⟨by omega, fun pc => if pc ≤ i then H else H + 1, by simp, by simp, fun pc a b => by dsimp only; split <;> omega, fun pc a b => ?_⟩
  have : pc = i := by omega
  subst this
  refine ⟨op, n, e, by omega, hn, ?_, ?_, ?_, ?_, ?_, ?_⟩ <;> simp <;> omega
theorem tw_un {C : List (Nat × Nat)} {i j H M op n : Nat} (h : tw C i j H M) (e : C[j]? = some (op, n)) (hop : op = 2 ∨ op = 3) (hn : n ≤ 9999) : tw C i (j + 1) H M := by
  obtain ⟨h0, h, h1, h2, h3, h4⟩ := h
  refine ⟨by omega, fun pc => if pc ≤ j then h pc else H + 1, by dsimp only; rw [if_pos (by omega)]; exact h1, by dsimp only; rw [if_neg (by omega)], fun pc a b => ?_, fun pc a b => ?_⟩
  · have := h3 j (by omega) (Nat.le_refl _)
    dsimp only
    split
    · exact h3 pc a (by omega)
    · omega
  · by_cases q : pc = j
    · subst q
      refine ⟨op, n, e, by omega, hn, fun z => by omega, fun z => by omega, fun _ => ?_, fun z => by omega, fun z => by omega, fun z => by omega⟩
      dsimp only
      rw [if_pos (Nat.le_refl _), if_neg (by omega), h2]
      omega
    · obtain ⟨op', n', e', r1, r2, r3, r4, r5, r6, r7, r8⟩ := h4 pc a (by omega)
      refine ⟨op', n', e', r1, r2, fun z => ?_, fun z => ?_, fun z => ?_, fun z => ?_, fun z => ?_, fun z => ?_⟩
      · dsimp only; rw [if_pos (by omega), if_pos (by omega)]; exact r3 z
      · dsimp only; rw [if_pos (by omega), if_pos (by omega)]; exact r4 z
      · dsimp only; rw [if_pos (by omega), if_pos (by omega)]; exact r5 z
      · dsimp only; rw [if_pos (by omega), if_pos (by omega)]; exact r6 z
      · obtain ⟨x1, x2, x3⟩ := r7 z
        dsimp only; rw [if_pos (by omega), if_pos (by omega)]; exact ⟨x1, by omega, x3⟩
      · obtain ⟨x1, x2, x3, x4, x5⟩ := r8 z
        dsimp only; rw [if_pos (by omega), if_pos (by omega), if_pos (by omega)]; exact ⟨x1, x2, x3, by omega, x5⟩
theorem tw_bin {C : List (Nat × Nat)} {i j k H M op n : Nat} (h : tw C i j H M) (g : tw C j k (H + 1) M) (e : C[k]? = some (op, n)) (hop : 4 ≤ op ∧ op ≤ 8) (hn : n ≤ 9999) : tw C i (k + 1) H M := by
  obtain ⟨h0, h, h1, h2, h3, h4⟩ := h
  obtain ⟨g0, g, g1, g2, g3, g4⟩ := g
  refine ⟨by omega, fun pc => if pc ≤ j then h pc else if pc ≤ k then g pc else H + 1, by dsimp only; rw [if_pos (by omega)]; exact h1, by dsimp only; rw [if_neg (by omega), if_neg (by omega)], fun pc a b => ?_, fun pc a b => ?_⟩
  · have := h3 j (by omega) (Nat.le_refl _)
    dsimp only
    split
    · exact h3 pc a (by omega)
    · split
      · exact g3 pc (by omega) (by omega)
      · omega
  · by_cases q : pc = k
    · subst q
      refine ⟨op, n, e, by omega, hn, fun z => by omega, fun z => by omega, fun z => by omega, fun _ => ?_, fun z => by omega, fun z => by omega⟩
      dsimp only
      rw [if_neg (by omega), if_pos (Nat.le_refl _), if_neg (by omega), if_neg (by omega), g2]
      omega
    · by_cases qj : pc < j
      · obtain ⟨op', n', e', r1, r2, r3, r4, r5, r6, r7, r8⟩ := h4 pc a qj
        refine ⟨op', n', e', r1, r2, fun z => ?_, fun z => ?_, fun z => ?_, fun z => ?_, fun z => ?_, fun z => ?_⟩
        · dsimp only; rw [if_pos (by omega), if_pos (by omega)]; exact r3 z
        · dsimp only; rw [if_pos (by omega), if_pos (by omega)]; exact r4 z
        · dsimp only; rw [if_pos (by omega), if_pos (by omega)]; exact r5 z
        · dsimp only; rw [if_pos (by omega), if_pos (by omega)]; exact r6 z
        · obtain ⟨x1, x2, x3⟩ := r7 z
          dsimp only; rw [if_pos (by omega), if_pos (by omega)]; exact ⟨x1, by omega, x3⟩
        · obtain ⟨x1, x2, x3, x4, x5⟩ := r8 z
          dsimp only; rw [if_pos (by omega), if_pos (by omega), if_pos (by omega)]; exact ⟨x1, x2, x3, by omega, x5⟩
      · obtain ⟨op', n', e', r1, r2, r3, r4, r5, r6, r7, r8⟩ := g4 pc (by omega) (by omega)
        have hh : ∀ q, j ≤ q → q ≤ k → (if q ≤ j then h q else if q ≤ k then g q else H + 1) = g q := fun q a b => by
          by_cases z : q ≤ j
          · have : q = j := by omega
            subst this
            rw [if_pos z, h2, g1]
          · rw [if_neg z, if_pos b]
        refine ⟨op', n', e', r1, r2, fun z => ?_, fun z => ?_, fun z => ?_, fun z => ?_, fun z => ?_, fun z => ?_⟩
        · dsimp only; rw [hh _ (by omega) (by omega), hh _ (by omega) (by omega)]; exact r3 z
        · dsimp only; rw [hh _ (by omega) (by omega), hh _ (by omega) (by omega)]; exact r4 z
        · dsimp only; rw [hh _ (by omega) (by omega), hh _ (by omega) (by omega)]; exact r5 z
        · dsimp only; rw [hh _ (by omega) (by omega), hh _ (by omega) (by omega)]; exact r6 z
        · obtain ⟨x1, x2, x3⟩ := r7 z
          dsimp only; rw [hh _ (by omega) (by omega), hh _ (by omega) (by omega)]; exact ⟨x1, by omega, x3⟩
        · obtain ⟨x1, x2, x3, x4, x5⟩ := r8 z
          dsimp only; rw [hh _ (by omega) (by omega), hh _ (by omega) (by omega), hh _ (by omega) (by omega)]; exact ⟨x1, x2, x3, by omega, x5⟩
/-- a choice: condition, ZERO, the one, JUMP, the other -/
theorem tw_if {C : List (Nat × Nat)} {i j k l H M : Nat} (h : tw C i j H M) (e : C[j]? = some (10, k + 1)) (g : tw C (j + 1) k H M) (e2 : C[k]? = some (9, l)) (f : tw C (k + 1) l H M) (hl : l ≤ 9999) : tw C i l H M := by
  obtain ⟨h0, h, h1, h2, h3, h4⟩ := h
  obtain ⟨g0, g, g1, g2, g3, g4⟩ := g
  obtain ⟨f0, f, f1, f2, f3, f4⟩ := f
  have hh : ∀ q, q ≤ j → (if q ≤ j then h q else if q ≤ k then g q else f q) = h q := fun q a => by rw [if_pos a]
  have hg : ∀ q, j < q → q ≤ k → (if q ≤ j then h q else if q ≤ k then g q else f q) = g q := fun q a b => by rw [if_neg (by omega), if_pos b]
  have hf : ∀ q, k < q → (if q ≤ j then h q else if q ≤ k then g q else f q) = f q := fun q a => by rw [if_neg (by omega), if_neg (by omega)]
  refine ⟨by omega, fun pc => if pc ≤ j then h pc else if pc ≤ k then g pc else f pc, by dsimp only; rw [hh _ (by omega)]; exact h1, by dsimp only; rw [hf _ (by omega)]; exact f2, fun pc a b => ?_, fun pc a b => ?_⟩
  · dsimp only
    split
    · exact h3 pc a (by omega)
    · split
      · exact g3 pc (by omega) (by omega)
      · exact f3 pc (by omega) (by omega)
  · dsimp only
    by_cases q : pc = j
    · subst q
      refine ⟨10, k + 1, e, by omega, by omega, fun z => by omega, fun z => by omega, fun z => by omega, fun z => by omega, fun z => by omega, fun _ => ?_⟩
      rw [hh _ (Nat.le_refl _), hg _ (by omega) (by omega), hf _ (by omega), h2, g1, f1]
      omega
    by_cases q2 : pc = k
    · subst q2
      refine ⟨9, l, e2, by omega, hl, fun z => by omega, fun z => by omega, fun z => by omega, fun z => by omega, fun _ => ?_, fun z => by omega⟩
      rw [hg _ (by omega) (Nat.le_refl _), hf _ (by omega), g2, f2]
      omega
    by_cases qj : pc < j
    · obtain ⟨op', n', e', r1, r2, r3, r4, r5, r6, r7, r8⟩ := h4 pc a qj
      refine ⟨op', n', e', r1, r2, fun z => ?_, fun z => ?_, fun z => ?_, fun z => ?_, fun z => ?_, fun z => ?_⟩
      · rw [hh _ (by omega), hh _ (by omega)]; exact r3 z
      · rw [hh _ (by omega), hh _ (by omega)]; exact r4 z
      · rw [hh _ (by omega), hh _ (by omega)]; exact r5 z
      · rw [hh _ (by omega), hh _ (by omega)]; exact r6 z
      · obtain ⟨x1, x2, x3⟩ := r7 z
        rw [hh _ (by omega), hh _ (by omega)]; exact ⟨x1, by omega, x3⟩
      · obtain ⟨x1, x2, x3, x4, x5⟩ := r8 z
        rw [hh _ (by omega), hh _ (by omega), hh _ (by omega)]; exact ⟨x1, x2, x3, by omega, x5⟩
    by_cases qk : pc < k
    · obtain ⟨op', n', e', r1, r2, r3, r4, r5, r6, r7, r8⟩ := g4 pc (by omega) qk
      refine ⟨op', n', e', r1, r2, fun z => ?_, fun z => ?_, fun z => ?_, fun z => ?_, fun z => ?_, fun z => ?_⟩
      · rw [hg _ (by omega) (by omega), hg _ (by omega) (by omega)]; exact r3 z
      · rw [hg _ (by omega) (by omega), hg _ (by omega) (by omega)]; exact r4 z
      · rw [hg _ (by omega) (by omega), hg _ (by omega) (by omega)]; exact r5 z
      · rw [hg _ (by omega) (by omega), hg _ (by omega) (by omega)]; exact r6 z
      · obtain ⟨x1, x2, x3⟩ := r7 z
        rw [hg _ (by omega) (by omega), hg _ (by omega) (by omega)]; exact ⟨x1, by omega, x3⟩
      · obtain ⟨x1, x2, x3, x4, x5⟩ := r8 z
        rw [hg _ (by omega) (by omega), hg _ (by omega) (by omega), hg _ (by omega) (by omega)]; exact ⟨x1, x2, x3, by omega, x5⟩
    · obtain ⟨op', n', e', r1, r2, r3, r4, r5, r6, r7, r8⟩ := f4 pc (by omega) (by omega)
      refine ⟨op', n', e', r1, r2, fun z => ?_, fun z => ?_, fun z => ?_, fun z => ?_, fun z => ?_, fun z => ?_⟩
      · rw [hf _ (by omega), hf _ (by omega)]; exact r3 z
      · rw [hf _ (by omega), hf _ (by omega)]; exact r4 z
      · rw [hf _ (by omega), hf _ (by omega)]; exact r5 z
      · rw [hf _ (by omega), hf _ (by omega)]; exact r6 z
      · obtain ⟨x1, x2, x3⟩ := r7 z
        rw [hf _ (by omega), hf _ (by omega)]; exact ⟨x1, by omega, x3⟩
      · obtain ⟨x1, x2, x3, x4, x5⟩ := r8 z
        rw [hf _ (by omega), hf _ (by omega), hf _ (by omega)]; exact ⟨x1, x2, x3, by omega, x5⟩
