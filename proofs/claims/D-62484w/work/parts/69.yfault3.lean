theorem L_fault {t : List Nat} {σ : S} (hl : t.length ≤ 30) (ht : ∀ z ∈ t, z < 128) : ∀ (n N : Nat) (u : Bool) (k : Nat) (G C : GS) (ms : MS) (r : Nat ⊕ GS), rY ms t G C k → RM ms σ → k ≤ t.length → n ≤ N → y_f t n u k G C = some r →
    ∃ v ms', m_fault_L14 N ms (bI u) (nI k) = some (v, ms') ∧ RM ms' σ ∧ rP ms' t ∧ mI ms' 0 = mI ms 0 ∧ (∀ j, r = .inl j → v = nI j) ∧ (∀ C', r = .inr C' → v = -1 ∧ rMk ms' C') := by
  intro n
  induction n with
  | zero => intro N u k G C ms r h hR hk hN e; cases e
  | succ n ih =>
    intro N u k G C ms r h hR hk hN e
    obtain ⟨N, rfl⟩ : ∃ m, N = m + 1 := ⟨N - 1, by omega⟩
    rw [y_f] at e
    rw [m_fault_L14, h.1.2.1]
    by_cases q : t.length ≤ k
    · rw [if_pos q] at e
      rw [if_pos (nI_le q (by omega))]
      unfold m_fault_J171
      rw [h.1.2.1]
      have bad : ∀ r : Nat ⊕ GS, r = .inl t.length → ∃ v ms', some (nI t.length, ms) = some (v, ms') ∧ RM ms' σ ∧ rP ms' t ∧ mI ms' 0 = mI ms 0 ∧ (∀ j, r = .inl j → v = nI j) ∧ (∀ C', r = .inr C' → v = -1 ∧ rMk ms' C') := fun r hr => ⟨_, ms, rfl, hR, h.1, rfl, fun j hj => by rw [hr] at hj; cases hj; rfl, fun C' hC => by rw [hr] at hC; cases hC⟩
      cases u with
      | true =>
        rw [if_pos (Or.inl rfl)] at e
        rw [if_neg (fun w => by rw [bI0] at w; cases w)]
        exact bad r (by cases e; rfl)
      | false =>
        rw [if_pos ((bI0 false).mpr rfl), L_awaits h.g h.2.1.1]
        have awl : y_aw G ≤ 200 := by
          rcases (y_cl_ok G C).2.2.2.1 with w | ⟨q, G', w1, w2⟩
          · omega
          · rw [← w2]; exact (h.2.2.2.2.2.2 q ((y_cl_ok G C).2.2.2.2 q (by rw [w1]; simp))).1
        simp only [Option.bind_some, nI0 (show y_aw G < 2 ^ 31 by omega)]
        by_cases qa : y_aw G = 0
        · rw [if_neg (fun w => by rcases w with w | w; cases w; exact w qa)] at e
          rw [if_pos qa]
          obtain ⟨m1, k1, k2, k3, k4⟩ := L_close h hR
          refine ⟨-1, m1, by rw [k1]; rfl, k3, k2.1, k4, fun j hj => ?_, fun C' hC => ?_⟩
          · cases e; cases hj
          · cases e; cases hC; exact ⟨rfl, k2.2.2.1⟩
        · rw [if_pos (Or.inr qa)] at e
          rw [if_neg qa]
          exact bad r (by cases e; rfl)
    · rw [if_neg q] at e
      have hlt : k < t.length := by omega
      have hgi : t[k]? = some t[k] := List.getElem?_eq_getElem hlt
      have hc := ht _ (List.getElem_mem hlt)
      have hgd : t.getD k 0 = t[k] := by rw [List.getD_eq_getElem?_getD, hgi]; rfl
      rw [hgd] at e
      rw [if_neg (nI_ge hlt (by omega))]
      simp only [mrd_n (k := 1) (show k < mn 1 from (by omega : k < 30)), Option.bind_some, h.1.2.2 k _ hgi]
      generalize t[k] = c at *
      have eq : ∀ j : Nat, j < 65536 → (nI c = nI j ↔ c = j) := fun j hj => nI_eq (by omega) (by omega)
      -- what follows a good character
      have fol : ∀ (q : GS × GS) (m1 : MS) (o : Bool), (u = true → o = (c == 40 || c == 45 || c == 64)) → rY m1 t q.1 q.2 (k + 1) → RM m1 σ → mI m1 0 = mI ms 0 → y_f t n (y_u u c) (y_k t u k c) q.1 q.2 = some r → ∃ v ms', m_fault_J84 (m_fault_L14 N) m1 (bI u) (nI k) (nI c) (bI o) = some (v, ms') ∧ RM ms' σ ∧ rP ms' t ∧ mI ms' 0 = mI ms 0 ∧ (∀ j, r = .inl j → v = nI j) ∧ (∀ C', r = .inr C' → v = -1 ∧ rMk ms' C') := fun q m1 o ho h1 hR1 h0 e => by
        have hyk : k + 1 ≤ y_k t u k c ∧ y_k t u k c ≤ t.length := by
          unfold y_k
          have := (y_ex_le t 3 (k + 1) (by omega)).1
          split <;> omega
        obtain ⟨v, ms', z1, z2, z3, z4, z5, z6⟩ := ih N (y_u u c) (y_k t u k c) q.1 q.2 m1 r (h1.mono hyk.1 (by omega)) hR1 hyk.2 (by omega) e
        refine ⟨v, ms', ?_, z2, z3, z4.trans h0, z5, z6⟩
        unfold m_fault_J84
        simp only [nI_1, Option.bind_some]
        have j136 : ∀ p : Nat, m_fault_J136 (m_fault_L14 N) m1 (bI u) (nI p) (nI c) (bI o) = m_fault_L14 N m1 (bI (y_u u c)) (nI p) := fun p => by
          unfold m_fault_J136 m_fault_J156 y_u
          simp only [show (41 : Int32) = nI 41 from rfl, eq 41 (by decide)]
          cases u with
          | true => rw [if_neg (fun w => by rw [bI0] at w; cases w), if_pos rfl, ho rfl]
          | false =>
            rw [if_pos ((bI0 false).mpr rfl), if_neg (show ¬ false = true by decide)]
            by_cases z : c = 41
            · subst z; rfl
            · rw [if_neg z, show (c != 41) = true by simpa using z]; rfl
        by_cases qd : u = true ∧ 48 ≤ c ∧ c ≤ 57
        · rw [show (1 : Int32) = nI 1 from rfl, L_f90 h1.1 ht hc 3 1000 (k + 1) 1 (by omega) (by decide) (by omega) qd, j136]
          rw [show k + 1 + y_ex t 3 (k + 1) = y_k t u k c by unfold y_k; rw [if_pos qd]]
          exact z1
        · have e2 : y_k t u k c = k + 1 := by unfold y_k; rw [if_neg qd]
          rw [e2] at z1
          rw [m_fault_L90]
          by_cases qu : u = false
          · rw [if_pos ((bI0 u).mpr qu), j136]; exact z1
          · have qu' : u = true := by simpa using qu
            rw [if_neg (fun w => qu ((bI0 u).mp w)), if_pos ((isD_n (show c < 65536 by omega)).mpr (fun w => qd ⟨qu', w⟩)), j136]; exact z1
      -- the character itself
      have J56 : ∀ o : Bool, (u = true → o = (c == 40 || c == 45 || c == 64)) → ∃ v ms', m_fault_J56 (m_fault_L14 N) ms (bI u) (nI k) (nI c) (bI o) = some (v, ms') ∧ RM ms' σ ∧ rP ms' t ∧ mI ms' 0 = mI ms 0 ∧ (∀ j, r = .inl j → v = nI j) ∧ (∀ C', r = .inr C' → v = -1 ∧ rMk ms' C') := fun o ho => by
        unfold m_fault_J56
        cases u with
        | true =>
          rw [if_neg (fun w => by rw [bI0] at w; cases w)]
          obtain ⟨b1, b2⟩ := L_begin h hR (by omega) hgi ht
          replace e : (match y_begin t k c G C with | none => some (.inl k) | some q => y_f t n (y_u true c) (y_k t true k c) q.1 q.2) = some r := e
          cases ey : y_begin t k c G C with
          | none =>
            rw [ey] at e
            rw [b2 ey]
            refine ⟨nI k, ms, rfl, hR, h.1, rfl, fun j hj => ?_, fun C' hC => ?_⟩
            · cases e; cases hj; rfl
            · cases e; cases hC
          | some q =>
            rw [ey] at e
            obtain ⟨m1, k1, k2, k3, k4⟩ := b1 q ey
            rw [k1]
            simp only [Option.bind_some]
            rw [if_neg (show ¬ (1 : Int32) = 0 by decide)]
            exact fol q m1 o ho k2 k3 k4 e
        | false =>
          rw [if_pos ((bI0 false).mpr rfl)]
          obtain ⟨b1, b2⟩ := L_goes h hR (by omega) hc
          replace e : (match y_go c G C with | none => some (.inl k) | some q => y_f t n (y_u false c) (y_k t false k c) q.1 q.2) = some r := e
          cases ey : y_go c G C with
          | none =>
            rw [ey] at e
            obtain ⟨m1, k1, k2, k3, k4⟩ := b2 ey
            rw [k1]
            refine ⟨nI k, m1, rfl, k2, k3, k4, fun j hj => ?_, fun C' hC => ?_⟩
            · cases e; cases hj; rfl
            · cases e; cases hC
          | some q =>
            rw [ey] at e
            obtain ⟨m1, k1, k2, k3, k4⟩ := b1 q ey
            rw [k1]
            simp only [Option.bind_some]
            rw [if_neg (show ¬ (1 : Int32) = 0 by decide)]
            exact fol q m1 o ho k2 k3 k4 e
      unfold m_fault_J51 m_fault_J55
      simp only [show (40 : Int32) = nI 40 from rfl, show (45 : Int32) = nI 45 from rfl, show (64 : Int32) = nI 64 from rfl, eq 40 (by decide), eq 45 (by decide), eq 64 (by decide)]
      by_cases qu : u = false
      · rw [if_pos ((bI0 u).mpr qu)]
        exact J56 false (fun w => by rw [qu] at w; cases w)
      · rw [if_neg (fun w => qu ((bI0 u).mp w))]
        by_cases z1 : c = 40
        · rw [if_pos z1]; exact J56 true (fun _ => by simp [z1])
        · rw [if_neg z1]
          by_cases z2 : c = 45
          · rw [if_pos z2]; exact J56 true (fun _ => by simp [z2])
          · rw [if_neg z2]
            by_cases z3 : c = 64
            · rw [if_pos z3]; exact J56 true (fun _ => by simp [z3])
            · rw [if_neg z3]; exact J56 false (fun _ => by simp [z1, z2, z3])
