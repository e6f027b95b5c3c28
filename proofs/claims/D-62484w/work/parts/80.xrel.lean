/-! the class' heap against the abstract sheet: a layout K gives the address of an object by family and number -/
theorem hG_of {st : HS} {a C k : Nat} {fs : List Value} {v : Value} (e : st.1 a = some (.inl (C, fs))) (hC : C < 100) (hk : fs[k]? = some v) : hG st a C k = some v := by
  unfold hG
  rw [e]
  dsimp only
  rw [if_pos (Nat.mod_eq_of_lt hC), hk]
theorem hI_of {st : HS} {a C k : Nat} {fs : List Value} {v : Int32} (e : st.1 a = some (.inl (C, fs))) (hC : C < 100) (hk : fs[k]? = some (.int v)) : hI st a C k = some v := by
  unfold hI
  rw [hG_of e hC hk]
theorem hJ_of {st : HS} {a C k : Nat} {fs : List Value} {v : Int64} (e : st.1 a = some (.inl (C, fs))) (hC : C < 100) (hk : fs[k]? = some (.long v)) : hJ st a C k = some v := by
  unfold hJ
  rw [hG_of e hC hk]
theorem hR_of {st : HS} {a C k b : Nat} {fs : List Value} (e : st.1 a = some (.inl (C, fs))) (hC : C < 100) (hk : fs[k]? = some (.ref b)) : hR st a C k = some (some b) := by
  unfold hR
  rw [hG_of e hC hk]
theorem hR_no {st : HS} {a C k : Nat} {fs : List Value} (e : st.1 a = some (.inl (C, fs))) (hC : C < 100) (hk : fs[k]? = some .null) : hR st a C k = some none := by
  unfold hR
  rw [hG_of e hC hk]
theorem hIs_of {st : HS} {a C : Nat} {fs : List Value} (e : st.1 a = some (.inl (C, fs))) (hC : C < 100) : hIs st a C = some () := by
  unfold hIs
  rw [e]
  dsimp only
  rw [if_pos (Nat.mod_eq_of_lt hC)]
theorem hP_of {st : HS} {a C k : Nat} {fs : List Value} {v : Value} (e : st.1 a = some (.inl (C, fs))) (hk : k < fs.length) : hP st a C k v = some (hSet st a (.inl (C, fs.set k v))) := by
  unfold hP
  rw [e]
  dsimp only
  rw [if_pos ⟨rfl, hk⟩]
theorem hSet_s (st : HS) (a q : Nat) (e : Ent) : (hSet st a e).1 q = if q = a then some e else st.1 q := rfl
theorem hSet_2 (st : HS) (a : Nat) (e : Ent) : (hSet st a e).2 = st.2 := rfl
theorem hPush_s (st : HS) (q n : Nat) (e : Ent) : (hPush st e n).1 q = if q = hNx st then some e else st.1 q := rfl
theorem hAi_of {st : HS} {a ty n j : Nat} {f : Nat → Int32} (e : st.1 a = some (.inr (ty, n, .inl f))) (ht : ty < 100) (hj : j < n) (hn : n < 2 ^ 31) : hAi st a ty (nI j) = some (f j) := by
  unfold hAi
  rw [e]
  dsimp only
  rw [if_pos (Nat.mod_eq_of_lt ht), ix_nI hj hn]
  rfl
theorem hAr_of {st : HS} {a ty n j : Nat} {f : Nat → Option Nat} (e : st.1 a = some (.inr (ty, n, .inr (.inr (.inr (.inr f)))))) (hj : j < n) (hn : n < 2 ^ 31) : hAr st a ty (nI j) = some (f j) := by
  unfold hAr
  rw [e]
  dsimp only
  rw [if_pos rfl, ix_nI hj hn]
  rfl
theorem hAl_of {st : HS} {a n j : Nat} {f : Nat → Int64} (e : st.1 a = some (.inr (3, n, .inr (.inl f)))) (hj : j < n) (hn : n < 2 ^ 31) : hAl st a (nI j) = some (f j) := by
  unfold hAl
  rw [e]
  dsimp only
  rw [if_pos rfl, ix_nI hj hn]
  rfl
theorem hWl_of {st : HS} {a n j : Nat} {f : Nat → Int64} {v : Int64} (e : st.1 a = some (.inr (3, n, .inr (.inl f)))) (hj : j < n) (hn : n < 2 ^ 31) : hWl st a (nI j) v = some (hSet st a (.inr (3, n, .inr (.inl (vp_updL f j v))))) := by
  unfold hWl
  rw [e]
  dsimp only
  rw [if_pos rfl, ix_nI hj hn]
  rfl
theorem hWi_of {st : HS} {a ty n j : Nat} {f : Nat → Int32} {v : Int32} (e : st.1 a = some (.inr (ty, n, .inl f))) (hj : j < n) (hn : n < 2 ^ 31) : hWi st a ty (nI j) v = some (hSet st a (.inr (ty, n, .inl (upd f j v)))) := by
  unfold hWi
  rw [e]
  dsimp only
  rw [if_pos rfl, ix_nI hj hn]
  rfl
theorem hWr_of {st : HS} {a ty n j v : Nat} {f : Nat → Option Nat} (e : st.1 a = some (.inr (ty, n, .inr (.inr (.inr (.inr f)))))) (hv : hIs st v (hco ty) = some ()) (ht : 4 ≤ ty ∧ ty ≤ 5) (hj : j < n) (hn : n < 2 ^ 31) : hWr st a ty (nI j) v = some (hSet st a (.inr (ty, n, .inr (.inr (.inr (.inr (va_up f j (some v)))))))) := by
  unfold hWr
  rw [e, hv]
  dsimp only
  rw [if_pos ⟨rfl, ht⟩, ix_nI hj hn]
  rfl
theorem hLen_of {st : HS} {a ty n : Nat} {x : (Nat → Int32) ⊕ (Nat → Int64) ⊕ (Nat → UInt32) ⊕ (Nat → UInt64) ⊕ (Nat → Option Nat)} (e : st.1 a = some (.inr (ty, n, x))) (ht : ty % 100 ≤ 5) : hLen st a = some (nI n) := by
  unfold hLen
  rw [e]
  dsimp only
  rw [if_pos ht]
def opX (op : Nat) : Nat := if op = 3 then 6 else if op = 4 then 5 else if op = 5 then 3 else if op = 6 then 4 else if op = 9 then 10 else if op = 10 then 9 else op
/-- the fields of a cell, a note, the sheet -/
def cL (K : Nat → Nat → Nat) (σ : S) (o : Nat → Int32) (c : Nat) (v : Value) : List Value := [.int (nI c), .int (if sN σ 5 c = 0 then 1 else 0), .int (nI (sN σ 35 c)), .int (sI σ 12 c), .int (nI (sN σ 13 c)), .int (nI (sN σ 14 c)), .int (nI (sN σ 11 c)), v, if sN σ 15 c = 0 then .null else .ref (K 2 c), .int (sI σ 25 (3 * c) + o c), .int (sI σ 25 (3 * c + 1)), .int (sI σ 25 (3 * c + 2))]
def nL (K : Nat → Nat → Nat) (σ : S) (c : Nat) : List Value := [.int (nI (sN σ 16 c)), .long (sL σ c), .int (nI (sN σ 18 c)), .int (nI (sN σ 19 c)), .int (nI (sN σ 20 c)), .int (sI σ 23 c), .ref (K 3 c), .int (nI (sR σ c).length)]
def sLs0 (K : Nat → Nat → Nat) (σ : S) (kept : Nat) (p : Int32) : List Value := [.int (nI kept), .ref (K 9 0), .ref (K 10 0), .ref (K 12 0), .int (nI (rev σ)), .int (sI σ 24 0), .int (sI σ 26 0 + p), .int (sI σ 26 1), .int (sI σ 26 2), .ref (K 15 0)]
def rdsOk (K : Nat → Nat → Nat) (rs : List Nat) (f : Nat → Option Nat) : Prop := (∀ r ∈ rs, r < 12) ∧ rs.Nodup ∧ ∀ i r, rs[i]? = some r → f i = some (K 1 r)
/-- what lies at a place of the layout -/
def xE (kc : Nat → Nat) (K : Nat → Nat → Nat) (σ : S) (kept : Nat) (p : Int32) (o : Nat → Int32) (pad : List Nat) (f a : Nat) (e : Ent) : Prop := match f with
  | 0 => e = .inl (0, sLs0 K σ kept p) ∧ rev σ < B20
  | 1 => (∃ v, (sN σ 5 a ≠ 0 → v = .ref (K 4 a)) ∧ e = .inl (1, cL K σ o a v)) ∧ sN σ 35 a ≤ 1 ∧ sN σ 13 a ≤ 2 ∧ sN σ 14 a < B20 ∧ sN σ 11 a < B20
  | 2 => e = .inl (3, nL K σ a) ∧ sN σ 16 a ≤ 1 ∧ sN σ 18 a < B20 ∧ sN σ 19 a < B20 ∧ sN σ 20 a ≤ 2 ∧ ∃ x, sL σ a = enc x
  | 3 => ∃ g, e = .inr (4, 12, .inr (.inr (.inr (.inr g)))) ∧ rdsOk K (sR σ a) g
  | 4 => e = .inl (2, [.ref (K 5 a), .ref (K 7 a), .ref (K 8 a)]) ∧ wt (sC σ a) ∧ (sT σ a).length ≤ 30 ∧ ∀ x ∈ sT σ a, okc x
  | 5 => e = .inl (6, [.ref (K 6 a), .int 0])
  | 6 => ∃ g, e = .inr (1, (sT σ a).length, .inl g) ∧ ∀ i x, (sT σ a)[i]? = some x → g i = nI x
  | 7 => ∃ g, e = .inr (5, (sC σ a).length, .inr (.inr (.inr (.inr g)))) ∧ ∀ i q, (sC σ a)[i]? = some q → g i = some (kc (opX q.1))
  | 8 => ∃ g, e = .inr (0, (sC σ a).length, .inl g) ∧ ∀ i q, (sC σ a)[i]? = some q → g i = nI q.2
  | 9 => ∃ g, e = .inr (4, 12, .inr (.inr (.inr (.inr g)))) ∧ ∀ c, c < 12 → g c = some (K 1 c)
  | 10 => ∃ w, e = .inl (5, [.ref (K 11 0), .int 0, .int w, .int (nI pad.length)])
  | 11 => ∃ N g, e = .inr (1, N, .inl g) ∧ pad.length ≤ N ∧ (N = 16 ∨ N = 34) ∧ (∀ i x, pad[i]? = some x → g i = nI x) ∧ ∀ i, i < N → fits .byte (.int (g i)) = true
  | 12 => ∃ w1 w2 w3 w4, e = .inl (4, [w1, .int w2, .int w3, .int w4, .ref (K 13 0), .ref (K 14 0)])
  | 13 => ∃ g, e = .inr (5, 64, .inr (.inr (.inr (.inr g))))
  | 14 => ∃ g, e = .inr (0, 64, .inl g)
  | 15 => ∃ g, e = .inr (0, 3, .inl g) ∧ ∀ d, d ≤ 2 → g d = nI (sN σ 4 d) ∧ sN σ 4 d < B20
  | _ => False
/-- what is there -/
def lv (σ : S) (f a : Nat) : Prop := match f with
  | 1 => a < 12
  | 2 | 3 => a < 12 ∧ sN σ 15 a ≠ 0
  | 4 | 5 | 6 | 7 | 8 => a < 12 ∧ sN σ 5 a ≠ 0
  | 0 | 9 | 10 | 11 | 12 | 13 | 14 | 15 => a = 0
  | _ => False
def xc (st : HS) : Prop := (∀ i, i < 11 → hKc st i < hNx st ∧ st.1 (hKc st i) = some (.inl (108, [.int (nI i)]))) ∧ hKc st 11 < hNx st ∧ ∃ b g, b < hNx st ∧ st.1 (hKc st 11) = some (.inl (106, [.ref b, .int 0])) ∧ st.1 b = some (.inr (101, 10, .inl g)) ∧ ∀ i x, ([43, 45, 42, 60, 61, 63, 58, 40, 41, 64] : List Nat)[i]? = some x → g i = nI x
def RX (st : HS) (K : Nat → Nat → Nat) (σ : S) (kept : Nat) (p : Int32) (o : Nat → Int32) (pad : List Nat) : Prop :=
  (∀ f a, lv σ f a → ∃ e, st.1 (K f a) = some e ∧ xE (hKc st) K σ kept p o pad f a e) ∧ (∀ f a, lv σ f a → K f a < hNx st) ∧ (∀ f a g b, lv σ f a → lv σ g b → K f a = K g b → f = g ∧ a = b) ∧ xc st ∧ 1 ≤ kept ∧ kept ≤ 12
theorem xE_st {kc : Nat → Nat} {K : Nat → Nat → Nat} {σ : S} {kept : Nat} {p : Int32} {o : Nat → Int32} {pad : List Nat} {f a : Nat} {e : Ent} (h : xE kc K σ kept p o pad f a e) : (∃ ci fs, e = .inl (ci, fs) ∧ ci < 100) ∨ ∃ k x, e = .inr (k, x) ∧ k < 100 := by
  unfold xE at h
  split at h
  · exact Or.inl ⟨_, _, h.1, by decide⟩
  · obtain ⟨⟨v, -, h⟩, -⟩ := h; exact Or.inl ⟨_, _, h, by decide⟩
  · exact Or.inl ⟨_, _, h.1, by decide⟩
  · obtain ⟨g, h, -⟩ := h; exact Or.inr ⟨_, _, h, by decide⟩
  · exact Or.inl ⟨_, _, h.1, by decide⟩
  · exact Or.inl ⟨_, _, h, by decide⟩
  · obtain ⟨g, h, -⟩ := h; exact Or.inr ⟨_, _, h, by decide⟩
  · obtain ⟨g, h, -⟩ := h; exact Or.inr ⟨_, _, h, by decide⟩
  · obtain ⟨g, h, -⟩ := h; exact Or.inr ⟨_, _, h, by decide⟩
  · obtain ⟨g, h, -⟩ := h; exact Or.inr ⟨_, _, h, by decide⟩
  · obtain ⟨g, h⟩ := h; exact Or.inl ⟨_, _, h, by decide⟩
  · obtain ⟨N, g, h, -⟩ := h; exact Or.inr ⟨_, _, h, by decide⟩
  · obtain ⟨w1, w2, w3, w4, h⟩ := h; exact Or.inl ⟨_, _, h, by decide⟩
  · obtain ⟨g, h⟩ := h; exact Or.inr ⟨_, _, h, by decide⟩
  · obtain ⟨g, h⟩ := h; exact Or.inr ⟨_, _, h, by decide⟩
  · obtain ⟨g, h, -⟩ := h; exact Or.inr ⟨_, _, h, by decide⟩
  · cases h
theorem RX.at {st : HS} {K : Nat → Nat → Nat} {σ : S} {kept : Nat} {p : Int32} {o : Nat → Int32} {pad : List Nat} (h : RX st K σ kept p o pad) {f a : Nat} (hl : lv σ f a) : ∃ e, st.1 (K f a) = some e ∧ xE (hKc st) K σ kept p o pad f a e := h.1 f a hl
/-- constants are no objects of the layout -/
theorem xc.kept {st st' : HS} (h : xc st) (h2 : st'.2.2.2 = st.2.2.2) (hn : hNx st ≤ hNx st') (hs : ∀ q e, q < hNx st → st.1 q = some e → ¬ ((∃ ci fs, e = .inl (ci, fs) ∧ ci < 100) ∨ ∃ k x, e = .inr (k, x) ∧ k < 100) → st'.1 q = some e) : xc st' := by
  obtain ⟨h1, h3, b, g, h4, h5, h6, h7⟩ := h
  have hk : hKc st' = hKc st := by unfold hKc; rw [h2]
  refine ⟨fun i hi => ?_, ?_, b, g, by omega, ?_, ?_, h7⟩
  · obtain ⟨k1, k2⟩ := h1 i hi
    rw [hk]
    refine ⟨by omega, hs _ _ k1 k2 ?_⟩
    rintro (⟨ci, fs, e, q⟩ | ⟨k, x, e, q⟩)
    · cases e; omega
    · cases e
  · rw [hk]; omega
  · rw [hk]
    refine hs _ _ h3 h5 ?_
    rintro (⟨ci, fs, e, q⟩ | ⟨k, x, e, q⟩)
    · cases e; omega
    · cases e
  · refine hs _ _ h4 h6 ?_
    rintro (⟨ci, fs, e, q⟩ | ⟨k, x, e, q⟩)
    · cases e
    · cases e; omega
def cV (σ : S) (o : Nat → Int32) (a : Nat) : Nat × Nat × Int32 × Nat × Nat × Nat × Nat × Int32 × Int32 × Int32 := (sN σ 5 a, sN σ 35 a, sI σ 12 a, sN σ 13 a, sN σ 14 a, sN σ 11 a, sN σ 15 a, sI σ 25 (3 * a) + o a, sI σ 25 (3 * a + 1), sI σ 25 (3 * a + 2))
def nV (σ : S) (a : Nat) : Nat × Int64 × Nat × Nat × Nat × Int32 × Nat := (sN σ 16 a, sL σ a, sN σ 18 a, sN σ 19 a, sN σ 20 a, sI σ 23 a, (sR σ a).length)
def sV (σ : S) (p : Int32) : Nat × Int32 × Int32 × Int32 × Int32 := (rev σ, sI σ 24 0, sI σ 26 0 + p, sI σ 26 1, sI σ 26 2)
theorem xE.cell {kc : Nat → Nat} {K : Nat → Nat → Nat} {σ σ' : S} {kept : Nat} {p p' : Int32} {o o' : Nat → Int32} {pad pad' : List Nat} {a : Nat} {e : Ent} (h : xE kc K σ kept p o pad 1 a e) (hv : cV σ' o' a = cV σ o a) : xE kc K σ' kept p' o' pad' 1 a e := by
  unfold cV at hv
  simp only [Prod.mk.injEq] at hv
  obtain ⟨e1, e2, e3, e4, e5, e6, e7, e8, e9, e10⟩ := hv
  obtain ⟨⟨v, h1, h2⟩, h3⟩ := h
  refine ⟨⟨v, by rw [e1]; exact h1, ?_⟩, by rw [e2, e4, e5, e6]; exact h3⟩
  rw [h2]
  unfold cL
  rw [e1, e2, e3, e4, e5, e6, e7, e8, e9, e10]
theorem xE.note {kc : Nat → Nat} {K : Nat → Nat → Nat} {σ σ' : S} {kept : Nat} {p p' : Int32} {o o' : Nat → Int32} {pad pad' : List Nat} {a : Nat} {e : Ent} (h : xE kc K σ kept p o pad 2 a e) (hv : nV σ' a = nV σ a) : xE kc K σ' kept p' o' pad' 2 a e := by
  unfold nV at hv
  simp only [Prod.mk.injEq] at hv
  obtain ⟨e1, e2, e3, e4, e5, e6, e7⟩ := hv
  obtain ⟨h1, h2⟩ := h
  refine ⟨?_, by rw [e1, e2, e3, e4, e5]; exact h2⟩
  rw [h1]
  unfold nL
  rw [e1, e2, e3, e4, e5, e6, e7]
theorem xE.sheet {kc : Nat → Nat} {K : Nat → Nat → Nat} {σ σ' : S} {kept : Nat} {p p' : Int32} {o o' : Nat → Int32} {pad pad' : List Nat} {a : Nat} {e : Ent} (h : xE kc K σ kept p o pad 0 a e) (hv : sV σ' p' = sV σ p) : xE kc K σ' kept p' o' pad' 0 a e := by
  unfold sV at hv
  simp only [Prod.mk.injEq] at hv
  obtain ⟨e1, e2, e3, e4, e5⟩ := hv
  obtain ⟨h1, h2⟩ := h
  refine ⟨?_, by rw [e1]; exact h2⟩
  rw [h1]
  unfold sLs0
  rw [e1, e2, e3, e4, e5]
theorem fam (f : Nat) : f = 0 ∨ f = 1 ∨ f = 2 ∨ f = 3 ∨ f = 4 ∨ f = 5 ∨ f = 6 ∨ f = 7 ∨ f = 8 ∨ f = 9 ∨ f = 10 ∨ f = 11 ∨ f = 12 ∨ f = 13 ∨ f = 14 ∨ f = 15 ∨ ∃ n, f = n + 16 := by
  by_cases h : f < 16
  · omega
  · have : ∃ n, f = n + 16 := ⟨f - 16, by omega⟩
    simp [this]
theorem lv_big {σ : S} {n a : Nat} : ¬ lv σ (n + 16) a := fun h => h
theorem lv_of {σ σ' : S} (h15 : ∀ a, a < 12 → sN σ' 15 a ≠ 0 → sN σ 15 a ≠ 0) (h5 : ∀ a, a < 12 → sN σ' 5 a ≠ 0 → sN σ 5 a ≠ 0) : ∀ f a, lv σ' f a → lv σ f a := fun f a hl => by
  have n2 : (a < 12 ∧ sN σ' 15 a ≠ 0) → (a < 12 ∧ sN σ 15 a ≠ 0) := fun w => ⟨w.1, h15 a w.1 w.2⟩
  have n4 : (a < 12 ∧ sN σ' 5 a ≠ 0) → (a < 12 ∧ sN σ 5 a ≠ 0) := fun w => ⟨w.1, h5 a w.1 w.2⟩
  rcases fam f with e | e | e | e | e | e | e | e | e | e | e | e | e | e | e | e | ⟨n, e⟩
  · subst e; exact hl
  · subst e; exact hl
  · subst e; exact n2 hl
  · subst e; exact n2 hl
  · subst e; exact n4 hl
  · subst e; exact n4 hl
  · subst e; exact n4 hl
  · subst e; exact n4 hl
  · subst e; exact n4 hl
  · subst e; exact hl
  · subst e; exact hl
  · subst e; exact hl
  · subst e; exact hl
  · subst e; exact hl
  · subst e; exact hl
  · subst e; exact hl
  · subst e; exact absurd hl lv_big
theorem xE.oth {kc : Nat → Nat} {K : Nat → Nat → Nat} {σ σ' : S} {kept : Nat} {p p' : Int32} {o o' : Nat → Int32} {pad : List Nat} {f a : Nat} {e : Ent} (h : xE kc K σ kept p o pad f a e) (hl : lv σ' f a) (hc : f = 1 ∧ a < 12 → cV σ' o' a = cV σ o a) (hn : f = 2 → a < 12 → sN σ' 15 a ≠ 0 → nV σ' a = nV σ a) (hr : f = 3 → a < 12 → sN σ' 15 a ≠ 0 → sR σ' a = sR σ a)
    (hf : 4 ≤ f ∧ f ≤ 8 → a < 12 → sN σ' 5 a ≠ 0 → sT σ' a = sT σ a ∧ sC σ' a = sC σ a) (hs : f = 0 → a = 0 → sV σ' p' = sV σ p) (h4 : f = 15 → a = 0 → ∀ d, d ≤ 2 → sN σ' 4 d = sN σ 4 d) : xE kc K σ' kept p' o' pad f a e := by
  rcases fam f with q | q | q | q | q | q | q | q | q | q | q | q | q | q | q | q | ⟨n, q⟩
  · subst q; exact h.sheet (hs rfl hl)
  · subst q; exact h.cell (hc ⟨rfl, hl⟩)
  · subst q; exact h.note (hn rfl hl.1 hl.2)
  · subst q
    obtain ⟨g, k1, k2⟩ := h
    exact ⟨g, k1, by rw [hr rfl hl.1 hl.2]; exact k2⟩
  · subst q
    obtain ⟨e1, e2⟩ := hf (by decide) hl.1 hl.2
    obtain ⟨k1, k2, k3, k4⟩ := h
    exact ⟨k1, by rw [e2]; exact k2, by rw [e1]; exact k3, by rw [e1]; exact k4⟩
  · subst q; exact h
  · subst q
    obtain ⟨e1, e2⟩ := hf (by decide) hl.1 hl.2
    obtain ⟨g, k1, k2⟩ := h
    exact ⟨g, by rw [e1]; exact k1, by rw [e1]; exact k2⟩
  · subst q
    obtain ⟨e1, e2⟩ := hf (by decide) hl.1 hl.2
    obtain ⟨g, k1, k2⟩ := h
    exact ⟨g, by rw [e2]; exact k1, by rw [e2]; exact k2⟩
  · subst q
    obtain ⟨e1, e2⟩ := hf (by decide) hl.1 hl.2
    obtain ⟨g, k1, k2⟩ := h
    exact ⟨g, by rw [e2]; exact k1, by rw [e2]; exact k2⟩
  · subst q; exact h
  · subst q; exact h
  · subst q; exact h
  · subst q; exact h
  · subst q; exact h
  · subst q; exact h
  · subst q
    have e4 := h4 rfl hl
    obtain ⟨g, k3, k4⟩ := h
    exact ⟨g, k3, fun d hd => by rw [e4 d hd]; exact k4 d hd⟩
  · subst q; exact absurd hl lv_big
/-- one object changes -/
theorem RX.upd {st : HS} {K : Nat → Nat → Nat} {σ σ' : S} {kept : Nat} {p p' : Int32} {o o' : Nat → Int32} {pad pad' : List Nat} {f0 a0 : Nat} {e0 : Ent} (h : RX st K σ kept p o pad) (hl0 : lv σ f0 a0) (he : xE (hKc st) K σ' kept p' o' pad' f0 a0 e0)
    (hc : ∀ a, a < 12 → ¬ (f0 = 1 ∧ a = a0) → cV σ' o' a = cV σ o a) (hn : ∀ a, a < 12 → sN σ' 15 a ≠ 0 → sN σ 15 a ≠ 0 ∧ (¬ (f0 = 2 ∧ a = a0) → nV σ' a = nV σ a) ∧ (¬ (f0 = 3 ∧ a = a0) → sR σ' a = sR σ a))
    (hf : ∀ a, a < 12 → sN σ' 5 a ≠ 0 → sN σ 5 a ≠ 0 ∧ sT σ' a = sT σ a ∧ sC σ' a = sC σ a) (hs : f0 ≠ 0 → sV σ' p' = sV σ p) (h4 : f0 ≠ 15 → ∀ d, d ≤ 2 → sN σ' 4 d = sN σ 4 d) (hp : f0 ≠ 10 → f0 ≠ 11 → pad' = pad) (hp2 : f0 = 10 ∨ f0 = 11 → pad' = pad) : RX (hSet st (K f0 a0) e0) K σ' kept p' o' pad' := by
  obtain ⟨h1, h2, h3, h5, h6⟩ := h
  have hpad : pad' = pad := by
    by_cases q : f0 = 10 ∨ f0 = 11
    · exact hp2 q
    · exact hp (by omega) (by omega)
  subst hpad
  have hlv : ∀ f a, lv σ' f a → lv σ f a := lv_of (fun a ha hq => (hn a ha hq).1) (fun a ha hq => (hf a ha hq).1)
  refine ⟨fun f a hl => ?_, fun f a hl => h2 f a (hlv f a hl), fun f a g b hl hm => h3 f a g b (hlv f a hl) (hlv g b hm), ?_, h6⟩
  · by_cases q : f = f0 ∧ a = a0
    · obtain ⟨rfl, rfl⟩ := q
      exact ⟨e0, by rw [hSet_s, if_pos rfl], he⟩
    · obtain ⟨e, k1, k2⟩ := h1 f a (hlv f a hl)
      have hne : K f a ≠ K f0 a0 := fun w => q (h3 _ _ _ _ (hlv f a hl) hl0 w)
      refine ⟨e, by rw [hSet_s, if_neg hne]; exact k1, ?_⟩
      show xE (hKc st) K σ' kept p' o' pad' f a e
      exact xE.oth k2 hl (fun w => hc a w.2 (fun z => q ⟨w.1.trans z.1.symm, z.2⟩)) (fun w1 w2 w3 => (hn a w2 w3).2.1 (fun z => q ⟨w1.trans z.1.symm, z.2⟩)) (fun w1 w2 w3 => (hn a w2 w3).2.2 (fun z => q ⟨w1.trans z.1.symm, z.2⟩)) (fun _ w2 w3 => (hf a w2 w3).2) (fun w1 w2 => hs (fun z => q ⟨w1.trans z.symm, by
        subst z
        have : a0 = 0 := hl0
        omega⟩)) (fun w1 w2 => h4 (fun z => q ⟨w1.trans z.symm, by
        subst z
        have : a0 = 0 := hl0
        omega⟩))
  · refine h5.kept rfl (Nat.le_refl _) (fun q e hq hqe hw => ?_)
    rw [hSet_s, if_neg]
    · exact hqe
    · intro w
      subst w
      obtain ⟨e', k1, k2⟩ := h1 f0 a0 hl0
      rw [k1] at hqe
      cases hqe
      exact hw (xE_st k2)
