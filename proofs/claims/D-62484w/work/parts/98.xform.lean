theorem RX.grow {st st' : HS} {K : Nat → Nat → Nat} {σ : S} {kept : Nat} {p : Int32} {o : Nat → Int32} {pad : List Nat} (h : RX st K σ kept p o pad) (h2 : st'.2.2.2 = st.2.2.2) (hn : hNx st ≤ hNx st') (hs : ∀ q, q < hNx st → st'.1 q = st.1 q) : RX st' K σ kept p o pad := by
  obtain ⟨x1, x2, x3, x5, x6⟩ := h
  have hkc : hKc st' = hKc st := by unfold hKc; rw [h2]
  refine ⟨fun f a hl => ?_, fun f a hl => by have := x2 f a hl; omega, x3, x5.kept h2 hn (fun q e hq hqe _ => by rw [hs q hq]; exact hqe), x6⟩
  obtain ⟨e, k1, k2⟩ := x1 f a hl
  exact ⟨e, by rw [hs _ (x2 f a hl)]; exact k1, by rw [hkc]; exact k2⟩
/-- a formula with its steps -/
def Fo (st : HS) (kc : Nat → Nat) (f0 f1 f2 sa : Nat) (C : GS) : Prop := st.1 f0 = some (.inl (2, [.ref sa, .ref f1, .ref f2])) ∧ (∃ g, st.1 f1 = some (.inr (5, C.length, .inr (.inr (.inr (.inr g))))) ∧ ∀ i q, C[i]? = some q → g i = some (kc (opX q.1))) ∧ ∃ g, st.1 f2 = some (.inr (0, C.length, .inl g)) ∧ ∀ i q, C[i]? = some q → g i = nI q.2
theorem X_form {st : HS} {R R1 R2 sa sb : Nat} {t : List Nat} {s : PS} (hr : RR st R R1 R2 sa sb t s) (hl : s.2.2.length ≤ 60) (hops : ∀ q ∈ s.2.2, q.1 ≤ 10) (l1 : R1 < hNx st) (l2 : R2 < hNx st) (lk : ∀ i, i < 11 → hKc st i < hNx st) :
    ∃ st', x_Form_init (hNew st 2) (hNx st) sa R1 R2 (nI s.2.2.length) = some st' ∧ Fo st' (hKc st) (hNx st) (hNx st + 1) (hNx st + 2) sa s.2.2 ∧ (∀ q, q < hNx st → st'.1 q = st.1 q) ∧ hNx st' = hNx st + 3 ∧ hNs st' = hNs st + 3 + 2 * s.2.2.length ∧ st'.2.2.2 = st.2.2.2 := by
  obtain ⟨-, ⟨g1, h2, h2'⟩, ⟨g2, h3, h3'⟩, -, -, h6⟩ := hr
  generalize hn : s.2.2.length = n at *
  have hn0 : ∀ x : Nat, x ≠ hNx st → x ≠ hNx st + 1 → True := fun _ _ _ => trivial
  generalize hs1 : hNew st 2 = s1
  have e1 : s1.1 (hNx st) = some (.inl (2, [.null, .null, .null])) := by rw [← hs1]; show (if hNx st = hNx st then _ else _) = _; rw [if_pos rfl]; rfl
  have n1 : hNx s1 = hNx st + 1 ∧ hNs s1 = hNs st + 3 ∧ s1.2.2.2 = st.2.2.2 := by rw [← hs1]; exact ⟨rfl, rfl, rfl⟩
  have k1 : ∀ q, q < hNx st → s1.1 q = st.1 q := fun q hq => by rw [← hs1]; show (if q = hNx st then _ else _) = _; rw [if_neg (by omega)]
  have p2 := hP_of (k := 0) (v := .ref sa) e1 (by decide : 0 < 3)
  generalize hs2 : hSet s1 (hNx st) (.inl (2, ([.null, .null, .null] : List Value).set 0 (.ref sa))) = s2 at p2
  have n2 : hNx s2 = hNx st + 1 ∧ hNs s2 = hNs st + 3 ∧ s2.2.2.2 = st.2.2.2 := by rw [← hs2]; exact n1
  have e2 : s2.1 (hNx st) = some (.inl (2, [.ref sa, .null, .null])) := by rw [← hs2, hSet_s, if_pos rfl]; rfl
  have k2 : ∀ q, q < hNx st → s2.1 q = st.1 q := fun q hq => by rw [← hs2, hSet_s, if_neg (by omega)]; exact k1 q hq
  have a3 : hNewA s2 5 (nI n) = some (hPush s2 (.inr (5, hz 5 n)) n) := hNewA_of (by omega)
  generalize hs3 : hPush s2 (.inr (5, hz 5 n)) n = s3 at a3
  have n3 : hNx s3 = hNx st + 2 ∧ hNs s3 = hNs st + 3 + n ∧ s3.2.2.2 = st.2.2.2 := by rw [← hs3]; exact ⟨by show hNx s2 + 1 = _; omega, by show hNs s2 + n = _; omega, n2.2.2⟩
  have e3 : s3.1 (hNx st) = some (.inl (2, [.ref sa, .null, .null])) := by rw [← hs3, hPush_s, if_neg (by omega)]; exact e2
  have a3' : s3.1 (hNx st + 1) = some (.inr (5, n, .inr (.inr (.inr (.inr (fun _ => none)))))) := by rw [← hs3, hPush_s, if_pos n2.1.symm]; rfl
  have k3 : ∀ q, q < hNx st → s3.1 q = st.1 q := fun q hq => by rw [← hs3, hPush_s, if_neg (by omega)]; exact k2 q hq
  have p4 := hP_of (k := 1) (v := .ref (hNx st + 1)) e3 (by decide : 1 < 3)
  generalize hs4 : hSet s3 (hNx st) (.inl (2, ([.ref sa, .null, .null] : List Value).set 1 (.ref (hNx st + 1)))) = s4 at p4
  have n4 : hNx s4 = hNx st + 2 ∧ hNs s4 = hNs st + 3 + n ∧ s4.2.2.2 = st.2.2.2 := by rw [← hs4]; exact n3
  have e4 : s4.1 (hNx st) = some (.inl (2, [.ref sa, .ref (hNx st + 1), .null])) := by rw [← hs4, hSet_s, if_pos rfl]; rfl
  have a5 : hNewA s4 0 (nI n) = some (hPush s4 (.inr (0, hz 0 n)) n) := hNewA_of (by omega)
  generalize hs5 : hPush s4 (.inr (0, hz 0 n)) n = s5 at a5
  have n5 : hNx s5 = hNx st + 3 ∧ hNs s5 = hNs st + 3 + 2 * n ∧ s5.2.2.2 = st.2.2.2 := by rw [← hs5]; exact ⟨by show hNx s4 + 1 = _; omega, by show hNs s4 + n = _; omega, n4.2.2⟩
  have e5 : s5.1 (hNx st) = some (.inl (2, [.ref sa, .ref (hNx st + 1), .null])) := by rw [← hs5, hPush_s, if_neg (by omega)]; exact e4
  have p6 := hP_of (k := 2) (v := .ref (hNx st + 2)) e5 (by decide : 2 < 3)
  generalize hs6 : hSet s5 (hNx st) (.inl (2, ([.ref sa, .ref (hNx st + 1), .null] : List Value).set 2 (.ref (hNx st + 2)))) = s6 at p6
  have n6 : hNx s6 = hNx st + 3 ∧ hNs s6 = hNs st + 3 + 2 * n ∧ s6.2.2.2 = st.2.2.2 := by rw [← hs6]; exact n5
  have e6 : s6.1 (hNx st) = some (.inl (2, [.ref sa, .ref (hNx st + 1), .ref (hNx st + 2)])) := by rw [← hs6, hSet_s, if_pos rfl]; rfl
  have a6 : s6.1 (hNx st + 1) = some (.inr (5, n, .inr (.inr (.inr (.inr (fun _ => none)))))) := by rw [← hs6, hSet_s, if_neg (by omega), ← hs5, hPush_s, if_neg (by omega), ← hs4, hSet_s, if_neg (by omega)]; exact a3'
  have b6 : s6.1 (hNx st + 2) = some (.inr (0, n, .inl (fun _ => 0))) := by rw [← hs6, hSet_s, if_neg (by omega), ← hs5, hPush_s, if_pos n4.1.symm]; rfl
  have k6 : ∀ q, q < hNx st → s6.1 q = st.1 q := fun q hq => by rw [← hs6, hSet_s, if_neg (by omega), ← hs5, hPush_s, if_neg (by omega), ← hs4, hSet_s, if_neg (by omega)]; exact k3 q hq
  have kc6 : hKc s6 = hKc st := by unfold hKc; rw [n6.2.2]
  -- the copy
  have loop : ∀ (f i N : Nat) (z : HS) (u1 : Nat → Option Nat) (u2 : Nat → Int32), i + f = n → f < N → z.1 (hNx st) = some (.inl (2, [.ref sa, .ref (hNx st + 1), .ref (hNx st + 2)])) → z.1 (hNx st + 1) = some (.inr (5, n, .inr (.inr (.inr (.inr u1))))) → z.1 (hNx st + 2) = some (.inr (0, n, .inl u2)) → (∀ j q, j < i → s.2.2[j]? = some q → u1 j = some (hKc st (opX q.1)) ∧ u2 j = nI q.2) → (∀ q, q < hNx st → z.1 q = st.1 q) → z.2 = s6.2 →
      ∃ z' v1 v2, x_Form_init_L29 N z (hNx st) R1 R2 (nI n) (nI i) = some z' ∧ z'.1 (hNx st) = some (.inl (2, [.ref sa, .ref (hNx st + 1), .ref (hNx st + 2)])) ∧ z'.1 (hNx st + 1) = some (.inr (5, n, .inr (.inr (.inr (.inr v1))))) ∧ z'.1 (hNx st + 2) = some (.inr (0, n, .inl v2)) ∧ (∀ j q, s.2.2[j]? = some q → v1 j = some (hKc st (opX q.1)) ∧ v2 j = nI q.2) ∧ (∀ q, q < hNx st → z'.1 q = st.1 q) ∧ z'.2 = s6.2 := by
    intro f
    induction f with
    | zero =>
      intro i N z u1 u2 hi hN z1 z2 z3 z4 z5 z6
      obtain ⟨N, rfl⟩ : ∃ m, N = m + 1 := ⟨N - 1, by omega⟩
      refine ⟨z, u1, u2, ?_, z1, z2, z3, fun j q hj => z4 j q ?_ hj, z5, z6⟩
      · rw [x_Form_init_L29, if_pos (nI_le (by omega) (by omega))]
      · have := (List.getElem?_eq_some_iff.mp hj).1
        omega
    | succ f ih =>
      intro i N z u1 u2 hi hN z1 z2 z3 z4 z5 z6
      obtain ⟨N, rfl⟩ : ∃ m, N = m + 1 := ⟨N - 1, by omega⟩
      have hlt : i < s.2.2.length := by omega
      have hg : s.2.2[i]? = some s.2.2[i] := List.getElem?_eq_getElem hlt
      have hop := hops _ (List.getElem_mem hlt)
      have hoi : opX s.2.2[i].1 < 11 := by unfold opX; repeat (first | split | omega)
      have r1 : hAr z R1 5 (nI i) = some (some (hKc st (opX s.2.2[i].1))) := by
        rw [hAr_of (show z.1 R1 = some (.inr (5, 64, .inr (.inr (.inr (.inr g1))))) by rw [z5 R1 l1]; exact h2) (by omega) (by decide), h2' i _ hg]
      have hv : hIs z (hKc st (opX s.2.2[i].1)) (hco 5) = some () := by unfold hIs; rw [z5 _ (lk _ hoi), h6 _ hoi]; rfl
      have w1 := hWr_of (v := hKc st (opX s.2.2[i].1)) (j := i) z2 hv (by decide) (by omega) (by omega)
      generalize hz1 : hSet z (hNx st + 1) (.inr (5, n, .inr (.inr (.inr (.inr (va_up u1 i (some (hKc st (opX s.2.2[i].1))))))))) = y1 at w1
      have y1a : y1.1 (hNx st) = some (.inl (2, [.ref sa, .ref (hNx st + 1), .ref (hNx st + 2)])) := by rw [← hz1, hSet_s, if_neg (by omega)]; exact z1
      have y1c : y1.1 (hNx st + 2) = some (.inr (0, n, .inl u2)) := by rw [← hz1, hSet_s, if_neg (by omega)]; exact z3
      have y1d : ∀ q, q < hNx st → y1.1 q = st.1 q := fun q hq => by rw [← hz1, hSet_s, if_neg (by omega)]; exact z5 q hq
      have r2 : hAi y1 R2 0 (nI i) = some (nI s.2.2[i].2) := by
        rw [hAi_of (show y1.1 R2 = some (.inr (0, 64, .inl g2)) by rw [y1d R2 l2]; exact h3) (by decide) (by omega) (by decide), h3' i _ hg]
      have w2 := hWi_of (j := i) (v := nI s.2.2[i].2) y1c (by omega) (by omega)
      generalize hz2 : hSet y1 (hNx st + 2) (.inr (0, n, .inl (upd u2 i (nI s.2.2[i].2)))) = y2 at w2
      obtain ⟨z', v1, v2, t1, t2⟩ := ih (i + 1) N y2 (va_up u1 i (some (hKc st (opX s.2.2[i].1)))) (upd u2 i (nI s.2.2[i].2)) (by omega) (by omega) (by rw [← hz2, hSet_s, if_neg (by omega)]; exact y1a) (by rw [← hz2, hSet_s, if_neg (by omega), ← hz1, hSet_s, if_pos rfl]) (by rw [← hz2, hSet_s, if_pos rfl]) (fun j q hj hq => by
        show (if j = i then _ else u1 j) = _ ∧ (if j = i then _ else u2 j) = _
        by_cases w : j = i
        · subst w
          rw [hg] at hq
          cases hq
          rw [if_pos rfl, if_pos rfl]
          exact ⟨rfl, rfl⟩
        · rw [if_neg w, if_neg w]
          exact z4 j q (by omega) hq) (fun q hq => by rw [← hz2, hSet_s, if_neg (by omega)]; exact y1d q hq) (by rw [← hz2, ← hz1]; exact z6)
      refine ⟨z', v1, v2, ?_, t2⟩
      rw [x_Form_init_L29, if_neg (nI_ge (by omega) (by omega)), hR_of (k := 1) (b := hNx st + 1) z1 (by decide) rfl]
      simp only [Option.bind_some, r1, w1, hR_of (k := 2) (b := hNx st + 2) y1a (by decide) rfl, r2, w2, nI_1]
      exact t1
  obtain ⟨z', v1, v2, t1, t2, t3, t4, t5, t6, t7⟩ := loop n 0 1000 s6 (fun _ => none) (fun _ => 0) (by omega) (by omega) e6 a6 b6 (fun j q hj => absurd hj (Nat.not_lt_zero _)) k6 rfl
  refine ⟨z', ?_, ⟨t2, ⟨v1, by rw [hn]; exact t3, fun i q hi => (t5 i q hi).1⟩, v2, by rw [hn]; exact t4, fun i q hi => (t5 i q hi).2⟩, t6, by unfold hNx; rw [t7]; exact n6.1, by unfold hNs; rw [t7]; exact n6.2.1, by rw [t7]; exact n6.2.2⟩
  unfold x_Form_init x_Form_init_J15 x_Form_init_J23
  rw [p2]
  simp only [Option.bind_some, n2.1, a3, p4, n4.1, a5, p6]
  exact t1
def K3 (K : Nat → Nat → Nat) (c fo sa sb f1 f2 : Nat) : Nat → Nat → Nat := fun f a => if a = c then (if f = 4 then fo else if f = 5 then sa else if f = 6 then sb else if f = 7 then f1 else if f = 8 then f2 else K f a) else K f a
theorem K3_o {K : Nat → Nat → Nat} {c fo sa sb f1 f2 f a : Nat} (h : ¬ ((4 ≤ f ∧ f ≤ 8) ∧ a = c)) : K3 K c fo sa sb f1 f2 f a = K f a := by
  unfold K3
  by_cases q : a = c
  · rw [if_pos q, if_neg (by omega), if_neg (by omega), if_neg (by omega), if_neg (by omega), if_neg (by omega)]
  · rw [if_neg q]
theorem K3_4 {K : Nat → Nat → Nat} {c fo sa sb f1 f2 : Nat} : K3 K c fo sa sb f1 f2 4 c = fo ∧ K3 K c fo sa sb f1 f2 5 c = sa ∧ K3 K c fo sa sb f1 f2 6 c = sb ∧ K3 K c fo sa sb f1 f2 7 c = f1 ∧ K3 K c fo sa sb f1 f2 8 c = f2 := by
  unfold K3
  simp
theorem xE.k3 {kc : Nat → Nat} {K : Nat → Nat → Nat} {σ : S} {kept : Nat} {p : Int32} {o : Nat → Int32} {pad : List Nat} {c fo sa sb f1 f2 f a : Nat} {e : Ent} (h : xE kc K σ kept p o pad f a e) (h1 : f = 1 ∨ (4 ≤ f ∧ f ≤ 8) → a ≠ c) : xE kc (K3 K c fo sa sb f1 f2) σ kept p o pad f a e := by
  have k : ∀ f' a', ¬ (4 ≤ f' ∧ f' ≤ 8) → K3 K c fo sa sb f1 f2 f' a' = K f' a' := fun f' a' x => K3_o (fun z => x z.1)
  rcases fam f with q | q | q | q | q | q | q | q | q | q | q | q | q | q | q | q | ⟨n, q⟩
  · subst q
    obtain ⟨k1, k2⟩ := h
    refine ⟨?_, k2⟩
    rw [k1]
    unfold sLs0
    rw [k 9 0 (by decide), k 10 0 (by decide), k 12 0 (by decide), k 15 0 (by decide)]
  · subst q
    have hac := h1 (Or.inl rfl)
    obtain ⟨⟨v, k1, k2⟩, k3⟩ := h
    refine ⟨⟨v, fun z => by rw [K3_o (fun w => hac w.2)]; exact k1 z, ?_⟩, k3⟩
    rw [k2]
    unfold cL
    rw [k 2 a (by decide)]
  · subst q
    obtain ⟨k1, k2⟩ := h
    refine ⟨?_, k2⟩
    rw [k1]
    unfold nL
    rw [k 3 a (by decide)]
  · subst q
    obtain ⟨g, k1, k2⟩ := h
    exact ⟨g, k1, k2.k (fun x => k 1 x (by decide))⟩
  · subst q
    have hac := h1 (Or.inr (by decide))
    obtain ⟨k1, k2⟩ := h
    refine ⟨?_, k2⟩
    rw [k1, K3_o (f := 5) (fun w => hac w.2), K3_o (f := 7) (fun w => hac w.2), K3_o (f := 8) (fun w => hac w.2)]
  · subst q
    have hac := h1 (Or.inr (by decide))
    replace h : e = _ := h
    show e = _
    rw [h, K3_o (f := 6) (fun w => hac w.2)]
  · subst q; exact h
  · subst q; exact h
  · subst q; exact h
  · subst q
    obtain ⟨g, k1, k2⟩ := h
    exact ⟨g, k1, fun x hx => by rw [k 1 x (by decide)]; exact k2 x hx⟩
  · subst q
    obtain ⟨w, k1⟩ := h
    exact ⟨w, by rw [k1, k 11 0 (by decide)]⟩
  · subst q; exact h
  · subst q
    obtain ⟨w1, w2, w3, w4, k1⟩ := h
    exact ⟨w1, w2, w3, w4, by rw [k1, k 13 0 (by decide), k 14 0 (by decide)]⟩
  · subst q; exact h
  · subst q; exact h
  · subst q; exact h
  · subst q; exact h
def σF (σ : S) (c : Nat) (t : List Nat) (cd : GS) : S := sCs (sTs (sNs σ 5 c 1) c t) c cd
theorem σF_o {σ : S} {c : Nat} {t : List Nat} {cd : GS} {a : Nat} (h : a ≠ c) : sN (σF σ c t cd) 5 a = sN σ 5 a ∧ sT (σF σ c t cd) a = sT σ a ∧ sC (σF σ c t cd) a = sC σ a := by
  refine ⟨?_, ?_, ?_⟩
  · show (if (5 : Nat) = 5 ∧ a = c then 1 else _) = _
    rw [if_neg (fun z => h z.2)]
    rfl
  · show (if a = c then t else _) = _
    rw [if_neg h]
    rfl
  · show (if a = c then cd else _) = _
    rw [if_neg h]
    rfl
theorem σF_c {σ : S} {c : Nat} {t : List Nat} {cd : GS} : sN (σF σ c t cd) 5 c = 1 ∧ sT (σF σ c t cd) c = t ∧ sC (σF σ c t cd) c = cd := by
  refine ⟨?_, ?_, ?_⟩
  · show (if (5 : Nat) = 5 ∧ c = c then 1 else _) = _
    rw [if_pos ⟨rfl, rfl⟩]
  · show (if c = c then t else _) = _
    rw [if_pos rfl]
  · show (if c = c then cd else _) = _
    rw [if_pos rfl]
/-- a cell gets a new formula -/
theorem RX.newF {st st' : HS} {K : Nat → Nat → Nat} {σ : S} {kept : Nat} {p : Int32} {o : Nat → Int32} {pad : List Nat} {c fo sa sb f1 f2 : Nat} {t : List Nat} {cd : GS} (h : RX st K σ kept p o pad) (hc : c < 12) (hF : Fo st (hKc st) fo f1 f2 sa cd) (hS : Str st sa sb t) (hok : ∀ x ∈ t, okc x) (hwt : wt cd)
    (hlt : fo < hNx st ∧ sa < hNx st ∧ sb < hNx st ∧ f1 < hNx st ∧ f2 < hNx st) (hd : fo ≠ sa ∧ fo ≠ sb ∧ fo ≠ f1 ∧ fo ≠ f2 ∧ sa ≠ sb ∧ sa ≠ f1 ∧ sa ≠ f2 ∧ sb ≠ f1 ∧ sb ≠ f2 ∧ f1 ≠ f2) (hn : ∀ f a, lv σ f a → K f a ≠ fo ∧ K f a ≠ sa ∧ K f a ≠ sb ∧ K f a ≠ f1 ∧ K f a ≠ f2)
    (hf : F1 st st' (K 1 c)) (he : st'.1 (K 1 c) = some (.inl (1, cL K (σF σ c t cd) o c (.ref fo)))) : RX st' (K3 K c fo sa sb f1 f2) (σF σ c t cd) kept p o pad := by
  obtain ⟨v, g1, g2, g3⟩ := h.cE hc
  obtain ⟨x1, x2, x3, x5, x6⟩ := h
  obtain ⟨k4, k5, k6, k7, k8⟩ := K3_4 (K := K) (c := c) (fo := fo) (sa := sa) (sb := sb) (f1 := f1) (f2 := f2)
  obtain ⟨c5, cT, cC⟩ := σF_c (σ := σ) (c := c) (t := t) (cd := cd)
  have hkc : hKc st' = hKc st := by unfold hKc; rw [hf.1]
  have hnx : hNx st' = hNx st := hf.nx.1
  have nc := hn 1 c hc
  -- what is old
  have lvo : ∀ f a, lv (σF σ c t cd) f a → ¬ ((4 ≤ f ∧ f ≤ 8) ∧ a = c) → lv σ f a := fun f a hl hq => by
    have n4 : 4 ≤ f ∧ f ≤ 8 → (a < 12 ∧ sN (σF σ c t cd) 5 a ≠ 0) → (a < 12 ∧ sN σ 5 a ≠ 0) := fun z w => ⟨w.1, by rw [← (σF_o (t := t) (cd := cd) (fun y => hq ⟨z, y⟩)).1]; exact w.2⟩
    rcases fam f with q | q | q | q | q | q | q | q | q | q | q | q | q | q | q | q | ⟨n, q⟩
    · subst q; exact hl
    · subst q; exact hl
    · subst q; exact hl
    · subst q; exact hl
    · subst q; exact n4 (by decide) hl
    · subst q; exact n4 (by decide) hl
    · subst q; exact n4 (by decide) hl
    · subst q; exact n4 (by decide) hl
    · subst q; exact n4 (by decide) hl
    · subst q; exact hl
    · subst q; exact hl
    · subst q; exact hl
    · subst q; exact hl
    · subst q; exact hl
    · subst q; exact hl
    · subst q; exact hl
    · subst q; exact absurd hl lv_big
  -- what is new
  have new : ∀ f, 4 ≤ f ∧ f ≤ 8 → (∃ e, st'.1 (K3 K c fo sa sb f1 f2 f c) = some e ∧ xE (hKc st) (K3 K c fo sa sb f1 f2) (σF σ c t cd) kept p o pad f c e) ∧ K3 K c fo sa sb f1 f2 f c < hNx st ∧ ∀ f' a, lv σ f' a → K f' a ≠ K3 K c fo sa sb f1 f2 f c := fun f hf2 => by
    obtain ⟨F0, ⟨u1, F1', F2'⟩, u2, F3', F4'⟩ := hF
    obtain ⟨S0, S1, S2, u3, S3, S4⟩ := hS
    rcases (show f = 4 ∨ f = 5 ∨ f = 6 ∨ f = 7 ∨ f = 8 by omega) with q | q | q | q | q <;> subst q
    · rw [k4]
      refine ⟨⟨_, by rw [hf.2 fo (fun z => nc.1 z.symm)]; exact F0, ?_, by rw [cC]; exact hwt, by rw [cT]; exact S2, by rw [cT]; exact hok⟩, hlt.1, fun f' a hl => (hn f' a hl).1⟩
      rw [k5, k7, k8]
    · rw [k5]
      refine ⟨⟨_, by rw [hf.2 sa (fun z => nc.2.1 z.symm)]; exact S0, ?_⟩, hlt.2.1, fun f' a hl => (hn f' a hl).2.1⟩
      show _ = Sum.inl (6, [Value.ref (K3 K c fo sa sb f1 f2 6 c), .int 0])
      rw [k6]
    · rw [k6]
      refine ⟨⟨_, by rw [hf.2 sb (fun z => nc.2.2.1 z.symm)]; exact S3, u3, by rw [cT], by rw [cT]; exact S4⟩, hlt.2.2.1, fun f' a hl => (hn f' a hl).2.2.1⟩
    · rw [k7]
      refine ⟨⟨_, by rw [hf.2 f1 (fun z => nc.2.2.2.1 z.symm)]; exact F1', u1, by rw [cC], by rw [cC]; exact F2'⟩, hlt.2.2.2.1, fun f' a hl => (hn f' a hl).2.2.2.1⟩
    · rw [k8]
      refine ⟨⟨_, by rw [hf.2 f2 (fun z => nc.2.2.2.2 z.symm)]; exact F3', u2, by rw [cC], by rw [cC]; exact F4'⟩, hlt.2.2.2.2, fun f' a hl => (hn f' a hl).2.2.2.2⟩
  refine ⟨fun f a hl => ?_, fun f a hl => ?_, fun f a f' a' hl hl' hh => ?_, ?_, x6⟩
  · rw [hkc]
    by_cases q : (4 ≤ f ∧ f ≤ 8) ∧ a = c
    · obtain ⟨q1, rfl⟩ := q
      exact (new f q1).1
    have hlv := lvo f a hl q
    rw [K3_o q]
    by_cases q1 : f = 1 ∧ a = c
    · obtain ⟨rfl, rfl⟩ := q1
      refine ⟨_, he, ⟨.ref fo, fun _ => by rw [k4], ?_⟩, g3⟩
      unfold cL
      rw [K3_o (by omega)]
    · obtain ⟨e, y1, y2⟩ := x1 f a hlv
      refine ⟨e, by rw [hf.2 _ (fun z => q1 (x3 f a 1 c hlv hc z))]; exact y1, ?_⟩
      refine xE.k3 (xE.oth y2 hl (fun w => ?_) (fun _ _ _ => rfl) (fun _ _ _ => rfl) (fun w1 w2 w3 => ?_) (fun _ _ => rfl) (fun _ _ d _ => rfl)) (fun w z => ?_)
      · have hac : a ≠ c := fun z => q1 ⟨w.1, z⟩
        unfold cV
        rw [(σF_o hac).1]
        rfl
      · exact (σF_o (fun z => q ⟨w1, z⟩)).2
      · rcases w with w | w
        · exact q1 ⟨w, z⟩
        · exact q ⟨w, z⟩
  · rw [hnx]
    by_cases q : (4 ≤ f ∧ f ≤ 8) ∧ a = c
    · obtain ⟨q1, rfl⟩ := q
      exact (new f q1).2.1
    · rw [K3_o q]; exact x2 f a (lvo f a hl q)
  · by_cases q : (4 ≤ f ∧ f ≤ 8) ∧ a = c
    · by_cases r : (4 ≤ f' ∧ f' ≤ 8) ∧ a' = c
      · obtain ⟨q1, rfl⟩ := q
        obtain ⟨r1, rfl⟩ := r
        refine ⟨?_, rfl⟩
        obtain ⟨d1, d2, d3, d4, d5, d6, d7, d8, d9, d10⟩ := hd
        rcases (show f = 4 ∨ f = 5 ∨ f = 6 ∨ f = 7 ∨ f = 8 by omega) with w | w | w | w | w <;> subst w <;> rcases (show f' = 4 ∨ f' = 5 ∨ f' = 6 ∨ f' = 7 ∨ f' = 8 by omega) with w | w | w | w | w <;> subst w <;> first | rfl | (exfalso; simp only [k4, k5, k6, k7, k8] at hh; omega)
      · obtain ⟨q1, rfl⟩ := q
        rw [K3_o r] at hh
        exact absurd hh.symm ((new f q1).2.2 f' a' (lvo f' a' hl' r))
    · rw [K3_o q] at hh
      have hlv := lvo f a hl q
      by_cases r : (4 ≤ f' ∧ f' ≤ 8) ∧ a' = c
      · obtain ⟨r1, rfl⟩ := r
        exact absurd hh ((new f' r1).2.2 f a hlv)
      · rw [K3_o r] at hh
        exact x3 f a f' a' hlv (lvo f' a' hl' r) hh
  · refine x5.kept (by rw [hf.1]) (by rw [hnx]; exact Nat.le_refl _) (fun q e hq hqe hw => ?_)
    rw [hf.2 q]
    · exact hqe
    · intro w
      subst w
      rw [g2] at hqe
      cases hqe
      exact hw (Or.inl ⟨_, _, rfl, by decide⟩)
