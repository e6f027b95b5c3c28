/-! reading and writing through the layout -/
theorem RX.cE {st : HS} {K : Nat → Nat → Nat} {σ : S} {kept : Nat} {p : Int32} {o : Nat → Int32} {pad : List Nat} (h : RX st K σ kept p o pad) {c : Nat} (hc : c < 12) : ∃ v, (sN σ 5 c ≠ 0 → v = .ref (K 4 c)) ∧ st.1 (K 1 c) = some (.inl (1, cL K σ o c v)) ∧ sN σ 35 c ≤ 1 ∧ sN σ 13 c ≤ 2 ∧ sN σ 14 c < B20 ∧ sN σ 11 c < B20 := by
  obtain ⟨e, h1, ⟨v, h2, h3⟩, h4⟩ := h.at (f := 1) (a := c) hc
  subst h3
  exact ⟨v, h2, h1, h4⟩
theorem RX.nE {st : HS} {K : Nat → Nat → Nat} {σ : S} {kept : Nat} {p : Int32} {o : Nat → Int32} {pad : List Nat} (h : RX st K σ kept p o pad) {c : Nat} (hc : c < 12) (hn : sN σ 15 c ≠ 0) : st.1 (K 2 c) = some (.inl (3, nL K σ c)) ∧ sN σ 16 c ≤ 1 ∧ sN σ 18 c < B20 ∧ sN σ 19 c < B20 ∧ sN σ 20 c ≤ 2 ∧ ∃ x, sL σ c = enc x := by
  obtain ⟨e, h1, h2, h3⟩ := h.at (f := 2) (a := c) ⟨hc, hn⟩
  subst h2
  exact ⟨h1, h3⟩
theorem RX.sE {st : HS} {K : Nat → Nat → Nat} {σ : S} {kept : Nat} {p : Int32} {o : Nat → Int32} {pad : List Nat} (h : RX st K σ kept p o pad) : st.1 (K 0 0) = some (.inl (0, sLs0 K σ kept p)) ∧ rev σ < B20 := by
  obtain ⟨e, h1, h2, h3⟩ := h.at (f := 0) (a := 0) rfl
  subst h2
  exact ⟨h1, h3⟩
theorem RX.rc {st : HS} {K : Nat → Nat → Nat} {σ : S} {kept : Nat} {p : Int32} {o : Nat → Int32} {pad : List Nat} (h : RX st K σ kept p o pad) {c : Nat} (hc : c < 12) :
    hIs st (K 1 c) 1 = some () ∧ hI st (K 1 c) 1 0 = some (nI c) ∧ hI st (K 1 c) 1 1 = some (if sN σ 5 c = 0 then 1 else 0) ∧ hI st (K 1 c) 1 2 = some (nI (sN σ 35 c)) ∧ hI st (K 1 c) 1 3 = some (sI σ 12 c) ∧ hI st (K 1 c) 1 4 = some (nI (sN σ 13 c)) ∧ hI st (K 1 c) 1 5 = some (nI (sN σ 14 c)) ∧ hI st (K 1 c) 1 6 = some (nI (sN σ 11 c)) ∧
    hR st (K 1 c) 1 8 = some (if sN σ 15 c = 0 then none else some (K 2 c)) ∧ hI st (K 1 c) 1 9 = some (sI σ 25 (3 * c) + o c) ∧ hI st (K 1 c) 1 10 = some (sI σ 25 (3 * c + 1)) ∧ hI st (K 1 c) 1 11 = some (sI σ 25 (3 * c + 2)) ∧ (sN σ 5 c ≠ 0 → hR st (K 1 c) 1 7 = some (some (K 4 c))) := by
  obtain ⟨v, h1, e, -⟩ := h.cE hc
  refine ⟨hIs_of e (by decide), hI_of e (by decide) rfl, hI_of e (by decide) rfl, hI_of e (by decide) rfl, hI_of e (by decide) rfl, hI_of e (by decide) rfl, hI_of e (by decide) rfl, hI_of e (by decide) rfl, ?_, hI_of e (by decide) rfl, hI_of e (by decide) rfl, hI_of e (by decide) rfl, fun hf => hR_of e (by decide) (by rw [h1 hf]; rfl)⟩
  by_cases q : sN σ 15 c = 0
  · rw [if_pos q]
    exact hR_no e (by decide) (by show some (if sN σ 15 c = 0 then _ else _) = _; rw [if_pos q])
  · rw [if_neg q]
    exact hR_of e (by decide) (by show some (if sN σ 15 c = 0 then _ else _) = _; rw [if_neg q])
theorem RX.rn {st : HS} {K : Nat → Nat → Nat} {σ : S} {kept : Nat} {p : Int32} {o : Nat → Int32} {pad : List Nat} (h : RX st K σ kept p o pad) {c : Nat} (hc : c < 12) (hn : sN σ 15 c ≠ 0) :
    hIs st (K 2 c) 3 = some () ∧ hI st (K 2 c) 3 0 = some (nI (sN σ 16 c)) ∧ hJ st (K 2 c) 3 1 = some (sL σ c) ∧ hI st (K 2 c) 3 2 = some (nI (sN σ 18 c)) ∧ hI st (K 2 c) 3 3 = some (nI (sN σ 19 c)) ∧ hI st (K 2 c) 3 4 = some (nI (sN σ 20 c)) ∧ hI st (K 2 c) 3 5 = some (sI σ 23 c) ∧ hR st (K 2 c) 3 6 = some (some (K 3 c)) ∧ hI st (K 2 c) 3 7 = some (nI (sR σ c).length) := by
  obtain ⟨e, -⟩ := h.nE hc hn
  exact ⟨hIs_of e (by decide), hI_of e (by decide) rfl, hJ_of e (by decide) rfl, hI_of e (by decide) rfl, hI_of e (by decide) rfl, hI_of e (by decide) rfl, hI_of e (by decide) rfl, hR_of e (by decide) rfl, hI_of e (by decide) rfl⟩
theorem RX.rs {st : HS} {K : Nat → Nat → Nat} {σ : S} {kept : Nat} {p : Int32} {o : Nat → Int32} {pad : List Nat} (h : RX st K σ kept p o pad) :
    hIs st (K 0 0) 0 = some () ∧ hI st (K 0 0) 0 0 = some (nI kept) ∧ hR st (K 0 0) 0 1 = some (some (K 9 0)) ∧ hR st (K 0 0) 0 2 = some (some (K 10 0)) ∧ hR st (K 0 0) 0 3 = some (some (K 12 0)) ∧ hI st (K 0 0) 0 4 = some (nI (rev σ)) ∧ hI st (K 0 0) 0 5 = some (sI σ 24 0) ∧ hI st (K 0 0) 0 6 = some (sI σ 26 0 + p) ∧ hI st (K 0 0) 0 7 = some (sI σ 26 1) ∧ hI st (K 0 0) 0 8 = some (sI σ 26 2) ∧ hR st (K 0 0) 0 9 = some (some (K 15 0)) := by
  obtain ⟨e, -⟩ := h.sE
  exact ⟨hIs_of e (by decide), hI_of e (by decide) rfl, hR_of e (by decide) rfl, hR_of e (by decide) rfl, hR_of e (by decide) rfl, hI_of e (by decide) rfl, hI_of e (by decide) rfl, hI_of e (by decide) rfl, hI_of e (by decide) rfl, hI_of e (by decide) rfl, hR_of e (by decide) rfl⟩
theorem RX.rca {st : HS} {K : Nat → Nat → Nat} {σ : S} {kept : Nat} {p : Int32} {o : Nat → Int32} {pad : List Nat} (h : RX st K σ kept p o pad) {c : Nat} (hc : c < 12) : hAr st (K 9 0) 4 (nI c) = some (some (K 1 c)) := by
  obtain ⟨e, h1, g, h2, h3⟩ := h.at (f := 9) (a := 0) rfl
  subst h2
  rw [hAr_of h1 hc (by decide), h3 c hc]
theorem RX.rch {st : HS} {K : Nat → Nat → Nat} {σ : S} {kept : Nat} {p : Int32} {o : Nat → Int32} {pad : List Nat} (h : RX st K σ kept p o pad) {d : Nat} (hd : d ≤ 2) : hAi st (K 15 0) 0 (nI d) = some (nI (sN σ 4 d)) ∧ sN σ 4 d < B20 := by
  obtain ⟨e, h1, g, h2, h3⟩ := h.at (f := 15) (a := 0) rfl
  subst h2
  exact ⟨by rw [hAi_of h1 (by decide) (by omega) (by decide), (h3 d hd).1], (h3 d hd).2⟩
theorem RX.rrd {st : HS} {K : Nat → Nat → Nat} {σ : S} {kept : Nat} {p : Int32} {o : Nat → Int32} {pad : List Nat} (h : RX st K σ kept p o pad) {c : Nat} (hc : c < 12) (hn : sN σ 15 c ≠ 0) : (∀ r ∈ sR σ c, r < 12) ∧ (sR σ c).Nodup ∧ (sR σ c).length ≤ 12 ∧ ∀ i r, (sR σ c)[i]? = some r → hAr st (K 3 c) 4 (nI i) = some (some (K 1 r)) := by
  obtain ⟨e, h1, g, h2, h3, h4, h5⟩ := h.at (f := 3) (a := c) ⟨hc, hn⟩
  subst h2
  have hl := nodup_len 12 _ h4 h3
  refine ⟨h3, h4, hl, fun i r hi => ?_⟩
  have := (List.getElem?_eq_some_iff.mp hi).1
  rw [hAr_of h1 (by omega) (by decide), h5 i r hi]
/-- only one address changes -/
def F1 (st st' : HS) (a : Nat) : Prop := st'.2 = st.2 ∧ ∀ q, q ≠ a → st'.1 q = st.1 q
theorem RX.vw {st : HS} {K : Nat → Nat → Nat} {σ σ' : S} {kept : Nat} {p p' : Int32} {o o' : Nat → Int32} {pad : List Nat} (h : RX st K σ kept p o pad) (hc : ∀ a, a < 12 → cV σ' o' a = cV σ o a) (hn : ∀ a, a < 12 → sN σ' 15 a ≠ 0 → sN σ 15 a ≠ 0 ∧ nV σ' a = nV σ a ∧ sR σ' a = sR σ a)
    (hf : ∀ a, a < 12 → sN σ' 5 a ≠ 0 → sN σ 5 a ≠ 0 ∧ sT σ' a = sT σ a ∧ sC σ' a = sC σ a) (hs : sV σ' p' = sV σ p) (h4 : ∀ d, d ≤ 2 → sN σ' 4 d = sN σ 4 d) : RX st K σ' kept p' o' pad := by
  obtain ⟨h1, h2, h3, h5, h6⟩ := h
  have hlv : ∀ f a, lv σ' f a → lv σ f a := lv_of (fun a ha hq => (hn a ha hq).1) (fun a ha hq => (hf a ha hq).1)
  refine ⟨fun f a hl => ?_, fun f a hl => h2 f a (hlv f a hl), fun f a g b hl hm => h3 f a g b (hlv f a hl) (hlv g b hm), h5, h6⟩
  obtain ⟨e, k1, k2⟩ := h1 f a (hlv f a hl)
  exact ⟨e, k1, xE.oth k2 hl (fun w => hc a w.2) (fun w1 w2 w3 => (hn a w2 w3).2.1) (fun w1 w2 w3 => (hn a w2 w3).2.2) (fun _ w2 w3 => (hf a w2 w3).2) (fun _ _ => hs) (fun _ _ => h4)⟩
theorem RX.setC {st : HS} {K : Nat → Nat → Nat} {σ σ' : S} {kept : Nat} {p : Int32} {o o' : Nat → Int32} {pad : List Nat} {c k : Nat} {v : Value} (h : RX st K σ kept p o pad) (hc : c < 12) (hk : k < 12) (he : ∀ w, (cL K σ o c w).set k v = cL K σ' o' c w) (hb : sN σ' 35 c ≤ 1 ∧ sN σ' 13 c ≤ 2 ∧ sN σ' 14 c < B20 ∧ sN σ' 11 c < B20)
    (h1 : ∀ a, a < 12 → a ≠ c → cV σ' o' a = cV σ o a) (h2 : ∀ a, sN σ' 15 a = sN σ 15 a ∧ nV σ' a = nV σ a ∧ sR σ' a = sR σ a) (h3 : ∀ a, sN σ' 5 a = sN σ 5 a ∧ sT σ' a = sT σ a ∧ sC σ' a = sC σ a) (h4 : sV σ' p = sV σ p) (h5 : ∀ d, sN σ' 4 d = sN σ 4 d) :
    ∃ st', hP st (K 1 c) 1 k v = some st' ∧ RX st' K σ' kept p o' pad ∧ F1 st st' (K 1 c) := by
  obtain ⟨w, g1, g2, -⟩ := h.cE hc
  refine ⟨_, hP_of g2 hk, ?_, rfl, fun q hq => by rw [hSet_s, if_neg hq]⟩
  rw [he w]
  exact h.upd (f0 := 1) (a0 := c) hc ⟨⟨w, by rw [(h3 c).1]; exact g1, rfl⟩, hb⟩ (fun a ha hn => h1 a ha (fun e => hn ⟨rfl, e⟩)) (fun a ha hn => ⟨by rw [← (h2 a).1]; exact hn, fun _ => (h2 a).2.1, fun _ => (h2 a).2.2⟩) (fun a ha hn => ⟨by rw [← (h3 a).1]; exact hn, (h3 a).2⟩) (fun _ => h4) (fun _ d _ => h5 d) (fun _ _ => rfl) (fun _ => rfl)
theorem RX.setN {st : HS} {K : Nat → Nat → Nat} {σ σ' : S} {kept : Nat} {p : Int32} {o : Nat → Int32} {pad : List Nat} {c k : Nat} {v : Value} (h : RX st K σ kept p o pad) (hc : c < 12) (hn : sN σ 15 c ≠ 0) (hk : k < 8) (he : (nL K σ c).set k v = nL K σ' c) (hb : sN σ' 16 c ≤ 1 ∧ sN σ' 18 c < B20 ∧ sN σ' 19 c < B20 ∧ sN σ' 20 c ≤ 2 ∧ ∃ x, sL σ' c = enc x)
    (h1 : ∀ a, cV σ' o a = cV σ o a) (h2 : ∀ a, sN σ' 15 a = sN σ 15 a ∧ (a ≠ c → nV σ' a = nV σ a) ∧ sR σ' a = sR σ a) (h3 : ∀ a, sN σ' 5 a = sN σ 5 a ∧ sT σ' a = sT σ a ∧ sC σ' a = sC σ a) (h4 : sV σ' p = sV σ p) (h5 : ∀ d, sN σ' 4 d = sN σ 4 d) :
    ∃ st', hP st (K 2 c) 3 k v = some st' ∧ RX st' K σ' kept p o pad ∧ F1 st st' (K 2 c) := by
  obtain ⟨g2, -⟩ := h.nE hc hn
  refine ⟨_, hP_of g2 hk, ?_, rfl, fun q hq => by rw [hSet_s, if_neg hq]⟩
  rw [he]
  exact h.upd (f0 := 2) (a0 := c) ⟨hc, hn⟩ ⟨rfl, hb⟩ (fun a ha _ => h1 a) (fun a ha hn => ⟨by rw [← (h2 a).1]; exact hn, fun q => (h2 a).2.1 (fun e => q ⟨rfl, e⟩), fun _ => (h2 a).2.2⟩) (fun a ha hn => ⟨by rw [← (h3 a).1]; exact hn, (h3 a).2⟩) (fun _ => h4) (fun _ d _ => h5 d) (fun _ _ => rfl) (fun _ => rfl)
theorem RX.setS {st : HS} {K : Nat → Nat → Nat} {σ σ' : S} {kept : Nat} {p p' : Int32} {o : Nat → Int32} {pad : List Nat} {k : Nat} {v : Value} (h : RX st K σ kept p o pad) (hk : k < 10) (he : (sLs0 K σ kept p).set k v = sLs0 K σ' kept p') (hb : rev σ' < B20)
    (h1 : ∀ a, cV σ' o a = cV σ o a) (h2 : ∀ a, sN σ' 15 a = sN σ 15 a ∧ nV σ' a = nV σ a ∧ sR σ' a = sR σ a) (h3 : ∀ a, sN σ' 5 a = sN σ 5 a ∧ sT σ' a = sT σ a ∧ sC σ' a = sC σ a) (h5 : ∀ d, sN σ' 4 d = sN σ 4 d) :
    ∃ st', hP st (K 0 0) 0 k v = some st' ∧ RX st' K σ' kept p' o pad ∧ F1 st st' (K 0 0) := by
  obtain ⟨g2, -⟩ := h.sE
  refine ⟨_, hP_of g2 hk, ?_, rfl, fun q hq => by rw [hSet_s, if_neg hq]⟩
  rw [he]
  exact h.upd (f0 := 0) (a0 := 0) rfl ⟨rfl, hb⟩ (fun a ha _ => h1 a) (fun a ha hn => ⟨by rw [← (h2 a).1]; exact hn, fun q => (h2 a).2.1, fun _ => (h2 a).2.2⟩) (fun a ha hn => ⟨by rw [← (h3 a).1]; exact hn, (h3 a).2⟩) (fun q => absurd rfl q) (fun _ d _ => h5 d) (fun _ _ => rfl) (fun _ => rfl)
/-- the single writes -/
theorem RX.mark {st : HS} {K : Nat → Nat → Nat} {σ : S} {kept : Nat} {p : Int32} {o : Nat → Int32} {pad : List Nat} {c v : Nat} (h : RX st K σ kept p o pad) (hc : c < 12) (hv : v ≤ 1) : ∃ st', hP st (K 1 c) 1 2 (.int (nI v)) = some st' ∧ RX st' K (sNs σ 35 c v) kept p o pad ∧ F1 st st' (K 1 c) := by
  obtain ⟨w, -, -, g1, g2, g3, g4⟩ := h.cE hc
  refine h.setC hc (by decide) (fun w => ?_) ⟨?_, g2, g3, g4⟩ (fun a ha hn => ?_) (fun a => ⟨rfl, rfl, rfl⟩) (fun a => ⟨rfl, rfl, rfl⟩) rfl (fun d => rfl)
  · unfold cL
    have e : sN (sNs σ 35 c v) 35 c = v := by rw [sN_sNs, if_pos ⟨rfl, rfl⟩]
    rw [e]
    rfl
  · rw [sN_sNs, if_pos ⟨rfl, rfl⟩]; exact hv
  · unfold cV
    have e : sN (sNs σ 35 c v) 35 a = sN σ 35 a := by rw [sN_sNs, if_neg (fun q => hn q.2)]
    rw [e]
    rfl
theorem RX.nver {st : HS} {K : Nat → Nat → Nat} {σ : S} {kept : Nat} {p : Int32} {o : Nat → Int32} {pad : List Nat} {c v : Nat} (h : RX st K σ kept p o pad) (hc : c < 12) (hn : sN σ 15 c ≠ 0) (hv : v < B20) : ∃ st', hP st (K 2 c) 3 2 (.int (nI v)) = some st' ∧ RX st' K (sNs σ 18 c v) kept p o pad ∧ F1 st st' (K 2 c) := by
  obtain ⟨-, g1, g2, g3, g4, g5⟩ := h.nE hc hn
  refine h.setN hc hn (by decide) ?_ ⟨g1, ?_, g3, g4, g5⟩ (fun a => rfl) (fun a => ⟨rfl, fun hq => ?_, rfl⟩) (fun a => ⟨rfl, rfl, rfl⟩) rfl (fun d => rfl)
  · unfold nL
    have e : sN (sNs σ 18 c v) 18 c = v := by rw [sN_sNs, if_pos ⟨rfl, rfl⟩]
    rw [e]
    rfl
  · rw [sN_sNs, if_pos ⟨rfl, rfl⟩]; exact hv
  · unfold nV
    have e : sN (sNs σ 18 c v) 18 a = sN σ 18 a := by rw [sN_sNs, if_neg (fun q => hq q.2)]
    rw [e]
    rfl
theorem RX.ndur {st : HS} {K : Nat → Nat → Nat} {σ : S} {kept : Nat} {p : Int32} {o : Nat → Int32} {pad : List Nat} {c v : Nat} (h : RX st K σ kept p o pad) (hc : c < 12) (hn : sN σ 15 c ≠ 0) (hv : v ≤ 2) : ∃ st', hP st (K 2 c) 3 4 (.int (nI v)) = some st' ∧ RX st' K (sNs σ 20 c v) kept p o pad ∧ F1 st st' (K 2 c) := by
  obtain ⟨-, g1, g2, g3, g4, g5⟩ := h.nE hc hn
  refine h.setN hc hn (by decide) ?_ ⟨g1, g2, g3, ?_, g5⟩ (fun a => rfl) (fun a => ⟨rfl, fun hq => ?_, rfl⟩) (fun a => ⟨rfl, rfl, rfl⟩) rfl (fun d => rfl)
  · unfold nL
    have e : sN (sNs σ 20 c v) 20 c = v := by rw [sN_sNs, if_pos ⟨rfl, rfl⟩]
    rw [e]
    rfl
  · rw [sN_sNs, if_pos ⟨rfl, rfl⟩]; exact hv
  · unfold nV
    have e : sN (sNs σ 20 c v) 20 a = sN σ 20 a := by rw [sN_sNs, if_neg (fun q => hq q.2)]
    rw [e]
    rfl
theorem RX.nhas {st : HS} {K : Nat → Nat → Nat} {σ : S} {kept : Nat} {p : Int32} {o : Nat → Int32} {pad : List Nat} {c : Nat} (h : RX st K σ kept p o pad) (hc : c < 12) (hn : sN σ 15 c ≠ 0) : ∃ st', hP st (K 2 c) 3 0 (.int 0) = some st' ∧ RX st' K (sNs σ 16 c 0) kept p o pad ∧ F1 st st' (K 2 c) := by
  obtain ⟨-, g1, g2, g3, g4, g5⟩ := h.nE hc hn
  refine h.setN hc hn (by decide) ?_ ⟨?_, g2, g3, g4, g5⟩ (fun a => rfl) (fun a => ⟨rfl, fun hq => ?_, rfl⟩) (fun a => ⟨rfl, rfl, rfl⟩) rfl (fun d => rfl)
  · unfold nL
    have e : sN (sNs σ 16 c 0) 16 c = 0 := by rw [sN_sNs, if_pos ⟨rfl, rfl⟩]
    rw [e]
    rfl
  · rw [sN_sNs, if_pos ⟨rfl, rfl⟩]; omega
  · unfold nV
    have e : sN (sNs σ 16 c 0) 16 a = sN σ 16 a := by rw [sN_sNs, if_neg (fun q => hq q.2)]
    rw [e]
    rfl
theorem RX.nuse {st : HS} {K : Nat → Nat → Nat} {σ : S} {kept : Nat} {p : Int32} {o : Nat → Int32} {pad : List Nat} {c : Nat} {x : Int32} (h : RX st K σ kept p o pad) (hc : c < 12) (hn : sN σ 15 c ≠ 0) : ∃ st', hP st (K 2 c) 3 5 (.int x) = some st' ∧ RX st' K (sIs σ 23 c x) kept p o pad ∧ F1 st st' (K 2 c) := by
  obtain ⟨-, g1, g2, g3, g4, g5⟩ := h.nE hc hn
  refine h.setN hc hn (by decide) ?_ ⟨g1, g2, g3, g4, g5⟩ (fun a => rfl) (fun a => ⟨rfl, fun hq => ?_, rfl⟩) (fun a => ⟨rfl, rfl, rfl⟩) rfl (fun d => rfl)
  · unfold nL
    have e : sI (sIs σ 23 c x) 23 c = x := by rw [sI_sIs, if_pos ⟨rfl, rfl⟩]
    rw [e]
    rfl
  · unfold nV
    have e : sI (sIs σ 23 c x) 23 a = sI σ 23 a := by rw [sI_sIs, if_neg (fun q => hq q.2)]
    rw [e]
    rfl
theorem RX.suse {st : HS} {K : Nat → Nat → Nat} {σ : S} {kept : Nat} {p : Int32} {o : Nat → Int32} {pad : List Nat} {x : Int32} (h : RX st K σ kept p o pad) : ∃ st', hP st (K 0 0) 0 5 (.int x) = some st' ∧ RX st' K (sIs σ 24 0 x) kept p o pad ∧ F1 st st' (K 0 0) := by
  obtain ⟨-, g1⟩ := h.sE
  exact h.setS (by decide) rfl g1 (fun a => rfl) (fun a => ⟨rfl, rfl, rfl⟩) (fun a => ⟨rfl, rfl, rfl⟩) (fun d => rfl)
/-- confirmed and passed -/
theorem RX.scnt {st : HS} {K : Nat → Nat → Nat} {σ : S} {kept : Nat} {p : Int32} {o : Nat → Int32} {pad : List Nat} {w : Nat} {x : Int32} (h : RX st K σ kept p o pad) (hw : w = 1 ∨ w = 2) : ∃ st', hP st (K 0 0) 0 (6 + w) (.int x) = some st' ∧ RX st' K (sIs σ 26 w x) kept p o pad ∧ F1 st st' (K 0 0) := by
  obtain ⟨-, g1⟩ := h.sE
  rcases hw with e | e <;> subst e
  · exact h.setS (by decide) rfl g1 (fun a => rfl) (fun a => ⟨rfl, rfl, rfl⟩) (fun a => ⟨rfl, rfl, rfl⟩) (fun d => rfl)
  · exact h.setS (by decide) rfl g1 (fun a => rfl) (fun a => ⟨rfl, rfl, rfl⟩) (fun a => ⟨rfl, rfl, rfl⟩) (fun d => rfl)
theorem RX.swork {st : HS} {K : Nat → Nat → Nat} {σ : S} {kept : Nat} {p : Int32} {o : Nat → Int32} {pad : List Nat} (p' : Int32) (h : RX st K σ kept p o pad) : ∃ st', hP st (K 0 0) 0 6 (.int (sI σ 26 0 + p')) = some st' ∧ RX st' K σ kept p' o pad ∧ F1 st st' (K 0 0) := by
  obtain ⟨-, g1⟩ := h.sE
  exact h.setS (by decide) rfl g1 (fun a => rfl) (fun a => ⟨rfl, rfl, rfl⟩) (fun a => ⟨rfl, rfl, rfl⟩) (fun d => rfl)
theorem RX.ccnt {st : HS} {K : Nat → Nat → Nat} {σ : S} {kept : Nat} {p : Int32} {o : Nat → Int32} {pad : List Nat} {c w : Nat} {x : Int32} (h : RX st K σ kept p o pad) (hc : c < 12) (hw : w = 1 ∨ w = 2) : ∃ st', hP st (K 1 c) 1 (9 + w) (.int x) = some st' ∧ RX st' K (sIs σ 25 (3 * c + w) x) kept p o pad ∧ F1 st st' (K 1 c) := by
  obtain ⟨v, -, -, g1⟩ := h.cE hc
  refine h.setC hc (by omega) (fun z => ?_) g1 (fun a ha hn => ?_) (fun a => ⟨rfl, rfl, rfl⟩) (fun a => ⟨rfl, rfl, rfl⟩) rfl (fun d => rfl)
  · have e0 : sI (sIs σ 25 (3 * c + w) x) 25 (3 * c) = sI σ 25 (3 * c) := by rw [sI_sIs, if_neg (by omega)]
    have e1 : sI (sIs σ 25 (3 * c + w) x) 25 (3 * c + w) = x := by rw [sI_sIs, if_pos ⟨rfl, rfl⟩]
    unfold cL
    rw [e0]
    rcases hw with e | e <;> subst e
    · rw [e1, show sI (sIs σ 25 (3 * c + 1) x) 25 (3 * c + 2) = sI σ 25 (3 * c + 2) by rw [sI_sIs, if_neg (by omega)]]; rfl
    · rw [e1, show sI (sIs σ 25 (3 * c + 2) x) 25 (3 * c + 1) = sI σ 25 (3 * c + 1) by rw [sI_sIs, if_neg (by omega)]]; rfl
  · have e : ∀ j, j ≠ 3 * c + w → sI (sIs σ 25 (3 * c + w) x) 25 j = sI σ 25 j := fun j hj => by rw [sI_sIs, if_neg (fun q => hj q.2)]
    unfold cV
    rw [e (3 * a) (by omega), e (3 * a + 1) (by omega), e (3 * a + 2) (by omega)]
    rfl
theorem RX.cwork {st : HS} {K : Nat → Nat → Nat} {σ : S} {kept : Nat} {p : Int32} {o : Nat → Int32} {pad : List Nat} {c : Nat} (h : RX st K σ kept p o pad) (hc : c < 12) : ∃ st', hP st (K 1 c) 1 9 (.int (sI σ 25 (3 * c) + o c + 1)) = some st' ∧ RX st' K σ kept p (fun a => if a = c then o a + 1 else o a) pad ∧ F1 st st' (K 1 c) := by
  obtain ⟨v, -, -, g1⟩ := h.cE hc
  refine h.setC hc (by decide) (fun z => ?_) g1 (fun a ha hn => ?_) (fun a => ⟨rfl, rfl, rfl⟩) (fun a => ⟨rfl, rfl, rfl⟩) rfl (fun d => rfl)
  · unfold cL
    dsimp only
    rw [if_pos rfl, ← Int32.add_assoc]
    rfl
  · unfold cV
    dsimp only
    rw [if_neg hn]
