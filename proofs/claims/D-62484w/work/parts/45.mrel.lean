/-! the model's state against the abstract sheet -/
theorem mA_mAs (st : MS) (k i k' i' : Nat) (v : Int32) : mA (mAs st k i v) k' i' = if k' = k ∧ i' = i then v else mA st k' i' := rfl
theorem mA_mIs (st : MS) (j k' i' : Nat) (v : Int32) : mA (mIs st j v) k' i' = mA st k' i' := rfl
theorem mA_mLs (st : MS) (k i k' i' : Nat) (v : Int64) : mA (mLs st k i v) k' i' = mA st k' i' := rfl
theorem mI_mAs (st : MS) (k i j : Nat) (v : Int32) : mI (mAs st k i v) j = mI st j := rfl
theorem mI_mIs (st : MS) (j j' : Nat) (v : Int32) : mI (mIs st j v) j' = if j' = j then v else mI st j' := rfl
theorem mI_mLs (st : MS) (k i j : Nat) (v : Int64) : mI (mLs st k i v) j = mI st j := rfl
theorem mL_mAs (st : MS) (k i k' i' : Nat) (v : Int32) : mL (mAs st k i v) k' i' = mL st k' i' := rfl
theorem mL_mIs (st : MS) (j k' i' : Nat) (v : Int32) : mL (mIs st j v) k' i' = mL st k' i' := rfl
theorem mL_mLs (st : MS) (k i k' i' : Nat) (v : Int64) : mL (mLs st k i v) k' i' = if k' = k ∧ i' = i then v else mL st k' i' := rfl
theorem mn_lt (k : Nat) : mn k < 2 ^ 31 := by
  unfold mn
  match k with
  | 0 | 1 | 2 | 3 | 4 | 5 | 6 | 7 | 8 | 9 | 10 | 11 | 12 | 13 | 14 | 15 | 16 | 17 | 18 | 19 | 20 | 21 | 22 | 23 | 24 | 25 | 26 | 27 | 28 | 29 | 30 | 31 | 32 | 33 | 34 | 35 | 36 | 37 | 38 | 39 | 40 | 41 | 42 => decide
  | n + 43 => simp [List.getD]
theorem mrd_n {st : MS} {k j : Nat} (h : j < mn k) : mrd st k (nI j) = some (mA st k j) := by unfold mrd; rw [ix_nI h (mn_lt k)]; rfl
theorem mrL_n {st : MS} {k j : Nat} (h : j < mn k) : mrL st k (nI j) = some (mL st k j) := by unfold mrL; rw [ix_nI h (mn_lt k)]; rfl
theorem mwr_n {st : MS} {k j : Nat} {v : Int32} (h : j < mn k) : mwr st k (nI j) v = some (mAs st k j v) := by unfold mwr; rw [ix_nI h (mn_lt k)]; rfl
theorem mwL_n {st : MS} {k j : Nat} {v : Int64} (h : j < mn k) : mwL st k (nI j) v = some (mLs st k j v) := by unfold mwL; rw [ix_nI h (mn_lt k)]; rfl
theorem nI_mul (a b : Nat) : nI a * nI b = nI (a * b) := by
  unfold nI
  rw [← Int32.ofNat_mul]
theorem nI_mk {a : Nat} (k : Int32) (n : Nat) (h : k = nI n) : k * nI a = nI (n * a) := by rw [h, nI_mul]
theorem nI0 {n : Nat} (h : n < 2 ^ 31) : nI n = 0 ↔ n = 0 := by
  constructor
  · intro e
    cases n with
    | zero => rfl
    | succ n => exact absurd e (nI_ne0 (by omega) h)
  · intro e; subst e; rfl
theorem nar1 : vp_nar .boolean 1 = nI 1 := by decide +kernel
theorem nar0 : vp_nar .boolean 0 = nI 0 := by decide +kernel
def cN (k : Nat) : Prop := k = 5 ∨ k = 11 ∨ k = 13 ∨ k = 14 ∨ k = 15 ∨ k = 16 ∨ k = 18 ∨ k = 19 ∨ k = 20 ∨ k = 35
def B20 : Nat := 1048576
/-- small, and of the flags 0 or 1 -/
def bnd (k v : Nat) : Prop := v < B20 ∧ (k = 5 ∨ k = 15 ∨ k = 16 ∨ k = 35 → v ≤ 1)
theorem bnd_n {k v : Nat} (h : v < B20) (hk : ¬ (k = 5 ∨ k = 15 ∨ k = 16 ∨ k = 35)) : bnd k v := ⟨h, fun q => absurd q hk⟩
theorem bnd_f {k v : Nat} (h : v ≤ 1) : bnd k v := ⟨by unfold B20; omega, fun _ => h⟩
def rN (ms : MS) (σ : S) : Prop := (∀ k c, c < 12 → cN k → mA ms k c = nI (sN σ k c) ∧ bnd k (sN σ k c)) ∧ (∀ d, d ≤ 2 → mA ms 4 d = nI (sN σ 4 d) ∧ sN σ 4 d < B20) ∧ mI ms 3 = nI (rev σ) ∧ rev σ < B20
def rI (ms : MS) (σ : S) : Prop := (∀ c, c < 12 → mA ms 12 c = sI σ 12 c) ∧ (∀ c, c < 12 → mA ms 23 c = sI σ 23 c) ∧ mI ms 24 = sI σ 24 0 ∧ (∀ i, i < 36 → mA ms 25 i = sI σ 25 i) ∧ (∀ i, i < 3 → mA ms 26 i = sI σ 26 i) ∧ ∀ c, c < 12 → mL ms 17 c = sL σ c
def rR (ms : MS) (σ : S) : Prop := ∀ c, c < 12 → (sR σ c).length ≤ 12 ∧ mA ms 21 c = nI (sR σ c).length ∧ ∀ i r, (sR σ c)[i]? = some r → mA ms 22 (12 * c + i) = nI r
def rT (ms : MS) (σ : S) : Prop := ∀ c, c < 12 → (sT σ c).length ≤ 30 ∧ mA ms 7 c = nI (sT σ c).length ∧ ∀ i t, (sT σ c)[i]? = some t → mA ms 6 (30 * c + i) = nI t
def rC (ms : MS) (σ : S) : Prop := ∀ c, c < 12 → (sC σ c).length ≤ 40 ∧ mA ms 8 c = nI (sC σ c).length ∧ ∀ i op n, (sC σ c)[i]? = some (op, n) → mA ms 9 (40 * c + i) = nI op ∧ mA ms 10 (40 * c + i) = nI n
def RM (ms : MS) (σ : S) : Prop := rN ms σ ∧ rI ms σ ∧ rR ms σ ∧ rT ms σ ∧ rC ms σ
theorem RM.n {ms : MS} {σ : S} (h : RM ms σ) {k c : Nat} (hc : c < 12) (hk : cN k) : mA ms k c = nI (sN σ k c) := (h.1.1 k c hc hk).1
theorem RM.b {ms : MS} {σ : S} (h : RM ms σ) {k c : Nat} (hc : c < 12) (hk : cN k) : sN σ k c < 2 ^ 31 := Nat.lt_trans (h.1.1 k c hc hk).2.1 (by decide)
theorem RM.fl {ms : MS} {σ : S} (h : RM ms σ) {k c : Nat} (hc : c < 12) (hk : cN k) (hf : k = 5 ∨ k = 15 ∨ k = 16 ∨ k = 35) : sN σ k c ≤ 1 := (h.1.1 k c hc hk).2.2 hf
theorem RM.rv {ms : MS} {σ : S} (h : RM ms σ) : mI ms 3 = nI (rev σ) := h.1.2.2.1
theorem RM.rvb {ms : MS} {σ : S} (h : RM ms σ) : rev σ < 2 ^ 31 := Nat.lt_trans h.1.2.2.2 (by decide)
theorem RM.chg {ms : MS} {σ : S} (h : RM ms σ) {d : Nat} (hd : d ≤ 2) : mA ms 4 d = nI (sN σ 4 d) ∧ sN σ 4 d < 2 ^ 31 := ⟨(h.1.2.1 d hd).1, Nat.lt_trans (h.1.2.1 d hd).2 (by decide)⟩
/-- the columns of open cells and the scratch of the reader don't matter -/
def cF (k : Nat) : Prop := (28 ≤ k ∧ k ≤ 34) ∨ k = 36 ∨ 38 ≤ k ∨ k = 1
theorem RM.frA {ms : MS} {σ : S} (h : RM ms σ) {k i : Nat} {v : Int32} (hk : cF k) : RM (mAs ms k i v) σ := by
  obtain ⟨⟨h1, h2, h3, h4⟩, ⟨i1, i2, i3, i4, i5, i6⟩, hr, ht, hc⟩ := h
  unfold cF at hk
  have e : ∀ k' i', k' ≠ k → mA (mAs ms k i v) k' i' = mA ms k' i' := fun k' i' hn => by rw [mA_mAs, if_neg (fun q => hn q.1)]
  refine ⟨⟨fun k' c hc hk' => ?_, fun d hd => ?_, h3, h4⟩, ⟨fun c hc => ?_, fun c hc => ?_, i3, fun c hc => ?_, fun c hc => ?_, i6⟩, fun c hc => ?_, fun c hc => ?_, fun c hc => ?_⟩
  · rw [e _ _ (by unfold cN at hk'; omega)]; exact h1 k' c hc hk'
  · rw [e _ _ (by omega)]; exact h2 d hd
  · rw [e _ _ (by omega)]; exact i1 c hc
  · rw [e _ _ (by omega)]; exact i2 c hc
  · rw [e _ _ (by omega)]; exact i4 c hc
  · rw [e _ _ (by omega)]; exact i5 c hc
  · rw [e _ _ (by omega)]; obtain ⟨q1, q2, q3⟩ := hr c hc; exact ⟨q1, q2, fun i r hi => by rw [e _ _ (by omega)]; exact q3 i r hi⟩
  · rw [e _ _ (by omega)]; obtain ⟨q1, q2, q3⟩ := ht c hc; exact ⟨q1, q2, fun i r hi => by rw [e _ _ (by omega)]; exact q3 i r hi⟩
  · rename_i hc'; rw [e _ _ (by omega)]; obtain ⟨q1, q2, q3⟩ := hc' c hc; exact ⟨q1, q2, fun i r n hi => by rw [e _ _ (by omega), e _ _ (by omega)]; exact q3 i r n hi⟩
theorem RM.frL {ms : MS} {σ : S} (h : RM ms σ) {k i : Nat} {v : Int64} (hk : k ≠ 17) : RM (mLs ms k i v) σ := by
  obtain ⟨hn, ⟨i1, i2, i3, i4, i5, i6⟩, hr, ht, hc⟩ := h
  exact ⟨hn, ⟨i1, i2, i3, i4, i5, fun c hc => by rw [mL_mLs, if_neg (fun q => hk q.1.symm)]; exact i6 c hc⟩, hr, ht, hc⟩
theorem RM.frI {ms : MS} {σ : S} (h : RM ms σ) {j : Nat} {v : Int32} (h3 : j ≠ 3) (h24 : j ≠ 24) : RM (mIs ms j v) σ := by
  obtain ⟨⟨n1, n2, n3, n4⟩, ⟨i1, i2, i3, i4, i5, i6⟩, hr, ht, hc⟩ := h
  exact ⟨⟨n1, n2, by rw [mI_mIs, if_neg (fun q => h3 q.symm)]; exact n3, n4⟩, ⟨i1, i2, by rw [mI_mIs, if_neg (fun q => h24 q.symm)]; exact i3, i4, i5, i6⟩, hr, ht, hc⟩
theorem RM.setN {ms : MS} {σ : S} (h : RM ms σ) {k c v : Nat} (hk : cN k) (hv : bnd k v) : RM (mAs ms k c (nI v)) (sNs σ k c v) := by
  obtain ⟨⟨h1, h2, h3, h4⟩, ⟨i1, i2, i3, i4, i5, i6⟩, hr, ht, hc⟩ := h
  unfold cN at hk
  have e : ∀ k' i', k' ≠ k → mA (mAs ms k c (nI v)) k' i' = mA ms k' i' := fun k' i' hn => by rw [mA_mAs, if_neg (fun q => hn q.1)]
  have e2 : ∀ k' i', k' ≠ k → sN (sNs σ k c v) k' i' = sN σ k' i' := fun k' i' hn => by rw [sN_sNs, if_neg (fun q => hn q.1)]
  refine ⟨⟨fun k' c' hc hk' => ?_, fun d hd => ?_, ?_, ?_⟩, ⟨fun c hc => ?_, fun c hc => ?_, i3, fun c hc => ?_, fun c hc => ?_, i6⟩, fun c hc => ?_, fun c hc => ?_, fun c hc => ?_⟩
  · rw [mA_mAs, sN_sNs]
    by_cases q : k' = k ∧ c' = c
    · rw [if_pos q, if_pos q, q.1]; exact ⟨rfl, hv⟩
    · rw [if_neg q, if_neg q]; exact h1 k' c' hc hk'
  · rw [e _ _ (by omega), e2 _ _ (by omega)]; exact h2 d hd
  · unfold rev; rw [e2 _ _ (by omega)]; exact h3
  · unfold rev; rw [e2 _ _ (by omega)]; exact h4
  · rw [e _ _ (by omega)]; exact i1 c hc
  · rw [e _ _ (by omega)]; exact i2 c hc
  · rw [e _ _ (by omega)]; exact i4 c hc
  · rw [e _ _ (by omega)]; exact i5 c hc
  · rw [e _ _ (by omega)]; obtain ⟨q1, q2, q3⟩ := hr c hc; exact ⟨q1, q2, fun i r hi => by rw [e _ _ (by omega)]; exact q3 i r hi⟩
  · rw [e _ _ (by omega)]; obtain ⟨q1, q2, q3⟩ := ht c hc; exact ⟨q1, q2, fun i r hi => by rw [e _ _ (by omega)]; exact q3 i r hi⟩
  · rename_i hc'; rw [e _ _ (by omega)]; obtain ⟨q1, q2, q3⟩ := hc' c hc; exact ⟨q1, q2, fun i r n hi => by rw [e _ _ (by omega), e _ _ (by omega)]; exact q3 i r n hi⟩
theorem RM.setI {ms : MS} {σ : S} (h : RM ms σ) {k c : Nat} {v : Int32} (hk : k = 12 ∨ k = 23 ∨ k = 25 ∨ k = 26) : RM (mAs ms k c v) (sIs σ k c v) := by
  obtain ⟨⟨h1, h2, h3, h4⟩, ⟨i1, i2, i3, i4, i5, i6⟩, hr, ht, hc⟩ := h
  have e : ∀ k' i', k' ≠ k → mA (mAs ms k c v) k' i' = mA ms k' i' := fun k' i' hn => by rw [mA_mAs, if_neg (fun q => hn q.1)]
  have e3 : ∀ k' c', mA ms k' c' = sI σ k' c' → mA (mAs ms k c v) k' c' = sI (sIs σ k c v) k' c' := fun k' c' hq => by
    rw [mA_mAs, sI_sIs]
    by_cases q : k' = k ∧ c' = c
    · rw [if_pos q, if_pos q]
    · rw [if_neg q, if_neg q]; exact hq
  refine ⟨⟨fun k' c' hc hk' => ?_, fun d hd => ?_, h3, h4⟩, ⟨fun c hc => e3 _ _ (i1 c hc), fun c hc => e3 _ _ (i2 c hc), ?_, fun c hc => e3 _ _ (i4 c hc), fun c hc => e3 _ _ (i5 c hc), i6⟩, fun c hc => ?_, fun c hc => ?_, fun c hc => ?_⟩
  · rw [e _ _ (by unfold cN at hk'; omega)]; exact h1 k' c' hc hk'
  · rw [e _ _ (by omega)]; exact h2 d hd
  · rw [sI_sIs, if_neg (by omega)]; exact i3
  · rw [e _ _ (by omega)]; obtain ⟨q1, q2, q3⟩ := hr c hc; exact ⟨q1, q2, fun i r hi => by rw [e _ _ (by omega)]; exact q3 i r hi⟩
  · rw [e _ _ (by omega)]; obtain ⟨q1, q2, q3⟩ := ht c hc; exact ⟨q1, q2, fun i r hi => by rw [e _ _ (by omega)]; exact q3 i r hi⟩
  · rename_i hc'; rw [e _ _ (by omega)]; obtain ⟨q1, q2, q3⟩ := hc' c hc; exact ⟨q1, q2, fun i r n hi => by rw [e _ _ (by omega), e _ _ (by omega)]; exact q3 i r n hi⟩
theorem RM.clock {ms : MS} {σ : S} (h : RM ms σ) {v : Int32} : RM (mIs ms 24 v) (sIs σ 24 0 v) := by
  obtain ⟨⟨n1, n2, n3, n4⟩, ⟨i1, i2, i3, i4, i5, i6⟩, hr, ht, hc⟩ := h
  have e : ∀ k' c', k' ≠ 24 → sI (sIs σ 24 0 v) k' c' = sI σ k' c' := fun k' c' hn => by rw [sI_sIs, if_neg (fun q => hn q.1)]
  refine ⟨⟨n1, n2, n3, n4⟩, ⟨fun c hc => by rw [e _ _ (by decide)]; exact i1 c hc, fun c hc => by rw [e _ _ (by decide)]; exact i2 c hc, rfl, fun c hc => by rw [e _ _ (by decide)]; exact i4 c hc, fun c hc => by rw [e _ _ (by decide)]; exact i5 c hc, i6⟩, hr, ht, hc⟩
theorem RM.setL {ms : MS} {σ : S} (h : RM ms σ) {c : Nat} {v : Int64} : RM (mLs ms 17 c v) (sLs σ c v) := by
  obtain ⟨hn, ⟨i1, i2, i3, i4, i5, i6⟩, hr, ht, hc⟩ := h
  exact ⟨hn, ⟨i1, i2, i3, i4, i5, fun c' hc => by
    rw [mL_mLs, sL_sLs]
    by_cases q : c' = c
    · rw [if_pos ⟨rfl, q⟩, if_pos q]
    · rw [if_neg (fun w => q w.2), if_neg q]; exact i6 c' hc⟩, hr, ht, hc⟩
/-- the same for what shows -/
theorem RM.ext {ms : MS} {σ τ : S} (h : RM ms σ) (hn : ∀ k c, sN τ k c = sN σ k c) (hi : ∀ k c, sI τ k c = sI σ k c) (hl : ∀ c, sL τ c = sL σ c) (hr : ∀ c, sR τ c = sR σ c) (ht : ∀ c, sT τ c = sT σ c) (hc : ∀ c, sC τ c = sC σ c) : RM ms τ := by
  have e1 : σ = τ := by
    obtain ⟨a1, a2, a3, a4, a5, a6⟩ := σ
    obtain ⟨b1, b2, b3, b4, b5, b6⟩ := τ
    have q1 : b1 = a1 := funext fun k => funext fun c => hn k c
    have q2 : b2 = a2 := funext fun k => funext fun c => hi k c
    have q3 : b3 = a3 := funext fun c => hl c
    have q4 : b4 = a4 := funext fun c => hr c
    have q5 : b5 = a5 := funext fun c => ht c
    have q6 : b6 = a6 := funext fun c => hc c
    rw [q1, q2, q3, q4, q5, q6]
  rw [← e1]; exact h
/-- lower open cells, and what is no part of the sheet -/
def FS (ms ms' : MS) (f : Nat) : Prop := (∀ g, g < f → mA ms' 28 g = mA ms 28 g ∧ mA ms' 29 g = mA ms 29 g ∧ mA ms' 30 g = mA ms 30 g ∧ mA ms' 31 g = mA ms 31 g ∧ mA ms' 33 g = mA ms 33 g ∧ mA ms' 36 g = mA ms 36 g ∧ (∀ i, i < 16 → mL ms' 32 (16 * g + i) = mL ms 32 (16 * g + i)) ∧ ∀ i, i < 12 → mA ms' 34 (12 * g + i) = mA ms 34 (12 * g + i)) ∧ mI ms' 0 = mI ms 0 ∧ mI ms' 2 = mI ms 2 ∧ ∀ i, mA ms' 1 i = mA ms 1 i
theorem FS.rf {ms : MS} {f : Nat} : FS ms ms f := ⟨fun _ _ => ⟨rfl, rfl, rfl, rfl, rfl, rfl, fun _ _ => rfl, fun _ _ => rfl⟩, rfl, rfl, fun _ => rfl⟩
theorem FS.t {a b c : MS} {f : Nat} (h : FS a b f) (k : FS b c f) : FS a c f := ⟨fun g hg => by
  obtain ⟨h1, h2, h3, h4, h5, h6, h7, h8⟩ := h.1 g hg
  obtain ⟨k1, k2, k3, k4, k5, k6, k7, k8⟩ := k.1 g hg
  exact ⟨k1.trans h1, k2.trans h2, k3.trans h3, k4.trans h4, k5.trans h5, k6.trans h6, fun i hi => (k7 i hi).trans (h7 i hi), fun i hi => (k8 i hi).trans (h8 i hi)⟩, k.2.1.trans h.2.1, k.2.2.1.trans h.2.2.1, fun i => (k.2.2.2 i).trans (h.2.2.2 i)⟩
theorem FS.le {a b : MS} {f g : Nat} (h : FS a b f) (hg : g ≤ f) : FS a b g := ⟨fun x hx => h.1 x (by omega), h.2⟩
theorem FS.frA {a b : MS} {f k i : Nat} {v : Int32} (h : FS a b f) (hk : k ≠ 1) (hi : k = 34 → 12 * f ≤ i) (hi2 : (28 ≤ k ∧ k ≤ 36) → k ≠ 34 → k ≠ 35 → f ≤ i) : FS a (mAs b k i v) f := by
  have e : ∀ k' i', k' ≠ k ∨ i' ≠ i → mA (mAs b k i v) k' i' = mA b k' i' := fun k' i' hn => by rw [mA_mAs, if_neg (fun q => by rcases hn with hn | hn; exact hn q.1; exact hn q.2)]
  refine ⟨fun g hg => ?_, h.2.1, h.2.2.1, fun j => by rw [e _ _ (by omega)]; exact h.2.2.2 j⟩
  obtain ⟨h1, h2, h3, h4, h5, h6, h7, h8⟩ := h.1 g hg
  refine ⟨by rw [e _ _ (by omega)]; exact h1, by rw [e _ _ (by omega)]; exact h2, by rw [e _ _ (by omega)]; exact h3, by rw [e _ _ (by omega)]; exact h4, by rw [e _ _ (by omega)]; exact h5, by rw [e _ _ (by omega)]; exact h6, h7, fun j hj => by rw [e _ _ (by omega)]; exact h8 j hj⟩
theorem FS.frL {a b : MS} {f k i : Nat} {v : Int64} (h : FS a b f) (hi : k = 32 → 16 * f ≤ i) : FS a (mLs b k i v) f := by
  refine ⟨fun g hg => ?_, h.2⟩
  obtain ⟨h1, h2, h3, h4, h5, h6, h7, h8⟩ := h.1 g hg
  exact ⟨h1, h2, h3, h4, h5, h6, fun j hj => by rw [mL_mLs, if_neg (by omega)]; exact h7 j hj, h8⟩
theorem FS.frI {a b : MS} {f j : Nat} {v : Int32} (h : FS a b f) (hj : j ≠ 0) (hj2 : j ≠ 2) : FS a (mIs b j v) f := ⟨h.1, by rw [mI_mIs, if_neg (fun q => hj q.symm)]; exact h.2.1, by rw [mI_mIs, if_neg (fun q => hj2 q.symm)]; exact h.2.2.1, h.2.2.2⟩
/-- a run of the loop by some steps -/
def Run (k : Nat) (ms ms' : MS) : Prop := ∀ N, m_runAll_L0 (N + k) ms = m_runAll_L0 N ms'
theorem Run.t {k l : Nat} {a b c : MS} (h : Run k a b) (h2 : Run l b c) : Run (k + l) a c := fun N => by
  rw [show N + (k + l) = (N + l) + k by omega, h (N + l), h2 N]
theorem Run.rf {a : MS} : Run 0 a a := fun _ => rfl
/-- how much is yet to be done -/
def zc (σ : S) (a : Nat) : Nat := if sN σ 5 a = 0 then 0 else if sN σ 15 a ≠ 0 ∧ sN σ 18 a = rev σ then (if sN σ 16 a = 0 then 1 else 0) else 2
def Z (σ : S) : Nat := zc σ 0 + zc σ 1 + zc σ 2 + zc σ 3 + zc σ 4 + zc σ 5 + zc σ 6 + zc σ 7 + zc σ 8 + zc σ 9 + zc σ 10 + zc σ 11
theorem zc_le {σ : S} {a : Nat} : zc σ a ≤ 2 := by unfold zc; split <;> (try split) <;> (try split) <;> omega
theorem Z_le24 {σ : S} : Z σ ≤ 24 := by
  have t : ∀ a, zc σ a ≤ 2 := fun a => zc_le
  unfold Z
  have := t 0; have := t 1; have := t 2; have := t 3; have := t 4; have := t 5; have := t 6; have := t 7; have := t 8; have := t 9; have := t 10; have := t 11
  omega
theorem Z_le {σ τ : S} (t : ∀ a, zc τ a ≤ zc σ a) : Z τ ≤ Z σ := by
  unfold Z
  have := t 0; have := t 1; have := t 2; have := t 3; have := t 4; have := t 5; have := t 6; have := t 7; have := t 8; have := t 9; have := t 10; have := t 11
  omega
theorem Z_lt {σ τ : S} {c : Nat} (hc : c < 12) (t : ∀ a, zc τ a ≤ zc σ a) (h : zc τ c < zc σ c) : Z τ + 1 ≤ Z σ := by
  unfold Z
  have := t 0; have := t 1; have := t 2; have := t 3; have := t 4; have := t 5; have := t 6; have := t 7; have := t 8; have := t 9; have := t 10; have := t 11
  rcases (show c = 0 ∨ c = 1 ∨ c = 2 ∨ c = 3 ∨ c = 4 ∨ c = 5 ∨ c = 6 ∨ c = 7 ∨ c = 8 ∨ c = 9 ∨ c = 10 ∨ c = 11 by omega) with e | e | e | e | e | e | e | e | e | e | e | e <;> subst e <;> omega
theorem zc_kp {σ τ : S} (hs : ss σ τ) (h : ∀ a, a_done σ a → kp σ τ a) (a : Nat) : zc τ a ≤ zc σ a := by
  by_cases hf : sN σ 5 a = 0
  · unfold zc; rw [hs.f, if_pos hf, if_pos hf]; exact Nat.le_refl _
  · by_cases hd : sN σ 15 a ≠ 0 ∧ sN σ 18 a = rev σ
    · obtain ⟨k1, -, k3⟩ := h a (Or.inr hd)
      have k1' : sN τ 15 a ≠ 0 ∧ sN τ 18 a = rev τ := by
        rcases k1 with k1 | k1
        · rw [hs.f] at k1; exact absurd k1 hf
        · exact k1
      unfold zc
      rw [hs.f, if_neg hf, if_neg hf, if_pos hd, if_pos k1']
      by_cases hv : sN σ 16 a = 0
      · rw [if_pos hv]; split <;> omega
      · rw [if_neg hv, if_neg (k3 hv)]; exact Nat.le_refl _
    · have := zc_le (σ := τ) (a := a)
      have e : zc σ a = 2 := by unfold zc; rw [if_neg hf, if_neg hd]
      omega
theorem Post.z {σ τ : S} (h : Post σ τ) : Z τ ≤ Z σ := Z_le (zc_kp h.1 h.2.2.2.1)
theorem zc_sm {σ τ : S} (hs : ss σ τ) {a : Nat} (h : nsm σ τ a) : zc τ a = zc σ a := by
  unfold zc
  rw [hs.f, hs.rev, h.1, h.2.1, h.2.2.1]
theorem Z_mark {σ : S} {c v : Nat} : Z (sNs σ 35 c v) = Z σ := by
  have : ∀ a, zc (sNs σ 35 c v) a = zc σ a := fun a => zc_sm ss_mark nsm_mark
  unfold Z
  simp only [this]
