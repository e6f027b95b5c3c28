/-! both sides together: one operation after the other -/
def TOP (st : HS) (K : Nat → Nat → Nat) (σ : S) (kept : Nat) (pad : List Nat) (b th L : Nat) (xs : Nat → Int32) (R : Nat) : Prop :=
  RX st K σ kept 0 o0 pad ∧ ((∀ f a, lv σ f a → ¬ mFr th (K f a)) ∧ th + 37 ≤ hNx st ∧ st.1 b = some (.inr (100, L, .inl xs)) ∧ b < hNx st) ∧ hM st th (hMS st th) ∧ (RM (hMS st th) σ ∧ rP (hMS st th) pad ∧ mI (hMS st th) 0 = nI kept) ∧ Inv σ ∧ (∀ a, sN σ 35 a = 0) ∧ a_held σ ≤ kept ∧ rev σ ≤ R ∧ (∀ x ∈ pad, okc x) ∧ ∀ c, c < 12 → ∀ x ∈ sT σ c, okc x
theorem hMS_eq {st st' : HS} {th : Nat} (h : ∀ i, i ≤ 36 → st'.1 (th + i) = st.1 (th + i)) : hMS st' th = hMS st th := by
  have a : ∀ k, st'.1 (th + mo k) = st.1 (th + mo k) := fun k => h _ (mo_le k)
  have b : st'.1 th = st.1 th := h 0 (by decide)
  unfold hMS
  simp only [a, b]
theorem RX.mput {st : HS} {K : Nat → Nat → Nat} {σ : S} {kept : Nat} {p : Int32} {o : Nat → Int32} {pad : List Nat} {th : Nat} {ms ms' : MS} (h : RX st K σ kept p o pad) (hs : ∀ f a, lv σ f a → ¬ mFr th (K f a)) (hm : hM st th ms) : RX (mPut st th ms') K σ kept p o pad := by
  obtain ⟨x1, x2, x3, x5, x6⟩ := h
  refine ⟨fun f a hl => ?_, x2, x3, x5.kept rfl (Nat.le_refl _) (fun q e hq hqe hw => ?_), x6⟩
  · obtain ⟨e, k1, k2⟩ := x1 f a hl
    exact ⟨e, by rw [mPut_o (hs f a hl)]; exact k1, k2⟩
  · rw [mPut_o (fun z => hw ?_)]
    · exact hqe
    · unfold mFr at z
      by_cases w : q = th
      · subst w
        rw [hm.1] at hqe
        cases hqe
        exact Or.inl ⟨_, _, rfl, by decide⟩
      · have e1 := mkI_mo (q - th) (by omega) (by omega)
        have h2 := hm.2 (mkI (q - th)) (by omega)
        rw [e1, show th + (q - th) = q by omega, hqe] at h2
        cases h2
        unfold mEnt
        split
        · exact Or.inr ⟨_, _, rfl, by decide⟩
        · split
          · exact Or.inr ⟨_, _, rfl, by decide⟩
          · exact Or.inr ⟨_, _, rfl, by decide⟩
/-- the class' part of an operation -/
theorem TOP.x {st st' : HS} {K K' : Nat → Nat → Nat} {σ σ' : S} {kept : Nat} {pad : List Nat} {b th L R : Nat} {xs : Nat → Int32} (h : TOP st K σ kept pad b th L xs R) (xt : XT st K σ st') (ln : LN st K σ K' σ') : ((∀ f a, lv σ' f a → ¬ mFr th (K' f a)) ∧ th + 37 ≤ hNx st' ∧ st'.1 b = some (.inr (100, L, .inl xs)) ∧ b < hNx st') ∧ hM st' th (hMS st' th) ∧ hMS st' th = hMS st th := by
  obtain ⟨hx, ⟨s1, s2, s3, s4⟩, hm, -⟩ := h
  obtain ⟨t1, t2, t3⟩ := xt
  have blk : ∀ i, i ≤ 36 → st'.1 (th + i) = st.1 (th + i) := fun i hi => t3 _ (by omega) (fun f a hl z => s1 f a hl (by unfold mFr; omega))
  have e := hMS_eq blk
  refine ⟨⟨fun f a hl z => ?_, by omega, ?_, by omega⟩, ?_, e⟩
  · rcases ln f a hl with ⟨g, c, k1, k2⟩ | k
    · rw [k2] at z; exact s1 g c k1 z
    · unfold mFr at z; omega
  · rw [t3 b s4 (fun f a hl z => ?_)]
    · exact s3
    · obtain ⟨e0, k1, k2⟩ := hx.at hl
      rw [z, s3] at k1
      cases k1
      rcases xE_st k2 with ⟨ci, fs, w, -⟩ | ⟨k, x, w, hw⟩
      · cases w
      · cases w; omega
  · rw [e]
    exact ⟨by rw [show st'.1 th = st.1 th from blk 0 (by decide)]; exact hm.1, fun k hk => by rw [blk _ (mo_le k)]; exact hm.2 k hk⟩
/-- the model's part -/
theorem TOP.m {st st1 : HS} {K K1 : Nat → Nat → Nat} {σ σ' : S} {kept : Nat} {pad pad' : List Nat} {b th L R R' : Nat} {xs : Nat → Int32} {ms' : MS} (h : TOP st K σ kept pad b th L xs R) (xt : XT st K σ st1) (ln : LN st K σ K1 σ') (hx : RX st1 K1 σ' kept 0 o0 pad')
    (hm : RM ms' σ') (hp : rP ms' pad') (h0 : mI ms' 0 = mI (hMS st th) 0) (hI : Inv σ') (hw : ∀ a, sN σ' 35 a = 0) (hh : a_held σ' ≤ kept) (hr : rev σ' ≤ R') (hok : ∀ x ∈ pad', okc x) (hT : ∀ c, c < 12 → ∀ x ∈ sT σ' c, okc x) : TOP (mPut st1 th ms') K1 σ' kept pad' b th L xs R' := by
  obtain ⟨⟨s1, s2, s3, s4⟩, m1, m2⟩ := h.x xt ln
  have ag : mAg ms' (hMS (mPut st1 th ms') th) := hMS_ag mPut_M
  obtain ⟨p1, p2⟩ := rP_ag hp ag
  refine ⟨hx.mput s1 m1, ⟨s1, s2, ?_, s4⟩, mPut_M.ag ag, ⟨hm.ag ag, p1, by rw [p2, h0]; exact h.2.2.2.1.2.2⟩, hI, hw, hh, hr, hok, hT⟩
  rw [mPut_o (fun z => ?_)]
  · exact s3
  · unfold mFr at z
    by_cases w : b = th
    · rw [w, m1.1] at s3
      cases s3
    · have e1 := mkI_mo (b - th) (by omega) (by omega)
      have h2 := m1.2 (mkI (b - th)) (by omega)
      rw [e1, show th + (b - th) = b by omega, s3] at h2
      unfold mEnt at h2
      split at h2
      · cases h2
      · split at h2
        · cases h2
        · cases h2
theorem TOP.up {st : HS} {K : Nat → Nat → Nat} {σ : S} {kept : Nat} {pad : List Nat} {b th L R R' : Nat} {xs : Nat → Int32} (h : TOP st K σ kept pad b th L xs R) (hr : R ≤ R') : TOP st K σ kept pad b th L xs R' := by
  obtain ⟨a1, a2, a3, a4, a5, a6, a7, a8, a9⟩ := h
  exact ⟨a1, a2, a3, a4, a5, a6, a7, by omega, a9⟩
theorem chr_n (x : Int32) : ∃ c, c < 65536 ∧ ((x : Int32).toUInt32 % 65536).toInt32 = nI c := by
  refine ⟨(x.toUInt32 % 65536).toNat, ?_, ?_⟩
  · rw [UInt32.toNat_mod]
    exact Nat.mod_lt _ (by decide)
  · generalize x.toUInt32 % 65536 = u
    apply Int32.toBitVec_inj.mp
    show u.toBitVec = BitVec.ofNat 32 u.toNat
    rw [← UInt32.toNat_toBitVec, BitVec.ofNat_toNat, BitVec.setWidth_eq]
theorem LN.rf {st : HS} {K : Nat → Nat → Nat} {σ : S} : LN st K σ K σ := fun f a h => Or.inl ⟨f, a, h, rfl⟩
theorem XT.rf {st : HS} {K : Nat → Nat → Nat} {σ : S} : XT st K σ st := ⟨rfl, Nat.le_refl _, fun _ _ _ => rfl⟩
theorem lv_setq {σ : S} {c d : Nat} {n : Int32} : ∀ f a, lv (a_setq σ c n d) f a → lv σ f a := by
  unfold a_setq
  split
  · exact fun _ _ h => h
  · refine lv_of (fun a _ h => ?_) (fun a _ h => ?_)
    · by_cases q : a = c
      · exfalso
        apply h
        unfold a_set
        simp only [sN_sNs, sN_sIs, sN_sLs, sN_sRs, sI_sNs, sI_sIs, sI_sLs, sI_sRs, sL_sNs, sL_sIs, sL_sLs, sL_sRs, sR_sNs, sR_sIs, sR_sLs, sR_sRs, sT_sNs, sT_sIs, sT_sLs, sT_sRs, sC_sNs, sC_sIs, sC_sLs, sC_sRs]
        simp [q]
      · have e : sN (a_set σ c n d) 15 a = sN σ 15 a := by
          unfold a_set
          simp only [sN_sNs, sN_sIs, sN_sLs, sN_sRs, sI_sNs, sI_sIs, sI_sLs, sI_sRs, sL_sNs, sL_sIs, sL_sLs, sL_sRs, sR_sNs, sR_sIs, sR_sLs, sR_sRs, sT_sNs, sT_sIs, sT_sLs, sT_sRs, sC_sNs, sC_sIs, sC_sLs, sC_sRs]
          simp only [q, and_false, if_false]
          split <;> rfl
        rw [← e]; exact h
    · by_cases q : a = c
      · exfalso
        apply h
        unfold a_set
        simp only [sN_sNs, sN_sIs, sN_sLs, sN_sRs, sI_sNs, sI_sIs, sI_sLs, sI_sRs, sL_sNs, sL_sIs, sL_sLs, sL_sRs, sR_sNs, sR_sIs, sR_sLs, sR_sRs, sT_sNs, sT_sIs, sT_sLs, sT_sRs, sC_sNs, sC_sIs, sC_sLs, sC_sRs]
        simp [q]
      · have e : sN (a_set σ c n d) 5 a = sN σ 5 a := by
          unfold a_set
          simp only [sN_sNs, sN_sIs, sN_sLs, sN_sRs, sI_sNs, sI_sIs, sI_sLs, sI_sRs, sL_sNs, sL_sIs, sL_sLs, sL_sRs, sR_sNs, sR_sIs, sR_sLs, sR_sRs, sT_sNs, sT_sIs, sT_sLs, sT_sRs, sC_sNs, sC_sIs, sC_sLs, sC_sRs]
          simp only [q, and_false, if_false]
          split <;> rfl
        rw [← e]; exact h
theorem setq_T {σ : S} {c d : Nat} {n : Int32} (a : Nat) : sT (a_setq σ c n d) a = sT σ a ∧ a_held (a_setq σ c n d) ≤ a_held σ := by
  unfold a_setq
  split
  · exact ⟨rfl, Nat.le_refl _⟩
  · have eT : sT (a_set σ c n d) a = sT σ a := by
      unfold a_set
      split <;> rfl
    refine ⟨eT, ?_⟩
    have t : ∀ x, h1 (a_set σ c n d) x ≤ h1 σ x := fun x => by
      have e : sN (a_set σ c n d) 16 x = if x = c then 0 else sN σ 16 x := by
        unfold a_set
        simp only [sN_sNs, sN_sIs, sN_sLs, sN_sRs, sI_sNs, sI_sIs, sI_sLs, sI_sRs, sL_sNs, sL_sIs, sL_sLs, sL_sRs, sR_sNs, sR_sIs, sR_sLs, sR_sRs, sT_sNs, sT_sIs, sT_sLs, sT_sRs, sC_sNs, sC_sIs, sC_sLs, sC_sRs]
        by_cases q : x = c
        · simp [q]
        · simp only [q, and_false, if_false]
          split <;> rfl
      unfold h1
      rw [e]
      by_cases q : x = c
      · rw [if_pos q, if_pos rfl]; exact Nat.zero_le _
      · rw [if_neg q]; exact Nat.le_refl _
    rw [a_held_eq, a_held_eq]
    have := t 0; have := t 1; have := t 2; have := t 3; have := t 4; have := t 5; have := t 6; have := t 7; have := t 8; have := t 9; have := t 10; have := t 11
    omega
theorem defq_T {σ : S} {c : Nat} {t : List Nat} {cd : GS} (ht : ∀ x ∈ t, okc x) (h : ∀ a, a < 12 → ∀ x ∈ sT σ a, okc x) : (∀ a, a < 12 → ∀ x ∈ sT (a_defq σ c t cd) a, okc x) ∧ a_held (a_defq σ c t cd) = a_held σ := by
  unfold a_defq
  split
  · exact ⟨h, rfl⟩
  · refine ⟨fun a ha x hx => ?_, rfl⟩
    have e : sT (a_def σ c t cd) a = if a = c then t else sT σ a := rfl
    rw [e] at hx
    split at hx
    · exact ht x hx
    · exact h a ha x hx
