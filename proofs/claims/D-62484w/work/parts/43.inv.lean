/-! the invariant of notes, and that bringing and working out keep it and come to an end -/
def utd (σ : S) (c : Nat) : Prop := sN σ 15 c ≠ 0 ∧ sN σ 4 (sN σ 20 c) ≤ sN σ 18 c
def cur (σ : S) (r : Nat) : Int64 := if sN σ 5 r = 0 then (sI σ 12 r).toInt64 else sL σ r
def iSt (σ : S) : Prop := 1 ≤ rev σ ∧ (∀ d, d ≤ 2 → sN σ 4 d ≤ rev σ) ∧ ∀ c, c < 12 → (sN σ 5 c ≠ 0 → wt (sC σ c)) ∧ sN σ 13 c ≤ 2 ∧ sN σ 14 c ≤ rev σ ∧ sN σ 11 c ≤ rev σ
def iNo (σ : S) : Prop := ∀ c, c < 12 → (sN σ 16 c ≠ 0 → sN σ 15 c ≠ 0) ∧ (sN σ 15 c ≠ 0 → sN σ 5 c ≠ 0 ∧ sN σ 20 c ≤ 2 ∧ sN σ 18 c ≤ rev σ ∧ sN σ 19 c ≤ rev σ ∧ (∀ r ∈ sR σ c, r < 12) ∧ (sR σ c).Nodup)
def iUp (σ : S) : Prop := ∀ c, c < 12 → sN σ 5 c ≠ 0 → utd σ c → sL σ c = enc (Eo σ c) ∧ sR σ c = RD σ c ∧ sN σ 20 c = Ed σ c
def iOl (σ : S) : Prop := ∀ c, c < 12 → sN σ 5 c ≠ 0 → sN σ 15 c ≠ 0 → ¬ utd σ c → sN σ 11 c ≤ sN σ 18 c →
  ∃ w x, d_run w (sC σ c) 100 0 [] [] = some (x, sR σ c) ∧ sL σ c = enc x ∧ ∀ r ∈ sR σ c, (sN σ 5 r = 0 ∨ sN σ 15 r ≠ 0) → a_since σ r ≤ sN σ 18 c → enc (w r) = cur σ r
def iRd (σ : S) : Prop := ∀ c, c < 12 → sN σ 5 c ≠ 0 → utd σ c → ∀ r ∈ sR σ c, sN σ 5 r ≠ 0 → utd σ r ∨ (sN σ 35 r ≠ 0 ∧ EV σ r = none)
def Inv (σ : S) : Prop := iSt σ ∧ iNo σ ∧ iUp σ ∧ iOl σ ∧ iRd σ
theorem Inv.st {σ : S} (h : Inv σ) : iSt σ := h.1
theorem Inv.no {σ : S} (h : Inv σ) : iNo σ := h.2.1
theorem Inv.up {σ : S} (h : Inv σ) : iUp σ := h.2.2.1
theorem Inv.ol {σ : S} (h : Inv σ) : iOl σ := h.2.2.2.1
theorem Inv.rd {σ : S} (h : Inv σ) : iRd σ := h.2.2.2.2
theorem Inv.wt {σ : S} (h : Inv σ) {c : Nat} (hc : c < 12) (hf : sN σ 5 c ≠ 0) : wt (sC σ c) := (h.st.2.2 c hc).1 hf
theorem Ed_le2 {σ : S} (h : Inv σ) {c : Nat} (hc : c < 12) : Ed σ c ≤ 2 := by
  by_cases hf : sN σ 5 c = 0
  · rw [Ed_input hf]; exact (h.st.2.2 c hc).2.1
  · rw [(E_run hf (h.wt hc hf)).2.1]; exact fmin_le2
theorem iSt_ss {σ τ : S} (hs : ss σ τ) (h : iSt σ) : iSt τ := by
  refine ⟨by rw [hs.rev]; exact h.1, fun d hd => by rw [hs.rev, hs.chg]; exact h.2.1 d hd, fun c hc => ?_⟩
  rw [hs.rev, hs.f, hs.2.2.1, hs.dur, hs.born, hs.alt]
  exact h.2.2 c hc
/-- the notes of a are the same -/
def nsm (σ τ : S) (a : Nat) : Prop := sN τ 15 a = sN σ 15 a ∧ sN τ 16 a = sN σ 16 a ∧ sN τ 18 a = sN σ 18 a ∧ sN τ 19 a = sN σ 19 a ∧ sN τ 20 a = sN σ 20 a ∧ sL τ a = sL σ a ∧ sR τ a = sR σ a
theorem nsm.rf {σ : S} {a : Nat} : nsm σ σ a := ⟨rfl, rfl, rfl, rfl, rfl, rfl, rfl⟩
theorem nsm.t {σ τ ρ : S} {a : Nat} (h : nsm σ τ a) (k : nsm τ ρ a) : nsm σ ρ a := ⟨k.1.trans h.1, k.2.1.trans h.2.1, k.2.2.1.trans h.2.2.1, k.2.2.2.1.trans h.2.2.2.1, k.2.2.2.2.1.trans h.2.2.2.2.1, k.2.2.2.2.2.1.trans h.2.2.2.2.2.1, k.2.2.2.2.2.2.trans h.2.2.2.2.2.2⟩
theorem utd_sm {σ τ : S} (hs : ss σ τ) {a : Nat} (h : nsm σ τ a) : utd τ a ↔ utd σ a := by
  unfold utd
  rw [h.1, h.2.2.2.2.1, h.2.2.1, hs.chg]
theorem since_sm {σ τ : S} (hs : ss σ τ) {a : Nat} (h : nsm σ τ a) : a_since τ a = a_since σ a := by
  unfold a_since
  rw [hs.f, h.1, h.2.2.2.1, hs.born]
theorem cur_sm {σ τ : S} (hs : ss σ τ) {a : Nat} (h : nsm σ τ a) : cur τ a = cur σ a := by
  unfold cur
  rw [hs.f, hs.2.1, h.2.2.2.2.2.1]
theorem utd_rev {σ : S} (h : iSt σ) {c : Nat} (hn : sN σ 15 c ≠ 0) (hd : sN σ 20 c ≤ 2) (hv : sN σ 18 c = rev σ) : utd σ c := ⟨hn, by rw [hv]; exact h.2.1 _ hd⟩
theorem done_utd {σ : S} (h : Inv σ) {c : Nat} (hc : c < 12) (hf : sN σ 5 c ≠ 0) (hd : a_done σ c) : utd σ c := by
  rcases hd with hd | hd
  · exact absurd hd hf
  · exact utd_rev h.st hd.1 ((h.no c hc).2 hd.1).2.1 hd.2
/-- what a brought cell is worth -/
theorem done_cur {σ : S} (h : Inv σ) {c : Nat} (hc : c < 12) (hd : a_done σ c) : cur σ c = enc (Eo σ c) := by
  unfold cur
  by_cases hf : sN σ 5 c = 0
  · rw [if_pos hf, Eo_input hf]; rfl
  · rw [if_neg hf]; exact (h.up c hc hf (done_utd h hc hf hd)).1
theorem done_steady {σ : S} (h : Inv σ) {c : Nat} (hc : c < 12) (hd : a_done σ c) : a_steady σ c = Ed σ c := by
  unfold a_steady
  by_cases hf : sN σ 5 c = 0
  · rw [if_pos hf, Ed_input hf]
  · have hu := done_utd h hc hf hd
    rw [if_neg hf, if_neg hu.1]; exact (h.up c hc hf hu).2.2
/-- one cell's note is made, confirmed or passed -/
theorem inv_upd {σ τ : S} {c : Nat} (h : Inv σ) (hs : ss σ τ) (ho : ∀ a, a ≠ c → nsm σ τ a ∧ sN τ 35 a = sN σ 35 a) (hc : c < 12) (hf : sN σ 5 c ≠ 0)
    (h15 : sN τ 15 c ≠ 0) (h18 : sN τ 18 c = rev σ) (hl : sL τ c = enc (Eo σ c)) (hr : sR τ c = RD σ c) (h20 : sN τ 20 c = Ed σ c)
    (hk : ∀ r ∈ RD σ c, sN σ 5 r ≠ 0 → utd σ r ∨ (sN σ 35 r ≠ 0 ∧ EV σ r = none))
    (h19 : sN τ 19 c = rev σ ∨ (sN τ 19 c = sN σ 19 c ∧ sN σ 15 c ≠ 0 ∧ sL τ c = sL σ c)) : Inv τ := by
  have hst : iSt τ := iSt_ss hs h.st
  have huc : utd τ c := ⟨h15, by rw [h18, hs.chg]; exact h.st.2.1 _ (by rw [h20]; exact Ed_le2 h hc)⟩
  refine ⟨hst, ?_, ?_, ?_, ?_⟩
  · intro a ha
    by_cases e : a = c
    · subst e
      refine ⟨fun _ => h15, fun _ => ⟨by rw [hs.f]; exact hf, by rw [h20]; exact Ed_le2 h hc, by rw [h18, hs.rev]; exact Nat.le_refl _, ?_, ?_, ?_⟩⟩
      · rw [hs.rev]
        rcases h19 with h19 | ⟨h19, h19', -⟩
        · omega
        · rw [h19]; exact ((h.no a ha).2 h19').2.2.2.1
      · rw [hr]; exact (E_run hf (h.wt hc hf)).2.2
      · rw [hr]; exact RD_nodup hf (h.wt hc hf)
    · obtain ⟨⟨n1, n2, n3, n4, n5, n6, n7⟩, -⟩ := ho a e
      rw [n1, n2, n3, n4, n5, n7, hs.f, hs.rev]
      exact h.no a ha
  · intro a ha fa ua
    rw [hs.EoE, hs.EdE, hs.RDE]
    by_cases e : a = c
    · subst e; exact ⟨hl, hr, h20⟩
    · obtain ⟨hn, -⟩ := ho a e
      rw [hs.f] at fa
      have := h.up a ha fa ((utd_sm hs hn).mp ua)
      obtain ⟨n1, n2, n3, n4, n5, n6, n7⟩ := hn
      rw [n5, n6, n7]
      exact this
  · intro a ha fa na ua aa
    by_cases e : a = c
    · subst e; exact absurd huc ua
    · obtain ⟨hn, -⟩ := ho a e
      rw [hs.f] at fa
      have ua' : ¬ utd σ a := fun q => ua ((utd_sm hs hn).mpr q)
      have hva : sN σ 18 a < rev σ := by
        have h1 := ((h.no a ha).2 (by rw [← hn.1]; exact na)).2.1
        have h2 := h.st.2.1 _ h1
        unfold utd at ua'
        have na' : sN σ 15 a ≠ 0 := by rw [← hn.1]; exact na
        have : ¬ sN σ 4 (sN σ 20 a) ≤ sN σ 18 a := fun q => ua' ⟨na', q⟩
        omega
      obtain ⟨w, x, h1, h2, h3⟩ := h.ol a ha fa (by rw [← hn.1]; exact na) ua' (by rw [← hs.alt, ← hn.2.2.1]; exact aa)
      have hn' := hn
      obtain ⟨n1, n2, n3, n4, n5, n6, n7⟩ := hn
      refine ⟨w, x, by rw [hs.2.2.1, n7]; exact h1, by rw [n6]; exact h2, fun r hr' hi hsi => ?_⟩
      rw [n7] at hr'
      rw [n3] at hsi
      by_cases er : r = c
      · subst er
        have hfr : sN τ 5 r ≠ 0 := by rw [hs.f]; exact hf
        unfold a_since at hsi
        rw [if_neg hfr, if_neg h15] at hsi
        rcases h19 with h19 | ⟨h19, h19', h19''⟩
        · omega
        · have := h3 r hr' (Or.inr h19') (by unfold a_since; rw [if_neg hf, if_neg h19']; omega)
          rw [this]
          unfold cur
          rw [if_neg hf, if_neg hfr, h19'']
      · obtain ⟨hn2, -⟩ := ho r er
        rw [cur_sm hs hn2]
        rw [since_sm hs hn2] at hsi
        rw [hs.f, hn2.1] at hi
        exact h3 r hr' hi hsi
  · intro a ha fa ua r hr' fr
    rw [hs.EVE]
    rw [hs.f] at fr fa
    by_cases er : r = c
    · subst er; exact Or.inl huc
    · obtain ⟨hn2, h35⟩ := ho r er
      rw [utd_sm hs hn2, h35]
      by_cases e : a = c
      · subst e; rw [hr] at hr'; exact hk r hr' fr
      · obtain ⟨hn, -⟩ := ho a e
        rw [hn.2.2.2.2.2.2] at hr'
        exact h.rd a ha fa ((utd_sm hs hn).mp ua) r hr' fr
/-- marking a cell keeps all -/
theorem inv_mark {σ τ : S} (h : Inv σ) (hs : ss σ τ) (ho : ∀ a, nsm σ τ a) (hm : ∀ a, sN σ 35 a ≠ 0 → sN τ 35 a ≠ 0) : Inv τ := by
  refine ⟨iSt_ss hs h.st, ?_, ?_, ?_, ?_⟩
  · intro a ha
    obtain ⟨n1, n2, n3, n4, n5, n6, n7⟩ := ho a
    rw [n1, n2, n3, n4, n5, n7, hs.f, hs.rev]
    exact h.no a ha
  · intro a ha fa ua
    rw [hs.EoE, hs.EdE, hs.RDE]
    rw [hs.f] at fa
    have := h.up a ha fa ((utd_sm hs (ho a)).mp ua)
    obtain ⟨n1, n2, n3, n4, n5, n6, n7⟩ := ho a
    rw [n5, n6, n7]
    exact this
  · intro a ha fa na ua aa
    rw [hs.f] at fa
    have ua' : ¬ utd σ a := fun q => ua ((utd_sm hs (ho a)).mpr q)
    obtain ⟨w, x, h1, h2, h3⟩ := h.ol a ha fa (by rw [← (ho a).1]; exact na) ua' (by rw [← hs.alt, ← (ho a).2.2.1]; exact aa)
    obtain ⟨n1, n2, n3, n4, n5, n6, n7⟩ := ho a
    refine ⟨w, x, by rw [hs.2.2.1, n7]; exact h1, by rw [n6]; exact h2, fun r hr' hi hsi => ?_⟩
    rw [n7] at hr'
    rw [n3, since_sm hs (ho r)] at hsi
    rw [hs.f, (ho r).1] at hi
    rw [cur_sm hs (ho r)]
    exact h3 r hr' hi hsi
  · intro a ha fa ua r hr' fr
    rw [hs.EVE, utd_sm hs (ho r)]
    rw [hs.f] at fr fa
    rw [(ho a).2.2.2.2.2.2] at hr'
    rcases h.rd a ha fa ((utd_sm hs (ho a)).mp ua) r hr' fr with h1 | ⟨h1, h2⟩
    · exact Or.inl h1
    · exact Or.inr ⟨hm r h1, h2⟩
def Ch (σ : S) (c : Nat) : Prop := ∀ a, a < 12 → a ≠ c → sN σ 35 a ≠ 0 → Lt σ c a
theorem done_sm {σ τ : S} (hs : ss σ τ) {a : Nat} (h : nsm σ τ a) : a_done τ a ↔ a_done σ a := by
  unfold a_done
  rw [hs.f, hs.rev, h.1, h.2.2.1]
/-- what is brought stays so, and so does its since and its value -/
def kp (σ τ : S) (a : Nat) : Prop := a_done τ a ∧ a_since τ a = a_since σ a ∧ (sN σ 16 a ≠ 0 → sN τ 16 a ≠ 0)
theorem kp.t {σ τ ρ : S} {a : Nat} (h : kp σ τ a) (k : kp τ ρ a) : kp σ ρ a := ⟨k.1, k.2.1.trans h.2.1, fun q => k.2.2 (h.2.2 q)⟩
theorem kp_sm {σ τ : S} (hs : ss σ τ) {a : Nat} (h : nsm σ τ a) (hd : a_done σ a) : kp σ τ a := ⟨(done_sm hs h).mpr hd, since_sm hs h, fun q => by rw [h.2.1]; exact q⟩
def Post (σ τ : S) : Prop := ss σ τ ∧ (∀ a, sN τ 35 a = sN σ 35 a) ∧ Inv τ ∧ (∀ a, a_done σ a → kp σ τ a) ∧ ∀ a, sN σ 35 a ≠ 0 → nsm σ τ a
theorem Post.rf {σ : S} (h : Inv σ) : Post σ σ := ⟨ss.rf, fun _ => rfl, h, fun _ h => kp_sm ss.rf nsm.rf h, fun _ _ => nsm.rf⟩
theorem Post.t {σ τ ρ : S} (h : Post σ τ) (k : Post τ ρ) : Post σ ρ := ⟨h.1.t k.1, fun a => (k.2.1 a).trans (h.2.1 a), k.2.2.1, fun a ha => (h.2.2.2.1 a ha).t (k.2.2.2.1 a (h.2.2.2.1 a ha).1), fun a ha => (h.2.2.2.2 a ha).t (k.2.2.2.2 a (by rw [h.2.1]; exact ha))⟩
def PW (σ τ : S) (c : Nat) : Prop := ss σ τ ∧ (∀ a, sN τ 35 a = sN σ 35 a) ∧ Inv τ ∧ (∀ a, a_done σ a → kp σ τ a) ∧ (∀ a, a ≠ c → sN σ 35 a ≠ 0 → nsm σ τ a) ∧ a_done τ c ∧ sN τ 16 c ≠ 0
def u1 (σ : S) (a : Nat) : Nat := if sN σ 35 a = 0 then 1 else 0
def uw (σ : S) : Nat := u1 σ 0 + u1 σ 1 + u1 σ 2 + u1 σ 3 + u1 σ 4 + u1 σ 5 + u1 σ 6 + u1 σ 7 + u1 σ 8 + u1 σ 9 + u1 σ 10 + u1 σ 11
theorem uw_congr {σ τ : S} (h : ∀ a, sN τ 35 a = sN σ 35 a) : uw τ = uw σ := by
  unfold uw u1
  simp only [h]
theorem uw_le {σ : S} : uw σ ≤ 12 := by
  have t : ∀ a, u1 σ a ≤ 1 := fun a => by unfold u1; split <;> omega
  unfold uw
  have := t 0; have := t 1; have := t 2; have := t 3; have := t 4; have := t 5; have := t 6; have := t 7; have := t 8; have := t 9; have := t 10; have := t 11
  omega
theorem uw_mark {σ : S} {c : Nat} (hc : c < 12) (h : sN σ 35 c = 0) : uw (sNs σ 35 c 1) + 1 = uw σ := by
  have h1 : ∀ a, u1 (sNs σ 35 c 1) a = if a = c then 0 else u1 σ a := fun a => by
    unfold u1
    rw [sN_sNs]
    by_cases e : a = c
    · simp [e]
    · simp [e]
  have h2 : u1 σ c = 1 := by unfold u1; rw [if_pos h]
  unfold uw
  simp only [h1]
  rcases (show c = 0 ∨ c = 1 ∨ c = 2 ∨ c = 3 ∨ c = 4 ∨ c = 5 ∨ c = 6 ∨ c = 7 ∨ c = 8 ∨ c = 9 ∨ c = 10 ∨ c = 11 by omega) with e | e | e | e | e | e | e | e | e | e | e | e <;> subst e <;> simp [h2] <;> omega
theorem uw_mark' {σ : S} {c : Nat} (h : sN σ 35 c ≠ 0) : uw (sNs σ 35 c 1) = uw σ := by
  have : ∀ a, u1 (sNs σ 35 c 1) a = u1 σ a := fun a => by
    unfold u1
    rw [sN_sNs]
    by_cases e : a = c
    · subst e; simp [h]
    · simp [e]
  unfold uw
  simp only [this]
def TB (n : Nat) : Prop := ∀ σ c, Inv σ → c < 12 → (sN σ 5 c ≠ 0 → sN σ 35 c = 0 → Ch σ c) → 2 * uw σ + 2 ≤ n → ∃ τ, (ag n).1 σ c = some τ ∧ Post σ τ ∧ (sN σ 35 c = 0 → a_done τ c)
def TW (n : Nat) : Prop := ∀ σ c, Inv σ → c < 12 → sN σ 5 c ≠ 0 → Ch σ c → 2 * uw (sNs σ 35 c 1) + 3 ≤ n → ∃ τ, (ag n).2 σ c = some τ ∧ PW σ τ c
theorem Ch.s {σ τ : S} (hs : ss σ τ) (hm : ∀ a, sN τ 35 a = sN σ 35 a) {c : Nat} (h : Ch σ c) : Ch τ c := fun a h1 h2 h3 => hs.LtE (h a h1 h2 (by rw [← hm]; exact h3))
/-- a read of what is at work -/
theorem Ch.r {σ : S} {c r : Nat} (hf : sN σ 5 c ≠ 0) (h : Ch σ c) (hr : r ∈ RD σ c) : Ch σ r := fun a h1 h2 h3 => by
  by_cases e : a = c
  · subst e; exact Lt.read hf hr
  · exact (Lt.read hf hr).t (h a h1 e h3)
theorem Ch.bad {σ : S} {c r : Nat} (hf : sN σ 5 c ≠ 0) (h : Ch σ c) (hr : r ∈ RD σ c) (h12 : r < 12) (hw : sN σ 35 r ≠ 0) : EV σ r = none := by
  by_cases e : r = c
  · subst e; exact (Lt.read hf hr).irr
  · exact ((Lt.read hf hr).t (h r h12 e hw)).irr
