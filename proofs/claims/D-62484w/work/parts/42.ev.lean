/-! what a cell is worth, with fuel: value and durability; none when it is bad -/
def fmin (f : Nat → Nat) (rs : List Nat) : Nat := rs.foldl (fun d r => min d (f r)) 2
def ev : Nat → S → Nat → Option (Int32 × Nat)
  | 0, σ, c => if sN σ 5 c = 0 then some (sI σ 12 c, sN σ 13 c) else none
  | n + 1, σ, c => if sN σ 5 c = 0 then some (sI σ 12 c, sN σ 13 c) else
    (d_run (fun r => (ev n σ r).map (·.1)) (sC σ c) 100 0 [] []).bind fun q => q.1.map fun v => (v, fmin (fun r => ((ev n σ r).map (·.2)).getD 0) q.2)
theorem ev_input {σ : S} {c : Nat} (h : sN σ 5 c = 0) (n : Nat) : ev n σ c = some (sI σ 12 c, sN σ 13 c) := by
  cases n <;> (rw [ev, if_pos h])
theorem foldl_min_congr {f g : Nat → Nat} : ∀ (rs : List Nat) (d : Nat), (∀ r ∈ rs, f r = g r) → rs.foldl (fun d r => min d (f r)) d = rs.foldl (fun d r => min d (g r)) d := by
  intro rs
  induction rs with
  | nil => intro d _; rfl
  | cons r rs ih =>
    intro d h
    rw [List.foldl_cons, List.foldl_cons, h r (by simp)]
    exact ih _ (fun q hq => h q (by simp [hq]))
theorem fmin_congr {f g : Nat → Nat} {rs : List Nat} (h : ∀ r ∈ rs, f r = g r) : fmin f rs = fmin g rs := foldl_min_congr rs 2 h
theorem foldl_min_le {f : Nat → Nat} : ∀ (rs : List Nat) (d : Nat), rs.foldl (fun d r => min d (f r)) d ≤ d ∧ ∀ r ∈ rs, rs.foldl (fun d r => min d (f r)) d ≤ f r := by
  intro rs
  induction rs with
  | nil => intro d; exact ⟨Nat.le_refl _, fun r hr => by cases hr⟩
  | cons r rs ih =>
    intro d
    rw [List.foldl_cons]
    obtain ⟨h1, h2⟩ := ih (min d (f r))
    refine ⟨by omega, fun q hq => ?_⟩
    rcases List.mem_cons.mp hq with e | hq
    · subst e; omega
    · exact h2 q hq
theorem fmin_le2 {f : Nat → Nat} {rs : List Nat} : fmin f rs ≤ 2 := (foldl_min_le rs 2).1
theorem fmin_le {f : Nat → Nat} {rs : List Nat} {r : Nat} (h : r ∈ rs) : fmin f rs ≤ f r := (foldl_min_le rs 2).2 r h
theorem fmin_app {f : Nat → Nat} {rs : List Nat} {r : Nat} : fmin f (rs ++ [r]) = min (fmin f rs) (f r) := by
  unfold fmin
  rw [List.foldl_append]
  rfl
theorem fmin_add {f : Nat → Nat} {rs : List Nat} {r : Nat} : fmin f (a_add rs r) = min (fmin f rs) (f r) := by
  unfold a_add
  split
  · rename_i h
    have := fmin_le (f := f) h
    omega
  · exact fmin_app
theorem ev_step {n : Nat} {σ : S} {c : Nat} {q : Int32 × Nat} (hf : sN σ 5 c ≠ 0) (h : ev n σ c = some q) : ∃ m rs, n = m + 1 ∧ d_run (fun r => (ev m σ r).map (·.1)) (sC σ c) 100 0 [] [] = some (some q.1, rs) ∧ q.2 = fmin (fun r => ((ev m σ r).map (·.2)).getD 0) rs ∧ ∀ r ∈ rs, ∃ p, ev m σ r = some p := by
  cases n with
  | zero => rw [ev, if_neg hf] at h; cases h
  | succ m =>
    rw [ev, if_neg hf] at h
    obtain ⟨p, hp, h⟩ := obi h
    obtain ⟨x, rs⟩ := p
    obtain ⟨v, hv, h⟩ := omi h
    replace hv : x = some v := hv
    subst hv
    subst h
    refine ⟨m, rs, rfl, hp, rfl, fun r hr => ?_⟩
    rcases d_good _ _ _ _ _ _ hp r hr with h1 | ⟨w, h1⟩
    · cases h1
    · obtain ⟨p, h2, -⟩ := omi h1
      exact ⟨p, h2⟩
theorem ev_succ : ∀ (n : Nat) {σ : S} {c : Nat} {q : Int32 × Nat}, ev n σ c = some q → ev (n + 1) σ c = some q := by
  intro n
  induction n with
  | zero =>
    intro σ c q h
    by_cases hf : sN σ 5 c = 0
    · rw [ev_input hf] at h ⊢; exact h
    · obtain ⟨m, rs, e, -⟩ := ev_step hf h; omega
  | succ n ih =>
    intro σ c q h
    by_cases hf : sN σ 5 c = 0
    · rw [ev_input hf] at h ⊢; exact h
    · obtain ⟨m, rs, e, h1, h2, h3⟩ := ev_step hf h
      have e : m = n := by omega
      subst e
      rw [ev, if_neg hf]
      have h4 : ∀ r ∈ rs, ev (m + 1) σ r = ev m σ r := fun r hr => by
        obtain ⟨p, hp⟩ := h3 r hr
        rw [hp, ih hp]
      rw [d_agree (o' := fun r => (ev (m + 1) σ r).map (·.1)) _ _ _ _ _ _ h1 (fun r hr => by show (ev (m + 1) σ r).map _ = _; rw [h4 r hr])]
      show some (q.1, fmin (fun r => ((ev (m + 1) σ r).map (·.2)).getD 0) rs) = some q
      rw [fmin_congr (g := fun r => ((ev m σ r).map (·.2)).getD 0) (fun r hr => by show ((ev (m + 1) σ r).map _).getD 0 = _; rw [h4 r hr]), ← h2]
theorem ev_mono {n m : Nat} (hnm : n ≤ m) {σ : S} {c : Nat} {q : Int32 × Nat} (h : ev n σ c = some q) : ev m σ c = some q := by
  induction hnm with
  | refl => exact h
  | step _ ih => exact ev_succ _ ih
noncomputable def EV (σ : S) (c : Nat) : Option (Int32 × Nat) := @dite _ (∃ q n, ev n σ c = some q) (Classical.propDecidable _) (fun h => some (Classical.choose h)) (fun _ => none)
theorem EV_some {σ : S} {c n : Nat} {q : Int32 × Nat} (h : ev n σ c = some q) : EV σ c = some q := by
  have hx : ∃ q n, ev n σ c = some q := ⟨q, n, h⟩
  unfold EV
  rw [dif_pos hx]
  obtain ⟨m, hm⟩ := Classical.choose_spec hx
  have h1 := ev_mono (Nat.le_max_left n m) h
  have h2 := ev_mono (Nat.le_max_right n m) hm
  rw [h1] at h2
  exact h2.symm
theorem EV_of {σ : S} {c : Nat} {q : Int32 × Nat} (h : EV σ c = some q) : ∃ n, ev n σ c = some q := by
  unfold EV at h
  split at h
  · rename_i hx
    obtain ⟨m, hm⟩ := Classical.choose_spec hx
    cases h
    exact ⟨m, hm⟩
  · cases h
noncomputable def Eo (σ : S) (c : Nat) : Option Int32 := (EV σ c).map (·.1)
noncomputable def Ed (σ : S) (c : Nat) : Nat := ((EV σ c).map (·.2)).getD 0
noncomputable def RD (σ : S) (c : Nat) : List Nat := ((d_run (Eo σ) (sC σ c) 100 0 [] []).map (·.2)).getD []
theorem EV_input {σ : S} {c : Nat} (h : sN σ 5 c = 0) : EV σ c = some (sI σ 12 c, sN σ 13 c) := EV_some (ev_input h 0)
theorem Eo_input {σ : S} {c : Nat} (h : sN σ 5 c = 0) : Eo σ c = some (sI σ 12 c) := by unfold Eo; rw [EV_input h]; rfl
theorem Ed_input {σ : S} {c : Nat} (h : sN σ 5 c = 0) : Ed σ c = sN σ 13 c := by unfold Ed; rw [EV_input h]; rfl
theorem Eo_none {σ : S} {c : Nat} (h : EV σ c = none) : Eo σ c = none := by unfold Eo; rw [h]; rfl
theorem Ed_none {σ : S} {c : Nat} (h : EV σ c = none) : Ed σ c = 0 := by unfold Ed; rw [h]; rfl
theorem EV_Eo_none {σ : S} {c : Nat} (h : Eo σ c = none) : EV σ c = none := by
  unfold Eo at h
  cases e : EV σ c with
  | none => rfl
  | some q => rw [e] at h; cases h
/-- a bound for finitely many -/
theorem ev_all {σ : S} : ∀ (rs : List Nat), (∀ r ∈ rs, ∃ p, EV σ r = some p) → ∃ n, ∀ r ∈ rs, ev n σ r = EV σ r := by
  intro rs
  induction rs with
  | nil => intro _; exact ⟨0, fun r hr => by cases hr⟩
  | cons r rs ih =>
    intro h
    obtain ⟨n, hn⟩ := ih (fun q hq => h q (by simp [hq]))
    obtain ⟨p, hp⟩ := h r (by simp)
    obtain ⟨m, hm⟩ := EV_of hp
    refine ⟨max n m, fun q hq => ?_⟩
    rcases List.mem_cons.mp hq with e | hq
    · subst e; rw [hp]; exact ev_mono (Nat.le_max_right n m) hm
    · obtain ⟨p', hp'⟩ := h q (by simp [hq])
      have := hn q hq
      rw [hp'] at this ⊢
      exact ev_mono (Nat.le_max_left n m) this
/-- the value of a formula is that of its steps over the values -/
theorem E_fix {σ : S} {c : Nat} {x : Option Int32} {rs : List Nat} (hf : sN σ 5 c ≠ 0) (h : d_run (Eo σ) (sC σ c) 100 0 [] [] = some (x, rs)) : Eo σ c = x ∧ RD σ c = rs ∧ Ed σ c = fmin (Ed σ) rs := by
  have hR : RD σ c = rs := by unfold RD; rw [h]; rfl
  cases x with
  | some v =>
    have hg : ∀ r ∈ rs, ∃ p, EV σ r = some p := fun r hr => by
      rcases d_good _ _ _ _ _ _ h r hr with h1 | ⟨w, h1⟩
      · cases h1
      · obtain ⟨p, h2, -⟩ := omi h1; exact ⟨p, h2⟩
    obtain ⟨n, hn⟩ := ev_all rs hg
    have h1 := d_agree (o' := fun r => (ev n σ r).map (·.1)) _ _ _ _ _ _ h (fun r hr => by show (ev n σ r).map _ = _; rw [hn r hr]; rfl)
    have h2 : ev (n + 1) σ c = some (v, fmin (Ed σ) rs) := by
      rw [ev, if_neg hf, h1]
      show some (v, fmin (fun r => ((ev n σ r).map (·.2)).getD 0) rs) = _
      rw [fmin_congr (g := Ed σ) (fun r hr => by show ((ev n σ r).map _).getD 0 = _; rw [hn r hr]; rfl)]
    have h3 := EV_some h2
    refine ⟨by unfold Eo; rw [h3]; rfl, hR, by unfold Ed; rw [h3]; rfl⟩
  | none =>
    have h3 : EV σ c = none := by
      cases e : EV σ c with
      | none => rfl
      | some q =>
        exfalso
        obtain ⟨n, hn⟩ := EV_of e
        obtain ⟨m, rs', -, h1, -, h2⟩ := ev_step hf hn
        have h4 := d_agree (o' := Eo σ) _ _ _ _ _ _ h1 (fun r hr => by
          obtain ⟨p, hp⟩ := h2 r hr
          show (EV σ r).map _ = (ev m σ r).map _
          rw [hp, EV_some hp])
        rw [h] at h4
        cases h4
    obtain ⟨r, hr, h4⟩ := d_bad _ _ _ _ _ h
    have h5 := fmin_le (f := Ed σ) hr
    rw [Ed_none (EV_Eo_none h4)] at h5
    refine ⟨Eo_none h3, hR, ?_⟩
    rw [Ed_none h3]
    omega
theorem E_run {σ : S} {c : Nat} (hf : sN σ 5 c ≠ 0) (hw : wt (sC σ c)) : d_run (Eo σ) (sC σ c) 100 0 [] [] = some (Eo σ c, RD σ c) ∧ Ed σ c = fmin (Ed σ) (RD σ c) ∧ ∀ r ∈ RD σ c, r < 12 := by
  obtain ⟨x, rs, h, h12⟩ := wt_total (o := Eo σ) hw
  obtain ⟨h1, h2, h3⟩ := E_fix hf h
  rw [h1, h2, h3]
  exact ⟨h, rfl, h12⟩
/-- what is below: it has a value earlier -/
def Lt (σ : S) (c a : Nat) : Prop := ∀ n, ev n σ a ≠ none → ∃ m, m < n ∧ ev m σ c ≠ none
theorem Lt.t {σ : S} {a b c : Nat} (h : Lt σ a b) (h2 : Lt σ b c) : Lt σ a c := fun n hn => by
  obtain ⟨m, h3, h4⟩ := h2 n hn
  obtain ⟨k, h5, h6⟩ := h m h4
  exact ⟨k, by omega, h6⟩
theorem Lt.irr {σ : S} {c : Nat} (h : Lt σ c c) : EV σ c = none := by
  have : ∀ n, ev n σ c = none := by
    intro n
    induction n using Nat.strongRecOn with
    | ind n ih =>
      cases e : ev n σ c with
      | none => rfl
      | some q =>
        obtain ⟨m, h1, h2⟩ := h n (by rw [e]; exact fun h => by cases h)
        exact absurd (ih m h1) h2
  cases e : EV σ c with
  | none => rfl
  | some q => obtain ⟨n, hn⟩ := EV_of e; rw [this n] at hn; cases hn
theorem Lt.read {σ : S} {c r : Nat} (hf : sN σ 5 c ≠ 0) (hr : r ∈ RD σ c) : Lt σ r c := fun n hn => by
  cases e : ev n σ c with
  | none => exact absurd e hn
  | some q =>
    obtain ⟨m, rs, e1, h1, -, h2⟩ := ev_step hf e
    have h4 := d_agree (o' := Eo σ) _ _ _ _ _ _ h1 (fun r hr => by
      obtain ⟨p, hp⟩ := h2 r hr
      show (EV σ r).map _ = (ev m σ r).map _
      rw [hp, EV_some hp])
    obtain ⟨-, h5, -⟩ := E_fix hf h4
    rw [h5] at hr
    obtain ⟨p, hp⟩ := h2 r hr
    exact ⟨m, by omega, by rw [hp]; exact fun h => by cases h⟩
/-- the same but for notes, values, uses, counts and marks -/
def ss (σ τ : S) : Prop := (∀ k c, k ≠ 15 → k ≠ 16 → k ≠ 18 → k ≠ 19 → k ≠ 20 → k ≠ 35 → sN τ k c = sN σ k c) ∧ (∀ c, sI τ 12 c = sI σ 12 c) ∧ (∀ c, sC τ c = sC σ c) ∧ ∀ c, sT τ c = sT σ c
theorem ss.rf {σ : S} : ss σ σ := ⟨fun _ _ _ _ _ _ _ _ => rfl, fun _ => rfl, fun _ => rfl, fun _ => rfl⟩
theorem ss.t {σ τ ρ : S} (h : ss σ τ) (h2 : ss τ ρ) : ss σ ρ := ⟨fun k c a1 a2 a3 a4 a5 a6 => (h2.1 k c a1 a2 a3 a4 a5 a6).trans (h.1 k c a1 a2 a3 a4 a5 a6), fun c => (h2.2.1 c).trans (h.2.1 c), fun c => (h2.2.2.1 c).trans (h.2.2.1 c), fun c => (h2.2.2.2 c).trans (h.2.2.2 c)⟩
theorem ss.f {σ τ : S} (h : ss σ τ) (c : Nat) : sN τ 5 c = sN σ 5 c := h.1 5 c (by decide) (by decide) (by decide) (by decide) (by decide) (by decide)
theorem ss.rev {σ τ : S} (h : ss σ τ) : rev τ = rev σ := h.1 3 0 (by decide) (by decide) (by decide) (by decide) (by decide) (by decide)
theorem ss.chg {σ τ : S} (h : ss σ τ) (c : Nat) : sN τ 4 c = sN σ 4 c := h.1 4 c (by decide) (by decide) (by decide) (by decide) (by decide) (by decide)
theorem ss.alt {σ τ : S} (h : ss σ τ) (c : Nat) : sN τ 11 c = sN σ 11 c := h.1 11 c (by decide) (by decide) (by decide) (by decide) (by decide) (by decide)
theorem ss.dur {σ τ : S} (h : ss σ τ) (c : Nat) : sN τ 13 c = sN σ 13 c := h.1 13 c (by decide) (by decide) (by decide) (by decide) (by decide) (by decide)
theorem ss.born {σ τ : S} (h : ss σ τ) (c : Nat) : sN τ 14 c = sN σ 14 c := h.1 14 c (by decide) (by decide) (by decide) (by decide) (by decide) (by decide)
theorem ss.evE {σ τ : S} (h : ss σ τ) : ∀ n c, ev n τ c = ev n σ c := by
  intro n
  induction n with
  | zero => intro c; rw [ev, ev, h.f, h.2.1, h.dur]
  | succ n ih =>
    intro c
    rw [ev, ev, h.f, h.2.1, h.dur, h.2.2.1]
    rw [show (fun r => (ev n τ r).map (·.1)) = (fun r => (ev n σ r).map (·.1)) from funext fun r => by rw [ih], show (fun r => ((ev n τ r).map (·.2)).getD 0) = (fun r => ((ev n σ r).map (·.2)).getD 0) from funext fun r => by rw [ih]]
theorem ss.EVE {σ τ : S} (h : ss σ τ) (c : Nat) : EV τ c = EV σ c := by
  cases e : EV σ c with
  | none =>
    cases e2 : EV τ c with
    | none => rfl
    | some q => obtain ⟨n, hn⟩ := EV_of e2; rw [h.evE] at hn; rw [EV_some hn] at e; cases e
  | some q => obtain ⟨n, hn⟩ := EV_of e; rw [← h.evE] at hn; exact EV_some hn
theorem ss.EoE {σ τ : S} (h : ss σ τ) : Eo τ = Eo σ := funext fun c => by unfold Eo; rw [h.EVE]
theorem ss.EdE {σ τ : S} (h : ss σ τ) : Ed τ = Ed σ := funext fun c => by unfold Ed; rw [h.EVE]
theorem ss.RDE {σ τ : S} (h : ss σ τ) (c : Nat) : RD τ c = RD σ c := by unfold RD; rw [h.EoE, h.2.2.1]
theorem ss.LtE {σ τ : S} (h : ss σ τ) {a b : Nat} (k : Lt σ a b) : Lt τ a b := fun n hn => by
  rw [h.evE] at hn
  obtain ⟨m, h1, h2⟩ := k n hn
  exact ⟨m, h1, by rw [h.evE]; exact h2⟩
theorem d_nodup {o : Nat → Option Int32} {code : List (Nat × Nat)} : ∀ (k pc : Nat) (st : List Int32) (rs : List Nat) (x : Option Int32) (rs' : List Nat), d_run o code k pc st rs = some (x, rs') → rs.Nodup → rs'.Nodup := by
  have ha : ∀ (rs : List Nat) (r : Nat), rs.Nodup → (a_add rs r).Nodup := fun rs r h => by
    unfold a_add
    split
    · exact h
    · rename_i hn
      rw [List.nodup_append]
      exact ⟨h, by simp, fun a ha b hb => by simp at hb; subst hb; exact fun e => hn (e ▸ ha)⟩
  intro k
  induction k with
  | zero => intro pc st rs x rs' h; cases h
  | succ k ih =>
    intro pc st rs x rs' h hn
    rw [d_run] at h
    split at h
    · obtain ⟨y, -, h⟩ := omi h
      cases h; exact hn
    · split at h
      · obtain ⟨q, -, h⟩ := obi h
        split at h
        · cases h; exact ha _ _ hn
        · exact ih _ _ _ _ _ h (ha _ _ hn)
      · obtain ⟨q, -, h⟩ := obi h
        exact ih _ _ _ _ _ h hn
theorem RD_nodup {σ : S} {c : Nat} (hf : sN σ 5 c ≠ 0) (hw : wt (sC σ c)) : (RD σ c).Nodup := d_nodup _ _ _ _ _ _ (E_run hf hw).1 List.nodup_nil
theorem enc_ne (v : Int32) : v.toInt64 ≠ BAD := fun h => by
  have h1 : v.toInt64.toInt = BAD.toInt := by rw [h]
  rw [Int32.toInt_toInt64] at h1
  have h2 : BAD.toInt = 1099511627776 := by decide
  have h3 := v.toInt_lt
  omega
theorem enc_inj {x y : Option Int32} (h : enc x = enc y) : x = y := by
  cases x <;> cases y
  · rfl
  · exact absurd h.symm (enc_ne _)
  · exact absurd h (enc_ne _)
  · have h : (_ : Int64) = _ := h
    have := congrArg Int64.toInt32 h
    simp [enc] at this
    rw [this]
