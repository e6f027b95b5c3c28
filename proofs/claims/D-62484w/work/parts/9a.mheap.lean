/-! the model's block within the heap of the class: its methods as functions on the heap -/
def mkK (k : Nat) : Nat := if mt k = 3 then 3 else if mt k = 2 then 2 else 0
def mEnt (ms : MS) (k : Nat) : Ent := if mt k = 3 then .inr (3, mn k, .inr (.inl (mL ms k))) else if mt k = 2 then .inr (2, mn k, .inl (mA ms k)) else .inr (0, mn k, .inl (mA ms k))
def mFs (this : Nat) (ms : MS) : List Value := (List.range 43).map (mV this ms)
def mkI (i : Nat) : Nat := ([0, 1, 4, 5, 6, 7, 8, 9, 10, 11, 12, 13, 14, 15, 16, 17, 18, 19, 20, 21, 22, 23, 25, 26, 28, 29, 30, 31, 32, 33, 34, 35, 36, 38, 39, 41, 42] : List Nat).getD i 0
theorem mkI_mo : ∀ i, i < 37 → i ≠ 0 → mo (mkI i) = i := by decide +kernel
theorem mo_mkI (k : Nat) (h : mo k ≠ 0) : mkI (mo k) = k := by
  have a : ∀ k, k < 43 → mo k ≠ 0 → mkI (mo k) = k := by decide +kernel
  by_cases q : k < 43
  · exact a k q h
  · exfalso
    apply h
    unfold mo
    rw [List.getD_eq_getElem?_getD, List.getElem?_eq_none (by simp; omega)]
    rfl
def hM (st : HS) (this : Nat) (ms : MS) : Prop := st.1 this = some (.inl (7, mFs this ms)) ∧ ∀ k, mo k ≠ 0 → st.1 (this + mo k) = some (mEnt ms k)
def mPut (st : HS) (this : Nat) (ms : MS) : HS := (fun q => if q = this then some (.inl (7, mFs this ms)) else if this < q ∧ q < this + 37 then some (mEnt ms (mkI (q - this))) else st.1 q, st.2)
def hMS (st : HS) (this : Nat) : MS := (fun j => match st.1 this with
    | some (.inl (_, fs)) => (match fs[j]? with
      | some (.int v) => v
      | _ => 0)
    | _ => 0, fun k => match st.1 (this + mo k) with
    | some (.inr (_, _, .inl f)) => f
    | _ => fun _ => 0, fun k => match st.1 (this + mo k) with
    | some (.inr (_, _, .inr (.inl f))) => f
    | _ => fun _ => 0)
theorem mPut_M {st : HS} {this : Nat} {ms : MS} : hM (mPut st this ms) this ms := by
  refine ⟨by show (if this = this then _ else _) = _; rw [if_pos rfl], fun k hk => ?_⟩
  have hle := mo_le k
  show (if this + mo k = this then _ else if this < this + mo k ∧ this + mo k < this + 37 then some (mEnt ms (mkI (this + mo k - this))) else _) = _
  rw [if_neg (by omega), if_pos (by omega), Nat.add_sub_cancel_left, mo_mkI k hk]
theorem mPut_self {st : HS} {this : Nat} {ms : MS} (h : hM st this ms) : mPut st this ms = st := by
  refine Prod.ext (funext fun q => ?_) rfl
  show (if q = this then _ else if this < q ∧ q < this + 37 then some (mEnt ms (mkI (q - this))) else st.1 q) = _
  by_cases q1 : q = this
  · rw [if_pos q1, q1, h.1]
  · rw [if_neg q1]
    by_cases q2 : this < q ∧ q < this + 37
    · rw [if_pos q2]
      have e := mkI_mo (q - this) (by omega) (by omega)
      have h2 := h.2 (mkI (q - this)) (by omega)
      rw [e, show this + (q - this) = q by omega] at h2
      exact h2.symm
    · rw [if_neg q2]
theorem mPut_o {st : HS} {this q : Nat} {ms : MS} (h : ¬ mFr this q) : (mPut st this ms).1 q = st.1 q := by
  unfold mFr at h
  show (if q = this then _ else if this < q ∧ q < this + 37 then _ else st.1 q) = _
  rw [if_neg (by omega), if_neg (by omega)]
/-- two states of the model that say the same -/
def mAg (ms ms' : MS) : Prop := (∀ j, j < 43 → mo j = 0 → mI ms' j = mI ms j) ∧ (∀ k, mo k ≠ 0 → mt k ≠ 3 → mA ms' k = mA ms k) ∧ ∀ k, mo k ≠ 0 → mt k = 3 → mL ms' k = mL ms k
theorem hMS_ag {st : HS} {this : Nat} {ms : MS} (h : hM st this ms) : mAg ms (hMS st this) := by
  refine ⟨fun j hj h0 => ?_, fun k hk h3 => ?_, fun k hk h3 => ?_⟩
  · show (match st.1 this with
      | some (.inl (_, fs)) => (match fs[j]? with
        | some (.int v) => v
        | _ => 0)
      | _ => 0) = _
    rw [h.1]
    dsimp only
    have hv : (mFs this ms)[j]? = some (.int (mI ms j)) := by
      unfold mFs mV
      rw [List.getElem?_map, List.getElem?_range hj]
      show some (if mo j = 0 then _ else _) = _
      rw [if_pos h0]
    rw [hv]
  · show (match st.1 (this + mo k) with
      | some (.inr (_, _, .inl f)) => f
      | _ => fun _ => 0) = _
    rw [h.2 k hk]
    unfold mEnt
    rw [if_neg h3]
    by_cases q : mt k = 2
    · rw [if_pos q]
    · rw [if_neg q]
  · show (match st.1 (this + mo k) with
      | some (.inr (_, _, .inr (.inl f))) => f
      | _ => fun _ => 0) = _
    rw [h.2 k hk]
    unfold mEnt
    rw [if_pos h3]
theorem hM.ag {st : HS} {this : Nat} {ms ms' : MS} (h : hM st this ms) (g : mAg ms ms') : hM st this ms' := by
  obtain ⟨g1, g2, g3⟩ := g
  refine ⟨?_, fun k hk => ?_⟩
  · rw [h.1]
    congr 3
    unfold mFs
    refine List.map_congr_left fun j hj => ?_
    unfold mV
    have hj2 := List.mem_range.mp hj
    by_cases q : mo j = 0
    · rw [if_pos q, if_pos q, g1 j hj2 q]
    · rw [if_neg q, if_neg q]
  · rw [h.2 k hk]
    unfold mEnt
    by_cases q : mt k = 3
    · rw [if_pos q, if_pos q, g3 k hk q]
    · rw [if_neg q, if_neg q, g2 k hk q]
theorem RM.ag {ms ms' : MS} {σ : S} (h : RM ms σ) (g : mAg ms ms') : RM ms' σ := by
  obtain ⟨g1, g2, g3⟩ := g
  obtain ⟨⟨a1, a2, a3, a4⟩, ⟨i1, i2, i3, i4, i5, i6⟩, hr, hT, hC⟩ := h
  have A : ∀ k, mo k ≠ 0 → mt k ≠ 3 → ∀ i, mA ms' k i = mA ms k i := fun k x y i => by rw [g2 k x y]
  have cn : ∀ k, cN k → mo k ≠ 0 ∧ mt k ≠ 3 := fun k hk => by
    unfold cN at hk
    rcases hk with e | e | e | e | e | e | e | e | e | e <;> subst e <;> decide
  refine ⟨⟨fun k c hc hk => ?_, fun d hd => ?_, ?_, a4⟩, ⟨fun c hc => ?_, fun c hc => ?_, ?_, fun c hc => ?_, fun c hc => ?_, fun c hc => ?_⟩, fun c hc => ?_, fun c hc => ?_, fun c hc => ?_⟩
  · rw [A k (cn k hk).1 (cn k hk).2]; exact a1 k c hc hk
  · rw [A 4 (by decide) (by decide)]; exact a2 d hd
  · rw [g1 3 (by decide) (by decide)]; exact a3
  · rw [A 12 (by decide) (by decide)]; exact i1 c hc
  · rw [A 23 (by decide) (by decide)]; exact i2 c hc
  · rw [g1 24 (by decide) (by decide)]; exact i3
  · rw [A 25 (by decide) (by decide)]; exact i4 c hc
  · rw [A 26 (by decide) (by decide)]; exact i5 c hc
  · rw [g3 17 (by decide) (by decide)]; exact i6 c hc
  · obtain ⟨r1, r2, r3⟩ := hr c hc
    exact ⟨r1, by rw [A 21 (by decide) (by decide)]; exact r2, fun i r hi => by rw [A 22 (by decide) (by decide)]; exact r3 i r hi⟩
  · obtain ⟨r1, r2, r3⟩ := hT c hc
    exact ⟨r1, by rw [A 7 (by decide) (by decide)]; exact r2, fun i r hi => by rw [A 6 (by decide) (by decide)]; exact r3 i r hi⟩
  · obtain ⟨r1, r2, r3⟩ := hC c hc
    exact ⟨r1, by rw [A 8 (by decide) (by decide)]; exact r2, fun i op n hi => by rw [A 9 (by decide) (by decide), A 10 (by decide) (by decide)]; exact r3 i op n hi⟩
theorem rP_ag {ms ms' : MS} {pad : List Nat} (h : rP ms pad) (g : mAg ms ms') : rP ms' pad ∧ mI ms' 0 = mI ms 0 :=
  ⟨⟨h.1, by rw [g.1 2 (by decide) (by decide)]; exact h.2.1, fun i t hi => by rw [g.2.1 1 (by decide) (by decide)]; exact h.2.2 i t hi⟩, g.1 0 (by decide) (by decide)⟩
def gM (G : HG) : MG := (G.1.1 7, G.1.2 7, G.2 0, G.2 2, G.2 3)
theorem gM_K {G : HG} {U : State} (h : hK G U) : mK (gM G) U := ⟨h.1 7 (R_Mod, F_M, 43) rfl, (h.arr 0 (by decide)).1, (h.arr 2 (by decide)).1, (h.arr 3 (by decide)).1⟩
theorem mFs_V {this k : Nat} {ms : MS} (h : k < 43) : vp_V (mFs this ms) k = mV this ms k := by
  unfold vp_V mFs
  simp [h]
theorem mEnt_at {G : HG} {U : State} {H : Heap} {a k : Nat} {ms : MS} : hAt G U a (mEnt ms k) H ↔ H[a]? = some (mCell (gM G) ms k) := by
  unfold mEnt mCell
  by_cases q3 : mt k = 3
  · rw [if_pos q3, if_pos q3]
    exact ⟨fun h => h.1 (by decide), fun h => ⟨fun _ => h, fun z => absurd (by decide) z⟩⟩
  · rw [if_neg q3, if_neg q3]
    by_cases q2 : mt k = 2
    · rw [if_pos q2, if_pos q2]
      exact ⟨fun h => h.1 (by decide), fun h => ⟨fun _ => h, fun z => absurd (by decide) z⟩⟩
    · rw [if_neg q2, if_neg q2]
      exact ⟨fun h => h.1 (by decide), fun h => ⟨fun _ => h, fun z => absurd (by decide) z⟩⟩
theorem mEnt_st {ms : MS} {k : Nat} : hst (mEnt ms k) := by
  unfold mEnt
  split
  · show 3 < 100; decide
  · split
    · show 2 < 100; decide
    · show 0 < 100; decide
theorem mObj_at {G : HG} {U : State} {H : Heap} {this : Nat} {ms : MS} : hAt G U this (.inl (7, mFs this ms)) H ↔ t_OB this (gM G).1 43 (gM G).2.1 H (mV this ms) := by
  constructor
  · intro h
    obtain ⟨r, hr, cell, c1, c2, c3, c4⟩ := h.1 (by decide)
    cases hr
    exact ⟨cell, c1, c2, c3, fun k hk => by rw [← mFs_V hk]; exact c4 k hk⟩
  · intro ⟨ce, c1, c2, c3, c4⟩
    exact ⟨fun _ => ⟨_, rfl, ce, c1, c2, c3, fun k hk => by rw [mFs_V hk]; exact c4 k hk⟩, fun z => absurd (by decide) z⟩
theorem M2H {l : Launch} {y : MethodName} {ws : List Cond} {rm : Room} {G : HG} {A : Nat → Prop} {this : Nat} {av : List Value} {st : HS} {ms ms' : MS} {rv : Option Value} (hM0 : Met l y ws rm (mPc (gM G) this av ms) (mQc (gM G) this rv ms') 0 0 (mFr this)) (hm : hM st this ms) :
    Met l y ws rm (hPc G A (.ref this :: av) st) (hQc G A rv (mPut st this ms')) 0 0 A := by
  have blk : ∀ {U : State}, hE G A st U U.heap → ∀ q, mFr this q → A q := fun hE q hq => by
    unfold mFr at hq
    by_cases z : q = this
    · rw [z]
      exact (hE this _ hm.1).2.1 (by show 7 < 100; decide)
    · have e := mkI_mo (q - this) (by omega) (by omega)
      have h1 := hm.2 (mkI (q - this)) (by omega)
      rw [e, show this + (q - this) = q by omega] at h1
      exact (hE q _ h1).2.1 mEnt_st
  refine MetFree.mono hM0 (fun a s hp => ?_) (fun _ _ _ _ _ h => h) (fun a s o t hp hq => ?_)
  · obtain ⟨h1, hu⟩ := hp
    refine ⟨h1, gM_K hu.1, mObj_at.mp (hu.2.2.1 _ _ hm.1).1, fun k hk => mEnt_at.mp (hu.2.2.1 _ _ (hm.2 k hk)).1⟩
  · obtain ⟨h1, u1, u2, u3, u4, u5⟩ := hp
    obtain ⟨⟨q1, ⟨m1, m2⟩, q3, q4⟩, L, hF, hL⟩ := hq
    have hW : s.WarmedH t.vm := hF.2.1
    have nA : ∀ q, ¬ A q → ¬ mFr this q := fun q hn z => hn (blk u3 q z)
    refine ⟨⟨q1, ⟨va_K.moved hW.alike u1, ?_, fun a' e he => ?_, q3.trans u4, u5⟩, by rw [q3]; exact Nat.le_refl _, fun q _ hn => q4 q (nA q hn)⟩, L, hF, fun q hq => blk u3 _ (hL q hq)⟩
    · exact (u2.kept (fun q _ hn => q4 q (nA q hn))).warm hW
    · by_cases z1 : mFr this a'
      · have hA := blk u3 a' z1
        unfold mFr at z1
        by_cases z2 : a' = this
        · subst z2
          rw [mPut_M.1] at he
          cases he
          exact ⟨mObj_at.mpr m1, fun _ => hA, fun z => absurd (by show 7 < 100; decide) z⟩
        · have e1 := mkI_mo (a' - this) (by omega) (by omega)
          have h2 := (mPut_M (st := st) (this := this) (ms := ms')).2 (mkI (a' - this)) (by omega)
          rw [e1, show this + (a' - this) = a' by omega, he] at h2
          cases h2
          have h3 := m2 (mkI (a' - this)) (by omega)
          rw [e1, show this + (a' - this) = a' by omega] at h3
          exact ⟨mEnt_at.mpr h3, fun _ => hA, fun z => absurd mEnt_st z⟩
      · rw [mPut_o z1] at he
        obtain ⟨y1, y2⟩ := u3 a' e he
        exact ⟨(y1.kept (q4 a' z1)).moved hW.alike, y2⟩
noncomputable def xm_type (st : HS) (this : Nat) (a1 : Int32) : Option (Int32 × HS) := @ite _ (hM st this (hMS st this)) (Classical.propDecidable _) ((m_type (hMS st this) a1).map fun q => (q.1, mPut st this q.2)) none
theorem xm_type_s {st : HS} {this : Nat} {a1 : Int32} {r : Int32 × HS} (h : xm_type st this a1 = some r) : hM st this (hMS st this) ∧ ∃ q, m_type (hMS st this) a1 = some q ∧ r = (q.1, mPut st this q.2) := by
  unfold xm_type at h
  by_cases c : hM st this (hMS st this)
  · rw [if_pos c] at h
    obtain ⟨q, e1, e2⟩ := omi h
    exact ⟨c, q, e1, e2.symm⟩
  · rw [if_neg c] at h; cases h
theorem n_xm_type {st : HS} {this : Nat} {a1 : Int32} {r : Int32 × HS} (h : xm_type st this a1 = some r) : hke st r.2 := by
  obtain ⟨-, q, -, rfl⟩ := xm_type_s h
  rfl
theorem ok_xm_type : cOK y_m_type 1 := ok_m_type
theorem c_xm_type (l : Launch) (K : Nat) (hK : 1 ≤ K) (G : HG) (A : Nat → Prop) {st : HS} {this : Nat} {a1 : Int32} {r : Int32 × HS} (h : xm_type st this a1 = some r) : Met l y_m_type (Cond.code y_m_type b_m_type 3 (some .boolean) :: lw_g) (rmL 1 0 0) (hPc G A [.ref this, .int a1] st) (hQc G A (some (.int r.1)) r.2) 0 0 A := by
  obtain ⟨hm, q, e, rfl⟩ := xm_type_s h
  exact M2H (c_m_type l (gM G) this e) hm
theorem xm_type_i {st : HS} {this : Nat} {a1 : Int32} {q : Int32 × MS} (hm : hM st this (hMS st this)) (e : m_type (hMS st this) a1 = some q) : xm_type st this a1 = some (q.1, mPut st this q.2) := by
  unfold xm_type
  rw [if_pos hm, e]
  rfl
noncomputable def xm_define (st : HS) (this : Nat) (a1 : Int32) : Option (Int32 × HS) := @ite _ (hM st this (hMS st this)) (Classical.propDecidable _) ((m_define (hMS st this) a1).map fun q => (q.1, mPut st this q.2)) none
theorem xm_define_s {st : HS} {this : Nat} {a1 : Int32} {r : Int32 × HS} (h : xm_define st this a1 = some r) : hM st this (hMS st this) ∧ ∃ q, m_define (hMS st this) a1 = some q ∧ r = (q.1, mPut st this q.2) := by
  unfold xm_define at h
  by_cases c : hM st this (hMS st this)
  · rw [if_pos c] at h
    obtain ⟨q, e1, e2⟩ := omi h
    exact ⟨c, q, e1, e2.symm⟩
  · rw [if_neg c] at h; cases h
theorem n_xm_define {st : HS} {this : Nat} {a1 : Int32} {r : Int32 × HS} (h : xm_define st this a1 = some r) : hke st r.2 := by
  obtain ⟨-, q, -, rfl⟩ := xm_define_s h
  rfl
theorem ok_xm_define : cOK y_m_define 1 := ok_m_define
theorem c_xm_define (l : Launch) (K : Nat) (hK : 5 ≤ K) (G : HG) (A : Nat → Prop) {st : HS} {this : Nat} {a1 : Int32} {r : Int32 × HS} (h : xm_define st this a1 = some r) : Met l y_m_define (Cond.code y_m_define b_m_define 6 (some .int) :: lw_g) (rmL 5 0 0) (hPc G A [.ref this, .int a1] st) (hQc G A (some (.int r.1)) r.2) 0 0 A := by
  obtain ⟨hm, q, e, rfl⟩ := xm_define_s h
  exact M2H (c_m_define l (gM G) this e) hm
theorem xm_define_i {st : HS} {this : Nat} {a1 : Int32} {q : Int32 × MS} (hm : hM st this (hMS st this)) (e : m_define (hMS st this) a1 = some q) : xm_define st this a1 = some (q.1, mPut st this q.2) := by
  unfold xm_define
  rw [if_pos hm, e]
  rfl
noncomputable def xm_set (st : HS) (this : Nat) (a1 : Int32) (a2 : Int32) (a3 : Int32) : Option (Int32 × HS) := @ite _ (hM st this (hMS st this)) (Classical.propDecidable _) ((m_set (hMS st this) a1 a2 a3).map fun q => (q.1, mPut st this q.2)) none
theorem xm_set_s {st : HS} {this : Nat} {a1 : Int32} {a2 : Int32} {a3 : Int32} {r : Int32 × HS} (h : xm_set st this a1 a2 a3 = some r) : hM st this (hMS st this) ∧ ∃ q, m_set (hMS st this) a1 a2 a3 = some q ∧ r = (q.1, mPut st this q.2) := by
  unfold xm_set at h
  by_cases c : hM st this (hMS st this)
  · rw [if_pos c] at h
    obtain ⟨q, e1, e2⟩ := omi h
    exact ⟨c, q, e1, e2.symm⟩
  · rw [if_neg c] at h; cases h
theorem n_xm_set {st : HS} {this : Nat} {a1 : Int32} {a2 : Int32} {a3 : Int32} {r : Int32 × HS} (h : xm_set st this a1 a2 a3 = some r) : hke st r.2 := by
  obtain ⟨-, q, -, rfl⟩ := xm_set_s h
  rfl
theorem ok_xm_set : cOK y_m_set 3 := ok_m_set
theorem c_xm_set (l : Launch) (K : Nat) (hK : 1 ≤ K) (G : HG) (A : Nat → Prop) {st : HS} {this : Nat} {a1 : Int32} {a2 : Int32} {a3 : Int32} {r : Int32 × HS} (h : xm_set st this a1 a2 a3 = some r) : Met l y_m_set (Cond.code y_m_set b_m_set 5 (some .boolean) :: lw_g) (rmL 1 0 0) (hPc G A [.ref this, .int a1, .int a2, .int a3] st) (hQc G A (some (.int r.1)) r.2) 0 0 A := by
  obtain ⟨hm, q, e, rfl⟩ := xm_set_s h
  exact M2H (c_m_set l (gM G) this e) hm
theorem xm_set_i {st : HS} {this : Nat} {a1 : Int32} {a2 : Int32} {a3 : Int32} {q : Int32 × MS} (hm : hM st this (hMS st this)) (e : m_set (hMS st this) a1 a2 a3 = some q) : xm_set st this a1 a2 a3 = some (q.1, mPut st this q.2) := by
  unfold xm_set
  rw [if_pos hm, e]
  rfl
noncomputable def xm_ask (st : HS) (this : Nat) (a1 : Int32) : Option (Int64 × HS) := @ite _ (hM st this (hMS st this)) (Classical.propDecidable _) ((m_ask (hMS st this) a1).map fun q => (q.1, mPut st this q.2)) none
theorem xm_ask_s {st : HS} {this : Nat} {a1 : Int32} {r : Int64 × HS} (h : xm_ask st this a1 = some r) : hM st this (hMS st this) ∧ ∃ q, m_ask (hMS st this) a1 = some q ∧ r = (q.1, mPut st this q.2) := by
  unfold xm_ask at h
  by_cases c : hM st this (hMS st this)
  · rw [if_pos c] at h
    obtain ⟨q, e1, e2⟩ := omi h
    exact ⟨c, q, e1, e2.symm⟩
  · rw [if_neg c] at h; cases h
theorem n_xm_ask {st : HS} {this : Nat} {a1 : Int32} {r : Int64 × HS} (h : xm_ask st this a1 = some r) : hke st r.2 := by
  obtain ⟨-, q, -, rfl⟩ := xm_ask_s h
  rfl
theorem ok_xm_ask : cOK y_m_ask 1 := ok_m_ask
theorem c_xm_ask (l : Launch) (K : Nat) (hK : 5 ≤ K) (G : HG) (A : Nat → Prop) {st : HS} {this : Nat} {a1 : Int32} {r : Int64 × HS} (h : xm_ask st this a1 = some r) : Met l y_m_ask (Cond.code y_m_ask b_m_ask 6 (some .long) :: lw_g) (rmL 5 0 0) (hPc G A [.ref this, .int a1] st) (hQc G A (some (.long r.1)) r.2) 0 0 A := by
  obtain ⟨hm, q, e, rfl⟩ := xm_ask_s h
  exact M2H (c_m_ask l (gM G) this e) hm
theorem xm_ask_i {st : HS} {this : Nat} {a1 : Int32} {q : Int64 × MS} (hm : hM st this (hMS st this)) (e : m_ask (hMS st this) a1 = some q) : xm_ask st this a1 = some (q.1, mPut st this q.2) := by
  unfold xm_ask
  rw [if_pos hm, e]
  rfl
noncomputable def xm_revision (st : HS) (this : Nat) : Option Int32 := @ite _ (hM st this (hMS st this)) (Classical.propDecidable _) (m_revision (hMS st this)) none
theorem ok_xm_revision : cOK y_m_revision 0 := ok_m_revision
theorem c_xm_revision (l : Launch) (K : Nat) (hK : 0 ≤ K) (G : HG) (A : Nat → Prop) {st : HS} {this : Nat} {r : Int32} (h : xm_revision st this = some r) : Met l y_m_revision (Cond.code y_m_revision b_m_revision 1 (some .int) :: lw_g) (rmL 0 0 0) (hPc G A [.ref this] st) (hQc G A (some (.int r)) st) 0 0 A := by
  unfold xm_revision at h
  by_cases c : hM st this (hMS st this)
  · rw [if_pos c] at h
    have := M2H (A := A) (c_m_revision l (gM G) this h) c
    rw [mPut_self c] at this
    exact this
  · rw [if_neg c] at h; cases h
theorem xm_revision_i {st : HS} {this : Nat} {q : Int32} (hm : hM st this (hMS st this)) (e : m_revision (hMS st this) = some q) : xm_revision st this = some q := by
  unfold xm_revision
  rw [if_pos hm, e]
noncomputable def xm_changed (st : HS) (this : Nat) (a1 : Int32) : Option Int32 := @ite _ (hM st this (hMS st this)) (Classical.propDecidable _) (m_changed (hMS st this) a1) none
theorem ok_xm_changed : cOK y_m_changed 1 := ok_m_changed
theorem c_xm_changed (l : Launch) (K : Nat) (hK : 0 ≤ K) (G : HG) (A : Nat → Prop) {st : HS} {this : Nat} {a1 : Int32} {r : Int32} (h : xm_changed st this a1 = some r) : Met l y_m_changed (Cond.code y_m_changed b_m_changed 2 (some .int) :: lw_g) (rmL 0 0 0) (hPc G A [.ref this, .int a1] st) (hQc G A (some (.int r)) st) 0 0 A := by
  unfold xm_changed at h
  by_cases c : hM st this (hMS st this)
  · rw [if_pos c] at h
    have := M2H (A := A) (c_m_changed l (gM G) this h) c
    rw [mPut_self c] at this
    exact this
  · rw [if_neg c] at h; cases h
theorem xm_changed_i {st : HS} {this : Nat} {a1 : Int32} {q : Int32} (hm : hM st this (hMS st this)) (e : m_changed (hMS st this) a1 = some q) : xm_changed st this a1 = some q := by
  unfold xm_changed
  rw [if_pos hm, e]
noncomputable def xm_note (st : HS) (this : Nat) (a1 : Int32) (a2 : Int32) : Option Int32 := @ite _ (hM st this (hMS st this)) (Classical.propDecidable _) (m_note (hMS st this) a1 a2) none
theorem ok_xm_note : cOK y_m_note 2 := ok_m_note
theorem c_xm_note (l : Launch) (K : Nat) (hK : 1 ≤ K) (G : HG) (A : Nat → Prop) {st : HS} {this : Nat} {a1 : Int32} {a2 : Int32} {r : Int32} (h : xm_note st this a1 a2 = some r) : Met l y_m_note (Cond.code y_m_note b_m_note 4 (some .int) :: lw_g) (rmL 1 0 0) (hPc G A [.ref this, .int a1, .int a2] st) (hQc G A (some (.int r)) st) 0 0 A := by
  unfold xm_note at h
  by_cases c : hM st this (hMS st this)
  · rw [if_pos c] at h
    have := M2H (A := A) (c_m_note l (gM G) this h) c
    rw [mPut_self c] at this
    exact this
  · rw [if_neg c] at h; cases h
theorem xm_note_i {st : HS} {this : Nat} {a1 : Int32} {a2 : Int32} {q : Int32} (hm : hM st this (hMS st this)) (e : m_note (hMS st this) a1 a2 = some q) : xm_note st this a1 a2 = some q := by
  unfold xm_note
  rw [if_pos hm, e]
noncomputable def xm_read (st : HS) (this : Nat) (a1 : Int32) (a2 : Int32) : Option Int32 := @ite _ (hM st this (hMS st this)) (Classical.propDecidable _) (m_read (hMS st this) a1 a2) none
theorem ok_xm_read : cOK y_m_read 2 := ok_m_read
theorem c_xm_read (l : Launch) (K : Nat) (hK : 1 ≤ K) (G : HG) (A : Nat → Prop) {st : HS} {this : Nat} {a1 : Int32} {a2 : Int32} {r : Int32} (h : xm_read st this a1 a2 = some r) : Met l y_m_read (Cond.code y_m_read b_m_read 3 (some .int) :: lw_g) (rmL 1 0 0) (hPc G A [.ref this, .int a1, .int a2] st) (hQc G A (some (.int r)) st) 0 0 A := by
  unfold xm_read at h
  by_cases c : hM st this (hMS st this)
  · rw [if_pos c] at h
    have := M2H (A := A) (c_m_read l (gM G) this h) c
    rw [mPut_self c] at this
    exact this
  · rw [if_neg c] at h; cases h
theorem xm_read_i {st : HS} {this : Nat} {a1 : Int32} {a2 : Int32} {q : Int32} (hm : hM st this (hMS st this)) (e : m_read (hMS st this) a1 a2 = some q) : xm_read st this a1 a2 = some q := by
  unfold xm_read
  rw [if_pos hm, e]
noncomputable def xm_count (st : HS) (this : Nat) (a1 : Int32) : Option Int32 := @ite _ (hM st this (hMS st this)) (Classical.propDecidable _) (m_count (hMS st this) a1) none
theorem ok_xm_count : cOK y_m_count 1 := ok_m_count
theorem c_xm_count (l : Launch) (K : Nat) (hK : 1 ≤ K) (G : HG) (A : Nat → Prop) {st : HS} {this : Nat} {a1 : Int32} {r : Int32} (h : xm_count st this a1 = some r) : Met l y_m_count (Cond.code y_m_count b_m_count 2 (some .int) :: lw_g) (rmL 1 0 0) (hPc G A [.ref this, .int a1] st) (hQc G A (some (.int r)) st) 0 0 A := by
  unfold xm_count at h
  by_cases c : hM st this (hMS st this)
  · rw [if_pos c] at h
    have := M2H (A := A) (c_m_count l (gM G) this h) c
    rw [mPut_self c] at this
    exact this
  · rw [if_neg c] at h; cases h
theorem xm_count_i {st : HS} {this : Nat} {a1 : Int32} {q : Int32} (hm : hM st this (hMS st this)) (e : m_count (hMS st this) a1 = some q) : xm_count st this a1 = some q := by
  unfold xm_count
  rw [if_pos hm, e]
