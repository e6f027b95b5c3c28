/-! the model's constructor -/
theorem C_P {st : HS} {fs : List Value} {tl : List Ent} {sl k : Nat} {v : Value} (hk : k < fs.length) : hP (Bst st (.inl (7, fs) :: tl) sl) (hNx st) 7 k v = some (Bst st (.inl (7, fs.set k v) :: tl) sl) := B_P (st := st) (es := .inl (7, fs) :: tl) (sl := sl) (fs := fs) 0 rfl hk
theorem C_A {st : HS} {e : Ent} {tl : List Ent} {sl ty : Nat} {m : Int32} (n : Nat) (hm : m = nI n) (h : n ≤ 100000) : hNewA (Bst st (e :: tl) sl) ty m = some (Bst st (e :: (tl ++ [.inr (ty, hz ty n)])) (sl + n)) := by
  subst hm
  exact B_A h
theorem C_n {st : HS} {e : Ent} {tl : List Ent} {sl j : Nat} (h : tl.length + 1 = j) : hNx (Bst st (e :: tl) sl) = hNx st + j := by
  show hNx st + (e :: tl).length = _
  rw [List.length_cons, h]
theorem kp_if {x : Int32} {s : HS} {a : Nat} : (if 1 ≤ x then if x ≤ 12 then x_Mod_init_J323 s x a else x_Mod_init_J323 s 12 a else x_Mod_init_J323 s 1 a) = x_Mod_init_J323 s (kpI x) a := by
  unfold kpI
  by_cases h1 : 1 ≤ x
  · rw [if_pos h1, if_pos h1]
    by_cases h2 : x ≤ 12
    · rw [if_pos h2, if_pos h2]
    · rw [if_neg h2, if_neg h2]
  · rw [if_neg h1, if_neg h1]
theorem stageA {st : HS} {fs : List Value} {tl : List Ent} {sl k w ty j : Nat} {m : Int32} (F : HS → Nat → Option HS) (n : Nat) (hk : k < fs.length) (ht : tl.length + 1 = j) (hm : m = nI n) (hn : n ≤ 100000) : ((hP (Bst st (.inl (7, fs) :: tl) sl) (hNx st) 7 k (.ref w)).bind fun st1 => (some (hNx st1)).bind fun ad2 => (hNewA st1 ty m).bind fun st3 => F st3 ad2) = F (Bst st (.inl (7, fs.set k (.ref w)) :: (tl ++ [.inr (ty, hz ty n)])) (sl + n)) (hNx st + j) := by
  rw [C_P hk]
  simp only [Option.bind_some]
  rw [C_n ht, C_A n hm hn]
  rfl
theorem Mod_26 (x : Int32) {st : HS} {fs : List Value} {tl : List Ent} {sl : Nat} (hf : fs.length = 43) (ht : tl.length = 27) : x_Mod_init_J224 (Bst st (.inl (7, fs) :: tl) sl) (hNx st) x (hNx st + 27) (hNx st) = x_Mod_init_J233 (Bst st (.inl (7, fs.set 31 (.ref (hNx st + 27))) :: (tl ++ [.inr (3, hz 3 192)])) (sl + 192)) (hNx st) x (hNx st + 28) (hNx st) := by
  unfold x_Mod_init_J224
  exact stageA (fun st3 ad2 => x_Mod_init_J233 st3 (hNx st) x ad2 (hNx st)) 192 (by rw [hf]; decide) (by rw [ht]) rfl (by decide)
theorem Mod_27 (x : Int32) {st : HS} {fs : List Value} {tl : List Ent} {sl : Nat} (hf : fs.length = 43) (ht : tl.length = 28) : x_Mod_init_J233 (Bst st (.inl (7, fs) :: tl) sl) (hNx st) x (hNx st + 28) (hNx st) = x_Mod_init_J241 (Bst st (.inl (7, fs.set 32 (.ref (hNx st + 28))) :: (tl ++ [.inr (0, hz 0 12)])) (sl + 12)) (hNx st) x (hNx st + 29) (hNx st) := by
  unfold x_Mod_init_J233
  exact stageA (fun st3 ad2 => x_Mod_init_J241 st3 (hNx st) x ad2 (hNx st)) 12 (by rw [hf]; decide) (by rw [ht]) rfl (by decide)
theorem Mod_28 (x : Int32) {st : HS} {fs : List Value} {tl : List Ent} {sl : Nat} (hf : fs.length = 43) (ht : tl.length = 29) : x_Mod_init_J241 (Bst st (.inl (7, fs) :: tl) sl) (hNx st) x (hNx st + 29) (hNx st) = x_Mod_init_J250 (Bst st (.inl (7, fs.set 33 (.ref (hNx st + 29))) :: (tl ++ [.inr (0, hz 0 144)])) (sl + 144)) (hNx st) x (hNx st + 30) (hNx st) := by
  unfold x_Mod_init_J241
  exact stageA (fun st3 ad2 => x_Mod_init_J250 st3 (hNx st) x ad2 (hNx st)) 144 (by rw [hf]; decide) (by rw [ht]) rfl (by decide)
