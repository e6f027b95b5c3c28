/-! rooms, words, the context of a walk -/
def rmL (k mc ms : Nat) : Room := { frames := k, cells := mc, slots := ms, locals := 60 * k }
/-- the words that go along with a call -/
def lw_x : List Cond := [.selects "java/lang/StringBuilder" ⟨"java/lang/AbstractStringBuilder", "ensureCapacityInternal", "(I)V"⟩ ⟨"java/lang/AbstractStringBuilder", "ensureCapacityInternal", "(I)V"⟩, .selects "java/lang/StringBuilder" ⟨"java/lang/AbstractStringBuilder", "newCapacity", "(I)I"⟩ ⟨"java/lang/AbstractStringBuilder", "newCapacity", "(I)I"⟩]
def lw_g : List Cond := lw_x ++ lw_tbl.filter goodWord
theorem lw_good : ∀ w ∈ lw_g, goodWord w = true := fun w hw => by
  rcases List.mem_append.mp hw with h | h
  · exact (by decide +kernel : ∀ w ∈ lw_x, goodWord w = true) w h
  · exact (List.mem_filter.mp h).2
theorem in_x0 : Cond.selects "java/lang/StringBuilder" ⟨"java/lang/AbstractStringBuilder", "ensureCapacityInternal", "(I)V"⟩ ⟨"java/lang/AbstractStringBuilder", "ensureCapacityInternal", "(I)V"⟩ ∈ lw_g := List.mem_append_left _ (List.mem_of_getElem? (i := 0) rfl)
theorem in_x1 : Cond.selects "java/lang/StringBuilder" ⟨"java/lang/AbstractStringBuilder", "newCapacity", "(I)I"⟩ ⟨"java/lang/AbstractStringBuilder", "newCapacity", "(I)I"⟩ ∈ lw_g := List.mem_append_left _ (List.mem_of_getElem? (i := 1) rfl)
theorem gi_code {y : MethodName} {b : ByteArray} {n : Nat} {r : Option FieldType} (h : Cond.code y b n r ∈ lw_g) : GoodIn lw_g (Cond.code y b n r :: lw_g) := by
  intro w hw
  have h2 : w ∈ lw_g := by
    rcases List.mem_cons.mp hw with rfl | h1
    · exact h
    · exact h1
  exact ⟨h2, good_of_word (lw_good w h2)⟩
theorem in_t1 {w : Cond} {i : Nat} (h : tables_1[i]? = some w) (hg : goodWord w = true) : w ∈ lw_g := List.mem_append_right _ (List.mem_filter.mpr ⟨List.mem_append_right _ (List.mem_of_getElem? h), hg⟩)
theorem in_pr {q : MethodName × Nat} {i : Nat} (h : lw_privs[i]? = some q) : Cond.selects q.1.cls q.1 q.1 ∈ lw_g := List.mem_append_right _ (List.mem_filter.mpr ⟨List.mem_append_left _ (List.mem_map.mpr ⟨q, List.mem_of_getElem? h, rfl⟩), rfl⟩)
/-- what a call needs of the tables -/
abbrev cOK (y : MethodName) (n : Nat) : Prop := y.cls ≠ "java/lang/invoke/MethodHandle" ∧ y.cls ≠ "java/lang/invoke/VarHandle" ∧ (parseMethodDescriptor y.desc).map (fun d => d.parameters.length) = some n
/-- words that a call doesn't pay for: nest mates' links, a cast, arrays of objects -/
def isNw (w : Cond) : Bool := match w with
  | .fieldLinkNest .. => true
  | .methodLinkNest .. => true
  | .castable .. => true
  | .arrayOver (.object _) => true
  | _ => false
def lw_n : List Cond := lw_tbl.filter isNw
theorem in_n1 {w : Cond} {i : Nat} (h : tables_1[i]? = some w) (hg : isNw w = true) : w ∈ lw_n := List.mem_filter.mpr ⟨List.mem_append_right _ (List.mem_of_getElem? h), hg⟩
