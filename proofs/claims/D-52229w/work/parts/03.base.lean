/-! ===== the abstract layer: cells by address, the next address, the slots in use ===== -/
abbrev xE : Type := (Nat × vp_A) ⊕ (Nat × List Value)
abbrev xM : Type := Nat → Option xE
abbrev xH : Type := xM × Nat × Nat
/-- how a method ends: with an answer, or with a cell thrown -/
abbrev xR : Type := Option Value ⊕ Nat
def xu (M : xM) (a : Nat) (e : xE) : xM := fun b => if b = a then some e else M b
theorem xu_same (M : xM) (a : Nat) (e : xE) : xu M a e a = some e := by simp [xu]
theorem xu_ne (M : xM) {a b : Nat} (e : xE) (h : b ≠ a) : xu M a e b = M b := by simp [xu, h]
theorem xu_xu (M : xM) (a : Nat) (e e' : xE) : xu (xu M a e) a e' = xu M a e' := by
  funext b; by_cases h : b = a <;> simp [xu, h]
/-- an object of the class with number c -/
abbrev ob (c : Nat) (fs : List Value) : xE := Sum.inr (c, fs)
/-- arrays: of ints (bytes, chars ..), of longs, of references; k: the number of the array's class -/
abbrev ai (k n : Nat) (f : Nat → Int32) : xE := Sum.inl (k, n, Sum.inl f)
abbrev al (k n : Nat) (f : Nat → Int64) : xE := Sum.inl (k, n, Sum.inr (Sum.inl f))
abbrev aq (k n : Nat) (f : Nat → Option Nat) : xE := Sum.inl (k, n, Sum.inr (Sum.inr (Sum.inr (Sum.inr f))))
/-- a method: its name, the number of its class among the callers, its code, locals, answer, handlers -/
abbrev xI : Type := MethodName × Nat × ByteArray × Nat × Option FieldType × List (Nat × Nat × Nat × Nat)
def iY (I : xI) : MethodName := I.1
def iO (I : xI) : Nat := I.2.1
def iC (I : xI) : ByteArray := I.2.2.1
def iL (I : xI) : Nat := I.2.2.2.1
def iR (I : xI) : Option FieldType := I.2.2.2.2.1
def iT (I : xI) : List (Nat × Nat × Nat × Nat) := I.2.2.2.2.2
/-- the decoded instruction at pc -/
def xd (I : xI) (pc : Nat) : Option (Instr × Nat) := match decode (iC I) pc with
  | .ok q => some q
  | .error _ => none
theorem xd_of {I : xI} {pc : Nat} {q : Instr × Nat} (h : decode (iC I) pc = .ok q) : xd I pc = some q := by unfold xd; rw [h]
theorem xd_to {I : xI} {pc : Nat} {q : Instr × Nat} (h : xd I pc = some q) : decode (iC I) pc = .ok q := by
  unfold xd at h
  split at h
  · next q' hq => rw [hq]; cases h; rfl
  · cases h
/-- array classes by number -/
def kty : Nat → Option FieldType
  | 0 => some .int
  | 1 => some .byte
  | 2 => some .long
  | 3 => some (.object "java/lang/Object")
  | 4 => some (.object "java/lang/String")
  | 5 => some (.object "GridTableModel$Places")
  | 6 => some (.object "java/util/HashMap$Node")
  | 7 => some (.object "GridTable$What")
  | 8 => some (.object "java/lang/Integer")
  | _ => none
/-- locals -/
def lget : List (Option Value) → Nat → Option Value
  | [], _ => none
  | a :: _, 0 => a
  | _ :: l, n + 1 => lget l n
def c2 : Value → Bool
  | .long _ => true
  | .double _ => true
  | _ => false
/-- a value behind which the local ahead is no longer a value of two slots -/
def lcut (o : Option Value) : Option Value := match o with
  | some v => if c2 v then none else some v
  | none => none
def lset1 : List (Option Value) → Nat → Value → List (Option Value)
  | [], _, _ => []
  | _ :: l, 0, v => some v :: l
  | a :: l, 1, v => lcut a :: lset1 l 0 v
  | a :: l, n + 2, v => a :: lset1 l (n + 1) v
def lset2 : List (Option Value) → Nat → Value → List (Option Value)
  | [], _, _ => []
  | [a], _, _ => [a]
  | _ :: _ :: l, 0, v => some v :: none :: l
  | a :: b :: l, 1, v => lcut a :: lset2 (b :: l) 0 v
  | a :: b :: l, n + 2, v => a :: lset2 (b :: l) (n + 1) v
/-- the locals as the kit lists them -/
def lass : Nat → List (Option Value) → List (Nat × Value)
  | _, [] => []
  | i, none :: l => lass (i + 1) l
  | i, some v :: l => (i, v) :: lass (i + 1) l
/-- a method's locals at its entry -/
def lent : List Value → List (Option Value)
  | [] => []
  | v :: l => if c2 v then some v :: none :: lent l else some v :: lent l
def lpad (n : Nat) (l : List (Option Value)) : List (Option Value) := l ++ List.replicate (n - l.length) none
theorem c2_iff (v : Value) : c2 v = true ↔ v.category = 2 := by cases v <;> simp [c2, Value.category]
theorem lass_mem : ∀ (l : List (Option Value)) (i : Nat) (q : Nat × Value), q ∈ lass i l ↔ i ≤ q.1 ∧ lget l (q.1 - i) = some q.2
  | [], i, q => by simp [lass, lget]
  | none :: l, i, q => by
    rw [lass, lass_mem l (i + 1) q]
    constructor
    · rintro ⟨h1, h2⟩
      refine ⟨by omega, ?_⟩
      obtain ⟨k, hk⟩ : ∃ k, q.1 - i = k + 1 := ⟨q.1 - i - 1, by omega⟩
      rw [hk, lget]
      rw [show q.1 - (i + 1) = k by omega] at h2
      exact h2
    · rintro ⟨h1, h2⟩
      rcases Nat.eq_or_lt_of_le h1 with e | h
      · rw [← e, Nat.sub_self, lget] at h2
        cases h2
      · refine ⟨h, ?_⟩
        obtain ⟨k, hk⟩ : ∃ k, q.1 - i = k + 1 := ⟨q.1 - i - 1, by omega⟩
        rw [hk, lget] at h2
        rw [show q.1 - (i + 1) = k by omega]
        exact h2
  | some v :: l, i, q => by
    rw [lass, List.mem_cons, lass_mem l (i + 1) q]
    constructor
    · rintro (e | ⟨h1, h2⟩)
      · rw [e]
        exact ⟨Nat.le_refl _, by simp [lget]⟩
      · refine ⟨by omega, ?_⟩
        obtain ⟨k, hk⟩ : ∃ k, q.1 - i = k + 1 := ⟨q.1 - i - 1, by omega⟩
        rw [hk, lget]
        rw [show q.1 - (i + 1) = k by omega] at h2
        exact h2
    · rintro ⟨h1, h2⟩
      rcases Nat.eq_or_lt_of_le h1 with e | h
      · left
        rw [← e, Nat.sub_self, lget] at h2
        cases h2
        exact Prod.ext e.symm rfl
      · right
        refine ⟨h, ?_⟩
        obtain ⟨k, hk⟩ : ∃ k, q.1 - i = k + 1 := ⟨q.1 - i - 1, by omega⟩
        rw [hk, lget] at h2
        rw [show q.1 - (i + 1) = k by omega]
        exact h2
/-- the frame's locals hold the list -/
def lh (arr : Array Slot) (n : Nat) (ls : List (Option Value)) : Prop := lv_has arr n (lass 0 ls)
theorem lh_get {arr : Array Slot} {n : Nat} {ls : List (Option Value)} (h : lh arr n ls) {i : Nat} {v : Value} (hv : lget ls i = some v) : arr[i]? = some (.val v) := h.2.2 (i, v) ((lass_mem ls 0 (i, v)).mpr ⟨Nat.zero_le _, hv⟩)
theorem lset1_get : ∀ (ls : List (Option Value)) (i : Nat) (v : Value) (j : Nat) (w : Value), lget (lset1 ls i v) j = some w → (j = i ∧ w = v) ∨ (j ≠ i ∧ lget ls j = some w ∧ ¬ (j + 1 = i ∧ c2 w = true))
  | [], i, v, j, w => by simp [lset1, lget]
  | a :: l, 0, v, 0, w => by simp [lset1, lget]; exact fun h => h.symm
  | a :: l, 0, v, j + 1, w => by
    simp only [lset1, lget]
    intro h
    exact Or.inr ⟨by omega, h, by omega⟩
  | a :: l, 1, v, 0, w => by
    simp only [lset1, lget]
    intro h
    right
    cases a with
    | none => cases h
    | some u =>
      by_cases hc : c2 u = true
      · simp [lcut, hc] at h
      · simp [lcut, hc] at h
        subst h
        exact ⟨by omega, rfl, fun q => hc q.2⟩
  | a :: l, 1, v, j + 1, w => by
    simp only [lset1, lget]
    intro h
    rcases lset1_get l 0 v j w h with ⟨h1, h2⟩ | ⟨h1, h2, h3⟩
    · exact Or.inl ⟨by omega, h2⟩
    · exact Or.inr ⟨by omega, h2, by omega⟩
  | a :: l, n + 2, v, 0, w => by
    simp only [lset1, lget]
    intro h
    exact Or.inr ⟨by omega, h, by omega⟩
  | a :: l, n + 2, v, j + 1, w => by
    simp only [lset1, lget]
    intro h
    rcases lset1_get l (n + 1) v j w h with ⟨h1, h2⟩ | ⟨h1, h2, h3⟩
    · exact Or.inl ⟨by omega, h2⟩
    · exact Or.inr ⟨by omega, h2, fun q => h3 ⟨by omega, q.2⟩⟩
theorem lset2_get : ∀ (ls : List (Option Value)) (i : Nat) (v : Value) (j : Nat) (w : Value), i + 1 < ls.length → lget (lset2 ls i v) j = some w → (j = i ∧ w = v) ∨ (j ≠ i ∧ j ≠ i + 1 ∧ lget ls j = some w ∧ ¬ (j + 1 = i ∧ c2 w = true))
  | [], i, v, j, w => by simp [lset2, lget]
  | [a], i, v, j, w => by intro h; simp at h
  | a :: b :: l, 0, v, 0, w => by simp [lset2, lget]; exact fun h => h.symm
  | a :: b :: l, 0, v, 1, w => by simp [lset2, lget]
  | a :: b :: l, 0, v, j + 2, w => by
    simp only [lset2, lget]
    intro _ h
    exact Or.inr ⟨by omega, by omega, h, by omega⟩
  | a :: b :: l, 1, v, 0, w => by
    simp only [lset2, lget]
    intro _ h
    right
    cases a with
    | none => cases h
    | some u =>
      by_cases hc : c2 u = true
      · simp [lcut, hc] at h
      · simp [lcut, hc] at h
        subst h
        exact ⟨by omega, by omega, rfl, fun q => hc q.2⟩
  | a :: b :: l, 1, v, j + 1, w => by
    simp only [lset2, lget]
    intro hl h
    rcases lset2_get (b :: l) 0 v j w (by simpa using hl) h with ⟨h1, h2⟩ | ⟨h1, h2, h3, h4⟩
    · exact Or.inl ⟨by omega, h2⟩
    · exact Or.inr ⟨by omega, by omega, h3, by omega⟩
  | a :: b :: l, n + 2, v, 0, w => by
    simp only [lset2, lget]
    intro _ h
    exact Or.inr ⟨by omega, by omega, h, by omega⟩
  | a :: b :: l, n + 2, v, j + 1, w => by
    simp only [lset2, lget]
    intro hl h
    rcases lset2_get (b :: l) (n + 1) v j w (by simp at hl ⊢; omega) h with ⟨h1, h2⟩ | ⟨h1, h2, h3, h4⟩
    · exact Or.inl ⟨by omega, h2⟩
    · exact Or.inr ⟨by omega, by omega, h3, fun q => h4 ⟨by omega, q.2⟩⟩
theorem lh_set1 {arr : Array Slot} {n : Nat} {ls : List (Option Value)} {i : Nat} {v : Value} (h : lv_has arr n ((i, v) :: (lass 0 ls).filter (fun q => !(q.1 == i) && !(q.1 + 1 == i && q.2.category == 2)))) : lh arr n (lset1 ls i v) := by
  refine ⟨h.1, h.2.1, fun q hq => ?_⟩
  obtain ⟨-, h2⟩ := (lass_mem _ 0 q).mp hq
  refine h.2.2 q ?_
  rcases lset1_get ls i v _ _ h2 with ⟨a, b⟩ | ⟨a, b, c⟩
  · exact List.mem_cons.mpr (Or.inl (Prod.ext (by simpa using a) b))
  · refine List.mem_cons.mpr (Or.inr (List.mem_filter.mpr ⟨(lass_mem _ 0 q).mpr ⟨Nat.zero_le _, b⟩, ?_⟩))
    have a' : ¬ q.1 = i := by simpa using a
    have c' : ¬ (q.1 + 1 = i ∧ q.2.category = 2) := fun z => c ⟨by simpa using z.1, (c2_iff _).mpr z.2⟩
    simp [a']
    exact Decidable.not_and_iff_or_not.mp c'
theorem lh_set2 {arr : Array Slot} {n : Nat} {ls : List (Option Value)} {i : Nat} {v : Value} (hl : i + 1 < ls.length) (h : lv_has arr n ((i, v) :: (lass 0 ls).filter (fun q => !(q.1 == i) && (!(q.1 == i + 1) && !(q.1 + 1 == i && q.2.category == 2))))) : lh arr n (lset2 ls i v) := by
  refine ⟨h.1, h.2.1, fun q hq => ?_⟩
  obtain ⟨-, h2⟩ := (lass_mem _ 0 q).mp hq
  refine h.2.2 q ?_
  rcases lset2_get ls i v _ _ hl h2 with ⟨a, b⟩ | ⟨a, a2, b, c⟩
  · exact List.mem_cons.mpr (Or.inl (Prod.ext (by simpa using a) b))
  · refine List.mem_cons.mpr (Or.inr (List.mem_filter.mpr ⟨(lass_mem _ 0 q).mpr ⟨Nat.zero_le _, b⟩, ?_⟩))
    have a' : ¬ q.1 = i := by simpa using a
    have a2' : ¬ q.1 = i + 1 := by simpa using a2
    have c' : ¬ (q.1 + 1 = i ∧ q.2.category = 2) := fun z => c ⟨by simpa using z.1, (c2_iff _).mpr z.2⟩
    simp [a', a2']
    exact Decidable.not_and_iff_or_not.mp c'
theorem lass_app : ∀ (l : List (Option Value)) (k i : Nat), lass i (l ++ List.replicate k none) = lass i l
  | [], 0, i => by simp [lass]
  | [], k + 1, i => by
    have h := lass_app [] k (i + 1)
    rw [List.nil_append] at h
    show lass (i + 1) (List.replicate k none) = []
    rw [h]
    simp [lass]
  | none :: l, k, i => by rw [List.cons_append, lass, lass, lass_app l k (i + 1)]
  | some v :: l, k, i => by rw [List.cons_append, lass, lass, lass_app l k (i + 1)]
