set_option maxRecDepth 40000
set_option maxHeartbeats 2000000
/-! ===== HashMap.resize: one bin is split ===== -/
theorem bix_bit {cap : Nat} (hc : cap = 16 ∨ cap = 32) (x : Int32) : ((x &&& nI cap = 0) = (bix (2 * cap) x = bix cap x)) ∧ (bix (2 * cap) x = bix cap x ∨ bix (2 * cap) x = bix cap x + cap) := by
  obtain ⟨k, hk, hk2⟩ : ∃ k, cap = 2 ^ k ∧ k < 6 := by
    rcases hc with rfl | rfl
    · exact ⟨4, by decide, by decide⟩
    · exact ⟨5, by decide, by decide⟩
  have e1 : bix (2 * cap) x = bix cap x + 2 ^ k * (x.toBitVec.toNat.testBit k).toNat := by
    unfold bix
    rw [hk, show 2 * 2 ^ k = 2 ^ (k + 1) by rw [Nat.pow_succ]; omega, Nat.mod_pow_succ, Nat.testBit_eq_decide_div_mod_eq]
    have := Nat.mod_two_eq_zero_or_one (x.toBitVec.toNat / 2 ^ k)
    rcases this with q | q <;> rw [q] <;> rfl
  have p0 : 0 < 2 ^ k := Nat.two_pow_pos k
  have e2 : (x &&& nI cap = 0) ↔ x.toBitVec.toNat.testBit k = false := by
    have z : (x &&& nI cap = 0) ↔ x.toBitVec.toNat &&& 2 ^ k = 0 := by
      constructor
      · intro h
        have h1 : (x &&& nI cap).toBitVec.toNat = 0 := by rw [h]; rfl
        have h2 : (x &&& nI cap).toBitVec.toNat = x.toBitVec.toNat &&& (nI cap).toBitVec.toNat := by
          show (x.toBitVec &&& (nI cap).toBitVec).toNat = _
          exact BitVec.toNat_and _ _
        have h3 : (nI cap).toBitVec.toNat = 2 ^ k := by
          rcases hc with rfl | rfl
          · rw [← hk]; decide
          · rw [← hk]; decide
        rw [h2, h3] at h1
        exact h1
      · intro h
        apply Int32.toBitVec_inj.mp
        apply BitVec.eq_of_toNat_eq
        have h2 : (x &&& nI cap).toBitVec.toNat = x.toBitVec.toNat &&& (nI cap).toBitVec.toNat := by
          show (x.toBitVec &&& (nI cap).toBitVec).toNat = _
          exact BitVec.toNat_and _ _
        have h3 : (nI cap).toBitVec.toNat = 2 ^ k := by
          rcases hc with rfl | rfl
          · rw [← hk]; decide
          · rw [← hk]; decide
        rw [h2, h3, h]
        rfl
    rw [z]
    constructor
    · intro h
      have := congrArg (fun n => n.testBit k) h
      simp only [Nat.testBit_and, Nat.testBit_two_pow_self, Bool.and_true, Nat.zero_testBit] at this
      exact this
    · intro h
      apply Nat.eq_of_testBit_eq
      intro j
      rw [Nat.testBit_and, Nat.testBit_two_pow, Nat.zero_testBit]
      by_cases q : k = j
      · subst q; rw [h]; rfl
      · simp [q]
  constructor
  · apply propext
    rw [e2, e1]
    cases x.toBitVec.toNat.testBit k
    · simp
    · simp
  · rw [e1]
    cases x.toBitVec.toNat.testBit k
    · left; simp
    · right; simp [hk]
/-- a chain without its end -/
def opC (nx : Nat → Option Nat) : List Nat → Prop
  | [] => True
  | [_] => True
  | a :: b :: l => nx a = some b ∧ opC nx (b :: l)
theorem opC_cg {nx nx' : Nat → Option Nat} : ∀ {l : List Nat}, (∀ i ∈ l, nx' i = nx i) → opC nx l → opC nx' l
  | [], _, _ => trivial
  | [_], _, _ => trivial
  | a :: b :: l, h, w => ⟨by rw [h a List.mem_cons_self]; exact w.1, opC_cg (fun i hi => h i (List.mem_cons_of_mem _ hi)) w.2⟩
theorem opC_snoc {nx : Nat → Option Nat} {t e : Nat} : ∀ {l : List Nat}, (l ++ [t]).Nodup → opC nx (l ++ [t]) → opC (va_up nx t (some e)) (l ++ [t] ++ [e])
  | [], _, _ => ⟨va_up_self _ _ _, trivial⟩
  | [a], h, w => by
    have q : a ≠ t := by simp at h; exact h
    exact ⟨by rw [va_up_ne _ _ q]; exact w.1, va_up_self _ _ _, trivial⟩
  | a :: b :: l, h, w => by
    have q : a ≠ t := by
      simp only [List.cons_append, List.nodup_cons, List.mem_cons, List.mem_append, List.not_mem_nil, or_false, not_or] at h
      exact h.1.2.2
    exact ⟨by rw [va_up_ne _ _ q]; exact w.1, opC_snoc (l := b :: l) (List.nodup_cons.mp h).2 w.2⟩
theorem opC_end {nx : Nat → Option Nat} {t : Nat} : ∀ {l : List Nat}, (l ++ [t]).Nodup → opC nx (l ++ [t]) → nxC (va_up nx t none) (l ++ [t]).head? (l ++ [t])
  | [], _, _ => ⟨rfl, va_up_self _ _ _⟩
  | [a], h, w => by
    have q : a ≠ t := by simp at h; exact h
    exact ⟨rfl, by rw [va_up_ne _ _ q]; exact w.1, va_up_self _ _ _⟩
  | a :: b :: l, h, w => by
    have q : a ≠ t := by
      simp only [List.cons_append, List.nodup_cons, List.mem_cons, List.mem_append, List.not_mem_nil, or_false, not_or] at h
      exact h.1.2.2
    have r := opC_end (l := b :: l) (List.nodup_cons.mp h).2 w.2
    refine ⟨rfl, ?_⟩
    show nxC (va_up nx t none) (va_up nx t none a) (b :: l ++ [t])
    rw [va_up_ne _ _ q, w.1]
    exact r
theorem nxC_cg {nx nx' : Nat → Option Nat} : ∀ {l : List Nat} {o : Option Nat}, (∀ i ∈ l, nx' i = nx i) → nxC nx o l → nxC nx' o l
  | [], _, _, w => w
  | a :: l, o, h, w => ⟨w.1, by rw [h a List.mem_cons_self]; exact nxC_cg (fun i hi => h i (List.mem_cons_of_mem _ hi)) w.2⟩
/-- a plain node -/
abbrev n21 (nd ka vb : Nat → Nat) (nm : Nat → List Nat) (nx : Nat → Option Nat) (i : Nat) : xE := ob 21 [.int (hsN (nm i)), .ref (ka i), .ref (vb i), oN nd (nx i)]
theorem chn_fam {M : xM} {nd ka vb : Nat → Nat} {nm : Nat → List Nat} : ∀ {l : List Nat} {o : Option Nat}, l.Nodup → chn M nd ka vb nm o l → ∃ nx : Nat → Option Nat, o = l.head?.map nd ∧ nxC nx l.head? l ∧ ∀ i ∈ l, M (nd i) = some (n21 nd ka vb nm nx i)
  | [], o, _, h => ⟨fun _ => none, h, rfl, fun i hi => by cases hi⟩
  | a :: l, o, hn, h => by
    obtain ⟨h1, nx0, h2, h3⟩ := h
    obtain ⟨nx, e1, e2, e3⟩ := chn_fam (List.nodup_cons.mp hn).2 h3
    have na : ∀ i ∈ l, i ≠ a := fun i hi e => (List.nodup_cons.mp hn).1 (by rw [← e]; exact hi)
    refine ⟨va_up nx a l.head?, h1, ⟨rfl, ?_⟩, fun i hi => ?_⟩
    · show nxC _ (va_up nx a l.head? a) l
      rw [va_up_self]
      exact nxC_cg (fun i hi => va_up_ne _ _ (na i hi)) e2
    · rcases List.mem_cons.mp hi with q | q
      · subst q
        show M (nd i) = some (ob 21 [_, _, _, oN nd (va_up nx i l.head? i)])
        rw [va_up_self, h2, e1]
        rfl
      · show M (nd i) = some (ob 21 [_, _, _, oN nd (va_up nx a l.head? i)])
        rw [va_up_ne _ _ (na i q)]
        exact e3 i q
theorem fam_chn {M : xM} {nd ka vb : Nat → Nat} {nm : Nat → List Nat} {nx : Nat → Option Nat} : ∀ {l : List Nat} {o : Option Nat}, nxC nx o l → (∀ i ∈ l, M (nd i) = some (n21 nd ka vb nm nx i)) → chn M nd ka vb nm (o.map nd) l
  | [], o, h, _ => by
    have h' : o = none := h
    subst h'
    rfl
  | a :: l, o, h, hc => by
    obtain ⟨h1, h2⟩ := h
    subst h1
    exact ⟨rfl, (nx a).map nd, hc a List.mem_cons_self, fam_chn h2 (fun i hi => hc i (List.mem_cons_of_mem _ hi))⟩
theorem famN_set {g : xG} {σ : xH} {l : List Nat} {nd ka vb : Nat → Nat} {nm : Nat → List Nat} {nx : Nat → Option Nat} {i : Nat} (h : famL g σ l nd (n21 nd ka vb nm nx)) (hi : i ∈ l) (o : Option Nat) : famL g (xu σ.1 (nd i) (ob 21 [.int (hsN (nm i)), .ref (ka i), .ref (vb i), oN nd o]), σ.2) l nd (n21 nd ka vb nm (va_up nx i o)) := by
  refine (h.put hi _).cg (fun j hj => ?_)
  by_cases q : j = i
  · subst q; rw [va_up_self, n21, va_up_self]
  · rw [va_up_ne _ _ q, n21, n21, va_up_ne _ _ q]
