set_option maxRecDepth 40000
set_option maxHeartbeats 2000000
/-! ===== names among names ===== -/
/-- the first of n names that is w -/
def lkN (nm : Nat → List Nat) (w : List Nat) : Nat → Option Nat
  | 0 => none
  | n + 1 => match lkN nm w n with
    | some i => some i
    | none => if nm n = w then some n else none
theorem lkN_some {nm : Nat → List Nat} {w : List Nat} : ∀ {n i : Nat}, lkN nm w n = some i → i < n ∧ nm i = w
  | 0, i, h => by cases h
  | n + 1, i, h => by
    unfold lkN at h
    split at h
    · next j e =>
      cases h
      have := lkN_some e
      exact ⟨by omega, this.2⟩
    · split at h
      · next q => cases h; exact ⟨by omega, q⟩
      · cases h
theorem lkN_none {nm : Nat → List Nat} {w : List Nat} : ∀ {n : Nat}, lkN nm w n = none → ∀ i, i < n → nm i ≠ w
  | 0, h, i, hi => by omega
  | n + 1, h, i, hi => by
    unfold lkN at h
    split at h
    · cases h
    · next e =>
      split at h
      · cases h
      · next q =>
        by_cases hin : i = n
        · subst hin; exact q
        · exact lkN_none e i (by omega)
theorem xWF.put {g : xG} {σ : xH} (h : xWF g σ) {a : Nat} {e e0 : xE} (ha : g0 g ≤ a) (h0 : σ.1 a = some e0) : xWF g (xu σ.1 a e, σ.2) := by
  obtain ⟨w1, w2, w3, w4, w5⟩ := h
  refine ⟨w1, fun b e' hb => ?_, fun b hb => ?_, w4, w5⟩
  · have hb' : xu σ.1 a e b = some e' := hb
    by_cases hba : b = a
    · subst hba; exact w2 _ _ h0
    · rw [xu_ne _ _ hba] at hb'
      exact w2 _ _ hb'
  · show xu σ.1 a e b = _
    rw [xu_ne _ _ (by omega)]
    exact w3 b hb
theorem xWF.add {g : xG} {σ : xH} (h : xWF g σ) {e : xE} {n : Nat} (r1 : σ.2.1 + 1 ≤ gN g) (r2 : σ.2.2 + n ≤ gW g) : xWF g (xu σ.1 σ.2.1 e, σ.2.1 + 1, σ.2.2 + n) := by
  obtain ⟨w1, w2, w3, w4, w5⟩ := h
  refine ⟨by show g0 g ≤ σ.2.1 + 1; omega, fun b e' hb => ?_, fun b hb => ?_, r1, r2⟩
  · have hb' : xu σ.1 σ.2.1 e b = some e' := hb
    show b < σ.2.1 + 1
    by_cases hba : b = σ.2.1
    · omega
    · rw [xu_ne _ _ hba] at hb'
      have := w2 _ _ hb'
      omega
  · show xu σ.1 σ.2.1 e b = _
    rw [xu_ne _ _ (by omega)]
    exact w3 b hb
