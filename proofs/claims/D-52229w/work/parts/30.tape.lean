set_option maxRecDepth 40000
set_option maxHeartbeats 2000000
/-! ===== the tape and its tokens, purely ===== -/
/-- the letter at p of a tape of N letters; 0 behind its end -/
def cA (N : Nat) (tp : Nat → Nat) (p : Nat) : Nat := if p < N then tp p else 0
def isLt (c : Nat) : Bool := decide (97 ≤ c) && decide (c ≤ 122)
def isDg (c : Nat) : Bool := decide (48 ≤ c) && decide (c ≤ 57)
def isBl (c : Nat) : Bool := decide (c = 32) || decide (c = 10)
def isAn (c : Nat) : Bool := isLt c || isDg c
/-- on from p as long as P holds -/
def ext (P : Nat → Bool) (f : Nat → Nat) : Nat → Nat → Nat
  | 0, p => p
  | n + 1, p => if P (f p) then ext P f n (p + 1) else p
theorem ext_ge (P : Nat → Bool) (f : Nat → Nat) : ∀ (n p : Nat), p ≤ ext P f n p
  | 0, p => Nat.le_refl _
  | n + 1, p => by
    unfold ext
    split
    · exact Nat.le_trans (Nat.le_succ p) (ext_ge P f n (p + 1))
    · exact Nat.le_refl _
theorem ext_le (P : Nat → Bool) (f : Nat → Nat) {N : Nat} (hP : ∀ p, N ≤ p → P (f p) = false) : ∀ (n p : Nat), p ≤ N → ext P f n p ≤ N
  | 0, p, h => h
  | n + 1, p, h => by
    unfold ext
    split
    · next q =>
      refine ext_le P f hP n (p + 1) ?_
      rcases Nat.lt_or_ge p N with h1 | h1
      · exact h1
      · rw [hP p h1] at q; cases q
    · exact h
theorem ext_in (P : Nat → Bool) (f : Nat → Nat) : ∀ (n p k : Nat), p ≤ k → k < ext P f n p → P (f k) = true
  | 0, p, k, h, h2 => by unfold ext at h2; omega
  | n + 1, p, k, h, h2 => by
    unfold ext at h2
    split at h2
    · next q =>
      by_cases hk : k = p
      · subst hk; exact q
      · exact ext_in P f n (p + 1) k (by omega) h2
    · omega
/-- where it stops, P does not hold -/
theorem ext_end (P : Nat → Bool) (f : Nat → Nat) {N : Nat} (hP : ∀ p, N ≤ p → P (f p) = false) : ∀ (n p : Nat), N ≤ p + n → P (f (ext P f n p)) = false
  | 0, p, h => by unfold ext; exact hP p (by omega)
  | n + 1, p, h => by
    unfold ext
    split
    · exact ext_end P f hP n (p + 1) (by omega)
    · next q => exact Bool.eq_false_iff.mpr q
theorem cA_out {N : Nat} {tp : Nat → Nat} {p : Nat} (h : N ≤ p) : cA N tp p = 0 := by unfold cA; rw [if_neg (by omega)]
theorem out_Bl {N : Nat} {tp : Nat → Nat} : ∀ p, N ≤ p → isBl (cA N tp p) = false := fun p h => by rw [cA_out h]; rfl
theorem out_An {N : Nat} {tp : Nat → Nat} : ∀ p, N ≤ p → isAn (cA N tp p) = false := fun p h => by rw [cA_out h]; rfl
theorem out_Dg {N : Nat} {tp : Nat → Nat} : ∀ p, N ≤ p → isDg (cA N tp p) = false := fun p h => by rw [cA_out h]; rfl
/-- behind the blanks -/
def skp (N : Nat) (tp : Nat → Nat) (p : Nat) : Nat := ext isBl (cA N tp) (2000 - p) p
/-- the end of the token that begins at p -/
def enT (N : Nat) (tp : Nat → Nat) (p : Nat) : Nat :=
  if isLt (cA N tp p) then ext isAn (cA N tp) (2000 - p) (p + 1)
  else if isDg (cA N tp p) then ext isDg (cA N tp) (2000 - p) (p + 1)
  else if (cA N tp p = 60 ∨ cA N tp p = 62) ∧ cA N tp (p + 1) = 61 then p + 2 else p + 1
/-- the letters from a to b -/
def txt (N : Nat) (tp : Nat → Nat) (a b : Nat) : List Nat := (List.range (b - a)).map (fun k => cA N tp (a + k))
theorem txt_len (N : Nat) (tp : Nat → Nat) (a b : Nat) : (txt N tp a b).length = b - a := by simp [txt]
theorem txt_at {N : Nat} {tp : Nat → Nat} {a b k : Nat} (h : k < b - a) : tq (txt N tp a b) k = cA N tp (a + k) := by
  unfold tq txt
  rw [List.getD_eq_getElem?_getD, List.getElem?_map, List.getElem?_range h]
  rfl
theorem txt_s {N : Nat} {tp : Nat → Nat} {a b : Nat} (h : a ≤ b) : txt N tp a (b + 1) = txt N tp a b ++ [cA N tp b] := by
  unfold txt
  rw [show b + 1 - a = (b - a) + 1 by omega, List.range_succ, List.map_append, List.map_singleton, show a + (b - a) = b by omega]
theorem txt_0 {N : Nat} {tp : Nat → Nat} {a : Nat} : txt N tp a a = [] := by unfold txt; rw [Nat.sub_self]; rfl
/-- the words, by their kinds; and the signs -/
def wtx : Nat → List Nat
  | 0 => [112, 111, 105, 110, 116]
  | 1 => [97, 116]
  | 2 => [115, 104, 97, 112, 101]
  | 3 => [111, 102]
  | 4 => [109, 111, 118, 101]
  | 5 => [98, 121]
  | 6 => [116, 117, 114, 110]
  | 7 => [114, 111, 117, 110, 100]
  | 8 => [102, 108, 105, 112]
  | 9 => [119, 104, 101, 110]
  | 10 => [120]
  | 11 => [121]
  | 12 => [97, 114, 101, 97]
  | 13 => [99, 114, 111, 115, 115, 101, 115]
  | 14 => [105, 110, 115, 105, 100, 101]
  | 15 => [110, 111, 116]
  | 16 => [97, 110, 100]
  | 17 => [111, 114]
  | 18 => [109, 105, 110]
  | 19 => [109, 97, 120]
  | 22 => [44]
  | 23 => [59]
  | 24 => [40]
  | 25 => [41]
  | 26 => [91]
  | 27 => [93]
  | 28 => [43]
  | 29 => [45]
  | 30 => [42]
  | 31 => [47]
  | 32 => [60]
  | 33 => [62]
  | 34 => [61]
  | 35 => [60, 61]
  | 36 => [62, 61]
  | _ => []
/-- kinds that have a text of their own -/
def kT (k : Nat) : Bool := decide (k < 20) || (decide (22 ≤ k) && decide (k ≤ 36))
theorem wtx_inj : ∀ j : Fin 37, ∀ k : Fin 37, kT j.val = true → kT k.val = true → wtx j.val = wtx k.val → j = k := by decide +kernel
theorem wtx_eq {j k : Nat} (hj : kT j = true) (hk : kT k = true) : wtx j = wtx k ↔ j = k := by
  constructor
  · intro h
    have lj : j < 37 := by simp [kT] at hj; omega
    have lk : k < 37 := by simp [kT] at hk; omega
    have := wtx_inj ⟨j, lj⟩ ⟨k, lk⟩ hj hk h
    exact congrArg Fin.val this
  · intro h; rw [h]
/-- a word's kind: its number among the words, or 20, a name; n words are looked at from j on -/
def wkF (w : List Nat) : Nat → Nat → Nat
  | 0, _ => 20
  | n + 1, j => if w = wtx j then j else wkF w n (j + 1)
def wk (w : List Nat) : Nat := wkF w 20 0
/-- a sign's place among ",;()[]+-*/<>=" -/
def sgL : List Nat := [44, 59, 40, 41, 91, 93, 43, 45, 42, 47, 60, 62, 61]
def sgF (c : Nat) : List Nat → Nat → Option Nat
  | [], _ => none
  | q :: l, j => if q = c then some j else sgF c l (j + 1)
def sgK (c : Nat) : Nat := match sgF c sgL 0 with
  | some j => 22 + j
  | none => 61
/-- the kind of the token that begins at p -/
def tkd (N : Nat) (tp : Nat → Nat) (p : Nat) : Nat :=
  if isLt (cA N tp p) then (if 10 < enT N tp p - p then 61 else wk (txt N tp p (enT N tp p)))
  else if isDg (cA N tp p) then (if 6 < enT N tp p - p then 61 else 21)
  else if enT N tp p = p + 2 then (if cA N tp p = 60 then 35 else 36) else sgK (cA N tp p)
/-- where the i-th token is looked for -/
def psT (N : Nat) (tp : Nat → Nat) : Nat → Nat
  | 0 => 0
  | i + 1 => enT N tp (skp N tp (psT N tp i))
def frT (N : Nat) (tp : Nat → Nat) (i : Nat) : Nat := skp N tp (psT N tp i)
def kdT (N : Nat) (tp : Nat → Nat) (i : Nat) : Nat := if N ≤ frT N tp i then 60 else if i = 400 then 61 else tkd N tp (frT N tp i)
/-- the last token's number: n are looked at from i on -/
def lsF (N : Nat) (tp : Nat → Nat) : Nat → Nat → Nat
  | 0, i => i
  | n + 1, i => if 60 ≤ kdT N tp i then i else lsF N tp n (i + 1)
def lsT (N : Nat) (tp : Nat → Nat) : Nat := lsF N tp 400 0
theorem lsF_spec (N : Nat) (tp : Nat → Nat) : ∀ (n i : Nat), i + n = 400 → i ≤ lsF N tp n i ∧ lsF N tp n i ≤ 400 ∧ 60 ≤ kdT N tp (lsF N tp n i) ∧ ∀ j, i ≤ j → j < lsF N tp n i → kdT N tp j < 60
  | 0, i, h => by
    unfold lsF
    refine ⟨Nat.le_refl _, by omega, ?_, fun j h1 h2 => by omega⟩
    have : i = 400 := by omega
    subst this
    unfold kdT
    split
    · omega
    · omega
  | n + 1, i, h => by
    unfold lsF
    split
    · next q => exact ⟨Nat.le_refl _, by omega, q, fun j h1 h2 => by omega⟩
    · next q =>
      obtain ⟨a1, a2, a3, a4⟩ := lsF_spec N tp n (i + 1) (by omega)
      refine ⟨by omega, a2, a3, fun j h1 h2 => ?_⟩
      by_cases hj : j = i
      · subst hj; omega
      · exact a4 j (by omega) h2
theorem lsT_spec (N : Nat) (tp : Nat → Nat) : lsT N tp ≤ 400 ∧ 60 ≤ kdT N tp (lsT N tp) ∧ ∀ j, j < lsT N tp → kdT N tp j < 60 := by
  obtain ⟨a1, a2, a3, a4⟩ := lsF_spec N tp 400 0 (by omega)
  exact ⟨a2, a3, fun j h => a4 j (Nat.zero_le _) h⟩
theorem skp_ge (N : Nat) (tp : Nat → Nat) (p : Nat) : p ≤ skp N tp p := ext_ge _ _ _ _
theorem skp_le {N : Nat} {tp : Nat → Nat} {p : Nat} (h : p ≤ N) : skp N tp p ≤ N := ext_le _ _ out_Bl _ _ h
theorem skp_end {N : Nat} {tp : Nat → Nat} (hN : N ≤ 2000) (p : Nat) : isBl (cA N tp (skp N tp p)) = false := ext_end _ _ out_Bl _ _ (by omega)
theorem enT_gt (N : Nat) (tp : Nat → Nat) (p : Nat) : p < enT N tp p := by
  unfold enT
  split
  · exact ext_ge isAn _ _ (p + 1)
  · split
    · exact ext_ge isDg _ _ (p + 1)
    · split <;> omega
theorem enT_le {N : Nat} {tp : Nat → Nat} {p : Nat} (h : p < N) : enT N tp p ≤ N := by
  unfold enT
  split
  · exact ext_le _ _ out_An _ _ h
  · split
    · exact ext_le _ _ out_Dg _ _ h
    · split
      · next q =>
        rcases Nat.lt_or_ge (p + 1) N with h1 | h1
        · omega
        · rw [cA_out h1] at q; omega
      · omega
theorem wkF_le (w : List Nat) : ∀ (n j : Nat), j + n = 20 → wkF w n j ≤ 20
  | 0, j, h => Nat.le_refl _
  | n + 1, j, h => by
    unfold wkF
    split
    · omega
    · exact wkF_le w n (j + 1) (by omega)
theorem wkF_lt (w : List Nat) : ∀ (n j : Nat), j + n = 20 → wkF w n j < 20 → w = wtx (wkF w n j)
  | 0, j, h, h2 => by unfold wkF at h2; omega
  | n + 1, j, h, h2 => by
    unfold wkF at h2 ⊢
    split at h2
    · next q => rw [if_pos q]; exact q
    · next q => rw [if_neg q]; exact wkF_lt w n (j + 1) (by omega) h2
theorem wk_le (w : List Nat) : wk w ≤ 20 := wkF_le w 20 0 rfl
theorem wk_lt {w : List Nat} (h : wk w < 20) : w = wtx (wk w) := wkF_lt w 20 0 rfl h
theorem sgF_spec (c : Nat) : ∀ (l : List Nat) (j k : Nat), sgF c l j = some k → j ≤ k ∧ k < j + l.length ∧ l.getD (k - j) 0 = c
  | [], j, k, h => by cases h
  | q :: l, j, k, h => by
    unfold sgF at h
    split at h
    · next e =>
      cases h
      exact ⟨Nat.le_refl _, by simp, by simp [e]⟩
    · obtain ⟨a, b, d⟩ := sgF_spec c l (j + 1) k h
      refine ⟨by omega, by simp; omega, ?_⟩
      obtain ⟨m, hm⟩ : ∃ m, k - j = m + 1 := ⟨k - j - 1, by omega⟩
      rw [hm]
      rw [show k - (j + 1) = m by omega] at d
      simpa using d
theorem sgK_sym : ∀ k : Fin 13, wtx (22 + k.val) = [sgL.getD k.val 0] := by decide +kernel
theorem sgK_spec {c : Nat} (h : sgK c ≠ 61) : 22 ≤ sgK c ∧ sgK c ≤ 34 ∧ wtx (sgK c) = [c] := by
  unfold sgK at h ⊢
  cases e : sgF c sgL 0 with
  | none => rw [e] at h; exact (h rfl).elim
  | some k =>
    obtain ⟨a, b, d⟩ := sgF_spec c sgL 0 k e
    have b' : k < 13 := by simpa [sgL] using b
    have := sgK_sym ⟨k, b'⟩
    simp only at this
    refine ⟨by show 22 ≤ 22 + k; omega, by show 22 + k ≤ 34; omega, ?_⟩
    show wtx (22 + k) = [c]
    rw [this]
    rw [Nat.sub_zero] at d
    rw [d]
/-- a token's kind and its text fit -/
theorem tkd_txt {N : Nat} {tp : Nat → Nat} {p : Nat} (h : kT (tkd N tp p) = true) : txt N tp p (enT N tp p) = wtx (tkd N tp p) := by
  unfold tkd at h ⊢
  split at h
  · next q =>
    rw [if_pos q]
    split at h
    · exact absurd h (by decide)
    · next q2 =>
      rw [if_neg q2]
      have hl := wk_le (txt N tp p (enT N tp p))
      have : wk (txt N tp p (enT N tp p)) < 20 := by
        rcases Nat.lt_or_ge (wk (txt N tp p (enT N tp p))) 20 with z | z
        · exact z
        · have z2 : wk (txt N tp p (enT N tp p)) = 20 := by omega
          rw [z2] at h
          exact absurd h (by decide)
      exact wk_lt this
  · next q =>
    rw [if_neg q]
    split at h
    · next q2 =>
      split at h
      · exact absurd h (by decide)
      · exact absurd h (by decide)
    · next q2 =>
      rw [if_neg q2]
      have e0 : enT N tp p = if (cA N tp p = 60 ∨ cA N tp p = 62) ∧ cA N tp (p + 1) = 61 then p + 2 else p + 1 := by
        conv => lhs; unfold enT
        rw [if_neg q, if_neg q2]
      split at h
      · next q3 =>
        rw [if_pos q3, q3]
        rw [q3] at e0
        have c2 : (cA N tp p = 60 ∨ cA N tp p = 62) ∧ cA N tp (p + 1) = 61 := by
          split at e0
          · next z => exact z
          · omega
        have e3 : txt N tp p (p + 2) = [cA N tp p, cA N tp (p + 1)] := by
          rw [txt_s (b := p + 1) (by omega), txt_s (b := p) (by omega), txt_0]
          rfl
        rw [e3, c2.2]
        rcases c2.1 with z | z
        · rw [z]; rfl
        · rw [z]; rfl
      · next q3 =>
        rw [if_neg q3]
        have e1 : enT N tp p = p + 1 := by
          split at e0
          · exact (q3 e0).elim
          · exact e0
        have hs : sgK (cA N tp p) ≠ 61 := by
          intro z
          rw [z] at h
          exact absurd h (by decide)
        rw [(sgK_spec hs).2.2, e1, txt_s (b := p) (by omega), txt_0]
        rfl
theorem tkd_le (N : Nat) (tp : Nat → Nat) (p : Nat) : tkd N tp p ≤ 36 ∨ tkd N tp p = 61 := by
  unfold tkd
  split
  · split
    · exact Or.inr rfl
    · have := wk_le (txt N tp p (enT N tp p)); omega
  · split
    · split
      · exact Or.inr rfl
      · omega
    · split
      · split <;> omega
      · by_cases z : sgK (cA N tp p) = 61
        · exact Or.inr z
        · have := (sgK_spec z).2.1; omega
/-- a number's value -/
def nuF (f : Nat → Nat) : Nat → Int32
  | 0 => 0
  | j + 1 => 10 * nuF f j + nI (f j) - 48
def numW (w : List Nat) : Int32 := nuF (tq w) w.length
