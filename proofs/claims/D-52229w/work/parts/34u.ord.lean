set_option maxRecDepth 40000
set_option maxHeartbeats 2000000
/-! ===== the order of texts ===== -/
def lexL (w w' : List Nat) : Prop := ∃ j, j ≤ w.length ∧ j < w'.length ∧ (∀ k, k < j → tq w k = tq w' k) ∧ (j = w.length ∨ tq w j < tq w' j)
theorem lexL_irr (w : List Nat) : ¬ lexL w w := by
  rintro ⟨j, h1, h2, h3, h4⟩
  rcases h4 with h | h <;> omega
theorem lexL_tr {w w' w2 : List Nat} (h : lexL w w') (h' : lexL w' w2) : lexL w w2 := by
  obtain ⟨j, a1, a2, a3, a4⟩ := h
  obtain ⟨i, b1, b2, b3, b4⟩ := h'
  by_cases hji : j ≤ i
  · refine ⟨j, a1, by omega, fun k hk => (a3 k hk).trans (b3 k (by omega)), ?_⟩
    rcases a4 with a4 | a4
    · exact Or.inl a4
    · right
      by_cases e : j = i
      · subst e
        rcases b4 with b4 | b4
        · omega
        · omega
      · rw [← b3 j (by omega)]; exact a4
  · refine ⟨i, by omega, b2, fun k hk => (a3 k (by omega)).trans (b3 k hk), ?_⟩
    right
    rcases b4 with b4 | b4
    · omega
    · rw [a3 i (by omega)]; exact b4
theorem nI_sgn {a b : Nat} (ha : a < 1000000) (hb : b < 1000000) : (nI a - nI b < 0 ↔ a < b) ∧ (nI a - nI b = 0 ↔ a = b) ∧ (0 < nI a - nI b ↔ b < a) := by
  have e : (nI a - nI b).toInt = (a : Int) - b := by
    rw [toInt_sub32 (by rw [nI_toInt (by omega)]; omega) (by rw [nI_toInt (by omega)]; omega), nI_toInt (by omega), nI_toInt (by omega)]
  have z : (0 : Int32).toInt = 0 := rfl
  refine ⟨?_, ?_, ?_⟩
  · rw [Int32.lt_iff_toInt_lt, e, z]; omega
  · rw [← Int32.toInt_inj, e, z]; omega
  · rw [Int32.lt_iff_toInt_lt, e, z]; omega
theorem cmF_at {w w' : List Nat} : ∀ (n j k : Nat), j + n = min w.length w'.length → j ≤ k → k < min w.length w'.length → (∀ i, j ≤ i → i < k → tq w i = tq w' i) → tq w k ≠ tq w' k → cmF w w' n j = nI (tq w k) - nI (tq w' k)
  | 0, j, k, h, h1, h2, h3, h4 => by omega
  | n + 1, j, k, h, h1, h2, h3, h4 => by
    unfold cmF
    by_cases e : j = k
    · subst e; rw [if_neg h4]
    · rw [if_pos (h3 j (Nat.le_refl _) (by omega))]
      exact cmF_at n (j + 1) k (by omega) (by omega) h2 (fun i q1 q2 => h3 i (by omega) q2) h4
theorem cmF_all {w w' : List Nat} : ∀ (n j : Nat), j + n = min w.length w'.length → (∀ i, j ≤ i → i < min w.length w'.length → tq w i = tq w' i) → cmF w w' n j = nI w.length - nI w'.length
  | 0, j, h, h3 => rfl
  | n + 1, j, h, h3 => by
    unfold cmF
    rw [if_pos (h3 j (Nat.le_refl _) (by omega))]
    exact cmF_all n (j + 1) (by omega) (fun i q1 q2 => h3 i (by omega) q2)
theorem cmW_at {w w' : List Nat} {k : Nat} (h2 : k < min w.length w'.length) (h3 : ∀ i, i < k → tq w i = tq w' i) (h4 : tq w k ≠ tq w' k) : cmW w w' = nI (tq w k) - nI (tq w' k) := cmF_at _ 0 k (by omega) (by omega) h2 (fun i _ q => h3 i q) h4
theorem cmW_all {w w' : List Nat} (h3 : ∀ i, i < min w.length w'.length → tq w i = tq w' i) : cmW w w' = nI w.length - nI w'.length := cmF_all _ 0 (by omega) (fun i _ q => h3 i q)
/-- the first place where they differ, if there is one -/
theorem fst_d (w w' : List Nat) (m : Nat) : (∀ i, i < m → tq w i = tq w' i) ∨ ∃ k, k < m ∧ (∀ i, i < k → tq w i = tq w' i) ∧ tq w k ≠ tq w' k := by
  induction m with
  | zero => exact Or.inl (fun i h => by omega)
  | succ m ih =>
    rcases ih with h | ⟨k, h1, h2, h3⟩
    · by_cases e : tq w m = tq w' m
      · left
        intro i hi
        by_cases e2 : i = m
        · subst e2; exact e
        · exact h i (by omega)
      · exact Or.inr ⟨m, by omega, h, e⟩
    · exact Or.inr ⟨k, by omega, h2, h3⟩
theorem cmW_spec {w w' : List Nat} (o : okW w) (o' : okW w') : (cmW w w' < 0 ↔ lexL w w') ∧ (cmW w w' = 0 ↔ w = w') ∧ (0 < cmW w w' ↔ lexL w' w) := by
  have l1 := o.2
  have l2 := o'.2
  have key : (cmW w w' < 0 → lexL w w') ∧ (cmW w w' = 0 → w = w') ∧ (0 < cmW w w' → lexL w' w) := by
    rcases fst_d w w' (min w.length w'.length) with h | ⟨k, h1, h2, h3⟩
    · rw [cmW_all h]
      obtain ⟨s1, s2, s3⟩ := nI_sgn (a := w.length) (b := w'.length) (by omega) (by omega)
      refine ⟨fun q => ?_, fun q => ?_, fun q => ?_⟩
      · have := s1.mp q
        exact ⟨w.length, Nat.le_refl _, by omega, fun i hi => h i (by omega), Or.inl rfl⟩
      · have := s2.mp q
        exact tq_ext this (fun i hi => h i (by omega))
      · have := s3.mp q
        exact ⟨w'.length, Nat.le_refl _, by omega, fun i hi => (h i (by omega)).symm, Or.inl rfl⟩
    · rw [cmW_at h1 h2 h3]
      have b1 := o.1 k
      have b2 := o'.1 k
      obtain ⟨s1, s2, s3⟩ := nI_sgn (a := tq w k) (b := tq w' k) (by omega) (by omega)
      refine ⟨fun q => ?_, fun q => ?_, fun q => ?_⟩
      · exact ⟨k, by omega, by omega, h2, Or.inr (s1.mp q)⟩
      · exact absurd (s2.mp q) h3
      · exact ⟨k, by omega, by omega, fun i hi => (h2 i hi).symm, Or.inr (s3.mp q)⟩
  obtain ⟨k1, k2, k3⟩ := key
  have tri : cmW w w' < 0 ∨ cmW w w' = 0 ∨ 0 < cmW w w' := by
    simp only [Int32.lt_iff_toInt_lt, ← Int32.toInt_inj]
    omega
  refine ⟨⟨k1, fun q => ?_⟩, ⟨k2, fun q => ?_⟩, ⟨k3, fun q => ?_⟩⟩
  · rcases tri with h | h | h
    · exact h
    · have := k2 h; subst this; exact absurd q (lexL_irr _)
    · exact absurd (lexL_tr q (k3 h)) (lexL_irr _)
  · subst q
    rcases tri with h | h | h
    · exact absurd (k1 h) (lexL_irr _)
    · exact h
    · exact absurd (k3 h) (lexL_irr _)
  · rcases tri with h | h | h
    · exact absurd (lexL_tr q (k1 h)) (lexL_irr _)
    · have := k2 h; subst this; exact absurd q (lexL_irr _)
    · exact h
theorem i32_tr {a b c : Int32} (h : a < b) (h' : b < c) : a < c := by simp only [Int32.lt_iff_toInt_lt] at *; omega
theorem i32_irr (a : Int32) : ¬ a < a := by simp only [Int32.lt_iff_toInt_lt]; omega
theorem i32_tri (a b : Int32) : a < b ∨ a = b ∨ b < a := by
  simp only [Int32.lt_iff_toInt_lt, ← Int32.toInt_inj]
  omega
theorem kLt_tr {w w' w2 : List Nat} (o : okW w) (o' : okW w') (o2 : okW w2) (h : kLt w w') (h' : kLt w' w2) : kLt w w2 := by
  unfold kLt at *
  rcases h with h | ⟨h, q⟩ <;> rcases h' with h' | ⟨h', q'⟩
  · exact Or.inl (i32_tr h h')
  · rw [h'] at h; exact Or.inl h
  · rw [h]; exact Or.inl h'
  · exact Or.inr ⟨h.trans h', (cmW_spec o o2).1.mpr (lexL_tr ((cmW_spec o o').1.mp q) ((cmW_spec o' o2).1.mp q'))⟩
theorem kLt_irr {w : List Nat} (o : okW w) : ¬ kLt w w := by
  rintro (h | ⟨-, h⟩)
  · exact i32_irr _ h
  · exact lexL_irr _ ((cmW_spec o o).1.mp h)
/-- behind the comparisons of a tree: less, or more -/
theorem kLt_gt {w w' : List Nat} (o : okW w) (o' : okW w') (h : hsN w = hsN w') (hc : 0 < cmW w w') : kLt w' w := Or.inr ⟨h.symm, (cmW_spec o' o).1.mpr ((cmW_spec o o').2.2.mp hc)⟩
/-! ===== the trailing zeros of a number, as Integer and Long reckon them ===== -/
theorem two_odd : ∀ n : Nat, n ≠ 0 → ∃ t q, n = 2 ^ t * (2 * q + 1) := by
  intro n
  induction n using Nat.strongRecOn with
  | ind n ih =>
    intro h
    by_cases e : n % 2 = 1
    · exact ⟨0, n / 2, by omega⟩
    · obtain ⟨t, q, h2⟩ := ih (n / 2) (by omega) (by omega)
      refine ⟨t + 1, q, ?_⟩
      rw [Nat.pow_succ, Nat.mul_comm (2 ^ t) 2, Nat.mul_assoc, ← h2]
      omega
/-- the low zeros as ones -/
theorem low_ones {x t q : Nat} (h : x = 2 ^ t * (2 * q + 1)) (hx : x < 2 ^ 32) : (2 ^ 32 - (x + 1)) &&& (x - 1) = 2 ^ t - 1 := by
  have e1 : x = 2 ^ (t + 1) * q + 2 ^ t := by rw [h, Nat.pow_succ, Nat.mul_add, Nat.mul_one, Nat.mul_assoc]
  have p0 : 0 < 2 ^ t := Nat.two_pow_pos t
  have e2 : x - 1 = 2 ^ (t + 1) * q + (2 ^ t - 1) := by omega
  have b1 : 2 ^ t < 2 ^ (t + 1) := by rw [Nat.pow_succ]; omega
  apply Nat.eq_of_testBit_eq
  intro i
  rw [Nat.testBit_and, Nat.testBit_two_pow_sub_succ hx, e2, Nat.testBit_two_pow_mul_add _ (by omega), Nat.testBit_two_pow_sub_one]
  have ex : x.testBit i = if i < t + 1 then (2 ^ t).testBit i else q.testBit (i - (t + 1)) := by
    rw [e1, Nat.testBit_two_pow_mul_add _ b1]
  rw [ex]
  have ti : i ≤ t → i < 32 := fun hi => by
    have : 2 ^ t ≤ x := by rw [h]; exact Nat.le_mul_of_pos_right _ (by omega)
    have h32 : t < 32 := (Nat.pow_lt_pow_iff_right (by decide)).mp (Nat.lt_of_le_of_lt this hx)
    omega
  by_cases c1 : i < t
  · rw [if_pos (by omega), if_pos (by omega), Nat.testBit_two_pow]
    have := ti (by omega)
    simp [c1, this]
    omega
  · by_cases c2 : i = t
    · subst c2
      rw [if_pos (by omega), if_pos (by omega), Nat.testBit_two_pow]
      simp
    · rw [if_neg (by omega), if_neg (by omega)]
      simp [c1]
/-- unsigned shift as the machine has it -/
def shU (m k : Int32) : Int32 := (m.toUInt32 >>> (k.toUInt32 &&& Int32.toUInt32 31)).toInt32
def nz4 (n m : Int32) : Int32 := n + shU m 1
def nz3 (n m : Int32) : Int32 := if m ≤ 4 then nz4 n m else nz4 (n + 2) (shU m 2)
def nz2 (n m : Int32) : Int32 := if m ≤ 16 then nz3 n m else nz3 (n + 4) (shU m 4)
def nz1 (n m : Int32) : Int32 := if m ≤ 256 then nz2 n m else nz2 (n + 8) (shU m 8)
def nz0 (n m : Int32) : Int32 := if m ≤ 65536 then nz1 n m else nz1 (n + 16) (shU m 16)
def nzM (x : Int32) : Int32 := (x ^^^ -1) &&& (x - 1)
def nzV (x : Int32) : Int32 := if 0 < nzM x then nz0 1 (nzM x) else nzM x &&& 32
theorem nz_dec : ∀ t : Fin 32, (if 0 < nI (2 ^ t.val - 1) then nz0 1 (nI (2 ^ t.val - 1)) else nI (2 ^ t.val - 1) &&& 32) = nI t.val := by decide +kernel
/-- a number below 2^32 as an int -/
def wI32 (n : Nat) : Int32 := (UInt32.ofNat n).toInt32
theorem wI32_lt {n : Nat} (h : n < 2 ^ 31) : wI32 n = nI n := by
  apply Int32.toBitVec_inj.mp
  rfl
theorem nzM_v {x t q : Nat} (h : x = 2 ^ t * (2 * q + 1)) (hx : x < 2 ^ 32) : nzM (wI32 x) = nI (2 ^ t - 1) := by
  apply Int32.toBitVec_inj.mp
  have p0 : 0 < 2 ^ t := Nat.two_pow_pos t
  have x0 : 0 < x := by rw [h]; exact Nat.mul_pos p0 (by omega)
  have e1 : (nzM (wI32 x)).toBitVec = (~~~ (BitVec.ofNat 32 x)) &&& (BitVec.ofNat 32 x - 1#32) := by
    show (BitVec.ofNat 32 x ^^^ (-1 : Int32).toBitVec) &&& (BitVec.ofNat 32 x - 1#32) = _
    rw [show (-1 : Int32).toBitVec = BitVec.allOnes 32 from by decide, BitVec.xor_allOnes]
  rw [e1]
  apply BitVec.eq_of_toNat_eq
  rw [BitVec.toNat_and, BitVec.toNat_not, BitVec.toNat_sub, BitVec.toNat_ofNat, Nat.mod_eq_of_lt hx]
  have e2 : (2 ^ 32 - (1#32).toNat + x) % 2 ^ 32 = x - 1 := by
    show (2 ^ 32 - 1 + x) % 2 ^ 32 = _
    omega
  rw [e2, show 2 ^ 32 - 1 - x = 2 ^ 32 - (x + 1) by omega, low_ones h hx]
  have : 2 ^ t ≤ x := by rw [h]; exact Nat.le_mul_of_pos_right _ (by omega)
  show _ = (BitVec.ofNat 32 (2 ^ t - 1)).toNat
  rw [BitVec.toNat_ofNat, Nat.mod_eq_of_lt (by omega)]
theorem nzV_v {x t q : Nat} (h : x = 2 ^ t * (2 * q + 1)) (hx : x < 2 ^ 32) : nzV (wI32 x) = nI t := by
  have : 2 ^ t ≤ x := by rw [h]; exact Nat.le_mul_of_pos_right _ (by omega)
  have h32 : t < 32 := (Nat.pow_lt_pow_iff_right (by decide)).mp (Nat.lt_of_le_of_lt this hx)
  unfold nzV
  rw [nzM_v h hx]
  exact nz_dec ⟨t, h32⟩
/-- Long's -/
def nzL (x : Int64) : Int32 := if x.toInt32 = 0 then 32 + nzV ((x.toUInt64 >>> ((32 : Int32).toInt64.toUInt64 &&& Int64.toUInt64 63)).toInt64.toInt32) else nzV x.toInt32
def wI64 (n : Nat) : Int64 := (UInt64.ofNat n).toInt64
theorem wI64_32 (n : Nat) : (wI64 n).toInt32 = wI32 (n % 2 ^ 32) := by
  apply Int32.toBitVec_inj.mp
  apply BitVec.eq_of_toNat_eq
  show (BitVec.signExtend 32 (BitVec.ofNat 64 n)).toNat = (BitVec.ofNat 32 (n % 2 ^ 32)).toNat
  rw [BitVec.signExtend_eq_setWidth_of_le _ (by decide), BitVec.toNat_setWidth, BitVec.toNat_ofNat, BitVec.toNat_ofNat]
  omega
theorem wI64_hi {n : Nat} (h : n < 2 ^ 64) : ((wI64 n).toUInt64 >>> ((32 : Int32).toInt64.toUInt64 &&& Int64.toUInt64 63)).toInt64 = wI64 (n / 2 ^ 32) := by
  have e : ((32 : Int32).toInt64.toUInt64 &&& Int64.toUInt64 63) = 32 := by decide
  rw [e]
  show (UInt64.ofNat n >>> 32).toInt64 = (UInt64.ofNat (n / 2 ^ 32)).toInt64
  congr 1
  apply UInt64.toNat_inj.mp
  have h2 : n / 2 ^ 32 < 2 ^ 64 := Nat.lt_of_le_of_lt (Nat.div_le_self _ _) h
  rw [UInt64.toNat_shiftRight, UInt64.toNat_ofNat', UInt64.toNat_ofNat', Nat.mod_eq_of_lt h, Nat.mod_eq_of_lt h2, Nat.shiftRight_eq_div_pow]
  rfl
theorem nzL_v {x t q : Nat} (h : x = 2 ^ t * (2 * q + 1)) (hx : x < 2 ^ 64) : nzL (wI64 x) = nI t := by
  have hp : 2 ^ t ≤ x := by rw [h]; exact Nat.le_mul_of_pos_right _ (by omega)
  have h64 : t < 64 := (Nat.pow_lt_pow_iff_right (by decide)).mp (Nat.lt_of_le_of_lt hp hx)
  unfold nzL
  rw [wI64_32, wI64_hi hx, wI64_32]
  by_cases ht : t < 32
  · obtain ⟨r, hr⟩ : ∃ r, 2 ^ 32 = 2 ^ t * (2 * r) := by
      refine ⟨2 ^ (31 - t), ?_⟩
      rw [← Nat.pow_succ', ← Nat.pow_add]
      congr 1
      omega
    have hm : x % 2 ^ 32 = 2 ^ t * (2 * (q % r) + 1) := by
      rw [h, hr, Nat.mul_mod_mul_left]
      congr 1
      have r0 : 0 < r := by
        rcases Nat.eq_zero_or_pos r with z | z
        · subst z; simp at hr
        · exact z
      rw [Nat.add_mod, Nat.mul_mod_mul_left]
      have : q % r < r := Nat.mod_lt _ r0
      rw [Nat.mod_eq_of_lt (show 1 < 2 * r by omega), Nat.mod_eq_of_lt (by omega)]
    have hlt : x % 2 ^ 32 < 2 ^ 32 := Nat.mod_lt _ (by decide)
    have nz : wI32 (x % 2 ^ 32) ≠ 0 := by
      intro z
      have z' : (BitVec.ofNat 32 (x % 2 ^ 32)).toNat = 0 := by
        have := congrArg (fun v : Int32 => v.toBitVec.toNat) z
        exact this
      rw [BitVec.toNat_ofNat, Nat.mod_eq_of_lt hlt, hm] at z'
      have := Nat.mul_pos (Nat.two_pow_pos t) (show 0 < 2 * (q % r) + 1 by omega)
      omega
    rw [if_neg nz]
    exact nzV_v hm hlt
  · have e0 : x = 2 ^ 32 * (2 ^ (t - 32) * (2 * q + 1)) := by
      rw [h, ← Nat.mul_assoc, ← Nat.pow_add, show 32 + (t - 32) = t by omega]
    have z : x % 2 ^ 32 = 0 := by rw [e0]; exact Nat.mul_mod_right _ _
    have hd : x / 2 ^ 32 = 2 ^ (t - 32) * (2 * q + 1) := by rw [e0]; exact Nat.mul_div_cancel_left _ (by decide)
    have hl : x / 2 ^ 32 < 2 ^ 32 := by omega
    rw [z, if_pos (by decide), Nat.mod_eq_of_lt hl, nzV_v hd hl]
    rw [show (32 : Int32) = nI 32 from rfl, nI_add]
    congr 1
    omega
theorem sh3_dec : ∀ t : Fin 64, nI t.val >>> ((3 : Int32) &&& 31) = nI (t.val / 8) := by decide +kernel
/-! eight bytes -/
theorem uB_lt (x : Int32) : uB x < 256 := Nat.mod_lt _ (by decide)
theorem pk8_lt (f : Nat → Int32) : pk8 f < 2 ^ 64 := by
  unfold pk8
  have h0 := uB_lt (f 0)
  have h1 := uB_lt (f 1)
  have h2 := uB_lt (f 2)
  have h3 := uB_lt (f 3)
  have h4 := uB_lt (f 4)
  have h5 := uB_lt (f 5)
  have h6 := uB_lt (f 6)
  have h7 := uB_lt (f 7)
  omega
/-- where the bytes agree up to k the packed numbers do, and no farther -/
theorem pk8_mod {f f' : Nat → Int32} {k : Nat} (hk : k < 8) (h1 : ∀ i, i < k → uB (f i) = uB (f' i)) (h2 : uB (f k) ≠ uB (f' k)) : pk8 f % 2 ^ (8 * k) = pk8 f' % 2 ^ (8 * k) ∧ pk8 f % 2 ^ (8 * k + 8) ≠ pk8 f' % 2 ^ (8 * k + 8) := by
  have a0 := uB_lt (f 0)
  have a1 := uB_lt (f 1)
  have a2 := uB_lt (f 2)
  have a3 := uB_lt (f 3)
  have a4 := uB_lt (f 4)
  have a5 := uB_lt (f 5)
  have a6 := uB_lt (f 6)
  have a7 := uB_lt (f 7)
  have b0 := uB_lt (f' 0)
  have b1 := uB_lt (f' 1)
  have b2 := uB_lt (f' 2)
  have b3 := uB_lt (f' 3)
  have b4 := uB_lt (f' 4)
  have b5 := uB_lt (f' 5)
  have b6 := uB_lt (f' 6)
  have b7 := uB_lt (f' 7)
  have e0 := h1 0
  have e1 := h1 1
  have e2 := h1 2
  have e3 := h1 3
  have e4 := h1 4
  have e5 := h1 5
  have e6 := h1 6
  unfold pk8
  match k, hk with
  | 0, _ => constructor <;> omega
  | 1, _ => constructor <;> omega
  | 2, _ => constructor <;> omega
  | 3, _ => constructor <;> omega
  | 4, _ => constructor <;> omega
  | 5, _ => constructor <;> omega
  | 6, _ => constructor <;> omega
  | 7, _ => constructor <;> omega
theorem wI64_inj {a b : Nat} (ha : a < 2 ^ 64) (hb : b < 2 ^ 64) (h : wI64 a = wI64 b) : a = b := by
  have := congrArg (fun v : Int64 => v.toBitVec.toNat) h
  have e : (BitVec.ofNat 64 a).toNat = (BitVec.ofNat 64 b).toNat := this
  rwa [BitVec.toNat_ofNat, BitVec.toNat_ofNat, Nat.mod_eq_of_lt ha, Nat.mod_eq_of_lt hb] at e
theorem wI64_xor {a b : Nat} : wI64 a ^^^ wI64 b = wI64 (a ^^^ b) := by
  apply Int64.toBitVec_inj.mp
  show BitVec.ofNat 64 a ^^^ BitVec.ofNat 64 b = BitVec.ofNat 64 (a ^^^ b)
  rw [BitVec.ofNat_xor]
theorem xor0 {a b : Nat} (h : a ^^^ b = 0) : a = b := by
  apply Nat.eq_of_testBit_eq
  intro i
  have := congrArg (fun v : Nat => v.testBit i) h
  simp only [Nat.testBit_xor, Nat.zero_testBit] at this
  revert this
  cases a.testBit i <;> cases b.testBit i <;> simp
/-- the first byte that differs, out of the exclusive or -/
theorem ntz_first {a b k : Nat} (ha : a < 2 ^ 64) (hb : b < 2 ^ 64) (hk : k < 8) (h1 : a % 2 ^ (8 * k) = b % 2 ^ (8 * k)) (h2 : a % 2 ^ (8 * k + 8) ≠ b % 2 ^ (8 * k + 8)) : nzL (wI64 a ^^^ wI64 b) >>> ((3 : Int32) &&& 31) = nI k := by
  have hx : a ^^^ b < 2 ^ 64 := Nat.xor_lt_two_pow ha hb
  have m1 : (a ^^^ b) % 2 ^ (8 * k) = 0 := by rw [Nat.xor_mod_two_pow, h1, Nat.xor_self]
  have m2 : (a ^^^ b) % 2 ^ (8 * k + 8) ≠ 0 := by
    rw [Nat.xor_mod_two_pow]
    intro z
    exact h2 (xor0 z)
  have n0 : a ^^^ b ≠ 0 := fun z => m2 (by rw [z]; exact Nat.zero_mod _)
  obtain ⟨t, q, h⟩ := two_odd _ n0
  have hp : 2 ^ t ≤ a ^^^ b := by rw [h]; exact Nat.le_mul_of_pos_right _ (by omega)
  have h64 : t < 64 := (Nat.pow_lt_pow_iff_right (by decide)).mp (Nat.lt_of_le_of_lt hp hx)
  have lo : 8 * k ≤ t := by
    rcases Nat.lt_or_ge t (8 * k) with c | c
    · exfalso
      have d1 : 2 ^ (t + 1) ∣ a ^^^ b := Nat.dvd_trans (Nat.pow_dvd_pow 2 (by omega)) (Nat.dvd_of_mod_eq_zero m1)
      rw [h, Nat.pow_succ] at d1
      have d2 := Nat.dvd_of_mul_dvd_mul_left (Nat.two_pow_pos t) d1
      omega
    · exact c
  have hi : t < 8 * k + 8 := by
    rcases Nat.lt_or_ge t (8 * k + 8) with c | c
    · exact c
    · exfalso
      have d1 : 2 ^ (8 * k + 8) ∣ a ^^^ b := by rw [h]; exact Nat.dvd_trans (Nat.pow_dvd_pow 2 c) (Nat.dvd_mul_right _ _)
      exact m2 (Nat.mod_eq_zero_of_dvd d1)
  rw [wI64_xor, nzL_v h hx, sh3_dec ⟨t, h64⟩]
  congr 1
  show t / 8 = k
  omega
