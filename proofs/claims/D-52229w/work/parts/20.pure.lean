set_option maxRecDepth 40000
set_option maxHeartbeats 2000000
/-! ===== pure helpers ===== -/
theorem xur : (∀ (M : xM) (a : Nat) (e : xE), xu M a e a = some e) ∧ (∀ (M : xM) (a b : Nat) (e : xE), ¬ b = a → xu M a e b = M b) ∧ (∀ (M : xM) (a : Nat) (e e' : xE), xu (xu M a e) a e' = xu M a e') := ⟨xu_same, fun M _ _ e h => xu_ne M e h, xu_xu⟩
theorem nI_sub {a b : Nat} (h : b ≤ a) : nI a - nI b = nI (a - b) := by
  obtain ⟨k, rfl⟩ : ∃ k, a = k + b := ⟨a - b, by omega⟩
  rw [← nI_add, Nat.add_sub_cancel, Int32.add_sub_cancel]
theorem shr1 {n : Nat} (h : n < 2147483648) : nI n >>> ((1 : Int32) &&& 31) = nI (n / 2) := by
  apply Int32.toInt_inj.mp
  have e : (nI n >>> ((1 : Int32) &&& 31)).toInt = ((nI n).toBitVec.sshiftRight' (((1 : Int32) &&& 31).toBitVec.smod 32)).toInt := rfl
  rw [e, BitVec.toInt_sshiftRight', show (((1 : Int32) &&& 31).toBitVec.smod 32).toNat = 1 by decide, Int.shiftRight_eq_div_pow]
  show (nI n).toInt / 2 ^ 1 = _
  rw [nI_toInt (by omega), nI_toInt (by omega)]
  omega
theorem nIe (n : Nat) : Int32.ofNat n = nI n := rfl
theorem down {n : Nat} {P : Nat → Prop} (h0 : P n) (hs : ∀ j, j < n → P (j + 1) → P j) : ∀ j, j ≤ n → P j := by
  intro j hj
  obtain ⟨m, hm⟩ : ∃ m, n = j + m := ⟨n - j, by omega⟩
  induction m generalizing j with
  | zero => have : n = j := by omega
            subst this; exact h0
  | succ m ih => exact hs j (by omega) (ih (j + 1) (by omega) (by omega))
/-- the next place round a row of n -/
def nx (n k : Nat) : Nat := if k + 1 = n then 0 else k + 1
theorem nx_lt {n k : Nat} (h : k < n) : nx n k < n := by unfold nx; split <;> omega
theorem nx_mod {n k : Nat} (h : k < n) : nx n k = (k + 1) % n := by
  unfold nx
  split
  · next e => rw [e, Nat.mod_self]
  · exact (Nat.mod_eq_of_lt (by omega)).symm
/-- a sum over the numbers ahead of j -/
def sumI (f : Nat → Int32) : Nat → Int32
  | 0 => 0
  | j + 1 => sumI f j + f j
theorem sumI_0 (f : Nat → Int32) : sumI f 0 = 0 := rfl
theorem sumI_s (f : Nat → Int32) (j : Nat) : sumI f j + f j = sumI f (j + 1) := rfl
theorem sumI_z {f : Nat → Int32} : ∀ (n : Nat), (∀ j, j < n → f j = 0) → sumI f n = 0
  | 0, _ => rfl
  | n + 1, h => by rw [sumI, sumI_z n (fun j hj => h j (by omega)), h n (by omega)]; rfl
theorem sumI_congr {f f' : Nat → Int32} : ∀ (n : Nat), (∀ j, j < n → f j = f' j) → sumI f n = sumI f' n
  | 0, _ => rfl
  | n + 1, h => by rw [sumI, sumI, sumI_congr n (fun j hj => h j (by omega)), h n (by omega)]
def b2i (b : Bool) : Int32 := if b then 1 else 0
theorem b2i_t : b2i true = 1 := rfl
theorem b2i_f : b2i false = 0 := rfl
theorem b2i_n : ∀ b : Bool, b2i b = 0 ↔ b = false := by decide
theorem b2i_y : ∀ b : Bool, b2i b = 1 ↔ b = true := by decide
theorem rf_b (b : Bool) : rfit (some .boolean) (.int (b2i b)) = true := by cases b <;> rfl
theorem ge_n {a b : Nat} (h : a < b) (hb : b < 2147483648) : (nI b ≤ nI a) = False := eq_false (nI_ge h (by omega))
theorem ge_y {a : Nat} : (nI a ≤ nI a) = True := eq_true (Int32.le_refl _)
theorem in_y {a b : Nat} (h : a < b) (hb : b < 2147483648) : vp_in (nI a) b = True := eq_true (vp_in_nI h (by omega))
theorem cl_y {a : Nat} (h : a < 2147483648) : (nI a).toNatClampNeg = a := nI_clamp (by omega)
/-- twice the signed area -/
def areaT (n : Nat) (c : Nat → Nat) (xs ys : Nat → Int32) (j : Nat) : Int32 := xs (c j) * ys (c (nx n j)) - xs (c (nx n j)) * ys (c j)
def area (n : Nat) (c : Nat → Nat) (xs ys : Nat → Int32) : Int32 := sumI (areaT n c xs ys) n
/-- the side of (x, y) seen from a to b -/
def side6 (xa ya xb yb x y : Int32) : Int32 := (xb - xa) * (y - ya) - (yb - ya) * (x - xa)
/-- .. from the corner k to the next one -/
def sideE (n : Nat) (c : Nat → Nat) (xs ys : Nat → Int32) (k : Nat) (x y : Int32) : Int32 := side6 (xs (c k)) (ys (c k)) (xs (c (nx n k))) (ys (c (nx n k))) x y
def apart (p q : Int32) : Bool := (decide (0 < p) && decide (q < 0)) || (decide (p < 0) && decide (0 < q))
/-- do both ends of the other's edge b lie on different sides of the edge a -/
def partsP (xs ys : Nat → Int32) (n : Nat) (c : Nat → Nat) (a m : Nat) (e : Nat → Nat) (b : Nat) : Bool := apart (sideE n c xs ys a (xs (e b)) (ys (e b))) (sideE n c xs ys a (xs (e (nx m b))) (ys (e (nx m b))))
def crossP (xs ys : Nat → Int32) (n : Nat) (c : Nat → Nat) (a m : Nat) (e : Nat → Nat) (b : Nat) : Bool := partsP xs ys n c a m e b && partsP xs ys m e b n c a
def crossT (same : Bool) (xs ys : Nat → Int32) (n : Nat) (c : Nat → Nat) (m : Nat) (e : Nat → Nat) (a b : Nat) : Int32 := if same = true ∧ b ≤ a then 0 else b2i (crossP xs ys n c a m e b)
def crosses (same : Bool) (xs ys : Nat → Int32) (n : Nat) (c : Nat → Nat) (m : Nat) (e : Nat → Nat) : Int32 := sumI (fun a => sumI (crossT same xs ys n c m e a) m) n
/-- the sign of a number -/
def sg (x : Int32) : Int32 := if x < 0 then -1 else if x = 0 then 0 else 1
theorem sg_apart (a b : Int32) : (sg a * sg b < 0) ↔ apart a b = true := by
  have t1 : ∀ a : Int32, a < 0 → ¬ 0 < a := fun a h => by simp only [Int32.lt_iff_toInt_lt] at *; omega
  have t2 : ∀ a : Int32, ¬ a < 0 → ¬ a = 0 → 0 < a := fun a h h2 => by
    simp only [Int32.lt_iff_toInt_lt] at *
    have : a.toInt ≠ (0 : Int32).toInt := fun z => h2 (Int32.toInt_inj.mp z)
    omega
  unfold sg apart
  by_cases ha : a < 0
  · by_cases hb : b < 0
    · simp [ha, hb, t1 a ha, t1 b hb]
    · by_cases hb0 : b = 0
      · subst hb0; simp [ha, t1 a ha]
      · simp [ha, hb, hb0, t1 a ha, t2 b hb hb0]
  · by_cases ha0 : a = 0
    · subst ha0; simp
    · by_cases hb : b < 0
      · simp [ha, ha0, hb, t2 a ha ha0]
      · by_cases hb0 : b = 0
        · subst hb0; simp [ha, ha0, t2 a ha ha0]
        · simp [ha, ha0, hb, hb0, t2 a ha ha0]
def mn (a b : Int32) : Int32 := if b < a then b else a
def mx (a b : Int32) : Int32 := if a < b then b else a
def ab (a : Int32) : Int32 := if 0 ≤ a then a else -a
def btw (a b x : Int32) : Bool := decide (mn a b ≤ x) && decide (x ≤ mx a b)
def onE (n : Nat) (c : Nat → Nat) (xs ys : Nat → Int32) (k : Nat) (x y : Int32) : Bool := decide (sideE n c xs ys k x y = 0) && btw (xs (c k)) (xs (c (nx n k))) x && btw (ys (c k)) (ys (c (nx n k))) y
/-- an edge lies to the right of a place -/
def rightE (n : Nat) (c : Nat → Nat) (xs ys : Nat → Int32) (k : Nat) (x y : Int32) : Bool := if decide (y < ys (c k)) = decide (y < ys (c (nx n k))) then false else if decide (y < ys (c (nx n k))) = true then decide (0 < sideE n c xs ys k x y) else decide (sideE n c xs ys k x y < 0)
def liesF (n : Nat) (c : Nat → Nat) (xs ys : Nat → Int32) (x y : Int32) : Nat → Nat → Bool → Int32
  | 0, _, o => if o = true then 1 else -1
  | m + 1, j, o => if onE n c xs ys j x y = true then 0 else liesF n c xs ys x y m (j + 1) (o ^^ rightE n c xs ys j x y)
def lies (n : Nat) (c : Nat → Nat) (xs ys : Nat → Int32) (x y : Int32) : Int32 := liesF n c xs ys x y n 0 false
def convF (n : Nat) (c : Nat → Nat) (xs ys : Nat → Int32) : Nat → Nat → Bool
  | 0, _ => true
  | m + 1, j => if sideE n c xs ys j (xs (c (nx n (nx n j)))) (ys (c (nx n (nx n j)))) < 0 then false else convF n c xs ys m (j + 1)
def conv (n : Nat) (c : Nat → Nat) (xs ys : Nat → Int32) : Bool := convF n c xs ys n 0
def sq2 (xs ys : Nat → Int32) (p : Nat) (x y : Int32) : Int32 := (xs p - x) * (xs p - x) + (ys p - y) * (ys p - y)
def wI (f : Nat → Int32) (acc : Int32) : Nat → Int32
  | 0 => acc
  | b + 1 => mx (wI f acc b) (f b)
def wO (c : Nat → Nat) (xs ys : Nat → Int32) : Nat → Int32
  | 0 => 0
  | a + 1 => wI (fun b => sq2 xs ys (c a) (xs (c b)) (ys (c b))) (wO c xs ys a) a
/-- places within the rim -/
def rim (xs : Nat → Int32) : Prop := ∀ p, p < 16 → -999 ≤ (xs p).toInt ∧ (xs p).toInt ≤ 999
def dist (p q : Int32) : Nat := (p.toInt - q.toInt).natAbs
theorem dist_comm (p q : Int32) : dist p q = dist q p := by unfold dist; omega
def gridT (n : Nat) (c : Nat → Nat) (xs ys : Nat → Int32) (j : Nat) : Int32 := nI (Nat.gcd (dist (xs (c j)) (xs (c (nx n j)))) (dist (ys (c j)) (ys (c (nx n j)))))
def grid (n : Nat) (c : Nat → Nat) (xs ys : Nat → Int32) : Int32 := sumI (gridT n c xs ys) n
theorem toInt_sub32 {a b : Int32} (h1 : -1000000000 ≤ a.toInt ∧ a.toInt ≤ 1000000000) (h2 : -1000000000 ≤ b.toInt ∧ b.toInt ≤ 1000000000) : (a - b).toInt = a.toInt - b.toInt := by
  rw [Int32.toInt_sub]
  exact Int.bmod_eq_of_le (by omega) (by omega)
theorem toInt_add32 {a b : Int32} (h1 : -1000000000 ≤ a.toInt ∧ a.toInt ≤ 1000000000) (h2 : -1000000000 ≤ b.toInt ∧ b.toInt ≤ 1000000000) : (a + b).toInt = a.toInt + b.toInt := by
  rw [Int32.toInt_add]
  exact Int.bmod_eq_of_le (by omega) (by omega)
theorem toInt_neg32 {a : Int32} (h1 : -1000000000 ≤ a.toInt ∧ a.toInt ≤ 1000000000) : (-a).toInt = -a.toInt := by
  rw [Int32.toInt_neg]
  exact Int.bmod_eq_of_le (by omega) (by omega)
theorem eq_nI {a : Int32} {n : Nat} (h : a.toInt = n) (hn : n < 2147483648) : a = nI n := Int32.toInt_inj.mp (by rw [h, nI_toInt (by omega)])
theorem ab_dist {p q : Int32} (hp : -999 ≤ p.toInt ∧ p.toInt ≤ 999) (hq : -999 ≤ q.toInt ∧ q.toInt ≤ 999) : ab (p - q) = nI (dist p q) ∧ dist p q < 2048 := by
  have e := toInt_sub32 (a := p) (b := q) (by omega) (by omega)
  have hd : dist p q < 2048 := by unfold dist; omega
  refine ⟨?_, hd⟩
  have h0 : (0 : Int32).toInt = 0 := rfl
  unfold ab
  split
  · next h =>
    have h' := Int32.le_iff_toInt_le.mp h
    exact eq_nI (by rw [e]; unfold dist; rw [h0] at h'; omega) (by omega)
  · next h =>
    have h' : ¬ (0 : Int32).toInt ≤ (p - q).toInt := fun z => h (Int32.le_iff_toInt_le.mpr z)
    have e2 := toInt_neg32 (a := p - q) (by omega)
    exact eq_nI (by rw [e2, e]; unfold dist; rw [h0] at h'; omega) (by omega)
theorem sg_code (x : Int32) : (x >>> ((31 : Int32) &&& 31)) ||| ((-x).toUInt32 >>> ((31 : Int32).toUInt32 &&& Int32.toUInt32 31)).toInt32 = sg x := by
  have e1 : (x >>> ((31 : Int32) &&& 31)).toInt = x.toInt >>> 31 := pk_shr x _ 31 (by decide)
  have e2 : (((-x).toUInt32 >>> ((31 : Int32).toUInt32 &&& Int32.toUInt32 31)).toInt32).toBitVec.toNat = (-x).toBitVec.toNat / 2 ^ 31 := pk_ushr (-x) _ 31 (by decide)
  have hb := Int32.le_toInt x
  have hb2 := Int32.toInt_lt x
  have hx : ∀ y : Int32, y.toInt = (if y.toBitVec.toNat < 2147483648 then (y.toBitVec.toNat : Int) else (y.toBitVec.toNat : Int) - 4294967296) := fun y => by
    show y.toBitVec.toInt = _
    rw [BitVec.toInt_eq_toNat_cond]
    split <;> split <;> omega
  have hneg : (-x).toInt = Int.bmod (-x.toInt) 4294967296 := Int32.toInt_neg x
  have hlt := (-x).toBitVec.isLt
  have hn := hx (-x)
  unfold sg
  have h0 : (0 : Int32).toInt = 0 := rfl
  by_cases h1 : x < 0
  · have h1' := Int32.lt_iff_toInt_lt.mp h1
    rw [h0] at h1'
    have a1 : x >>> ((31 : Int32) &&& 31) = -1 := Int32.toInt_inj.mp (by rw [e1, Int.shiftRight_eq_div_pow]; show _ = (-1 : Int); omega)
    rw [if_pos h1, a1]
    apply Int32.toBitVec_inj.mp
    show BitVec.allOnes 32 ||| _ = BitVec.allOnes 32
    exact BitVec.allOnes_or
  · have h1' : ¬ x.toInt < (0 : Int32).toInt := fun z => h1 (Int32.lt_iff_toInt_lt.mpr z)
    rw [h0] at h1'
    have a1 : x >>> ((31 : Int32) &&& 31) = 0 := Int32.toInt_inj.mp (by rw [e1, Int.shiftRight_eq_div_pow]; show _ = (0 : Int); omega)
    rw [if_neg h1, a1]
    by_cases h2 : x = 0
    · subst h2
      decide
    · rw [if_neg h2]
      have h3 : x.toInt ≠ 0 := fun z => h2 (Int32.toInt_inj.mp (by rw [z]; rfl))
      have h4 : (-x).toInt = -x.toInt := by rw [hneg]; exact Int.bmod_eq_of_le (by omega) (by omega)
      have h5 : (-x).toBitVec.toNat / 2 ^ 31 = 1 := by
        rw [h4] at hn
        split at hn <;> omega
      rw [h5] at e2
      have a2 : ((-x).toUInt32 >>> ((31 : Int32).toUInt32 &&& Int32.toUInt32 31)).toInt32 = 1 := Int32.toBitVec_inj.mp (BitVec.eq_of_toNat_eq (by rw [e2]; rfl))
      rw [a2]
      decide
theorem bnf {x : Bool} (h : ¬ x = false) : x = true := by cases x <;> simp_all
theorem b2i_x : ∀ a b : Bool, (b2i a ^^^ b2i b) = b2i (a ^^ b) := by decide
theorem b2i_e : ∀ a b : Bool, (b2i a = b2i b) ↔ a = b := by decide
theorem gcd_rem {a b : Nat} : Nat.gcd b (a % b) = Nat.gcd a b := by rw [Nat.gcd_comm b, ← Nat.gcd_rec, Nat.gcd_comm]
theorem i10 : ((1 : Int32) = 0) = False := by decide
