set_option maxRecDepth 40000
set_option maxHeartbeats 2000000
/-! ===== gift wrapping, purely: it comes back to its first corner; its area is not negative ===== -/
section HU
variable (X Y : Nat → Int)
def crs (a b p : Nat) : Int := (X b - X a) * (Y p - Y a) - (Y b - Y a) * (X p - X a)
def dd (a b : Nat) : Int := (X a - X b) * (X a - X b) + (Y a - Y b) * (Y a - Y b)
abbrev sme (a b : Nat) : Prop := X a = X b ∧ Y a = Y b
def fun2 (u v : Int) (f s : Nat) : Int := u * (X s - X f) + v * (Y s - Y f)
end HU
section HU2
variable {X Y : Nat → Int}
theorem crs_cyc (a b p : Nat) : crs X Y a b p = crs X Y p a b := by unfold crs; grind
theorem crs_neg (f a b : Nat) : crs X Y f a b = - crs X Y f b a := by unfold crs; grind
/-- three ways from f, and a function that grows along them -/
theorem fun2_id (u v : Int) (f a b s : Nat) : fun2 X Y u v f b * crs X Y f a s = fun2 X Y u v f a * crs X Y f b s + fun2 X Y u v f s * crs X Y f a b := by unfold fun2 crs; grind
theorem sme_crs {a b p q : Nat} (h : sme X Y p q) : crs X Y a b p = crs X Y a b q := by unfold crs; rw [h.1, h.2]
theorem sme_crs2 {a b p q : Nat} (h : sme X Y p q) : crs X Y a p b = crs X Y a q b := by unfold crs; rw [h.1, h.2]
theorem sme_dd {a p q : Nat} (h : sme X Y p q) : dd X Y p a = dd X Y q a := by unfold dd; rw [h.1, h.2]
theorem sme_fun {u v : Int} {f p q : Nat} (h : sme X Y p q) : fun2 X Y u v f p = fun2 X Y u v f q := by unfold fun2; rw [h.1, h.2]
theorem crs_self (f a : Nat) : crs X Y f a a = 0 := by unfold crs; grind
theorem crs_at (f a : Nat) : crs X Y f a f = 0 := by unfold crs; grind
theorem sq_nn (a : Int) : 0 ≤ a * a := by
  rcases Int.le_total 0 a with h | h
  · exact Int.mul_nonneg h h
  · exact Int.mul_nonneg_of_nonpos_of_nonpos h h
theorem sq_z {a : Int} (h : a * a = 0) : a = 0 := by
  rcases Int.mul_eq_zero.mp h with h | h <;> exact h
theorem dd_nn (a b : Nat) : 0 ≤ dd X Y a b := Int.add_nonneg (sq_nn _) (sq_nn _)
theorem dd_z {a b : Nat} (h : dd X Y a b = 0) : sme X Y a b := by
  unfold dd at h
  have h1 := sq_nn (X a - X b)
  have h2 := sq_nn (Y a - Y b)
  have e1 : (X a - X b) * (X a - X b) = 0 := by omega
  have e2 : (Y a - Y b) * (Y a - Y b) = 0 := by omega
  have := sq_z e1
  have := sq_z e2
  exact ⟨by omega, by omega⟩
theorem dd_pos {a b : Nat} (h : ¬ sme X Y a b) : 0 < dd X Y a b := by
  have := dd_nn (X := X) (Y := Y) a b
  rcases Int.lt_or_eq_of_le this with z | z
  · exact z
  · exact (h (dd_z z.symm)).elim
/-- the best corner so far, seen from f, of those in P -/
def bst (X Y : Nat → Int) (f b : Nat) (P : Nat → Prop) : Prop := ∀ s, P s → 0 ≤ crs X Y f b s ∧ (crs X Y f b s = 0 → dd X Y s f ≤ dd X Y b f) ∧ (sme X Y s b → b ≤ s)
theorem pos_of_mul {a b : Int} (h : 0 < a * b) (ha : 0 < a) : 0 < b := by
  rcases Int.lt_or_le 0 b with z | z
  · exact z
  · have := Int.mul_nonpos_of_nonneg_of_nonpos (Int.le_of_lt ha) z
    omega
theorem nn_of_mul {a b : Int} (h : 0 ≤ a * b) (ha : 0 < a) : 0 ≤ b := by
  rcases Int.lt_or_le b 0 with z | z
  · have := Int.mul_neg_of_pos_of_neg ha z
    omega
  · exact z
/-- one more corner, seen from f: what the loop does keeps 'best' -/
theorem bst_step {f b i : Nat} {u v : Int} {P : Nat → Prop} (hpos : ∀ s, (P s ∨ s = i) → ¬ sme X Y s f → 0 < fun2 X Y u v f s) (hb : P b) (hbf : ¬ sme X Y b f) (hif : ¬ sme X Y i f) (h : bst X Y f b P) :
    (crs X Y f b i < 0 → bst X Y f i (fun s => P s ∨ s = i)) ∧
    (crs X Y f b i = 0 → dd X Y b f < dd X Y i f → bst X Y f i (fun s => P s ∨ s = i)) ∧
    (crs X Y f b i = 0 → sme X Y i b → i < b → bst X Y f i (fun s => P s ∨ s = i)) ∧
    (0 ≤ crs X Y f b i → (crs X Y f b i = 0 → dd X Y i f ≤ dd X Y b f) → (sme X Y i b → b ≤ i) → bst X Y f b (fun s => P s ∨ s = i)) := by
  have pb := hpos b (Or.inl hb) hbf
  have pi := hpos i (Or.inr rfl) hif
  have self : 0 ≤ crs X Y f i i ∧ (crs X Y f i i = 0 → dd X Y i f ≤ dd X Y i f) ∧ (sme X Y i i → i ≤ i) := ⟨by rw [crs_self]; omega, fun _ => by omega, fun _ => Nat.le_refl _⟩
  have atf : ∀ s, sme X Y s f → 0 ≤ crs X Y f i s ∧ (crs X Y f i s = 0 → dd X Y s f ≤ dd X Y i f) ∧ (sme X Y s i → i ≤ s) := fun s hs => by
    refine ⟨by rw [sme_crs hs, crs_at]; omega, fun _ => ?_, fun q => ?_⟩
    · have e : dd X Y s f = 0 := by unfold dd; rw [hs.1, hs.2]; grind
      rw [e]; exact dd_nn _ _
    · exact (hif ⟨by rw [← q.1]; exact hs.1, by rw [← q.2]; exact hs.2⟩).elim
  refine ⟨fun hc => ?_, fun hc hd => ?_, fun hc hs hl => ?_, fun hc hd hl => ?_⟩
  · intro s hs
    rcases hs with hs | rfl
    · by_cases hsf : sme X Y s f
      · exact atf s hsf
      · have ps := hpos s (Or.inl hs) hsf
        have id := fun2_id (X := X) (Y := Y) u v f i b s
        have c1 := crs_neg (X := X) (Y := Y) f i b
        have m1 := Int.mul_nonneg (Int.le_of_lt pi) (h s hs).1
        have m2 := Int.mul_pos ps (show 0 < crs X Y f i b by omega)
        have hp : 0 < crs X Y f i s := pos_of_mul (a := fun2 X Y u v f b) (by rw [id]; omega) pb
        refine ⟨Int.le_of_lt hp, fun z => by omega, fun q => ?_⟩
        have := (h s hs).1
        rw [sme_crs q] at this
        omega
    · exact self
  · have c0 : crs X Y f i b = 0 := by rw [crs_neg, hc]; omega
    intro s hs
    rcases hs with hs | rfl
    · by_cases hsf : sme X Y s f
      · exact atf s hsf
      · have id := fun2_id (X := X) (Y := Y) u v f i b s
        rw [c0, Int.mul_zero, Int.add_zero] at id
        have m1 := Int.mul_nonneg (Int.le_of_lt pi) (h s hs).1
        have hz : crs X Y f i s = 0 → dd X Y s f ≤ dd X Y b f := fun z => by
          rw [z, Int.mul_zero] at id
          have : crs X Y f b s = 0 := by
            rcases Int.mul_eq_zero.mp id.symm with q | q
            · omega
            · exact q
          exact (h s hs).2.1 this
        refine ⟨nn_of_mul (a := fun2 X Y u v f b) (by rw [id]; exact m1) pb, fun z => by have := hz z; omega, fun q => ?_⟩
        have z : crs X Y f i s = 0 := by rw [sme_crs q, crs_self]
        have := hz z
        rw [sme_dd q] at this
        omega
    · exact self
  · intro s h9
    rcases h9 with h9 | rfl
    · have q := h s h9
      refine ⟨by rw [sme_crs2 hs]; exact q.1, fun z => ?_, fun z => ?_⟩
      · rw [sme_crs2 hs] at z
        rw [sme_dd hs]
        exact q.2.1 z
      · have := q.2.2 ⟨by rw [z.1, hs.1], by rw [z.2, hs.2]⟩
        omega
    · exact self
  · intro s hs
    rcases hs with hs | rfl
    · exact h s hs
    · exact ⟨hc, hd, hl⟩
/-- the loop's step and the loop, seen from f -/
def arS (X Y : Nat → Int) (f b i : Nat) : Nat := if sme X Y i f then b else if b = f ∨ crs X Y f b i < 0 ∨ (crs X Y f b i = 0 ∧ (dd X Y b f < dd X Y i f ∨ (sme X Y i b ∧ i < b))) then i else b
def arF (X Y : Nat → Int) (c : Nat → Nat) (f : Nat) : Nat → Nat
  | 0 => f
  | j + 1 => arS X Y f (arF X Y c f j) (c j)
theorem arF_spec {c : Nat → Nat} {f n : Nat} {u v : Int} (hpos : ∀ s, (∃ j, j < n ∧ c j = s) → ¬ sme X Y s f → 0 < fun2 X Y u v f s) : ∀ j, j ≤ n →
    (arF X Y c f j = f ∧ ∀ i, i < j → sme X Y (c i) f) ∨ ((∃ i, i < j ∧ c i = arF X Y c f j) ∧ ¬ sme X Y (arF X Y c f j) f ∧ bst X Y f (arF X Y c f j) (fun s => ∃ i, i < j ∧ c i = s))
  | 0, _ => Or.inl ⟨rfl, fun i h => by omega⟩
  | j + 1, hj => by
    have ih := arF_spec hpos j (by omega)
    have sp : ∀ s, (∃ i, i < j + 1 ∧ c i = s) → (∃ i, i < j ∧ c i = s) ∨ s = c j := fun s ⟨i, h1, h2⟩ => by
      by_cases h : i = j
      · subst h; exact Or.inr h2.symm
      · exact Or.inl ⟨i, by omega, h2⟩
    have mono : ∀ b, bst X Y f b (fun s => (∃ i, i < j ∧ c i = s) ∨ s = c j) → bst X Y f b (fun s => ∃ i, i < j + 1 ∧ c i = s) := fun b h s hs => h s (sp s hs)
    unfold arF
    unfold arS
    by_cases hif : sme X Y (c j) f
    · rw [if_pos hif]
      rcases ih with ⟨h1, h2⟩ | ⟨⟨i0, h0, h1⟩, h2, h3⟩
      · refine Or.inl ⟨h1, fun i hi => ?_⟩
        by_cases h : i = j
        · subst h; exact hif
        · exact h2 i (by omega)
      · refine Or.inr ⟨⟨i0, by omega, h1⟩, h2, mono _ (fun s hs => ?_)⟩
        rcases hs with hs | rfl
        · exact h3 s hs
        · refine ⟨by rw [sme_crs hif, crs_at]; omega, fun _ => ?_, fun q => ?_⟩
          · have e : dd X Y (c j) f = 0 := by unfold dd; rw [hif.1, hif.2]; grind
            rw [e]; exact dd_nn _ _
          · exact (h2 ⟨by rw [← q.1]; exact hif.1, by rw [← q.2]; exact hif.2⟩).elim
    · rw [if_neg hif]
      rcases ih with ⟨h1, h2⟩ | ⟨⟨i0, h0, h1⟩, h2, h3⟩
      · rw [if_pos (Or.inl h1)]
        refine Or.inr ⟨⟨j, by omega, rfl⟩, hif, fun s ⟨i, hi, hs⟩ => ?_⟩
        by_cases h : i = j
        · subst h; subst hs
          exact ⟨by rw [crs_self]; omega, fun _ => by omega, fun _ => Nat.le_refl _⟩
        · have hs2 := h2 i (by omega)
          rw [hs] at hs2
          refine ⟨by rw [sme_crs hs2, crs_at]; omega, fun _ => ?_, fun q => ?_⟩
          · have e : dd X Y s f = 0 := by unfold dd; rw [hs2.1, hs2.2]; grind
            rw [e]; exact dd_nn _ _
          · exact (hif ⟨by rw [← q.1]; exact hs2.1, by rw [← q.2]; exact hs2.2⟩).elim
      · have hbf : arF X Y c f j ≠ f := fun q => h2 (by rw [q]; exact ⟨rfl, rfl⟩)
        have st := bst_step (X := X) (Y := Y) (f := f) (b := arF X Y c f j) (i := c j) (u := u) (v := v) (P := fun s => ∃ i, i < j ∧ c i = s) (fun s hs hsf => hpos s (by
          rcases hs with ⟨i, hi, e⟩ | e
          · exact ⟨i, by omega, e⟩
          · exact ⟨j, by omega, e.symm⟩) hsf) ⟨i0, h0, h1⟩ h2 hif h3
        obtain ⟨s1, s2, s3, s4⟩ := st
        by_cases q : arF X Y c f j = f ∨ crs X Y f (arF X Y c f j) (c j) < 0 ∨ (crs X Y f (arF X Y c f j) (c j) = 0 ∧ (dd X Y (arF X Y c f j) f < dd X Y (c j) f ∨ (sme X Y (c j) (arF X Y c f j) ∧ c j < arF X Y c f j)))
        · rw [if_pos q]
          refine Or.inr ⟨⟨j, by omega, rfl⟩, hif, mono _ ?_⟩
          rcases q with q | q | ⟨q, q1 | ⟨q1, q2⟩⟩
          · exact (hbf q).elim
          · exact s1 q
          · exact s2 q q1
          · exact s3 q q1 q2
        · rw [if_neg q]
          refine Or.inr ⟨⟨i0, by omega, h1⟩, h2, mono _ (s4 ?_ ?_ ?_)⟩
          · rcases Int.lt_or_le (crs X Y f (arF X Y c f j) (c j)) 0 with z | z
            · exact (q (Or.inr (Or.inl z))).elim
            · exact z
          · intro z
            rcases Int.lt_or_le (dd X Y (arF X Y c f j) f) (dd X Y (c j) f) with y | y
            · exact (q (Or.inr (Or.inr ⟨z, Or.inl y⟩))).elim
            · exact y
          · intro z
            rcases Nat.lt_or_ge (c j) (arF X Y c f j) with y | y
            · exact (q (Or.inr (Or.inr ⟨by rw [sme_crs z, crs_self], Or.inr ⟨z, y⟩⟩))).elim
            · exact y
/-- the first corner -/
def ahd (X Y : Nat → Int) (a b : Nat) : Prop := X a < X b ∨ (X a = X b ∧ (Y a < Y b ∨ (Y a = Y b ∧ a < b)))
theorem ahd_tr {a b d : Nat} (h : ahd X Y a b) (h' : ahd X Y b d) : ahd X Y a d := by unfold ahd at *; omega
theorem php : ∀ (n : Nat) (g : Nat → Nat), (∀ i, i ≤ n → g i < n) → ∃ i j, i < j ∧ j ≤ n ∧ g i = g j
  | 0, g, h => by have := h 0 (Nat.le_refl _); omega
  | n + 1, g, h => by
    by_cases q : ∃ i, i ≤ n ∧ g i = g (n + 1)
    · obtain ⟨i, h1, h2⟩ := q
      exact ⟨i, n + 1, by omega, Nat.le_refl _, h2⟩
    · have hne : ∀ i, i ≤ n → g i ≠ g (n + 1) := fun i hi z => q ⟨i, hi, z⟩
      obtain ⟨i, j, h1, h2, h3⟩ := php n (fun i => if g i < g (n + 1) then g i else g i - 1) (fun i hi => by
        have a1 := hne i hi
        have a2 := h i (by omega)
        have a3 := h (n + 1) (Nat.le_refl _)
        show (if g i < g (n + 1) then g i else g i - 1) < n
        split <;> omega)
      have b1 := hne i (by omega)
      have b2 := hne j h2
      refine ⟨i, j, h1, by omega, ?_⟩
      split at h3 <;> split at h3 <;> omega
theorem mulb {M a b : Int} (h1 : -M ≤ a) (h2 : a ≤ M) (h3 : -M ≤ b) (h4 : b ≤ M) : -(M * M) ≤ a * b ∧ a * b ≤ M * M := by
  have p1 := Int.mul_nonneg (show 0 ≤ M - a by omega) (show 0 ≤ M + b by omega)
  have p2 := Int.mul_nonneg (show 0 ≤ M + a by omega) (show 0 ≤ M - b by omega)
  have p3 := Int.mul_nonneg (show 0 ≤ M - a by omega) (show 0 ≤ M - b by omega)
  have p4 := Int.mul_nonneg (show 0 ≤ M + a by omega) (show 0 ≤ M + b by omega)
  have e1 : (M - a) * (M + b) + (M + a) * (M - b) = 2 * (M * M) - 2 * (a * b) := by grind
  have e2 : (M - a) * (M - b) + (M + a) * (M + b) = 2 * (M * M) + 2 * (a * b) := by grind
  constructor <;> omega
/-- inner product, seen from f -/
def dt (X Y : Nat → Int) (f a b : Nat) : Int := (X a - X f) * (X b - X f) + (Y a - Y f) * (Y b - Y f)
theorem lagr (f a b : Nat) : dt X Y f a b * dt X Y f a b + crs X Y f a b * crs X Y f a b = dd X Y a f * dd X Y b f := by unfold dt crs dd; grind
theorem dt_par (u v : Int) (f a b : Nat) : fun2 X Y u v f b * dt X Y f a b = fun2 X Y u v f a * dd X Y b f + crs X Y f a b * (v * (X b - X f) - u * (Y b - Y f)) := by unfold dt crs dd fun2; grind
theorem dt_pos {u v : Int} {f a b : Nat} (hc : crs X Y f a b = 0) (ha : 0 < fun2 X Y u v f a) (hb : 0 < fun2 X Y u v f b) (hbf : ¬ sme X Y b f) : 0 < dt X Y f a b := by
  have e := dt_par (X := X) (Y := Y) u v f a b
  rw [hc, Int.zero_mul, Int.add_zero] at e
  exact pos_of_mul (a := fun2 X Y u v f b) (by rw [e]; exact Int.mul_pos ha (dd_pos hbf)) hb
/-- the next corner lies at the rim, too -/
theorem next_pos {f b s : Nat} (hr : ∀ p ∈ [f, b, s], -999 ≤ X p ∧ X p ≤ 999 ∧ -999 ≤ Y p ∧ Y p ≤ 999) (hbf : ¬ sme X Y b f) (hsb : ¬ sme X Y s b) (h1 : 0 ≤ crs X Y f b s) (h2 : crs X Y f b s = 0 → dd X Y s f ≤ dd X Y b f) :
    0 < fun2 X Y (-10000000 * (Y b - Y f) + (X f - X b)) (10000000 * (X b - X f) + (Y f - Y b)) b s := by
  have rf := hr f (by simp)
  have rb := hr b (by simp)
  have rs := hr s (by simp)
  have e : fun2 X Y (-10000000 * (Y b - Y f) + (X f - X b)) (10000000 * (X b - X f) + (Y f - Y b)) b s = 10000000 * crs X Y f b s + ((X f - X b) * (X s - X b) + (Y f - Y b) * (Y s - Y b)) := by unfold fun2 crs; grind
  rw [e]
  have m1 := mulb (M := 1998) (a := X f - X b) (b := X s - X b) (by omega) (by omega) (by omega) (by omega)
  have m2 := mulb (M := 1998) (a := Y f - Y b) (b := Y s - Y b) (by omega) (by omega) (by omega) (by omega)
  rcases Int.lt_or_eq_of_le h1 with z | z
  · omega
  · have z' := z.symm
    have hd := h2 z'
    have D := dd_pos hbf
    have e2 : (X f - X b) * (X s - X b) + (Y f - Y b) * (Y s - Y b) = dd X Y b f - dt X Y f b s := by unfold dd dt; grind
    have e3 : dd X Y s b = dd X Y b f - 2 * dt X Y f b s + dd X Y s f := by unfold dd dt; grind
    have lg := lagr (X := X) (Y := Y) f b s
    rw [z', Int.mul_zero, Int.add_zero] at lg
    have sb := dd_pos hsb
    rw [z', e2]
    rcases Int.lt_or_le (dt X Y f b s) (dd X Y b f) with y | y
    · omega
    · exfalso
      have k1 : dd X Y b f * dd X Y s f ≤ dd X Y b f * dd X Y b f := Int.mul_le_mul_of_nonneg_left hd (Int.le_of_lt D)
      have k2 : dd X Y b f * dd X Y b f ≤ dt X Y f b s * dd X Y b f := Int.mul_le_mul_of_nonneg_right y (Int.le_of_lt D)
      rcases Int.lt_or_eq_of_le y with w | w
      · have k3 : dt X Y f b s * dd X Y b f < dt X Y f b s * dt X Y f b s := Int.mul_lt_mul_of_pos_left w (by omega)
        omega
      · rw [← w] at lg
        have k4 : dd X Y b f * (dd X Y b f - dd X Y s f) = 0 := by rw [Int.mul_sub]; omega
        rcases Int.mul_eq_zero.mp k4 with k5 | k5 <;> omega
/-- two corners of the hull ahead of its end turn to the left, seen from the first one -/
theorem turn_pos {f a b : Nat} {u v u' v' : Int} (hfa : 0 < fun2 X Y u v f a) (hfb : 0 < fun2 X Y u v f b) (haf : 0 < fun2 X Y u' v' a f) (hab : 0 < fun2 X Y u' v' a b) (hbf : ¬ sme X Y b f) (hba : ¬ sme X Y b a) (h1 : 0 ≤ crs X Y a b f) (h2 : crs X Y a b f = 0 → dd X Y f a ≤ dd X Y b a) : 0 < crs X Y f a b := by
  rw [crs_cyc] at h1 h2
  rcases Int.lt_or_eq_of_le h1 with z | z
  · exact z
  · exfalso
    have z' := z.symm
    have p1 := dt_pos z' hfa hfb hbf
    have c2 : crs X Y a f b = 0 := by
      have : crs X Y a f b = - crs X Y f a b := by unfold crs; grind
      rw [this, z']; rfl
    have p2 := dt_pos c2 haf hab hba
    have e1 : dt X Y a f b = dd X Y a f - dt X Y f a b := by unfold dt dd; grind
    have e2 : dd X Y b a = dd X Y b f - 2 * dt X Y f a b + dd X Y a f := by unfold dt dd; grind
    have e3 : dd X Y f a = dd X Y a f := by unfold dd; grind
    have hd := h2 z'
    have lg := lagr (X := X) (Y := Y) f a b
    rw [z', Int.mul_zero, Int.add_zero] at lg
    have B := dd_pos hbf
    have k1 : dt X Y f a b * dd X Y b f < dd X Y a f * dd X Y b f := Int.mul_lt_mul_of_pos_right (by omega) B
    rw [← lg] at k1
    have k2 : 0 < dt X Y f a b * (dt X Y f a b - dd X Y b f) := by rw [Int.mul_sub]; omega
    have k3 := pos_of_mul k2 p1
    omega
/-- the hull's corners, one behind the other -/
def hlS (X Y : Nat → Int) (c : Nat → Nat) (n f : Nat) : Nat → Nat
  | 0 => f
  | k + 1 => arF X Y c (hlS X Y c n f k) n
theorem hull_ends {c : Nat → Nat} {n f : Nat} (hr : ∀ j, j < n → -999 ≤ X (c j) ∧ X (c j) ≤ 999 ∧ -999 ≤ Y (c j) ∧ Y (c j) ≤ 999) (hf : ∃ j, j < n ∧ c j = f) (hm : ∀ j, j < n → ¬ ahd X Y (c j) f) :
    (∀ k, ∃ j, j < n ∧ c j = hlS X Y c n f k) ∧ ∃ m, 0 < m ∧ m ≤ n ∧ hlS X Y c n f m = f ∧ (∀ k, 0 < k → k < m → ¬ sme X Y (hlS X Y c n f k) f) ∧ ∀ k, 0 ≤ crs X Y f (hlS X Y c n f k) (hlS X Y c n f (k + 1)) := by
  have rS : ∀ s, (∃ j, j < n ∧ c j = s) → -999 ≤ X s ∧ X s ≤ 999 ∧ -999 ≤ Y s ∧ Y s ≤ 999 := fun s ⟨j, h1, h2⟩ => by rw [← h2]; exact hr j h1
  have p0 : ∀ s, (∃ j, j < n ∧ c j = s) → ¬ sme X Y s f → 0 < fun2 X Y 2000 1 f s := fun s hs hsf => by
    obtain ⟨j, h1, h2⟩ := hs
    have a1 := hm j h1
    rw [h2] at a1
    have a2 := rS s ⟨j, h1, h2⟩
    have a3 := rS f hf
    unfold ahd at a1
    unfold fun2
    by_cases q : X s = X f
    · have q2 : Y s ≠ Y f := fun z => hsf ⟨q, z⟩
      omega
    · omega
  have E : ∀ k, (∃ j, j < n ∧ c j = hlS X Y c n f k) ∧ ∃ u v : Int, ∀ s, (∃ j, j < n ∧ c j = s) → ¬ sme X Y s (hlS X Y c n f k) → 0 < fun2 X Y u v (hlS X Y c n f k) s := by
    intro k
    induction k with
    | zero => exact ⟨hf, 2000, 1, p0⟩
    | succ k ih =>
      obtain ⟨i1, u, v, i2⟩ := ih
      rcases arF_spec (X := X) (Y := Y) i2 n (Nat.le_refl _) with ⟨h1, h2⟩ | ⟨h1, h2, h3⟩
      · show (∃ j, j < n ∧ c j = arF X Y c (hlS X Y c n f k) n) ∧ _
        refine ⟨by rw [h1]; exact i1, u, v, ?_⟩
        show ∀ s, _ → ¬ sme X Y s (arF X Y c (hlS X Y c n f k) n) → 0 < fun2 X Y u v (arF X Y c (hlS X Y c n f k) n) s
        rw [h1]
        exact i2
      · refine ⟨h1, _, _, fun s hs hsb => next_pos (f := hlS X Y c n f k) ?_ h2 hsb (h3 s hs).1 (h3 s hs).2.1⟩
        intro p hp
        simp only [List.mem_cons, List.not_mem_nil, or_false] at hp
        rcases hp with rfl | rfl | rfl
        · exact rS _ i1
        · exact rS _ h1
        · exact rS _ hs
  have edge : ∀ k, 0 ≤ crs X Y (hlS X Y c n f k) (hlS X Y c n f (k + 1)) f := by
    intro k
    obtain ⟨i1, u, v, i2⟩ := E k
    rcases arF_spec (X := X) (Y := Y) i2 n (Nat.le_refl _) with ⟨h1, h2⟩ | ⟨h1, h2, h3⟩
    · show 0 ≤ crs X Y (hlS X Y c n f k) (arF X Y c (hlS X Y c n f k) n) f
      rw [h1]
      have : crs X Y (hlS X Y c n f k) (hlS X Y c n f k) f = 0 := by unfold crs; grind
      omega
    · exact (h3 f hf).1
  have turn : ∀ k, ¬ sme X Y (hlS X Y c n f k) f → ¬ sme X Y (hlS X Y c n f (k + 1)) f → 0 < crs X Y f (hlS X Y c n f k) (hlS X Y c n f (k + 1)) := by
    intro k hk hk1
    obtain ⟨i1, u, v, i2⟩ := E k
    have nfk : ¬ sme X Y f (hlS X Y c n f k) := fun q => hk ⟨q.1.symm, q.2.symm⟩
    rcases arF_spec (X := X) (Y := Y) i2 n (Nat.le_refl _) with ⟨h1, h2⟩ | ⟨h1, h2, h3⟩
    · obtain ⟨j, hj, hj2⟩ := hf
      have := h2 j hj
      rw [hj2] at this
      exact (nfk this).elim
    · exact turn_pos (p0 _ i1 hk) (p0 _ h1 hk1) (i2 f hf nfk) (i2 _ h1 h2) hk1 h2 (h3 f hf).1 (h3 f hf).2.1
  refine ⟨fun k => (E k).1, ?_⟩
  have ex : ∃ m, 0 < m ∧ m ≤ n ∧ sme X Y (hlS X Y c n f m) f := by
    refine Classical.byContradiction fun hne => ?_
    have nk : ∀ k, 0 < k → k ≤ n → ¬ sme X Y (hlS X Y c n f k) f := fun k h1 h2 h3 => hne ⟨k, h1, h2, h3⟩
    have far : ∀ j i, 0 < i → i < j → j ≤ n → 0 < crs X Y f (hlS X Y c n f i) (hlS X Y c n f j) := by
      intro j
      induction j with
      | zero => intro i _ h; omega
      | succ j ih =>
        intro i h0 h1 h2
        have t := turn j
        by_cases hij : i = j
        · subst hij
          exact t (nk i h0 (by omega)) (nk (i + 1) (by omega) h2)
        · have a1 := ih i h0 (by omega) (by omega)
          have a2 := t (nk j (by omega) (by omega)) (nk (j + 1) (by omega) h2)
          have id := fun2_id (X := X) (Y := Y) 2000 1 f (hlS X Y c n f i) (hlS X Y c n f j) (hlS X Y c n f (j + 1))
          have q1 := p0 _ (E i).1 (nk i h0 (by omega))
          have q2 := p0 _ (E j).1 (nk j (by omega) (by omega))
          have q3 := p0 _ (E (j + 1)).1 (nk (j + 1) (by omega) h2)
          have m1 := Int.mul_pos q1 a2
          have m2 := Int.mul_pos q3 a1
          exact pos_of_mul (a := fun2 X Y 2000 1 f (hlS X Y c n f j)) (by rw [id]; omega) q2
    have ps : ∀ k, ∃ j, j < n ∧ c j = hlS X Y c n f k := fun k => (E k).1
    obtain ⟨i, j, h1, h2, h3⟩ := php n (fun k => Classical.choose (ps k)) (fun k _ => (Classical.choose_spec (ps k)).1)
    have e : hlS X Y c n f i = hlS X Y c n f j := by
      rw [← (Classical.choose_spec (ps i)).2, ← (Classical.choose_spec (ps j)).2]
      exact congrArg c h3
    by_cases hi : i = 0
    · subst hi
      refine nk j h1 h2 ?_
      rw [← e]
      exact ⟨rfl, rfl⟩
    · have := far j i (by omega) h1 h2
      rw [e, crs_self] at this
      omega
  obtain ⟨m, ⟨hm0, hmn, hms⟩, hmin⟩ := pk_least (fun m => 0 < m ∧ m ≤ n ∧ sme X Y (hlS X Y c n f m) f) ex
  have before : ∀ k, 0 < k → k < m → ¬ sme X Y (hlS X Y c n f k) f := fun k h1 h2 h3 => hmin k h2 ⟨h1, by omega, h3⟩
  refine ⟨m, hm0, hmn, ?_, before, fun k => by rw [← crs_cyc]; exact edge k⟩
  obtain ⟨k, rfl⟩ : ∃ k, m = k + 1 := ⟨m - 1, by omega⟩
  obtain ⟨i1, u, v, i2⟩ := E k
  rcases arF_spec (X := X) (Y := Y) i2 n (Nat.le_refl _) with ⟨h1, h2⟩ | ⟨h1, h2, h3⟩
  · have e : hlS X Y c n f (k + 1) = hlS X Y c n f k := h1
    by_cases hk : k = 0
    · subst hk; exact e
    · rw [e] at hms
      exact (before k (by omega) (by omega) hms).elim
  · obtain ⟨j, hj, hj2⟩ := h1
    have a1 : hlS X Y c n f (k + 1) ≤ f := (h3 f hf).2.2 ⟨hms.1.symm, hms.2.symm⟩
    have a2 := hm j hj
    rw [hj2] at a2
    have a3 : ¬ ahd X Y (hlS X Y c n f (k + 1)) f := a2
    unfold ahd at a3
    have b1 := hms.1
    have b2 := hms.2
    omega
end HU2
