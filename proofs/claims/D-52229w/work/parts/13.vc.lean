def pI (st : List Value) (f : Int32 → List Value → Prop) : Prop := match st with
  | .int a :: r => f a r
  | _ => False
theorem pI_e {a : _} {r : _} (f : Int32 → List Value → Prop) : pI (.int a :: r) f = (f a r) := rfl
theorem pI_i {st : List Value} {f : Int32 → List Value → Prop} (h : pI st f) : ∃ a r, st = .int a :: r ∧ f a r := by
  unfold pI at h
  split at h
  · exact ⟨_, _, rfl, h⟩
  · exact h.elim
def pII (st : List Value) (f : Int32 → Int32 → List Value → Prop) : Prop := match st with
  | .int b :: .int a :: r => f a b r
  | _ => False
theorem pII_e {a : _} {b : _} {r : _} (f : Int32 → Int32 → List Value → Prop) : pII (.int b :: .int a :: r) f = (f a b r) := rfl
theorem pII_i {st : List Value} {f : Int32 → Int32 → List Value → Prop} (h : pII st f) : ∃ a b r, st = .int b :: .int a :: r ∧ f a b r := by
  unfold pII at h
  split at h
  · exact ⟨_, _, _, rfl, h⟩
  · exact h.elim
def pL (st : List Value) (f : Int64 → List Value → Prop) : Prop := match st with
  | .long a :: r => f a r
  | _ => False
theorem pL_e {a : _} {r : _} (f : Int64 → List Value → Prop) : pL (.long a :: r) f = (f a r) := rfl
theorem pL_i {st : List Value} {f : Int64 → List Value → Prop} (h : pL st f) : ∃ a r, st = .long a :: r ∧ f a r := by
  unfold pL at h
  split at h
  · exact ⟨_, _, rfl, h⟩
  · exact h.elim
def pLL (st : List Value) (f : Int64 → Int64 → List Value → Prop) : Prop := match st with
  | .long b :: .long a :: r => f a b r
  | _ => False
theorem pLL_e {a : _} {b : _} {r : _} (f : Int64 → Int64 → List Value → Prop) : pLL (.long b :: .long a :: r) f = (f a b r) := rfl
theorem pLL_i {st : List Value} {f : Int64 → Int64 → List Value → Prop} (h : pLL st f) : ∃ a b r, st = .long b :: .long a :: r ∧ f a b r := by
  unfold pLL at h
  split at h
  · exact ⟨_, _, _, rfl, h⟩
  · exact h.elim
def pLI (st : List Value) (f : Int64 → Int32 → List Value → Prop) : Prop := match st with
  | .int b :: .long a :: r => f a b r
  | _ => False
theorem pLI_e {a : _} {b : _} {r : _} (f : Int64 → Int32 → List Value → Prop) : pLI (.int b :: .long a :: r) f = (f a b r) := rfl
theorem pLI_i {st : List Value} {f : Int64 → Int32 → List Value → Prop} (h : pLI st f) : ∃ a b r, st = .int b :: .long a :: r ∧ f a b r := by
  unfold pLI at h
  split at h
  · exact ⟨_, _, _, rfl, h⟩
  · exact h.elim
def pF (st : List Value) (f : UInt32 → List Value → Prop) : Prop := match st with
  | .float a :: r => f a r
  | _ => False
theorem pF_e {a : _} {r : _} (f : UInt32 → List Value → Prop) : pF (.float a :: r) f = (f a r) := rfl
theorem pF_i {st : List Value} {f : UInt32 → List Value → Prop} (h : pF st f) : ∃ a r, st = .float a :: r ∧ f a r := by
  unfold pF at h
  split at h
  · exact ⟨_, _, rfl, h⟩
  · exact h.elim
def pFF (st : List Value) (f : UInt32 → UInt32 → List Value → Prop) : Prop := match st with
  | .float b :: .float a :: r => f a b r
  | _ => False
theorem pFF_e {a : _} {b : _} {r : _} (f : UInt32 → UInt32 → List Value → Prop) : pFF (.float b :: .float a :: r) f = (f a b r) := rfl
theorem pFF_i {st : List Value} {f : UInt32 → UInt32 → List Value → Prop} (h : pFF st f) : ∃ a b r, st = .float b :: .float a :: r ∧ f a b r := by
  unfold pFF at h
  split at h
  · exact ⟨_, _, _, rfl, h⟩
  · exact h.elim
def pD (st : List Value) (f : UInt64 → List Value → Prop) : Prop := match st with
  | .double a :: r => f a r
  | _ => False
theorem pD_e {a : _} {r : _} (f : UInt64 → List Value → Prop) : pD (.double a :: r) f = (f a r) := rfl
theorem pD_i {st : List Value} {f : UInt64 → List Value → Prop} (h : pD st f) : ∃ a r, st = .double a :: r ∧ f a r := by
  unfold pD at h
  split at h
  · exact ⟨_, _, rfl, h⟩
  · exact h.elim
def pDD (st : List Value) (f : UInt64 → UInt64 → List Value → Prop) : Prop := match st with
  | .double b :: .double a :: r => f a b r
  | _ => False
theorem pDD_e {a : _} {b : _} {r : _} (f : UInt64 → UInt64 → List Value → Prop) : pDD (.double b :: .double a :: r) f = (f a b r) := rfl
theorem pDD_i {st : List Value} {f : UInt64 → UInt64 → List Value → Prop} (h : pDD st f) : ∃ a b r, st = .double b :: .double a :: r ∧ f a b r := by
  unfold pDD at h
  split at h
  · exact ⟨_, _, _, rfl, h⟩
  · exact h.elim
def pR (st : List Value) (f : Nat → List Value → Prop) : Prop := match st with
  | .ref a :: r => f a r
  | _ => False
theorem pR_e {a : _} {r : _} (f : Nat → List Value → Prop) : pR (.ref a :: r) f = (f a r) := rfl
theorem pR_i {st : List Value} {f : Nat → List Value → Prop} (h : pR st f) : ∃ a r, st = .ref a :: r ∧ f a r := by
  unfold pR at h
  split at h
  · exact ⟨_, _, rfl, h⟩
  · exact h.elim
def pV (st : List Value) (f : Value → List Value → Prop) : Prop := match st with
  | a :: r => f a r
  | _ => False
theorem pV_e {a : _} {r : _} (f : Value → List Value → Prop) : pV (a :: r) f = (f a r) := rfl
theorem pV_i {st : List Value} {f : Value → List Value → Prop} (h : pV st f) : ∃ a r, st = a :: r ∧ f a r := by
  unfold pV at h
  split at h
  · exact ⟨_, _, rfl, h⟩
  · exact h.elim
def pVV (st : List Value) (f : Value → Value → List Value → Prop) : Prop := match st with
  | b :: a :: r => f a b r
  | _ => False
theorem pVV_e {a : _} {b : _} {r : _} (f : Value → Value → List Value → Prop) : pVV (b :: a :: r) f = (f a b r) := rfl
theorem pVV_i {st : List Value} {f : Value → Value → List Value → Prop} (h : pVV st f) : ∃ a b r, st = b :: a :: r ∧ f a b r := by
  unfold pVV at h
  split at h
  · exact ⟨_, _, _, rfl, h⟩
  · exact h.elim
def pVVV (st : List Value) (f : Value → Value → Value → List Value → Prop) : Prop := match st with
  | b :: a :: z :: r => f z a b r
  | _ => False
theorem pVVV_e {a : _} {b : _} {r : _} {z : _} (f : Value → Value → Value → List Value → Prop) : pVVV (b :: a :: z :: r) f = (f z a b r) := rfl
theorem pVVV_i {st : List Value} {f : Value → Value → Value → List Value → Prop} (h : pVVV st f) : ∃ a b r z, st = b :: a :: z :: r ∧ f z a b r := by
  unfold pVVV at h
  split at h
  · exact ⟨_, _, _, _, rfl, h⟩
  · exact h.elim
def pIR (st : List Value) (f : Nat → Int32 → List Value → Prop) : Prop := match st with
  | .int b :: .ref a :: r => f a b r
  | _ => False
theorem pIR_e {a : _} {b : _} {r : _} (f : Nat → Int32 → List Value → Prop) : pIR (.int b :: .ref a :: r) f = (f a b r) := rfl
theorem pIR_i {st : List Value} {f : Nat → Int32 → List Value → Prop} (h : pIR st f) : ∃ a b r, st = .int b :: .ref a :: r ∧ f a b r := by
  unfold pIR at h
  split at h
  · exact ⟨_, _, _, rfl, h⟩
  · exact h.elim
def pIIR (st : List Value) (f : Nat → Int32 → Int32 → List Value → Prop) : Prop := match st with
  | .int x :: .int b :: .ref a :: r => f a b x r
  | _ => False
theorem pIIR_e {a : _} {b : _} {r : _} {x : _} (f : Nat → Int32 → Int32 → List Value → Prop) : pIIR (.int x :: .int b :: .ref a :: r) f = (f a b x r) := rfl
theorem pIIR_i {st : List Value} {f : Nat → Int32 → Int32 → List Value → Prop} (h : pIIR st f) : ∃ a b r x, st = .int x :: .int b :: .ref a :: r ∧ f a b x r := by
  unfold pIIR at h
  split at h
  · exact ⟨_, _, _, _, rfl, h⟩
  · exact h.elim
def pLIR (st : List Value) (f : Nat → Int32 → Int64 → List Value → Prop) : Prop := match st with
  | .long x :: .int b :: .ref a :: r => f a b x r
  | _ => False
theorem pLIR_e {a : _} {b : _} {r : _} {x : _} (f : Nat → Int32 → Int64 → List Value → Prop) : pLIR (.long x :: .int b :: .ref a :: r) f = (f a b x r) := rfl
theorem pLIR_i {st : List Value} {f : Nat → Int32 → Int64 → List Value → Prop} (h : pLIR st f) : ∃ a b r x, st = .long x :: .int b :: .ref a :: r ∧ f a b x r := by
  unfold pLIR at h
  split at h
  · exact ⟨_, _, _, _, rfl, h⟩
  · exact h.elim
def pVIR (st : List Value) (f : Nat → Int32 → Value → List Value → Prop) : Prop := match st with
  | x :: .int b :: .ref a :: r => f a b x r
  | _ => False
theorem pVIR_e {a : _} {b : _} {r : _} {x : _} (f : Nat → Int32 → Value → List Value → Prop) : pVIR (x :: .int b :: .ref a :: r) f = (f a b x r) := rfl
theorem pVIR_i {st : List Value} {f : Nat → Int32 → Value → List Value → Prop} (h : pVIR st f) : ∃ a b r x, st = x :: .int b :: .ref a :: r ∧ f a b x r := by
  unfold pVIR at h
  split at h
  · exact ⟨_, _, _, _, rfl, h⟩
  · exact h.elim
def pVR (st : List Value) (f : Nat → Value → List Value → Prop) : Prop := match st with
  | x :: .ref a :: r => f a x r
  | _ => False
theorem pVR_e {a : _} {r : _} {x : _} (f : Nat → Value → List Value → Prop) : pVR (x :: .ref a :: r) f = (f a x r) := rfl
theorem pVR_i {st : List Value} {f : Nat → Value → List Value → Prop} (h : pVR st f) : ∃ a r x, st = x :: .ref a :: r ∧ f a x r := by
  unfold pVR at h
  split at h
  · exact ⟨_, _, _, rfl, h⟩
  · exact h.elim
/-- a reference or null -/
def isr (v : Value) : Bool := match v with
  | .ref _ => true
  | .null => true
  | _ => false
def klI (k : xK) (pc : Nat) (ls : List (Option Value)) (st : List Value) (σ : xH) (x : Int32) : Prop := k pc ls (.int x :: st) σ
def klL (k : xK) (pc : Nat) (ls : List (Option Value)) (st : List Value) (σ : xH) (x : Int64) : Prop := k pc ls (.long x :: st) σ
def klF (k : xK) (pc : Nat) (ls : List (Option Value)) (st : List Value) (σ : xH) (x : UInt32) : Prop := k pc ls (.float x :: st) σ
def klD (k : xK) (pc : Nat) (ls : List (Option Value)) (st : List Value) (σ : xH) (x : UInt64) : Prop := k pc ls (.double x :: st) σ
def kla (k : xK) (pc : Nat) (ls : List (Option Value)) (st : List Value) (σ : xH) (v : Value) : Prop := isr v = true ∧ k pc ls (v :: st) σ
def kvv (k : xK) (pc : Nat) (ls : List (Option Value)) (st : List Value) (σ : xH) (v : Value) : Prop := k pc ls (v :: st) σ
def kinc (I : xI) (k : xK) (pc : Nat) (ls : List (Option Value)) (i : Nat) (n : Int) (st : List Value) (σ : xH) (x : Int32) : Prop := i < iL I ∧ k pc (lset1 ls i (.int (x + Int32.ofInt n))) st σ
def kbr (c : Prop) (k : xK) (pc : Nat) (ls : List (Option Value)) (st : List Value) (σ : xH) (t : Nat) : Prop := (c → k t ls st σ) ∧ (¬ c → k pc ls st σ)
def kbn (c : Prop) (k : xK) (pc : Nat) (ls : List (Option Value)) (st : List Value) (σ : xH) (t : Nat) : Prop := (¬ c → k t ls st σ) ∧ (c → k pc ls st σ)
def ktg (k : xK) (ls : List (Option Value)) (st : List Value) (σ : xH) (t : Nat) : Prop := k t ls st σ
theorem klI_e (k : xK) (pc : Nat) (ls : List (Option Value)) (st : List Value) (σ : xH) (x : Int32) : klI k pc ls st σ x = k pc ls (.int x :: st) σ := rfl
theorem klL_e (k : xK) (pc : Nat) (ls : List (Option Value)) (st : List Value) (σ : xH) (x : Int64) : klL k pc ls st σ x = k pc ls (.long x :: st) σ := rfl
theorem klF_e (k : xK) (pc : Nat) (ls : List (Option Value)) (st : List Value) (σ : xH) (x : UInt32) : klF k pc ls st σ x = k pc ls (.float x :: st) σ := rfl
theorem klD_e (k : xK) (pc : Nat) (ls : List (Option Value)) (st : List Value) (σ : xH) (x : UInt64) : klD k pc ls st σ x = k pc ls (.double x :: st) σ := rfl
theorem kla_e (k : xK) (pc : Nat) (ls : List (Option Value)) (st : List Value) (σ : xH) (v : Value) : kla k pc ls st σ v = (isr v = true ∧ k pc ls (v :: st) σ) := rfl
theorem kvv_e (k : xK) (pc : Nat) (ls : List (Option Value)) (st : List Value) (σ : xH) (v : Value) : kvv k pc ls st σ v = k pc ls (v :: st) σ := rfl
theorem kinc_e (I : xI) (k : xK) (pc : Nat) (ls : List (Option Value)) (i : Nat) (n : Int) (st : List Value) (σ : xH) (x : Int32) : kinc I k pc ls i n st σ x = (i < iL I ∧ k pc (lset1 ls i (.int (x + Int32.ofInt n))) st σ) := rfl
theorem kbr_e (c : Prop) (k : xK) (pc : Nat) (ls : List (Option Value)) (st : List Value) (σ : xH) (t : Nat) : kbr c k pc ls st σ t = ((c → k t ls st σ) ∧ (¬ c → k pc ls st σ)) := rfl
theorem kbn_e (c : Prop) (k : xK) (pc : Nat) (ls : List (Option Value)) (st : List Value) (σ : xH) (t : Nat) : kbn c k pc ls st σ t = ((¬ c → k t ls st σ) ∧ (c → k pc ls st σ)) := rfl
theorem ktg_e (k : xK) (ls : List (Option Value)) (st : List Value) (σ : xH) (t : Nat) : ktg k ls st σ t = k t ls st σ := rfl
def opS {α : Type} (o : Option α) (f : α → Prop) : Prop := match o with
  | some v => f v
  | none => False
theorem opS_e {α : Type} (v : α) (f : α → Prop) : opS (some v) f = f v := rfl
theorem opS_i {α : Type} {o : Option α} {f : α → Prop} (h : opS o f) : ∃ v, o = some v ∧ f v := by
  cases o with
  | none => exact h.elim
  | some v => exact ⟨v, rfl, h⟩
def lI (o : Option Value) (f : Int32 → Prop) : Prop := match o with
  | some (.int x) => f x
  | _ => False
theorem lI_e (x : Int32) (f : Int32 → Prop) : lI (some (.int x)) f = f x := rfl
theorem lI_i {o : Option Value} {f : Int32 → Prop} (h : lI o f) : ∃ x, o = some (.int x) ∧ f x := by
  unfold lI at h; split at h
  · exact ⟨_, rfl, h⟩
  · exact h.elim
def lL (o : Option Value) (f : Int64 → Prop) : Prop := match o with
  | some (.long x) => f x
  | _ => False
theorem lL_e (x : Int64) (f : Int64 → Prop) : lL (some (.long x)) f = f x := rfl
theorem lL_i {o : Option Value} {f : Int64 → Prop} (h : lL o f) : ∃ x, o = some (.long x) ∧ f x := by
  unfold lL at h; split at h
  · exact ⟨_, rfl, h⟩
  · exact h.elim
def lF (o : Option Value) (f : UInt32 → Prop) : Prop := match o with
  | some (.float x) => f x
  | _ => False
theorem lF_e (x : UInt32) (f : UInt32 → Prop) : lF (some (.float x)) f = f x := rfl
theorem lF_i {o : Option Value} {f : UInt32 → Prop} (h : lF o f) : ∃ x, o = some (.float x) ∧ f x := by
  unfold lF at h; split at h
  · exact ⟨_, rfl, h⟩
  · exact h.elim
def lD (o : Option Value) (f : UInt64 → Prop) : Prop := match o with
  | some (.double x) => f x
  | _ => False
theorem lD_e (x : UInt64) (f : UInt64 → Prop) : lD (some (.double x)) f = f x := rfl
theorem lD_i {o : Option Value} {f : UInt64 → Prop} (h : lD o f) : ∃ x, o = some (.double x) ∧ f x := by
  unfold lD at h; split at h
  · exact ⟨_, rfl, h⟩
  · exact h.elim
theorem isr_r (a : Nat) : isr (.ref a) = true := rfl
theorem isr_n : isr .null = true := rfl
theorem isr_f (o : Option Nat) : isr (va_rf o) = true := by cases o <;> rfl
def rq (v : Value) : Option Nat := match v with
  | .ref a => some a
  | _ => none
theorem rq_r (a : Nat) : rq (.ref a) = some a := rfl
theorem rq_n : rq .null = none := rfl
theorem rq_f (o : Option Nat) : rq (va_rf o) = o := by cases o <;> rfl
theorem isr_i {v : Value} (h : isr v = true) : v = va_rf (rq v) := by
  cases v <;> first | rfl | cases h
theorem c2_i (x : Int32) : c2 (.int x) = false := rfl
theorem c2_r (a : Nat) : c2 (.ref a) = false := rfl
theorem c2_n : c2 .null = false := rfl
theorem c2_l (x : Int64) : c2 (.long x) = true := rfl
theorem c2_d (x : UInt64) : c2 (.double x) = true := rfl
theorem c2_f (o : Option Nat) : c2 (va_rf o) = false := by cases o <;> rfl
theorem c2_cat {v : Value} (h : c2 v = false) : v.category = 1 := by
  rcases lv_cat v with q | q
  · exact q
  · rw [(c2_iff v).mpr q] at h; cases h
def tgo (pc : Nat) (off : Int) (k : Nat → Prop) : Prop := 0 ≤ (pc : Int) + off ∧ k ((pc : Int) + off).toNat
theorem tgo_i {pc : Nat} {off : Int} {k : Nat → Prop} (h : tgo pc off k) : ∃ tgt : Nat, (pc : Int) + off = (tgt : Int) ∧ k tgt := ⟨_, (Int.toNat_of_nonneg h.1).symm, h.2⟩
def obS (o : Option xE) (f : Nat → List Value → Prop) : Prop := match o with
  | some (.inr q) => f q.1 q.2
  | _ => False
theorem obS_e (c : Nat) (fs : List Value) (f : Nat → List Value → Prop) : obS (some (.inr (c, fs))) f = f c fs := rfl
theorem obS_i {o : Option xE} {f : Nat → List Value → Prop} (h : obS o f) : ∃ c fs, o = some (ob c fs) ∧ f c fs := by
  unfold obS at h; split at h
  · exact ⟨_, _, rfl, h⟩
  · exact h.elim
def arI (o : Option xE) (f : Nat → Nat → (Nat → Int32) → Prop) : Prop := match o with
  | some (.inl (k, n, .inl z)) => f k n z
  | _ => False
theorem arI_e (k n : Nat) (z : Nat → Int32) (f : Nat → Nat → (Nat → Int32) → Prop) : arI (some (.inl (k, n, .inl z))) f = f k n z := rfl
theorem arI_i {o : Option xE} {f : Nat → Nat → (Nat → Int32) → Prop} (h : arI o f) : ∃ k n z, o = some (ai k n z) ∧ f k n z := by
  unfold arI at h; split at h
  · exact ⟨_, _, _, rfl, h⟩
  · exact h.elim
def arL (o : Option xE) (f : Nat → Nat → (Nat → Int64) → Prop) : Prop := match o with
  | some (.inl (k, n, .inr (.inl z))) => f k n z
  | _ => False
theorem arL_e (k n : Nat) (z : Nat → Int64) (f : Nat → Nat → (Nat → Int64) → Prop) : arL (some (.inl (k, n, .inr (.inl z)))) f = f k n z := rfl
theorem arL_i {o : Option xE} {f : Nat → Nat → (Nat → Int64) → Prop} (h : arL o f) : ∃ k n z, o = some (al k n z) ∧ f k n z := by
  unfold arL at h; split at h
  · exact ⟨_, _, _, rfl, h⟩
  · exact h.elim
def arQ (o : Option xE) (f : Nat → Nat → (Nat → Option Nat) → Prop) : Prop := match o with
  | some (.inl (k, n, .inr (.inr (.inr (.inr z))))) => f k n z
  | _ => False
theorem arQ_e (k n : Nat) (z : Nat → Option Nat) (f : Nat → Nat → (Nat → Option Nat) → Prop) : arQ (some (.inl (k, n, .inr (.inr (.inr (.inr z)))))) f = f k n z := rfl
theorem arQ_i {o : Option xE} {f : Nat → Nat → (Nat → Option Nat) → Prop} (h : arQ o f) : ∃ k n z, o = some (aq k n z) ∧ f k n z := by
  unfold arQ at h; split at h
  · exact ⟨_, _, _, rfl, h⟩
  · exact h.elim
def arA (o : Option xE) (f : Nat → Nat → Prop) : Prop := match o with
  | some (.inl q) => f q.1 q.2.1
  | _ => False
theorem arA_e (k : Nat) (x : vp_A) (f : Nat → Nat → Prop) : arA (some (.inl (k, x))) f = f k x.1 := rfl
theorem arA_i {o : Option xE} {f : Nat → Nat → Prop} (h : arA o f) : ∃ k x, o = some (.inl (k, x)) ∧ f k x.1 := by
  unfold arA at h; split at h
  · exact ⟨_, _, rfl, h⟩
  · exact h.elim
/-- may the value be stored into an array of the class k -/
def sto (σ : xH) (k : Nat) (v : Value) : Prop := match v with
  | .null => True
  | .ref b => (match σ.1 b with
    | some (.inr q) => ac k q.1 = true
    | some (.inl q) => k = 3 ∧ q.1 = 0
    | none => False)
  | _ => False
theorem sto_n (σ : xH) (k : Nat) : sto σ k .null = True := rfl
theorem sto_o (σ : xH) (k b c : Nat) (fs : List Value) (h : σ.1 b = some (.inr (c, fs))) : sto σ k (.ref b) = (ac k c = true) := by simp [sto, h]
/-- as checkcast sees it -/
def cst (oc idx : Nat) (σ : xH) (v : Value) : Prop := match v with
  | .null => True
  | .ref b => (match σ.1 b with
    | some (.inr q) => ck oc idx q.1 = some true
    | some (.inl q) => ca oc idx q.1 = true
    | none => False)
  | _ => False
theorem cst_n (oc idx : Nat) (σ : xH) : cst oc idx σ .null = True := rfl
/-- field lists -/
def lgv : List Value → Nat → Option Value
  | [], _ => none
  | a :: _, 0 => some a
  | _ :: l, n + 1 => lgv l n
def lsv : List Value → Nat → Value → List Value
  | [], _, _ => []
  | _ :: l, 0, v => v :: l
  | a :: l, n + 1, v => a :: lsv l n v
theorem lgv_eq : ∀ (l : List Value) (n : Nat), lgv l n = l[n]?
  | [], n => by simp [lgv]
  | a :: l, 0 => by simp [lgv]
  | a :: l, n + 1 => by simp [lgv, lgv_eq l n]
theorem lsv_eq : ∀ (l : List Value) (n : Nat) (v : Value), lsv l n v = l.set n v
  | [], n, v => by simp [lsv]
  | a :: l, 0, v => by simp [lsv]
  | a :: l, n + 1, v => by simp [lsv, lsv_eq l n v]
/-- may this method write this field, as far as 'final' goes -/
def pfin (I : xI) (ci : Nat) (q : Nat × FieldType × Bool) : Bool := !q.2.2 || (decide ((iY I).name = "<init>") && decide (((CL.getD ci ("", TX24e, 0)).2.1 q.1).1 = (iY I).cls))
theorem pfin_f (I : xI) (ci k : Nat) (ty : FieldType) : pfin I ci (k, ty, false) = true := rfl
/-- a call's arguments off the stack -/
def tk : Nat → List Value → List Value → Option (List Value × List Value)
  | 0, st, acc => some (acc, st)
  | n + 1, v :: st, acc => tk n st (v :: acc)
  | _ + 1, [], _ => none
theorem tk_i : ∀ (n : Nat) (st acc av r : List Value), tk n st acc = some (av, r) → ∃ w, av = w ++ acc ∧ w.length = n ∧ st = w.reverse ++ r
  | 0, st, acc, av, r, h => by
    cases h
    exact ⟨[], rfl, rfl, rfl⟩
  | n + 1, [], acc, av, r, h => by cases h
  | n + 1, v :: st, acc, av, r, h => by
    obtain ⟨w, h1, h2, h3⟩ := tk_i n st (v :: acc) av r h
    exact ⟨w ++ [v], by simp [h1], by simp [h2], by simp [h3]⟩
def isv (av : List Value) (f : Nat → Prop) : Prop := match av with
  | .ref a :: _ => f a
  | _ => False
theorem isv_e (a : Nat) (l : List Value) (f : Nat → Prop) : isv (.ref a :: l) f = f a := rfl
theorem isv_i {av : List Value} {f : Nat → Prop} (h : isv av f) : ∃ a l, av = .ref a :: l ∧ f a := by
  unfold isv at h; split at h
  · exact ⟨_, _, rfl, h⟩
  · exact h.elim
/-- the cases of a tableswitch from the value v on -/
def tsw (pc : Nat) (x : Int32) (k : Nat → Prop) : List Int → Int → Prop
  | [], _ => True
  | o :: os, v => (x = Int32.ofInt v → tgo pc o k) ∧ tsw pc x k os (v + 1)
theorem tsw_i {pc : Nat} {x : Int32} {k : Nat → Prop} : ∀ (os : List Int) (v : Int) (j : Nat) (o : Int), tsw pc x k os v → os[j]? = some o → x = Int32.ofInt (v + j) → tgo pc o k
  | [], v, j, o, _, hj, _ => by simp at hj
  | q :: os, v, 0, o, h, hj, hx => by
    simp at hj
    subst hj
    exact h.1 (by simpa using hx)
  | q :: os, v, j + 1, o, h, hj, hx => by
    refine tsw_i os (v + 1) j o h.2 (by simpa using hj) ?_
    rw [hx]
    congr 1
    push_cast
    omega
def lsw (pc : Nat) (x : Int32) (k : Nat → Prop) : List (Int × Int) → Int → Prop
  | [], dflt => tgo pc dflt k
  | q :: qs, dflt => (x.toInt = q.1 → tgo pc q.2 k) ∧ (¬ x.toInt = q.1 → lsw pc x k qs dflt)
def kgf2 (k : xK) (pc : Nat) (ls : List (Option Value)) (st : List Value) (σ : xH) (fs : List Value) (q : Nat × FieldType × Bool) : Prop := opS (lgv fs q.1) (kvv k pc ls st σ)
def kgf (I : xI) (idx : Nat) (k : xK) (pc : Nat) (ls : List (Option Value)) (st : List Value) (σ : xH) (ci : Nat) (fs : List Value) : Prop := opS (fl (iO I) idx ci) (kgf2 k pc ls st σ fs)
def kpf2 (g : xG) (I : xI) (k : xK) (pc : Nat) (ls : List (Option Value)) (st : List Value) (σ : xH) (a : Nat) (x : Value) (ci : Nat) (fs : List Value) (q : Nat × FieldType × Bool) : Prop := ((g0 g ≤ a ∧ ci < 36) ∧ (q.1 < fs.length ∧ pfin I ci q = true) ∧ narrow q.2.1 x = x ∧ fits q.2.1 x = true) ∧ k pc ls st (xu σ.1 a (ob ci (lsv fs q.1 x)), σ.2)
def kpf (g : xG) (I : xI) (idx : Nat) (k : xK) (pc : Nat) (ls : List (Option Value)) (st : List Value) (σ : xH) (a : Nat) (x : Value) (ci : Nat) (fs : List Value) : Prop := opS (fl (iO I) idx ci) (kpf2 g I k pc ls st σ a x ci fs)
theorem kgf2_e (k : xK) (pc : Nat) (ls : List (Option Value)) (st : List Value) (σ : xH) (fs : List Value) (q : Nat × FieldType × Bool) : kgf2 k pc ls st σ fs q = opS (lgv fs q.1) (kvv k pc ls st σ) := rfl
theorem kgf_e (I : xI) (idx : Nat) (k : xK) (pc : Nat) (ls : List (Option Value)) (st : List Value) (σ : xH) (ci : Nat) (fs : List Value) : kgf I idx k pc ls st σ ci fs = opS (fl (iO I) idx ci) (kgf2 k pc ls st σ fs) := rfl
theorem kpf2_e (g : xG) (I : xI) (k : xK) (pc : Nat) (ls : List (Option Value)) (st : List Value) (σ : xH) (a : Nat) (x : Value) (ci : Nat) (fs : List Value) (q : Nat × FieldType × Bool) : kpf2 g I k pc ls st σ a x ci fs q = (((g0 g ≤ a ∧ ci < 36) ∧ (q.1 < fs.length ∧ pfin I ci q = true) ∧ narrow q.2.1 x = x ∧ fits q.2.1 x = true) ∧ k pc ls st (xu σ.1 a (ob ci (lsv fs q.1 x)), σ.2)) := rfl
theorem kpf_e (g : xG) (I : xI) (idx : Nat) (k : xK) (pc : Nat) (ls : List (Option Value)) (st : List Value) (σ : xH) (a : Nat) (x : Value) (ci : Nat) (fs : List Value) : kpf g I idx k pc ls st σ a x ci fs = opS (fl (iO I) idx ci) (kpf2 g I k pc ls st σ a x ci fs) := rfl
def kal (K0 : Nat) (k : xK) (pc : Nat) (ls : List (Option Value)) (st : List Value) (σ : xH) (b : Int32) (kk n : Nat) (f : Nat → Int32) : Prop := (kk = K0 ∧ vp_in b n) ∧ k pc ls (.int (f b.toNatClampNeg) :: st) σ
theorem kal_e (K0 : Nat) (k : xK) (pc : Nat) (ls : List (Option Value)) (st : List Value) (σ : xH) (b : Int32) (kk n : Nat) (f : Nat → Int32) : kal K0 k pc ls st σ b kk n f = ((kk = K0 ∧ vp_in b n) ∧ k pc ls (.int (f b.toNatClampNeg) :: st) σ) := rfl
def kall (K0 : Nat) (k : xK) (pc : Nat) (ls : List (Option Value)) (st : List Value) (σ : xH) (b : Int32) (kk n : Nat) (f : Nat → Int64) : Prop := (kk = K0 ∧ vp_in b n) ∧ k pc ls (.long (f b.toNatClampNeg) :: st) σ
theorem kall_e (K0 : Nat) (k : xK) (pc : Nat) (ls : List (Option Value)) (st : List Value) (σ : xH) (b : Int32) (kk n : Nat) (f : Nat → Int64) : kall K0 k pc ls st σ b kk n f = ((kk = K0 ∧ vp_in b n) ∧ k pc ls (.long (f b.toNatClampNeg) :: st) σ) := rfl
def kalq (k : xK) (pc : Nat) (ls : List (Option Value)) (st : List Value) (σ : xH) (b : Int32) (kk n : Nat) (f : Nat → Option Nat) : Prop := (3 ≤ kk ∧ kk ≤ 8) ∧ vp_in b n ∧ k pc ls (va_rf (f b.toNatClampNeg) :: st) σ
theorem kalq_e (k : xK) (pc : Nat) (ls : List (Option Value)) (st : List Value) (σ : xH) (b : Int32) (kk n : Nat) (f : Nat → Option Nat) : kalq k pc ls st σ b kk n f = ((3 ≤ kk ∧ kk ≤ 8) ∧ vp_in b n ∧ k pc ls (va_rf (f b.toNatClampNeg) :: st) σ) := rfl
def kas_iastore (g : xG) (k : xK) (pc : Nat) (ls : List (Option Value)) (st : List Value) (σ : xH) (a : Nat) (b x : Int32) (kk n : Nat) (f : Nat → Int32) : Prop := (kk = 0 ∧ g0 g ≤ a ∧ vp_in b n) ∧ k pc ls st (xu σ.1 a (ai 0 n (upd f b.toNatClampNeg x)), σ.2)
theorem kas_iastore_e (g : xG) (k : xK) (pc : Nat) (ls : List (Option Value)) (st : List Value) (σ : xH) (a : Nat) (b x : Int32) (kk n : Nat) (f : Nat → Int32) : kas_iastore g k pc ls st σ a b x kk n f = ((kk = 0 ∧ g0 g ≤ a ∧ vp_in b n) ∧ k pc ls st (xu σ.1 a (ai 0 n (upd f b.toNatClampNeg x)), σ.2)) := rfl
def kas_bastore (g : xG) (k : xK) (pc : Nat) (ls : List (Option Value)) (st : List Value) (σ : xH) (a : Nat) (b x : Int32) (kk n : Nat) (f : Nat → Int32) : Prop := (kk = 1 ∧ g0 g ≤ a ∧ vp_in b n) ∧ k pc ls st (xu σ.1 a (ai 1 n (upd f b.toNatClampNeg (vp_nar .byte x))), σ.2)
theorem kas_bastore_e (g : xG) (k : xK) (pc : Nat) (ls : List (Option Value)) (st : List Value) (σ : xH) (a : Nat) (b x : Int32) (kk n : Nat) (f : Nat → Int32) : kas_bastore g k pc ls st σ a b x kk n f = ((kk = 1 ∧ g0 g ≤ a ∧ vp_in b n) ∧ k pc ls st (xu σ.1 a (ai 1 n (upd f b.toNatClampNeg (vp_nar .byte x))), σ.2)) := rfl
def kas_lastore (g : xG) (k : xK) (pc : Nat) (ls : List (Option Value)) (st : List Value) (σ : xH) (a : Nat) (b : Int32) (x : Int64) (kk n : Nat) (f : Nat → Int64) : Prop := (kk = 2 ∧ g0 g ≤ a ∧ vp_in b n) ∧ k pc ls st (xu σ.1 a (al 2 n (vp_updL f b.toNatClampNeg x)), σ.2)
theorem kas_lastore_e (g : xG) (k : xK) (pc : Nat) (ls : List (Option Value)) (st : List Value) (σ : xH) (a : Nat) (b : Int32) (x : Int64) (kk n : Nat) (f : Nat → Int64) : kas_lastore g k pc ls st σ a b x kk n f = ((kk = 2 ∧ g0 g ≤ a ∧ vp_in b n) ∧ k pc ls st (xu σ.1 a (al 2 n (vp_updL f b.toNatClampNeg x)), σ.2)) := rfl
def kas_aastore (g : xG) (k : xK) (pc : Nat) (ls : List (Option Value)) (st : List Value) (σ : xH) (a : Nat) (b : Int32) (x : Value) (kk n : Nat) (f : Nat → Option Nat) : Prop := ((3 ≤ kk ∧ kk ≤ 6) ∧ g0 g ≤ a ∧ vp_in b n ∧ sto σ kk x) ∧ k pc ls st (xu σ.1 a (aq kk n (va_up f b.toNatClampNeg (rq x))), σ.2)
theorem kas_aastore_e (g : xG) (k : xK) (pc : Nat) (ls : List (Option Value)) (st : List Value) (σ : xH) (a : Nat) (b : Int32) (x : Value) (kk n : Nat) (f : Nat → Option Nat) : kas_aastore g k pc ls st σ a b x kk n f = (((3 ≤ kk ∧ kk ≤ 6) ∧ g0 g ≤ a ∧ vp_in b n ∧ sto σ kk x) ∧ k pc ls st (xu σ.1 a (aq kk n (va_up f b.toNatClampNeg (rq x))), σ.2)) := rfl
def kale (k : xK) (pc : Nat) (ls : List (Option Value)) (st : List Value) (σ : xH) (kk n : Nat) : Prop := kk ≤ 8 ∧ k pc ls (.int (Int32.ofNat n) :: st) σ
theorem kale_e (k : xK) (pc : Nat) (ls : List (Option Value)) (st : List Value) (σ : xH) (kk n : Nat) : kale k pc ls st σ kk n = (kk ≤ 8 ∧ k pc ls (.int (Int32.ofNat n) :: st) σ) := rfl
def knw (g : xG) (k : xK) (pc : Nat) (ls : List (Option Value)) (st : List Value) (σ : xH) (ci : Nat) : Prop := (σ.2.1 + 1 ≤ gN g ∧ σ.2.2 + (dfT ci).length ≤ gW g) ∧ k pc ls (.ref σ.2.1 :: st) (xu σ.1 σ.2.1 (ob ci (dfT ci)), σ.2.1 + 1, σ.2.2 + (dfT ci).length)
theorem knw_e (g : xG) (k : xK) (pc : Nat) (ls : List (Option Value)) (st : List Value) (σ : xH) (ci : Nat) : knw g k pc ls st σ ci = ((σ.2.1 + 1 ≤ gN g ∧ σ.2.2 + (dfT ci).length ≤ gW g) ∧ k pc ls (.ref σ.2.1 :: st) (xu σ.1 σ.2.1 (ob ci (dfT ci)), σ.2.1 + 1, σ.2.2 + (dfT ci).length)) := rfl
def kan (g : xG) (k : xK) (pc : Nat) (ls : List (Option Value)) (st : List Value) (σ : xH) (a : Int32) (kk : Nat) : Prop := ((¬ a < 0 ∧ a.toNatClampNeg * 4 ≤ 536870912) ∧ σ.2.1 + 1 ≤ gN g ∧ σ.2.2 + a.toNatClampNeg ≤ gW g) ∧ k pc ls (.ref σ.2.1 :: st) (xu σ.1 σ.2.1 (aq kk a.toNatClampNeg (fun _ => none)), σ.2.1 + 1, σ.2.2 + a.toNatClampNeg)
theorem kan_e (g : xG) (k : xK) (pc : Nat) (ls : List (Option Value)) (st : List Value) (σ : xH) (a : Int32) (kk : Nat) : kan g k pc ls st σ a kk = (((¬ a < 0 ∧ a.toNatClampNeg * 4 ≤ 536870912) ∧ σ.2.1 + 1 ≤ gN g ∧ σ.2.2 + a.toNatClampNeg ≤ gW g) ∧ k pc ls (.ref σ.2.1 :: st) (xu σ.1 σ.2.1 (aq kk a.toNatClampNeg (fun _ => none)), σ.2.1 + 1, σ.2.2 + a.toNatClampNeg)) := rfl
def kgs (g : xG) (k : xK) (pc : Nat) (ls : List (Option Value)) (st : List Value) (σ : xH) (i : Nat) : Prop := k pc ls (gS g i :: st) σ
theorem kgs_e (g : xG) (k : xK) (pc : Nat) (ls : List (Option Value)) (st : List Value) (σ : xH) (i : Nat) : kgs g k pc ls st σ i = (k pc ls (gS g i :: st) σ) := rfl
def ktx (g : xG) (k : xK) (pc : Nat) (ls : List (Option Value)) (st : List Value) (σ : xH) (i : Nat) : Prop := k pc ls (.ref (gT g i) :: st) σ
theorem ktx_e (g : xG) (k : xK) (pc : Nat) (ls : List (Option Value)) (st : List Value) (σ : xH) (i : Nat) : ktx g k pc ls st σ i = (k pc ls (.ref (gT g i) :: st) σ) := rfl
def kms2 (g : xG) (I : xI) (K : xR → xH → Prop) (d len : Nat) (k : xK) (pc : Nat) (ls : List (Option Value)) (st : List Value) (σ : xH) (q : xI × Nat) (w : List Value × List Value) : Prop := (1 ≤ d ∧ w.2.length ≤ 16) ∧ Ctr g (d - 1) q.1 w.1 σ (xcont g I K d pc len ls w.2 k)
theorem kms2_e (g : xG) (I : xI) (K : xR → xH → Prop) (d len : Nat) (k : xK) (pc : Nat) (ls : List (Option Value)) (st : List Value) (σ : xH) (q : xI × Nat) (w : List Value × List Value) : kms2 g I K d len k pc ls st σ q w = ((1 ≤ d ∧ w.2.length ≤ 16) ∧ Ctr g (d - 1) q.1 w.1 σ (xcont g I K d pc len ls w.2 k)) := rfl
def kms (g : xG) (I : xI) (K : xR → xH → Prop) (d : Nat) (k : xK) (pc : Nat) (ls : List (Option Value)) (st : List Value) (σ : xH) (q : xI × Nat) : Prop := opS (tk q.2 st []) (kms2 g I K d 3 k pc ls st σ q)
theorem kms_e (g : xG) (I : xI) (K : xR → xH → Prop) (d : Nat) (k : xK) (pc : Nat) (ls : List (Option Value)) (st : List Value) (σ : xH) (q : xI × Nat) : kms g I K d k pc ls st σ q = (opS (tk q.2 st []) (kms2 g I K d 3 k pc ls st σ q)) := rfl
def kmp2 (g : xG) (I : xI) (K : xR → xH → Prop) (d : Nat) (k : xK) (pc : Nat) (ls : List (Option Value)) (st : List Value) (σ : xH) (q : xI × Nat) (w : List Value × List Value) : Prop := isv w.1 fun _ => (1 ≤ d ∧ w.2.length ≤ 16) ∧ Ctr g (d - 1) q.1 w.1 σ (xcont g I K d pc 3 ls w.2 k)
theorem kmp2_e (g : xG) (I : xI) (K : xR → xH → Prop) (d : Nat) (k : xK) (pc : Nat) (ls : List (Option Value)) (st : List Value) (σ : xH) (q : xI × Nat) (w : List Value × List Value) : kmp2 g I K d k pc ls st σ q w = (isv w.1 fun _ => (1 ≤ d ∧ w.2.length ≤ 16) ∧ Ctr g (d - 1) q.1 w.1 σ (xcont g I K d pc 3 ls w.2 k)) := rfl
def kmp (g : xG) (I : xI) (K : xR → xH → Prop) (d : Nat) (k : xK) (pc : Nat) (ls : List (Option Value)) (st : List Value) (σ : xH) (q : xI × Nat) : Prop := opS (tk (q.2 + 1) st []) (kmp2 g I K d k pc ls st σ q)
theorem kmp_e (g : xG) (I : xI) (K : xR → xH → Prop) (d : Nat) (k : xK) (pc : Nat) (ls : List (Option Value)) (st : List Value) (σ : xH) (q : xI × Nat) : kmp g I K d k pc ls st σ q = (opS (tk (q.2 + 1) st []) (kmp2 g I K d k pc ls st σ q)) := rfl
def iof (oc idx : Nat) (σ : xH) (v : Value) (f : Int32 → Prop) : Prop := match v with
  | .null => f 0
  | .ref b => obS (σ.1 b) fun ci _ => opS (ck oc idx ci) fun t => f (if t then 1 else 0)
  | _ => False
theorem iof_n (oc idx : Nat) (σ : xH) (f : Int32 → Prop) : iof oc idx σ .null f = f 0 := rfl
theorem iof_r (oc idx : Nat) (σ : xH) (b : Nat) (f : Int32 → Prop) : iof oc idx σ (.ref b) f = obS (σ.1 b) fun ci _ => opS (ck oc idx ci) fun t => f (if t then 1 else 0) := rfl
/-- what ldc pushes -/
def ldv (g : xG) (oc idx : Nat) (f : Value → Prop) : Prop := match li oc idx with
  | some v => f (.int v)
  | none => (match lt oc idx with
    | some i => f (.ref (gT g i))
    | none => (match lm oc idx with
      | some i => f (.ref (gM g i))
      | none => (match lf oc idx with
        | some v => f (.float v)
        | none => False)))
def e1 (st : List Value) (f : Value → Prop) : Prop := match st with
  | [v] => f v
  | _ => False
theorem e1_e (v : Value) (f : Value → Prop) : e1 [v] f = f v := rfl
theorem e1_i {st : List Value} {f : Value → Prop} (h : e1 st f) : ∃ v, st = [v] ∧ f v := by
  unfold e1 at h; split at h
  · exact ⟨_, rfl, h⟩
  · exact h.elim
/-- the answer fits what the method answers -/
def rfit (o : Option FieldType) (v : Value) : Bool := match o, v with
  | some .int, .int _ => true
  | some .boolean, .int x => decide (x = 0) || decide (x = 1)
  | some .char, .int x => decide ((x.toUInt32 % 65536).toInt32 = x)
  | some .byte, .int x => decide (x.toInt8.toInt32 = x)
  | some .long, .long _ => true
  | some .double, .double _ => true
  | some (.object _), .ref _ => true
  | some (.object _), .null => true
  | some (.array _), .ref _ => true
  | some (.array _), .null => true
  | _, _ => false
/-- a call through an object: the table t gives the method by the object's class -/
def vcv (g : xG) (I : xI) (σ : xH) (t : Nat → Option (xI × Nat)) (idx : Nat) (st : List Value) (f : xI × Nat → List Value × List Value → Prop) : Prop :=
  opS (tk (pn (iO I) idx + 1) st []) fun w => isv w.1 fun a => obS (σ.1 a) fun ci _ => opS (t ci) fun q => q.2 = pn (iO I) idx ∧ f q w
theorem vcv_i {g : xG} {I : xI} {σ : xH} {t : Nat → Option (xI × Nat)} {idx : Nat} {st : List Value} {f : xI × Nat → List Value × List Value → Prop} (h : vcv g I σ t idx st f) :
    ∃ (a : Nat) (l r : List Value) (ci : Nat) (fs : List Value) (q : xI × Nat), st = l.reverse ++ .ref a :: r ∧ σ.1 a = some (ob ci fs) ∧ t ci = some q ∧ l.length = q.2 ∧ f q (.ref a :: l, r) := by
  obtain ⟨w, hw, h1⟩ := opS_i h
  obtain ⟨a, l, ew, h2⟩ := isv_i h1
  obtain ⟨ci, fs, ha, h3⟩ := obS_i h2
  obtain ⟨q, hq, hn, h4⟩ := opS_i h3
  obtain ⟨w1, w2⟩ := w
  obtain ⟨w9, e1, e2, e3⟩ := tk_i _ _ _ _ _ hw
  have ew' : w1 = .ref a :: l := ew
  subst ew'
  rw [List.append_nil] at e1
  subst e1
  refine ⟨a, l, w2, ci, fs, q, by rw [e3]; simp, ha, hq, ?_, h4⟩
  rw [hn]
  simpa using e2
def vs (g : xG) (I : xI) (K : xR → xH → Prop) (d : Nat) (i : Instr) (len : Nat) (k : xK) (pc : Nat) (ls : List (Option Value)) (st : List Value) (σ : xH) : Prop := match i with
  | .iadd => len = 1 ∧ pII st fun a b r => k (pc + 1) ls (.int (a + b) :: r) σ
  | .isub => len = 1 ∧ pII st fun a b r => k (pc + 1) ls (.int (a - b) :: r) σ
  | .imul => len = 1 ∧ pII st fun a b r => k (pc + 1) ls (.int (a * b) :: r) σ
  | .iand => len = 1 ∧ pII st fun a b r => k (pc + 1) ls (.int (a &&& b) :: r) σ
  | .ior => len = 1 ∧ pII st fun a b r => k (pc + 1) ls (.int (a ||| b) :: r) σ
  | .ixor => len = 1 ∧ pII st fun a b r => k (pc + 1) ls (.int (a ^^^ b) :: r) σ
  | .ishl => len = 1 ∧ pII st fun a b r => k (pc + 1) ls (.int (a <<< (b &&& 31)) :: r) σ
  | .ishr => len = 1 ∧ pII st fun a b r => k (pc + 1) ls (.int (a >>> (b &&& 31)) :: r) σ
  | .iushr => len = 1 ∧ pII st fun a b r => k (pc + 1) ls (.int ((a.toUInt32 >>> (b.toUInt32 &&& Int32.toUInt32 31)).toInt32) :: r) σ
  | .idiv => len = 1 ∧ pII st fun a b r => (¬ b = 0) ∧ k (pc + 1) ls (.int (a / b) :: r) σ
  | .irem => len = 1 ∧ pII st fun a b r => (¬ b = 0) ∧ k (pc + 1) ls (.int (a - a / b * b) :: r) σ
  | .ineg => len = 1 ∧ pI st fun a r => k (pc + 1) ls (.int (-a) :: r) σ
  | .ladd => len = 1 ∧ pLL st fun a b r => k (pc + 1) ls (.long (a + b) :: r) σ
  | .lsub => len = 1 ∧ pLL st fun a b r => k (pc + 1) ls (.long (a - b) :: r) σ
  | .lmul => len = 1 ∧ pLL st fun a b r => k (pc + 1) ls (.long (a * b) :: r) σ
  | .land => len = 1 ∧ pLL st fun a b r => k (pc + 1) ls (.long (a &&& b) :: r) σ
  | .lor => len = 1 ∧ pLL st fun a b r => k (pc + 1) ls (.long (a ||| b) :: r) σ
  | .lxor => len = 1 ∧ pLL st fun a b r => k (pc + 1) ls (.long (a ^^^ b) :: r) σ
  | .lshl => len = 1 ∧ pLI st fun a b r => k (pc + 1) ls (.long (a <<< (b.toInt64 &&& 63)) :: r) σ
  | .lushr => len = 1 ∧ pLI st fun a b r => k (pc + 1) ls (.long ((a.toUInt64 >>> (b.toInt64.toUInt64 &&& Int64.toUInt64 63)).toInt64) :: r) σ
  | .lcmp => len = 1 ∧ pLL st fun a b r => k (pc + 1) ls (.int (lg_cmp a b) :: r) σ
  | .i2l => len = 1 ∧ pI st fun a r => k (pc + 1) ls (.long a.toInt64 :: r) σ
  | .l2i => len = 1 ∧ pL st fun a r => k (pc + 1) ls (.int a.toInt32 :: r) σ
  | .i2b => len = 1 ∧ pI st fun a r => k (pc + 1) ls (.int a.toInt8.toInt32 :: r) σ
  | .i2c => len = 1 ∧ pI st fun a r => k (pc + 1) ls (.int (a.toUInt32 % 65536).toInt32 :: r) σ
  | .i2d => len = 1 ∧ pI st fun a r => k (pc + 1) ls (.double (FP.i2d a) :: r) σ
  | .i2f => len = 1 ∧ pI st fun a r => k (pc + 1) ls (.float (FP.i2f a) :: r) σ
  | .f2i => len = 1 ∧ pF st fun a r => k (pc + 1) ls (.int (FP.f2i a) :: r) σ
  | .ddiv => len = 1 ∧ pDD st fun a b r => (vf_n64 (FP.ddiv a b)) ∧ k (pc + 1) ls (.double (FP.ddiv a b) :: r) σ
  | .fmul => len = 1 ∧ pFF st fun a b r => (vf_n32 (FP.fmul a b)) ∧ k (pc + 1) ls (.float (FP.fmul a b) :: r) σ
  | .dconst 0 => len = 1 ∧ k (pc + 1) ls (.double FP.dconst0 :: st) σ
  | .dcmp op => len = 1 ∧ pDD st fun a b r => k (pc + 1) ls (.int (Op.cmpValue (FP.dcmp a b) op) :: r) σ
  | .fcmp op => len = 1 ∧ pFF st fun a b r => k (pc + 1) ls (.int (Op.cmpValue (FP.fcmp a b) op) :: r) σ
  | .iconst n => len = 1 ∧ k (pc + 1) ls (.int (Int32.ofInt n) :: st) σ
  | .bipush n => len = 2 ∧ k (pc + 2) ls (.int (Int8.ofInt n).toInt32 :: st) σ
  | .sipush n => len = 3 ∧ k (pc + 3) ls (.int (Int16.ofInt n).toInt32 :: st) σ
  | .lconst n => len = 1 ∧ k (pc + 1) ls (.long (Int64.ofNat n.val) :: st) σ
  | .aconst_null => len = 1 ∧ k (pc + 1) ls (.null :: st) σ
  | .iload_n i => len = 1 ∧ lI (lget ls i.val) (klI k (pc + 1) ls st σ)
  | .iload i => len = 2 ∧ lI (lget ls i) (klI k (pc + 2) ls st σ)
  | .lload_n i => len = 1 ∧ lL (lget ls i.val) (klL k (pc + 1) ls st σ)
  | .lload i => len = 2 ∧ lL (lget ls i) (klL k (pc + 2) ls st σ)
  | .fload_n i => len = 1 ∧ lF (lget ls i.val) (klF k (pc + 1) ls st σ)
  | .fload i => len = 2 ∧ lF (lget ls i) (klF k (pc + 2) ls st σ)
  | .dload_n i => len = 1 ∧ lD (lget ls i.val) (klD k (pc + 1) ls st σ)
  | .dload i => len = 2 ∧ lD (lget ls i) (klD k (pc + 2) ls st σ)
  | .aload_n i => len = 1 ∧ opS (lget ls i.val) (kla k (pc + 1) ls st σ)
  | .aload i => len = 2 ∧ opS (lget ls i) (kla k (pc + 2) ls st σ)
  | .istore_n i => len = 1 ∧ pI st fun a r => i.val < iL I ∧ k (pc + 1) (lset1 ls i.val (.int a)) r σ
  | .astore_n i => len = 1 ∧ pV st fun a r => (isr a = true ∧ i.val < iL I) ∧ k (pc + 1) (lset1 ls i.val a) r σ
  | .lstore_n i => len = 1 ∧ pL st fun a r => (i.val + 1 < iL I ∧ i.val + 1 < ls.length) ∧ k (pc + 1) (lset2 ls i.val (.long a)) r σ
  | .dstore_n i => len = 1 ∧ pD st fun a r => (i.val + 1 < iL I ∧ i.val + 1 < ls.length) ∧ k (pc + 1) (lset2 ls i.val (.double a)) r σ
  | .fstore_n i => len = 1 ∧ pF st fun a r => i.val < iL I ∧ k (pc + 1) (lset1 ls i.val (.float a)) r σ
  | .istore i => len = 2 ∧ pI st fun a r => i < iL I ∧ k (pc + 2) (lset1 ls i (.int a)) r σ
  | .astore i => len = 2 ∧ pV st fun a r => (isr a = true ∧ i < iL I) ∧ k (pc + 2) (lset1 ls i a) r σ
  | .lstore i => len = 2 ∧ pL st fun a r => (i + 1 < iL I ∧ i + 1 < ls.length) ∧ k (pc + 2) (lset2 ls i (.long a)) r σ
  | .dstore i => len = 2 ∧ pD st fun a r => (i + 1 < iL I ∧ i + 1 < ls.length) ∧ k (pc + 2) (lset2 ls i (.double a)) r σ
  | .fstore i => len = 2 ∧ pF st fun a r => i < iL I ∧ k (pc + 2) (lset1 ls i (.float a)) r σ
  | .iinc i n => len = 3 ∧ lI (lget ls i) (kinc I k (pc + 3) ls i n st σ)
  | .dup => len = 1 ∧ pV st fun a r => c2 a = false ∧ k (pc + 1) ls (a :: a :: r) σ
  | .pop => len = 1 ∧ pV st fun a r => c2 a = false ∧ k (pc + 1) ls r σ
  | .dup_x1 => len = 1 ∧ pVV st fun a b r => (c2 b = false ∧ c2 a = false) ∧ k (pc + 1) ls (b :: a :: b :: r) σ
  | .dup_x2 => len = 1 ∧ pVVV st fun z a b r => (c2 b = false ∧ c2 a = false ∧ c2 z = false) ∧ k (pc + 1) ls (b :: a :: z :: b :: r) σ
  | .dup2 => len = 1 ∧ pVV st fun a b r => (c2 b = false ∧ c2 a = false) ∧ k (pc + 1) ls (b :: a :: b :: a :: r) σ
  | .if_icmp .eq off => len = 3 ∧ pII st fun a b r => tgo pc off (kbr (a = b) k (pc + 3) ls r σ)
  | .ifCond .eq off => len = 3 ∧ pI st fun a r => tgo pc off (kbr (a = 0) k (pc + 3) ls r σ)
  | .if_icmp .ne off => len = 3 ∧ pII st fun a b r => tgo pc off (kbn (a = b) k (pc + 3) ls r σ)
  | .ifCond .ne off => len = 3 ∧ pI st fun a r => tgo pc off (kbn (a = 0) k (pc + 3) ls r σ)
  | .if_icmp .lt off => len = 3 ∧ pII st fun a b r => tgo pc off (kbr (a < b) k (pc + 3) ls r σ)
  | .ifCond .lt off => len = 3 ∧ pI st fun a r => tgo pc off (kbr (a < 0) k (pc + 3) ls r σ)
  | .if_icmp .ge off => len = 3 ∧ pII st fun a b r => tgo pc off (kbr (b ≤ a) k (pc + 3) ls r σ)
  | .ifCond .ge off => len = 3 ∧ pI st fun a r => tgo pc off (kbr (0 ≤ a) k (pc + 3) ls r σ)
  | .if_icmp .gt off => len = 3 ∧ pII st fun a b r => tgo pc off (kbr (b < a) k (pc + 3) ls r σ)
  | .ifCond .gt off => len = 3 ∧ pI st fun a r => tgo pc off (kbr (0 < a) k (pc + 3) ls r σ)
  | .if_icmp .le off => len = 3 ∧ pII st fun a b r => tgo pc off (kbr (a ≤ b) k (pc + 3) ls r σ)
  | .ifCond .le off => len = 3 ∧ pI st fun a r => tgo pc off (kbr (a ≤ 0) k (pc + 3) ls r σ)
  | .if_acmp .eq off => len = 3 ∧ pVV st fun a b r => (isr a = true ∧ isr b = true) ∧ tgo pc off (kbr (rq a = rq b) k (pc + 3) ls r σ)
  | .if_acmp .ne off => len = 3 ∧ pVV st fun a b r => (isr a = true ∧ isr b = true) ∧ tgo pc off (kbn (rq a = rq b) k (pc + 3) ls r σ)
  | .goto off => len = 3 ∧ tgo pc off (ktg k ls st σ)
  | .ifnull off => len = 3 ∧ pV st fun a r => isr a = true ∧ (rq a = none → tgo pc off (ktg k ls r σ)) ∧ (∀ b, rq a = some b → k (pc + 3) ls r σ)
  | .ifnonnull off => len = 3 ∧ pV st fun a r => isr a = true ∧ (∀ b, rq a = some b → tgo pc off (ktg k ls r σ)) ∧ (rq a = none → k (pc + 3) ls r σ)
  | .getfield idx => len = 3 ∧ pR st fun a r => obS (σ.1 a) (kgf I idx k (pc + 3) ls r σ)
  | .putfield idx => len = 3 ∧ pVR st fun a x r => obS (σ.1 a) (kpf g I idx k (pc + 3) ls r σ a x)
  | .iaload => len = 1 ∧ pIR st fun a b r => arI (σ.1 a) (kal 0 k (pc + 1) ls r σ b)
  | .baload => len = 1 ∧ pIR st fun a b r => arI (σ.1 a) (kal 1 k (pc + 1) ls r σ b)
  | .laload => len = 1 ∧ pIR st fun a b r => arL (σ.1 a) (kall 2 k (pc + 1) ls r σ b)
  | .aaload => len = 1 ∧ pIR st fun a b r => arQ (σ.1 a) (kalq k (pc + 1) ls r σ b)
  | .iastore => len = 1 ∧ pIIR st fun a b x r => arI (σ.1 a) (kas_iastore g k (pc + 1) ls r σ a b x)
  | .bastore => len = 1 ∧ pIIR st fun a b x r => arI (σ.1 a) (kas_bastore g k (pc + 1) ls r σ a b x)
  | .lastore => len = 1 ∧ pLIR st fun a b x r => arL (σ.1 a) (kas_lastore g k (pc + 1) ls r σ a b x)
  | .aastore => len = 1 ∧ pVIR st fun a b x r => arQ (σ.1 a) (kas_aastore g k (pc + 1) ls r σ a b x)
  | .arraylength => len = 1 ∧ pR st fun a r => arA (σ.1 a) (kale k (pc + 1) ls r σ)
  | .new idx => len = 3 ∧ opS (nw (iO I) idx) (knw g k (pc + 3) ls st σ)
  | .newarray .int => len = 2 ∧ pI st fun a r => ((¬ a < 0 ∧ a.toNatClampNeg * 8 ≤ 536870912) ∧ σ.2.1 + 1 ≤ gN g ∧ σ.2.2 + a.toNatClampNeg ≤ gW g) ∧ k (pc + 2) ls (.ref σ.2.1 :: r) (xu σ.1 σ.2.1 (ai 0 a.toNatClampNeg (fun _ => 0)), σ.2.1 + 1, σ.2.2 + a.toNatClampNeg)
  | .newarray .byte => len = 2 ∧ pI st fun a r => ((¬ a < 0 ∧ a.toNatClampNeg * 8 ≤ 536870912) ∧ σ.2.1 + 1 ≤ gN g ∧ σ.2.2 + a.toNatClampNeg ≤ gW g) ∧ k (pc + 2) ls (.ref σ.2.1 :: r) (xu σ.1 σ.2.1 (ai 1 a.toNatClampNeg (fun _ => 0)), σ.2.1 + 1, σ.2.2 + a.toNatClampNeg)
  | .newarray .long => len = 2 ∧ pI st fun a r => ((¬ a < 0 ∧ a.toNatClampNeg * 8 ≤ 536870912) ∧ σ.2.1 + 1 ≤ gN g ∧ σ.2.2 + a.toNatClampNeg ≤ gW g) ∧ k (pc + 2) ls (.ref σ.2.1 :: r) (xu σ.1 σ.2.1 (al 2 a.toNatClampNeg (fun _ => 0)), σ.2.1 + 1, σ.2.2 + a.toNatClampNeg)
  | .anewarray idx => len = 3 ∧ pI st fun a r => opS (an (iO I) idx) (kan g k (pc + 3) ls r σ a)
  | .checkcast idx => len = 3 ∧ pV st fun a r => cst (iO I) idx σ a ∧ k (pc + 3) ls (a :: r) σ
  | .instanceof idx => len = 3 ∧ pV st fun a r => iof (iO I) idx σ a (klI k (pc + 3) ls r σ)
  | .getstatic idx => len = 3 ∧ opS (gs (iO I) idx) (kgs g k (pc + 3) ls st σ)
  | .ldc idx => len = 2 ∧ ldv g (iO I) idx (kvv k (pc + 2) ls st σ)
  | .ldc_w idx => len = 3 ∧ opS (lt (iO I) idx) (ktx g k (pc + 3) ls st σ)
  | .ldc2_w idx => len = 3 ∧ opS (ll (iO I) idx) (klL k (pc + 3) ls st σ)
  | .ireturn => len = 1 ∧ e1 st fun v => lI (some v) fun x => rfit (iR I) v = true ∧ K (.inl (some v)) σ
  | .areturn => len = 1 ∧ e1 st fun v => (isr v = true ∧ rfit (iR I) v = true) ∧ K (.inl (some v)) σ
  | .lreturn => len = 1 ∧ e1 st fun v => lL (some v) fun x => iR I = some .long ∧ K (.inl (some v)) σ
  | .dreturn => len = 1 ∧ e1 st fun v => lD (some v) fun x => iR I = some .double ∧ K (.inl (some v)) σ
  | .return_ => len = 1 ∧ (st = [] ∧ iR I = none) ∧ K (.inl none) σ
  | .athrow => len = 1 ∧ pR st fun a r => obS (σ.1 a) fun _ _ => xthr g I K d pc ls σ a
  | .invokestatic idx => len = 3 ∧ opS (ms (iO I) idx) (kms g I K d k pc ls st σ)
  | .invokespecial idx => len = 3 ∧ opS (mp (iO I) idx) (kmp g I K d k pc ls st σ)
  | .invokevirtual idx => len = 3 ∧ vcv g I σ (mv (iO I) idx) idx st (kms2 g I K d 3 k pc ls st σ)
  | .invokeinterface idx cnt => len = 5 ∧ vcv g I σ (mf (iO I) idx) idx st (kms2 g I K d 5 k pc ls st σ)
  | .tableswitch dflt lo hi offs => pI st fun a r => ((offs.toList.length : Int) = hi - lo + 1 ∧ -2147483648 ≤ lo ∧ hi ≤ 2147483647) ∧ ((a.toInt < lo ∨ hi < a.toInt) → tgo pc dflt (ktg k ls r σ)) ∧ tsw pc a (ktg k ls r σ) offs.toList lo
  | .lookupswitch dflt ps => pI st fun a r => (ps.toList.zip (ps.toList.drop 1)).all (fun (a, next) => a.1 < next.1) = true ∧ lsw pc a (ktg k ls r σ) ps.toList dflt
  | _ => VW g I K d pc ls st σ
theorem so_iadd {g : xG} {I : xI} {K : xR → xH → Prop} {d pc : Nat} {ls : List (Option Value)} {st : List Value} {σ : xH} {k : xK} (hk : ∀ pc ls st σ, k pc ls st σ → VW g I K d pc ls st σ) (hd : xd I pc = some (.iadd, 1)) (h : pII st fun a b r => k (pc + 1) ls (.int (a + b) :: r) σ) : VW g I K d pc ls st σ := by
  obtain ⟨a, b, r, rfl, h⟩ := pII_i h
  intro hg p e s m args below meth c hX H locs arr cells slots hS hL hA
  exact lv_iadd hX.1 hX.2.1 (xd_to hd) (hk _ _ _ _ h hg p e s m args below meth c hX H locs arr cells slots hS hL hA)
theorem so_isub {g : xG} {I : xI} {K : xR → xH → Prop} {d pc : Nat} {ls : List (Option Value)} {st : List Value} {σ : xH} {k : xK} (hk : ∀ pc ls st σ, k pc ls st σ → VW g I K d pc ls st σ) (hd : xd I pc = some (.isub, 1)) (h : pII st fun a b r => k (pc + 1) ls (.int (a - b) :: r) σ) : VW g I K d pc ls st σ := by
  obtain ⟨a, b, r, rfl, h⟩ := pII_i h
  intro hg p e s m args below meth c hX H locs arr cells slots hS hL hA
  exact lv_isub hX.1 hX.2.1 (xd_to hd) (hk _ _ _ _ h hg p e s m args below meth c hX H locs arr cells slots hS hL hA)
theorem so_imul {g : xG} {I : xI} {K : xR → xH → Prop} {d pc : Nat} {ls : List (Option Value)} {st : List Value} {σ : xH} {k : xK} (hk : ∀ pc ls st σ, k pc ls st σ → VW g I K d pc ls st σ) (hd : xd I pc = some (.imul, 1)) (h : pII st fun a b r => k (pc + 1) ls (.int (a * b) :: r) σ) : VW g I K d pc ls st σ := by
  obtain ⟨a, b, r, rfl, h⟩ := pII_i h
  intro hg p e s m args below meth c hX H locs arr cells slots hS hL hA
  exact lv_imul hX.1 hX.2.1 (xd_to hd) (hk _ _ _ _ h hg p e s m args below meth c hX H locs arr cells slots hS hL hA)
theorem so_iand {g : xG} {I : xI} {K : xR → xH → Prop} {d pc : Nat} {ls : List (Option Value)} {st : List Value} {σ : xH} {k : xK} (hk : ∀ pc ls st σ, k pc ls st σ → VW g I K d pc ls st σ) (hd : xd I pc = some (.iand, 1)) (h : pII st fun a b r => k (pc + 1) ls (.int (a &&& b) :: r) σ) : VW g I K d pc ls st σ := by
  obtain ⟨a, b, r, rfl, h⟩ := pII_i h
  intro hg p e s m args below meth c hX H locs arr cells slots hS hL hA
  exact lv_iand hX.1 hX.2.1 (xd_to hd) (hk _ _ _ _ h hg p e s m args below meth c hX H locs arr cells slots hS hL hA)
theorem so_ior {g : xG} {I : xI} {K : xR → xH → Prop} {d pc : Nat} {ls : List (Option Value)} {st : List Value} {σ : xH} {k : xK} (hk : ∀ pc ls st σ, k pc ls st σ → VW g I K d pc ls st σ) (hd : xd I pc = some (.ior, 1)) (h : pII st fun a b r => k (pc + 1) ls (.int (a ||| b) :: r) σ) : VW g I K d pc ls st σ := by
  obtain ⟨a, b, r, rfl, h⟩ := pII_i h
  intro hg p e s m args below meth c hX H locs arr cells slots hS hL hA
  exact lv_ior hX.1 hX.2.1 (xd_to hd) (hk _ _ _ _ h hg p e s m args below meth c hX H locs arr cells slots hS hL hA)
theorem so_ixor {g : xG} {I : xI} {K : xR → xH → Prop} {d pc : Nat} {ls : List (Option Value)} {st : List Value} {σ : xH} {k : xK} (hk : ∀ pc ls st σ, k pc ls st σ → VW g I K d pc ls st σ) (hd : xd I pc = some (.ixor, 1)) (h : pII st fun a b r => k (pc + 1) ls (.int (a ^^^ b) :: r) σ) : VW g I K d pc ls st σ := by
  obtain ⟨a, b, r, rfl, h⟩ := pII_i h
  intro hg p e s m args below meth c hX H locs arr cells slots hS hL hA
  exact lv_ixor hX.1 hX.2.1 (xd_to hd) (hk _ _ _ _ h hg p e s m args below meth c hX H locs arr cells slots hS hL hA)
theorem so_ishl {g : xG} {I : xI} {K : xR → xH → Prop} {d pc : Nat} {ls : List (Option Value)} {st : List Value} {σ : xH} {k : xK} (hk : ∀ pc ls st σ, k pc ls st σ → VW g I K d pc ls st σ) (hd : xd I pc = some (.ishl, 1)) (h : pII st fun a b r => k (pc + 1) ls (.int (a <<< (b &&& 31)) :: r) σ) : VW g I K d pc ls st σ := by
  obtain ⟨a, b, r, rfl, h⟩ := pII_i h
  intro hg p e s m args below meth c hX H locs arr cells slots hS hL hA
  exact lv_ishl hX.1 hX.2.1 (xd_to hd) (hk _ _ _ _ h hg p e s m args below meth c hX H locs arr cells slots hS hL hA)
theorem so_ishr {g : xG} {I : xI} {K : xR → xH → Prop} {d pc : Nat} {ls : List (Option Value)} {st : List Value} {σ : xH} {k : xK} (hk : ∀ pc ls st σ, k pc ls st σ → VW g I K d pc ls st σ) (hd : xd I pc = some (.ishr, 1)) (h : pII st fun a b r => k (pc + 1) ls (.int (a >>> (b &&& 31)) :: r) σ) : VW g I K d pc ls st σ := by
  obtain ⟨a, b, r, rfl, h⟩ := pII_i h
  intro hg p e s m args below meth c hX H locs arr cells slots hS hL hA
  exact lv_ishr hX.1 hX.2.1 (xd_to hd) (hk _ _ _ _ h hg p e s m args below meth c hX H locs arr cells slots hS hL hA)
theorem so_iushr {g : xG} {I : xI} {K : xR → xH → Prop} {d pc : Nat} {ls : List (Option Value)} {st : List Value} {σ : xH} {k : xK} (hk : ∀ pc ls st σ, k pc ls st σ → VW g I K d pc ls st σ) (hd : xd I pc = some (.iushr, 1)) (h : pII st fun a b r => k (pc + 1) ls (.int ((a.toUInt32 >>> (b.toUInt32 &&& Int32.toUInt32 31)).toInt32) :: r) σ) : VW g I K d pc ls st σ := by
  obtain ⟨a, b, r, rfl, h⟩ := pII_i h
  intro hg p e s m args below meth c hX H locs arr cells slots hS hL hA
  exact lv_iushr hX.1 hX.2.1 (xd_to hd) rfl (hk _ _ _ _ h hg p e s m args below meth c hX H locs arr cells slots hS hL hA)
theorem so_idiv {g : xG} {I : xI} {K : xR → xH → Prop} {d pc : Nat} {ls : List (Option Value)} {st : List Value} {σ : xH} {k : xK} (hk : ∀ pc ls st σ, k pc ls st σ → VW g I K d pc ls st σ) (hd : xd I pc = some (.idiv, 1)) (h : pII st fun a b r => (¬ b = 0) ∧ k (pc + 1) ls (.int (a / b) :: r) σ) : VW g I K d pc ls st σ := by
  obtain ⟨a, b, r, rfl, h⟩ := pII_i h
  obtain ⟨hc, h⟩ := h
  intro hg p e s m args below meth c hX H locs arr cells slots hS hL hA
  exact lv_idiv hX.1 hX.2.1 (xd_to hd) hc (hk _ _ _ _ h hg p e s m args below meth c hX H locs arr cells slots hS hL hA)
theorem so_irem {g : xG} {I : xI} {K : xR → xH → Prop} {d pc : Nat} {ls : List (Option Value)} {st : List Value} {σ : xH} {k : xK} (hk : ∀ pc ls st σ, k pc ls st σ → VW g I K d pc ls st σ) (hd : xd I pc = some (.irem, 1)) (h : pII st fun a b r => (¬ b = 0) ∧ k (pc + 1) ls (.int (a - a / b * b) :: r) σ) : VW g I K d pc ls st σ := by
  obtain ⟨a, b, r, rfl, h⟩ := pII_i h
  obtain ⟨hc, h⟩ := h
  intro hg p e s m args below meth c hX H locs arr cells slots hS hL hA
  exact lv_irem hX.1 hX.2.1 (xd_to hd) hc (hk _ _ _ _ h hg p e s m args below meth c hX H locs arr cells slots hS hL hA)
theorem so_ineg {g : xG} {I : xI} {K : xR → xH → Prop} {d pc : Nat} {ls : List (Option Value)} {st : List Value} {σ : xH} {k : xK} (hk : ∀ pc ls st σ, k pc ls st σ → VW g I K d pc ls st σ) (hd : xd I pc = some (.ineg, 1)) (h : pI st fun a r => k (pc + 1) ls (.int (-a) :: r) σ) : VW g I K d pc ls st σ := by
  obtain ⟨a, r, rfl, h⟩ := pI_i h
  intro hg p e s m args below meth c hX H locs arr cells slots hS hL hA
  exact lv_ineg hX.1 hX.2.1 (xd_to hd) (hk _ _ _ _ h hg p e s m args below meth c hX H locs arr cells slots hS hL hA)
theorem so_ladd {g : xG} {I : xI} {K : xR → xH → Prop} {d pc : Nat} {ls : List (Option Value)} {st : List Value} {σ : xH} {k : xK} (hk : ∀ pc ls st σ, k pc ls st σ → VW g I K d pc ls st σ) (hd : xd I pc = some (.ladd, 1)) (h : pLL st fun a b r => k (pc + 1) ls (.long (a + b) :: r) σ) : VW g I K d pc ls st σ := by
  obtain ⟨a, b, r, rfl, h⟩ := pLL_i h
  intro hg p e s m args below meth c hX H locs arr cells slots hS hL hA
  exact lv_ladd hX.1 hX.2.1 (xd_to hd) (hk _ _ _ _ h hg p e s m args below meth c hX H locs arr cells slots hS hL hA)
theorem so_lsub {g : xG} {I : xI} {K : xR → xH → Prop} {d pc : Nat} {ls : List (Option Value)} {st : List Value} {σ : xH} {k : xK} (hk : ∀ pc ls st σ, k pc ls st σ → VW g I K d pc ls st σ) (hd : xd I pc = some (.lsub, 1)) (h : pLL st fun a b r => k (pc + 1) ls (.long (a - b) :: r) σ) : VW g I K d pc ls st σ := by
  obtain ⟨a, b, r, rfl, h⟩ := pLL_i h
  intro hg p e s m args below meth c hX H locs arr cells slots hS hL hA
  exact lv_lsub hX.1 hX.2.1 (xd_to hd) (hk _ _ _ _ h hg p e s m args below meth c hX H locs arr cells slots hS hL hA)
theorem so_lmul {g : xG} {I : xI} {K : xR → xH → Prop} {d pc : Nat} {ls : List (Option Value)} {st : List Value} {σ : xH} {k : xK} (hk : ∀ pc ls st σ, k pc ls st σ → VW g I K d pc ls st σ) (hd : xd I pc = some (.lmul, 1)) (h : pLL st fun a b r => k (pc + 1) ls (.long (a * b) :: r) σ) : VW g I K d pc ls st σ := by
  obtain ⟨a, b, r, rfl, h⟩ := pLL_i h
  intro hg p e s m args below meth c hX H locs arr cells slots hS hL hA
  exact lv_lmul hX.1 hX.2.1 (xd_to hd) (hk _ _ _ _ h hg p e s m args below meth c hX H locs arr cells slots hS hL hA)
theorem so_land {g : xG} {I : xI} {K : xR → xH → Prop} {d pc : Nat} {ls : List (Option Value)} {st : List Value} {σ : xH} {k : xK} (hk : ∀ pc ls st σ, k pc ls st σ → VW g I K d pc ls st σ) (hd : xd I pc = some (.land, 1)) (h : pLL st fun a b r => k (pc + 1) ls (.long (a &&& b) :: r) σ) : VW g I K d pc ls st σ := by
  obtain ⟨a, b, r, rfl, h⟩ := pLL_i h
  intro hg p e s m args below meth c hX H locs arr cells slots hS hL hA
  exact lv_land hX.1 hX.2.1 (xd_to hd) (hk _ _ _ _ h hg p e s m args below meth c hX H locs arr cells slots hS hL hA)
theorem so_lor {g : xG} {I : xI} {K : xR → xH → Prop} {d pc : Nat} {ls : List (Option Value)} {st : List Value} {σ : xH} {k : xK} (hk : ∀ pc ls st σ, k pc ls st σ → VW g I K d pc ls st σ) (hd : xd I pc = some (.lor, 1)) (h : pLL st fun a b r => k (pc + 1) ls (.long (a ||| b) :: r) σ) : VW g I K d pc ls st σ := by
  obtain ⟨a, b, r, rfl, h⟩ := pLL_i h
  intro hg p e s m args below meth c hX H locs arr cells slots hS hL hA
  exact lv_lor hX.1 hX.2.1 (xd_to hd) (hk _ _ _ _ h hg p e s m args below meth c hX H locs arr cells slots hS hL hA)
theorem so_lxor {g : xG} {I : xI} {K : xR → xH → Prop} {d pc : Nat} {ls : List (Option Value)} {st : List Value} {σ : xH} {k : xK} (hk : ∀ pc ls st σ, k pc ls st σ → VW g I K d pc ls st σ) (hd : xd I pc = some (.lxor, 1)) (h : pLL st fun a b r => k (pc + 1) ls (.long (a ^^^ b) :: r) σ) : VW g I K d pc ls st σ := by
  obtain ⟨a, b, r, rfl, h⟩ := pLL_i h
  intro hg p e s m args below meth c hX H locs arr cells slots hS hL hA
  exact lv_lxor hX.1 hX.2.1 (xd_to hd) (hk _ _ _ _ h hg p e s m args below meth c hX H locs arr cells slots hS hL hA)
theorem so_lshl {g : xG} {I : xI} {K : xR → xH → Prop} {d pc : Nat} {ls : List (Option Value)} {st : List Value} {σ : xH} {k : xK} (hk : ∀ pc ls st σ, k pc ls st σ → VW g I K d pc ls st σ) (hd : xd I pc = some (.lshl, 1)) (h : pLI st fun a b r => k (pc + 1) ls (.long (a <<< (b.toInt64 &&& 63)) :: r) σ) : VW g I K d pc ls st σ := by
  obtain ⟨a, b, r, rfl, h⟩ := pLI_i h
  intro hg p e s m args below meth c hX H locs arr cells slots hS hL hA
  exact lv_lshl hX.1 hX.2.1 (xd_to hd) rfl (hk _ _ _ _ h hg p e s m args below meth c hX H locs arr cells slots hS hL hA)
theorem so_lushr {g : xG} {I : xI} {K : xR → xH → Prop} {d pc : Nat} {ls : List (Option Value)} {st : List Value} {σ : xH} {k : xK} (hk : ∀ pc ls st σ, k pc ls st σ → VW g I K d pc ls st σ) (hd : xd I pc = some (.lushr, 1)) (h : pLI st fun a b r => k (pc + 1) ls (.long ((a.toUInt64 >>> (b.toInt64.toUInt64 &&& Int64.toUInt64 63)).toInt64) :: r) σ) : VW g I K d pc ls st σ := by
  obtain ⟨a, b, r, rfl, h⟩ := pLI_i h
  intro hg p e s m args below meth c hX H locs arr cells slots hS hL hA
  exact lv_lushr hX.1 hX.2.1 (xd_to hd) rfl (hk _ _ _ _ h hg p e s m args below meth c hX H locs arr cells slots hS hL hA)
theorem so_lcmp {g : xG} {I : xI} {K : xR → xH → Prop} {d pc : Nat} {ls : List (Option Value)} {st : List Value} {σ : xH} {k : xK} (hk : ∀ pc ls st σ, k pc ls st σ → VW g I K d pc ls st σ) (hd : xd I pc = some (.lcmp, 1)) (h : pLL st fun a b r => k (pc + 1) ls (.int (lg_cmp a b) :: r) σ) : VW g I K d pc ls st σ := by
  obtain ⟨a, b, r, rfl, h⟩ := pLL_i h
  intro hg p e s m args below meth c hX H locs arr cells slots hS hL hA
  exact W.lcmp hX.1 hX.2.1 (xd_to hd) (hk _ _ _ _ h hg p e s m args below meth c hX H locs arr cells slots hS hL hA)
theorem so_i2l {g : xG} {I : xI} {K : xR → xH → Prop} {d pc : Nat} {ls : List (Option Value)} {st : List Value} {σ : xH} {k : xK} (hk : ∀ pc ls st σ, k pc ls st σ → VW g I K d pc ls st σ) (hd : xd I pc = some (.i2l, 1)) (h : pI st fun a r => k (pc + 1) ls (.long a.toInt64 :: r) σ) : VW g I K d pc ls st σ := by
  obtain ⟨a, r, rfl, h⟩ := pI_i h
  intro hg p e s m args below meth c hX H locs arr cells slots hS hL hA
  exact lv_i2l hX.1 hX.2.1 (xd_to hd) rfl (hk _ _ _ _ h hg p e s m args below meth c hX H locs arr cells slots hS hL hA)
theorem so_l2i {g : xG} {I : xI} {K : xR → xH → Prop} {d pc : Nat} {ls : List (Option Value)} {st : List Value} {σ : xH} {k : xK} (hk : ∀ pc ls st σ, k pc ls st σ → VW g I K d pc ls st σ) (hd : xd I pc = some (.l2i, 1)) (h : pL st fun a r => k (pc + 1) ls (.int a.toInt32 :: r) σ) : VW g I K d pc ls st σ := by
  obtain ⟨a, r, rfl, h⟩ := pL_i h
  intro hg p e s m args below meth c hX H locs arr cells slots hS hL hA
  exact lv_l2i hX.1 hX.2.1 (xd_to hd) rfl (hk _ _ _ _ h hg p e s m args below meth c hX H locs arr cells slots hS hL hA)
theorem so_i2b {g : xG} {I : xI} {K : xR → xH → Prop} {d pc : Nat} {ls : List (Option Value)} {st : List Value} {σ : xH} {k : xK} (hk : ∀ pc ls st σ, k pc ls st σ → VW g I K d pc ls st σ) (hd : xd I pc = some (.i2b, 1)) (h : pI st fun a r => k (pc + 1) ls (.int a.toInt8.toInt32 :: r) σ) : VW g I K d pc ls st σ := by
  obtain ⟨a, r, rfl, h⟩ := pI_i h
  intro hg p e s m args below meth c hX H locs arr cells slots hS hL hA
  exact lv_i2b hX.1 hX.2.1 (xd_to hd) rfl (hk _ _ _ _ h hg p e s m args below meth c hX H locs arr cells slots hS hL hA)
theorem so_i2c {g : xG} {I : xI} {K : xR → xH → Prop} {d pc : Nat} {ls : List (Option Value)} {st : List Value} {σ : xH} {k : xK} (hk : ∀ pc ls st σ, k pc ls st σ → VW g I K d pc ls st σ) (hd : xd I pc = some (.i2c, 1)) (h : pI st fun a r => k (pc + 1) ls (.int (a.toUInt32 % 65536).toInt32 :: r) σ) : VW g I K d pc ls st σ := by
  obtain ⟨a, r, rfl, h⟩ := pI_i h
  intro hg p e s m args below meth c hX H locs arr cells slots hS hL hA
  exact lv_i2c hX.1 hX.2.1 (xd_to hd) rfl (hk _ _ _ _ h hg p e s m args below meth c hX H locs arr cells slots hS hL hA)
theorem so_i2d {g : xG} {I : xI} {K : xR → xH → Prop} {d pc : Nat} {ls : List (Option Value)} {st : List Value} {σ : xH} {k : xK} (hk : ∀ pc ls st σ, k pc ls st σ → VW g I K d pc ls st σ) (hd : xd I pc = some (.i2d, 1)) (h : pI st fun a r => k (pc + 1) ls (.double (FP.i2d a) :: r) σ) : VW g I K d pc ls st σ := by
  obtain ⟨a, r, rfl, h⟩ := pI_i h
  intro hg p e s m args below meth c hX H locs arr cells slots hS hL hA
  exact lv_i2d hX.1 hX.2.1 (xd_to hd) (hk _ _ _ _ h hg p e s m args below meth c hX H locs arr cells slots hS hL hA)
theorem so_i2f {g : xG} {I : xI} {K : xR → xH → Prop} {d pc : Nat} {ls : List (Option Value)} {st : List Value} {σ : xH} {k : xK} (hk : ∀ pc ls st σ, k pc ls st σ → VW g I K d pc ls st σ) (hd : xd I pc = some (.i2f, 1)) (h : pI st fun a r => k (pc + 1) ls (.float (FP.i2f a) :: r) σ) : VW g I K d pc ls st σ := by
  obtain ⟨a, r, rfl, h⟩ := pI_i h
  intro hg p e s m args below meth c hX H locs arr cells slots hS hL hA
  exact lv_i2f hX.1 hX.2.1 (xd_to hd) (hk _ _ _ _ h hg p e s m args below meth c hX H locs arr cells slots hS hL hA)
theorem so_f2i {g : xG} {I : xI} {K : xR → xH → Prop} {d pc : Nat} {ls : List (Option Value)} {st : List Value} {σ : xH} {k : xK} (hk : ∀ pc ls st σ, k pc ls st σ → VW g I K d pc ls st σ) (hd : xd I pc = some (.f2i, 1)) (h : pF st fun a r => k (pc + 1) ls (.int (FP.f2i a) :: r) σ) : VW g I K d pc ls st σ := by
  obtain ⟨a, r, rfl, h⟩ := pF_i h
  intro hg p e s m args below meth c hX H locs arr cells slots hS hL hA
  exact lv_f2i hX.1 hX.2.1 (xd_to hd) (hk _ _ _ _ h hg p e s m args below meth c hX H locs arr cells slots hS hL hA)
theorem so_ddiv {g : xG} {I : xI} {K : xR → xH → Prop} {d pc : Nat} {ls : List (Option Value)} {st : List Value} {σ : xH} {k : xK} (hk : ∀ pc ls st σ, k pc ls st σ → VW g I K d pc ls st σ) (hd : xd I pc = some (.ddiv, 1)) (h : pDD st fun a b r => (vf_n64 (FP.ddiv a b)) ∧ k (pc + 1) ls (.double (FP.ddiv a b) :: r) σ) : VW g I K d pc ls st σ := by
  obtain ⟨a, b, r, rfl, h⟩ := pDD_i h
  obtain ⟨hc, h⟩ := h
  intro hg p e s m args below meth c hX H locs arr cells slots hS hL hA
  exact lv_ddiv hX.1 hX.2.1 (xd_to hd) hc (hk _ _ _ _ h hg p e s m args below meth c hX H locs arr cells slots hS hL hA)
theorem so_fmul {g : xG} {I : xI} {K : xR → xH → Prop} {d pc : Nat} {ls : List (Option Value)} {st : List Value} {σ : xH} {k : xK} (hk : ∀ pc ls st σ, k pc ls st σ → VW g I K d pc ls st σ) (hd : xd I pc = some (.fmul, 1)) (h : pFF st fun a b r => (vf_n32 (FP.fmul a b)) ∧ k (pc + 1) ls (.float (FP.fmul a b) :: r) σ) : VW g I K d pc ls st σ := by
  obtain ⟨a, b, r, rfl, h⟩ := pFF_i h
  obtain ⟨hc, h⟩ := h
  intro hg p e s m args below meth c hX H locs arr cells slots hS hL hA
  exact lv_fmul hX.1 hX.2.1 (xd_to hd) hc (hk _ _ _ _ h hg p e s m args below meth c hX H locs arr cells slots hS hL hA)
theorem so_dconst0 {g : xG} {I : xI} {K : xR → xH → Prop} {d pc : Nat} {ls : List (Option Value)} {st : List Value} {σ : xH} {k : xK} (hk : ∀ pc ls st σ, k pc ls st σ → VW g I K d pc ls st σ) (hd : xd I pc = some (.dconst 0, 1)) (h : k (pc + 1) ls (.double FP.dconst0 :: st) σ) : VW g I K d pc ls st σ := by
  intro hg p e s m args below meth c hX H locs arr cells slots hS hL hA
  exact lv_dconst0 hX.1 hX.2.1 (xd_to hd) (hk _ _ _ _ h hg p e s m args below meth c hX H locs arr cells slots hS hL hA)
theorem so_dcmp {g : xG} {I : xI} {K : xR → xH → Prop} {d pc : Nat} {ls : List (Option Value)} {st : List Value} {σ : xH} {k : xK} (hk : ∀ pc ls st σ, k pc ls st σ → VW g I K d pc ls st σ) {op : CmpOp} (hd : xd I pc = some (.dcmp op, 1)) (h : pDD st fun a b r => k (pc + 1) ls (.int (Op.cmpValue (FP.dcmp a b) op) :: r) σ) : VW g I K d pc ls st σ := by
  obtain ⟨a, b, r, rfl, h⟩ := pDD_i h
  intro hg p e s m args below meth c hX H locs arr cells slots hS hL hA
  exact lv_dcmp hX.1 hX.2.1 (xd_to hd) (hk _ _ _ _ h hg p e s m args below meth c hX H locs arr cells slots hS hL hA)
theorem so_fcmp {g : xG} {I : xI} {K : xR → xH → Prop} {d pc : Nat} {ls : List (Option Value)} {st : List Value} {σ : xH} {k : xK} (hk : ∀ pc ls st σ, k pc ls st σ → VW g I K d pc ls st σ) {op : CmpOp} (hd : xd I pc = some (.fcmp op, 1)) (h : pFF st fun a b r => k (pc + 1) ls (.int (Op.cmpValue (FP.fcmp a b) op) :: r) σ) : VW g I K d pc ls st σ := by
  obtain ⟨a, b, r, rfl, h⟩ := pFF_i h
  intro hg p e s m args below meth c hX H locs arr cells slots hS hL hA
  exact lv_fcmp hX.1 hX.2.1 (xd_to hd) (hk _ _ _ _ h hg p e s m args below meth c hX H locs arr cells slots hS hL hA)
theorem so_iconst {g : xG} {I : xI} {K : xR → xH → Prop} {d pc : Nat} {ls : List (Option Value)} {st : List Value} {σ : xH} {k : xK} (hk : ∀ pc ls st σ, k pc ls st σ → VW g I K d pc ls st σ) {n : Int} (hd : xd I pc = some (.iconst n, 1)) (h : k (pc + 1) ls (.int (Int32.ofInt n) :: st) σ) : VW g I K d pc ls st σ := by
  intro hg p e s m args below meth c hX H locs arr cells slots hS hL hA
  exact lv_iconst hX.1 hX.2.1 (xd_to hd) rfl (hk _ _ _ _ h hg p e s m args below meth c hX H locs arr cells slots hS hL hA)
theorem so_bipush {g : xG} {I : xI} {K : xR → xH → Prop} {d pc : Nat} {ls : List (Option Value)} {st : List Value} {σ : xH} {k : xK} (hk : ∀ pc ls st σ, k pc ls st σ → VW g I K d pc ls st σ) {n : Int} (hd : xd I pc = some (.bipush n, 2)) (h : k (pc + 2) ls (.int (Int8.ofInt n).toInt32 :: st) σ) : VW g I K d pc ls st σ := by
  intro hg p e s m args below meth c hX H locs arr cells slots hS hL hA
  exact lv_bipush hX.1 hX.2.1 (xd_to hd) rfl (hk _ _ _ _ h hg p e s m args below meth c hX H locs arr cells slots hS hL hA)
theorem so_sipush {g : xG} {I : xI} {K : xR → xH → Prop} {d pc : Nat} {ls : List (Option Value)} {st : List Value} {σ : xH} {k : xK} (hk : ∀ pc ls st σ, k pc ls st σ → VW g I K d pc ls st σ) {n : Int} (hd : xd I pc = some (.sipush n, 3)) (h : k (pc + 3) ls (.int (Int16.ofInt n).toInt32 :: st) σ) : VW g I K d pc ls st σ := by
  intro hg p e s m args below meth c hX H locs arr cells slots hS hL hA
  exact lv_sipush hX.1 hX.2.1 (xd_to hd) rfl (hk _ _ _ _ h hg p e s m args below meth c hX H locs arr cells slots hS hL hA)
theorem so_lconst {g : xG} {I : xI} {K : xR → xH → Prop} {d pc : Nat} {ls : List (Option Value)} {st : List Value} {σ : xH} {k : xK} (hk : ∀ pc ls st σ, k pc ls st σ → VW g I K d pc ls st σ) {n : Fin 2} (hd : xd I pc = some (.lconst n, 1)) (h : k (pc + 1) ls (.long (Int64.ofNat n.val) :: st) σ) : VW g I K d pc ls st σ := by
  intro hg p e s m args below meth c hX H locs arr cells slots hS hL hA
  exact lv_lconst hX.1 hX.2.1 (xd_to hd) rfl (hk _ _ _ _ h hg p e s m args below meth c hX H locs arr cells slots hS hL hA)
theorem so_null {g : xG} {I : xI} {K : xR → xH → Prop} {d pc : Nat} {ls : List (Option Value)} {st : List Value} {σ : xH} {k : xK} (hk : ∀ pc ls st σ, k pc ls st σ → VW g I K d pc ls st σ) (hd : xd I pc = some (.aconst_null, 1)) (h : k (pc + 1) ls (.null :: st) σ) : VW g I K d pc ls st σ := by
  intro hg p e s m args below meth c hX H locs arr cells slots hS hL hA
  exact lv_null hX.1 hX.2.1 (xd_to hd) (hk _ _ _ _ h hg p e s m args below meth c hX H locs arr cells slots hS hL hA)
theorem so_iload_n {g : xG} {I : xI} {K : xR → xH → Prop} {d pc : Nat} {ls : List (Option Value)} {st : List Value} {σ : xH} {k : xK} (hk : ∀ pc ls st σ, k pc ls st σ → VW g I K d pc ls st σ) {i : Fin 4} (hd : xd I pc = some (.iload_n i, 1)) (h : lI (lget ls i.val) (klI k (pc + 1) ls st σ)) : VW g I K d pc ls st σ := by
  obtain ⟨x, e1, h⟩ := lI_i h
  intro hg p e s m args below meth c hX H locs arr cells slots hS hL hA
  exact lv_iload_n hX.1 hX.2.1 (xd_to hd) rfl (lh_get hA e1) (hk _ _ _ _ h hg p e s m args below meth c hX H locs arr cells slots hS hL hA)
theorem so_iload {g : xG} {I : xI} {K : xR → xH → Prop} {d pc : Nat} {ls : List (Option Value)} {st : List Value} {σ : xH} {k : xK} (hk : ∀ pc ls st σ, k pc ls st σ → VW g I K d pc ls st σ) {i : Nat} (hd : xd I pc = some (.iload i, 2)) (h : lI (lget ls i) (klI k (pc + 2) ls st σ)) : VW g I K d pc ls st σ := by
  obtain ⟨x, e1, h⟩ := lI_i h
  intro hg p e s m args below meth c hX H locs arr cells slots hS hL hA
  exact lv_iload hX.1 hX.2.1 (xd_to hd) (lh_get hA e1) (hk _ _ _ _ h hg p e s m args below meth c hX H locs arr cells slots hS hL hA)
theorem so_lload_n {g : xG} {I : xI} {K : xR → xH → Prop} {d pc : Nat} {ls : List (Option Value)} {st : List Value} {σ : xH} {k : xK} (hk : ∀ pc ls st σ, k pc ls st σ → VW g I K d pc ls st σ) {i : Fin 4} (hd : xd I pc = some (.lload_n i, 1)) (h : lL (lget ls i.val) (klL k (pc + 1) ls st σ)) : VW g I K d pc ls st σ := by
  obtain ⟨x, e1, h⟩ := lL_i h
  intro hg p e s m args below meth c hX H locs arr cells slots hS hL hA
  exact lv_lload_n hX.1 hX.2.1 (xd_to hd) rfl (lh_get hA e1) (hk _ _ _ _ h hg p e s m args below meth c hX H locs arr cells slots hS hL hA)
theorem so_lload {g : xG} {I : xI} {K : xR → xH → Prop} {d pc : Nat} {ls : List (Option Value)} {st : List Value} {σ : xH} {k : xK} (hk : ∀ pc ls st σ, k pc ls st σ → VW g I K d pc ls st σ) {i : Nat} (hd : xd I pc = some (.lload i, 2)) (h : lL (lget ls i) (klL k (pc + 2) ls st σ)) : VW g I K d pc ls st σ := by
  obtain ⟨x, e1, h⟩ := lL_i h
  intro hg p e s m args below meth c hX H locs arr cells slots hS hL hA
  exact lv_lload hX.1 hX.2.1 (xd_to hd) (lh_get hA e1) (hk _ _ _ _ h hg p e s m args below meth c hX H locs arr cells slots hS hL hA)
theorem so_fload_n {g : xG} {I : xI} {K : xR → xH → Prop} {d pc : Nat} {ls : List (Option Value)} {st : List Value} {σ : xH} {k : xK} (hk : ∀ pc ls st σ, k pc ls st σ → VW g I K d pc ls st σ) {i : Fin 4} (hd : xd I pc = some (.fload_n i, 1)) (h : lF (lget ls i.val) (klF k (pc + 1) ls st σ)) : VW g I K d pc ls st σ := by
  obtain ⟨x, e1, h⟩ := lF_i h
  intro hg p e s m args below meth c hX H locs arr cells slots hS hL hA
  exact lv_fload_n hX.1 hX.2.1 (xd_to hd) rfl (lh_get hA e1) (hk _ _ _ _ h hg p e s m args below meth c hX H locs arr cells slots hS hL hA)
theorem so_fload {g : xG} {I : xI} {K : xR → xH → Prop} {d pc : Nat} {ls : List (Option Value)} {st : List Value} {σ : xH} {k : xK} (hk : ∀ pc ls st σ, k pc ls st σ → VW g I K d pc ls st σ) {i : Nat} (hd : xd I pc = some (.fload i, 2)) (h : lF (lget ls i) (klF k (pc + 2) ls st σ)) : VW g I K d pc ls st σ := by
  obtain ⟨x, e1, h⟩ := lF_i h
  intro hg p e s m args below meth c hX H locs arr cells slots hS hL hA
  exact lv_fload hX.1 hX.2.1 (xd_to hd) (lh_get hA e1) (hk _ _ _ _ h hg p e s m args below meth c hX H locs arr cells slots hS hL hA)
theorem so_dload_n {g : xG} {I : xI} {K : xR → xH → Prop} {d pc : Nat} {ls : List (Option Value)} {st : List Value} {σ : xH} {k : xK} (hk : ∀ pc ls st σ, k pc ls st σ → VW g I K d pc ls st σ) {i : Fin 4} (hd : xd I pc = some (.dload_n i, 1)) (h : lD (lget ls i.val) (klD k (pc + 1) ls st σ)) : VW g I K d pc ls st σ := by
  obtain ⟨x, e1, h⟩ := lD_i h
  intro hg p e s m args below meth c hX H locs arr cells slots hS hL hA
  exact lv_dload_n hX.1 hX.2.1 (xd_to hd) rfl (lh_get hA e1) (hk _ _ _ _ h hg p e s m args below meth c hX H locs arr cells slots hS hL hA)
theorem so_dload {g : xG} {I : xI} {K : xR → xH → Prop} {d pc : Nat} {ls : List (Option Value)} {st : List Value} {σ : xH} {k : xK} (hk : ∀ pc ls st σ, k pc ls st σ → VW g I K d pc ls st σ) {i : Nat} (hd : xd I pc = some (.dload i, 2)) (h : lD (lget ls i) (klD k (pc + 2) ls st σ)) : VW g I K d pc ls st σ := by
  obtain ⟨x, e1, h⟩ := lD_i h
  intro hg p e s m args below meth c hX H locs arr cells slots hS hL hA
  exact lv_dload hX.1 hX.2.1 (xd_to hd) (lh_get hA e1) (hk _ _ _ _ h hg p e s m args below meth c hX H locs arr cells slots hS hL hA)
theorem so_aload_n {g : xG} {I : xI} {K : xR → xH → Prop} {d pc : Nat} {ls : List (Option Value)} {st : List Value} {σ : xH} {k : xK} (hk : ∀ pc ls st σ, k pc ls st σ → VW g I K d pc ls st σ) {i : Fin 4} (hd : xd I pc = some (.aload_n i, 1)) (h : opS (lget ls i.val) (kla k (pc + 1) ls st σ)) : VW g I K d pc ls st σ := by
  obtain ⟨v, e1, hv, h⟩ := opS_i h
  intro hg p e s m args below meth c hX H locs arr cells slots hS hL hA
  have e2 := isr_i hv
  cases hq : rq v with
  | none =>
    rw [hq] at e2
    subst e2
    exact lv_aload_nN hX.1 hX.2.1 (xd_to hd) rfl (lh_get hA e1) (hk _ _ _ _ h hg p e s m args below meth c hX H locs arr cells slots hS hL hA)
  | some x =>
    rw [hq] at e2
    subst e2
    exact lv_aload_n hX.1 hX.2.1 (xd_to hd) rfl (lh_get hA e1) (hk _ _ _ _ h hg p e s m args below meth c hX H locs arr cells slots hS hL hA)
theorem so_aload {g : xG} {I : xI} {K : xR → xH → Prop} {d pc : Nat} {ls : List (Option Value)} {st : List Value} {σ : xH} {k : xK} (hk : ∀ pc ls st σ, k pc ls st σ → VW g I K d pc ls st σ) {i : Nat} (hd : xd I pc = some (.aload i, 2)) (h : opS (lget ls i) (kla k (pc + 2) ls st σ)) : VW g I K d pc ls st σ := by
  obtain ⟨v, e1, hv, h⟩ := opS_i h
  intro hg p e s m args below meth c hX H locs arr cells slots hS hL hA
  have e2 := isr_i hv
  cases hq : rq v with
  | none =>
    rw [hq] at e2
    subst e2
    exact lv_aloadN hX.1 hX.2.1 (xd_to hd) (lh_get hA e1) (hk _ _ _ _ h hg p e s m args below meth c hX H locs arr cells slots hS hL hA)
  | some x =>
    rw [hq] at e2
    subst e2
    exact lv_aload hX.1 hX.2.1 (xd_to hd) (lh_get hA e1) (hk _ _ _ _ h hg p e s m args below meth c hX H locs arr cells slots hS hL hA)
theorem so_istore_n {g : xG} {I : xI} {K : xR → xH → Prop} {d pc : Nat} {ls : List (Option Value)} {st : List Value} {σ : xH} {k : xK} (hk : ∀ pc ls st σ, k pc ls st σ → VW g I K d pc ls st σ) {i : Fin 4} (hd : xd I pc = some (.istore_n i, 1)) (h : pI st fun a r => i.val < iL I ∧ k (pc + 1) (lset1 ls i.val (.int a)) r σ) : VW g I K d pc ls st σ := by
  obtain ⟨a, r, rfl, hn, h⟩ := pI_i h
  intro hg p e s m args below meth c hX H locs arr cells slots hS hL hA
  exact lv_istore_n hX.1 hX.2.1 (xd_to hd) rfl hA hn rfl (fun arr' hA' => hk _ _ _ _ h hg p e s m args below meth c hX H locs arr' cells slots hS hL (lh_set1 hA'))
theorem so_astore_n {g : xG} {I : xI} {K : xR → xH → Prop} {d pc : Nat} {ls : List (Option Value)} {st : List Value} {σ : xH} {k : xK} (hk : ∀ pc ls st σ, k pc ls st σ → VW g I K d pc ls st σ) {i : Fin 4} (hd : xd I pc = some (.astore_n i, 1)) (h : pV st fun a r => (isr a = true ∧ i.val < iL I) ∧ k (pc + 1) (lset1 ls i.val a) r σ) : VW g I K d pc ls st σ := by
  obtain ⟨a, r, rfl, ⟨hv, hn⟩, h⟩ := pV_i h
  intro hg p e s m args below meth c hX H locs arr cells slots hS hL hA
  have e2 := isr_i hv
  cases hq : rq a with
  | none =>
    rw [hq] at e2
    subst e2
    exact lv_astore_nN hX.1 hX.2.1 (xd_to hd) rfl hA hn rfl (fun arr' hA' => hk _ _ _ _ h hg p e s m args below meth c hX H locs arr' cells slots hS hL (lh_set1 hA'))
  | some x =>
    rw [hq] at e2
    subst e2
    exact lv_astore_n hX.1 hX.2.1 (xd_to hd) rfl hA hn rfl (fun arr' hA' => hk _ _ _ _ h hg p e s m args below meth c hX H locs arr' cells slots hS hL (lh_set1 hA'))
theorem so_lstore_n {g : xG} {I : xI} {K : xR → xH → Prop} {d pc : Nat} {ls : List (Option Value)} {st : List Value} {σ : xH} {k : xK} (hk : ∀ pc ls st σ, k pc ls st σ → VW g I K d pc ls st σ) {i : Fin 4} (hd : xd I pc = some (.lstore_n i, 1)) (h : pL st fun a r => (i.val + 1 < iL I ∧ i.val + 1 < ls.length) ∧ k (pc + 1) (lset2 ls i.val (.long a)) r σ) : VW g I K d pc ls st σ := by
  obtain ⟨a, r, rfl, ⟨hn, hl⟩, h⟩ := pL_i h
  intro hg p e s m args below meth c hX H locs arr cells slots hS hL hA
  exact lv_lstore_n hX.1 hX.2.1 (xd_to hd) rfl hA hn rfl (fun arr' hA' => hk _ _ _ _ h hg p e s m args below meth c hX H locs arr' cells slots hS hL (lh_set2 hl hA'))
theorem so_dstore_n {g : xG} {I : xI} {K : xR → xH → Prop} {d pc : Nat} {ls : List (Option Value)} {st : List Value} {σ : xH} {k : xK} (hk : ∀ pc ls st σ, k pc ls st σ → VW g I K d pc ls st σ) {i : Fin 4} (hd : xd I pc = some (.dstore_n i, 1)) (h : pD st fun a r => (i.val + 1 < iL I ∧ i.val + 1 < ls.length) ∧ k (pc + 1) (lset2 ls i.val (.double a)) r σ) : VW g I K d pc ls st σ := by
  obtain ⟨a, r, rfl, ⟨hn, hl⟩, h⟩ := pD_i h
  intro hg p e s m args below meth c hX H locs arr cells slots hS hL hA
  exact lv_dstore_n hX.1 hX.2.1 (xd_to hd) rfl hA hn rfl (fun arr' hA' => hk _ _ _ _ h hg p e s m args below meth c hX H locs arr' cells slots hS hL (lh_set2 hl hA'))
theorem so_fstore_n {g : xG} {I : xI} {K : xR → xH → Prop} {d pc : Nat} {ls : List (Option Value)} {st : List Value} {σ : xH} {k : xK} (hk : ∀ pc ls st σ, k pc ls st σ → VW g I K d pc ls st σ) {i : Fin 4} (hd : xd I pc = some (.fstore_n i, 1)) (h : pF st fun a r => i.val < iL I ∧ k (pc + 1) (lset1 ls i.val (.float a)) r σ) : VW g I K d pc ls st σ := by
  obtain ⟨a, r, rfl, hn, h⟩ := pF_i h
  intro hg p e s m args below meth c hX H locs arr cells slots hS hL hA
  exact lv_fstore_n hX.1 hX.2.1 (xd_to hd) rfl hA hn rfl (fun arr' hA' => hk _ _ _ _ h hg p e s m args below meth c hX H locs arr' cells slots hS hL (lh_set1 hA'))
theorem so_istore {g : xG} {I : xI} {K : xR → xH → Prop} {d pc : Nat} {ls : List (Option Value)} {st : List Value} {σ : xH} {k : xK} (hk : ∀ pc ls st σ, k pc ls st σ → VW g I K d pc ls st σ) {i : Nat} (hd : xd I pc = some (.istore i, 2)) (h : pI st fun a r => i < iL I ∧ k (pc + 2) (lset1 ls i (.int a)) r σ) : VW g I K d pc ls st σ := by
  obtain ⟨a, r, rfl, hn, h⟩ := pI_i h
  intro hg p e s m args below meth c hX H locs arr cells slots hS hL hA
  exact lv_istore hX.1 hX.2.1 (xd_to hd) hA hn rfl (fun arr' hA' => hk _ _ _ _ h hg p e s m args below meth c hX H locs arr' cells slots hS hL (lh_set1 hA'))
theorem so_astore {g : xG} {I : xI} {K : xR → xH → Prop} {d pc : Nat} {ls : List (Option Value)} {st : List Value} {σ : xH} {k : xK} (hk : ∀ pc ls st σ, k pc ls st σ → VW g I K d pc ls st σ) {i : Nat} (hd : xd I pc = some (.astore i, 2)) (h : pV st fun a r => (isr a = true ∧ i < iL I) ∧ k (pc + 2) (lset1 ls i a) r σ) : VW g I K d pc ls st σ := by
  obtain ⟨a, r, rfl, ⟨hv, hn⟩, h⟩ := pV_i h
  intro hg p e s m args below meth c hX H locs arr cells slots hS hL hA
  have e2 := isr_i hv
  cases hq : rq a with
  | none =>
    rw [hq] at e2
    subst e2
    exact lv_astoreN hX.1 hX.2.1 (xd_to hd) hA hn rfl (fun arr' hA' => hk _ _ _ _ h hg p e s m args below meth c hX H locs arr' cells slots hS hL (lh_set1 hA'))
  | some x =>
    rw [hq] at e2
    subst e2
    exact lv_astore hX.1 hX.2.1 (xd_to hd) hA hn rfl (fun arr' hA' => hk _ _ _ _ h hg p e s m args below meth c hX H locs arr' cells slots hS hL (lh_set1 hA'))
theorem so_lstore {g : xG} {I : xI} {K : xR → xH → Prop} {d pc : Nat} {ls : List (Option Value)} {st : List Value} {σ : xH} {k : xK} (hk : ∀ pc ls st σ, k pc ls st σ → VW g I K d pc ls st σ) {i : Nat} (hd : xd I pc = some (.lstore i, 2)) (h : pL st fun a r => (i + 1 < iL I ∧ i + 1 < ls.length) ∧ k (pc + 2) (lset2 ls i (.long a)) r σ) : VW g I K d pc ls st σ := by
  obtain ⟨a, r, rfl, ⟨hn, hl⟩, h⟩ := pL_i h
  intro hg p e s m args below meth c hX H locs arr cells slots hS hL hA
  exact lv_lstore hX.1 hX.2.1 (xd_to hd) hA hn rfl (fun arr' hA' => hk _ _ _ _ h hg p e s m args below meth c hX H locs arr' cells slots hS hL (lh_set2 hl hA'))
theorem so_dstore {g : xG} {I : xI} {K : xR → xH → Prop} {d pc : Nat} {ls : List (Option Value)} {st : List Value} {σ : xH} {k : xK} (hk : ∀ pc ls st σ, k pc ls st σ → VW g I K d pc ls st σ) {i : Nat} (hd : xd I pc = some (.dstore i, 2)) (h : pD st fun a r => (i + 1 < iL I ∧ i + 1 < ls.length) ∧ k (pc + 2) (lset2 ls i (.double a)) r σ) : VW g I K d pc ls st σ := by
  obtain ⟨a, r, rfl, ⟨hn, hl⟩, h⟩ := pD_i h
  intro hg p e s m args below meth c hX H locs arr cells slots hS hL hA
  exact lv_dstore hX.1 hX.2.1 (xd_to hd) hA hn rfl (fun arr' hA' => hk _ _ _ _ h hg p e s m args below meth c hX H locs arr' cells slots hS hL (lh_set2 hl hA'))
theorem so_fstore {g : xG} {I : xI} {K : xR → xH → Prop} {d pc : Nat} {ls : List (Option Value)} {st : List Value} {σ : xH} {k : xK} (hk : ∀ pc ls st σ, k pc ls st σ → VW g I K d pc ls st σ) {i : Nat} (hd : xd I pc = some (.fstore i, 2)) (h : pF st fun a r => i < iL I ∧ k (pc + 2) (lset1 ls i (.float a)) r σ) : VW g I K d pc ls st σ := by
  obtain ⟨a, r, rfl, hn, h⟩ := pF_i h
  intro hg p e s m args below meth c hX H locs arr cells slots hS hL hA
  exact lv_fstore hX.1 hX.2.1 (xd_to hd) hA hn rfl (fun arr' hA' => hk _ _ _ _ h hg p e s m args below meth c hX H locs arr' cells slots hS hL (lh_set1 hA'))
theorem so_iinc {g : xG} {I : xI} {K : xR → xH → Prop} {d pc : Nat} {ls : List (Option Value)} {st : List Value} {σ : xH} {k : xK} (hk : ∀ pc ls st σ, k pc ls st σ → VW g I K d pc ls st σ) {i : Nat} {n : Int} (hd : xd I pc = some (.iinc i n, 3)) (h : lI (lget ls i) (kinc I k (pc + 3) ls i n st σ)) : VW g I K d pc ls st σ := by
  obtain ⟨x, e1, hn, h⟩ := lI_i h
  intro hg p e s m args below meth c hX H locs arr cells slots hS hL hA
  obtain ⟨j, hj⟩ := List.getElem?_of_mem ((lass_mem ls 0 (i, .int x)).mpr ⟨Nat.zero_le _, e1⟩)
  exact lv_iinc hX.1 hX.2.1 (xd_to hd) hA hj rfl hn rfl (fun arr' hA' => hk _ _ _ _ h hg p e s m args below meth c hX H locs arr' cells slots hS hL (lh_set1 hA'))
theorem so_dup {g : xG} {I : xI} {K : xR → xH → Prop} {d pc : Nat} {ls : List (Option Value)} {st : List Value} {σ : xH} {k : xK} (hk : ∀ pc ls st σ, k pc ls st σ → VW g I K d pc ls st σ) (hd : xd I pc = some (.dup, 1)) (h : pV st fun a r => c2 a = false ∧ k (pc + 1) ls (a :: a :: r) σ) : VW g I K d pc ls st σ := by
  obtain ⟨a, r, rfl, hc, h⟩ := pV_i h
  intro hg p e s m args below meth c hX H locs arr cells slots hS hL hA
  exact lv_dup hX.1 hX.2.1 (xd_to hd) (c2_cat hc) (hk _ _ _ _ h hg p e s m args below meth c hX H locs arr cells slots hS hL hA)
theorem so_pop {g : xG} {I : xI} {K : xR → xH → Prop} {d pc : Nat} {ls : List (Option Value)} {st : List Value} {σ : xH} {k : xK} (hk : ∀ pc ls st σ, k pc ls st σ → VW g I K d pc ls st σ) (hd : xd I pc = some (.pop, 1)) (h : pV st fun a r => c2 a = false ∧ k (pc + 1) ls r σ) : VW g I K d pc ls st σ := by
  obtain ⟨a, r, rfl, hc, h⟩ := pV_i h
  intro hg p e s m args below meth c hX H locs arr cells slots hS hL hA
  exact lv_pop hX.1 hX.2.1 (xd_to hd) (c2_cat hc) (hk _ _ _ _ h hg p e s m args below meth c hX H locs arr cells slots hS hL hA)
theorem so_dup_x1 {g : xG} {I : xI} {K : xR → xH → Prop} {d pc : Nat} {ls : List (Option Value)} {st : List Value} {σ : xH} {k : xK} (hk : ∀ pc ls st σ, k pc ls st σ → VW g I K d pc ls st σ) (hd : xd I pc = some (.dup_x1, 1)) (h : pVV st fun a b r => (c2 b = false ∧ c2 a = false) ∧ k (pc + 1) ls (b :: a :: b :: r) σ) : VW g I K d pc ls st σ := by
  obtain ⟨a, b, r, rfl, hc, h⟩ := pVV_i h
  intro hg p e s m args below meth c hX H locs arr cells slots hS hL hA
  exact lv_dup_x1 hX.1 hX.2.1 (xd_to hd) (c2_cat hc.1) (c2_cat hc.2) (hk _ _ _ _ h hg p e s m args below meth c hX H locs arr cells slots hS hL hA)
theorem so_dup_x2 {g : xG} {I : xI} {K : xR → xH → Prop} {d pc : Nat} {ls : List (Option Value)} {st : List Value} {σ : xH} {k : xK} (hk : ∀ pc ls st σ, k pc ls st σ → VW g I K d pc ls st σ) (hd : xd I pc = some (.dup_x2, 1)) (h : pVVV st fun z a b r => (c2 b = false ∧ c2 a = false ∧ c2 z = false) ∧ k (pc + 1) ls (b :: a :: z :: b :: r) σ) : VW g I K d pc ls st σ := by
  obtain ⟨a, b, r, z, rfl, hc, h⟩ := pVVV_i h
  intro hg p e s m args below meth c hX H locs arr cells slots hS hL hA
  exact lv_dup_x2 hX.1 hX.2.1 (xd_to hd) (c2_cat hc.1) (c2_cat hc.2.1) (c2_cat hc.2.2) (hk _ _ _ _ h hg p e s m args below meth c hX H locs arr cells slots hS hL hA)
theorem so_dup2 {g : xG} {I : xI} {K : xR → xH → Prop} {d pc : Nat} {ls : List (Option Value)} {st : List Value} {σ : xH} {k : xK} (hk : ∀ pc ls st σ, k pc ls st σ → VW g I K d pc ls st σ) (hd : xd I pc = some (.dup2, 1)) (h : pVV st fun a b r => (c2 b = false ∧ c2 a = false) ∧ k (pc + 1) ls (b :: a :: b :: a :: r) σ) : VW g I K d pc ls st σ := by
  obtain ⟨a, b, r, rfl, hc, h⟩ := pVV_i h
  intro hg p e s m args below meth c hX H locs arr cells slots hS hL hA
  exact lv_dup2_11 hX.1 hX.2.1 (xd_to hd) (c2_cat hc.1) (c2_cat hc.2) (hk _ _ _ _ h hg p e s m args below meth c hX H locs arr cells slots hS hL hA)
theorem so_icmp_eq {g : xG} {I : xI} {K : xR → xH → Prop} {d pc : Nat} {ls : List (Option Value)} {st : List Value} {σ : xH} {k : xK} (hk : ∀ pc ls st σ, k pc ls st σ → VW g I K d pc ls st σ) {off : Int} (hd : xd I pc = some (.if_icmp .eq off, 3)) (h : pII st fun a b r => tgo pc off (kbr (a = b) k (pc + 3) ls r σ)) : VW g I K d pc ls st σ := by
  obtain ⟨a, b, r, rfl, h9⟩ := pII_i h
  obtain ⟨tgt, ht, h1, h2⟩ := tgo_i h9
  intro hg p e s m args below meth c hX H locs arr cells slots hS hL hA
  exact lv_icmp_eq hX.1 hX.2.1 (xd_to hd) ht (fun q => hk _ _ _ _ (h1 q) hg p e s m args below meth c hX H locs arr cells slots hS hL hA) (fun q => hk _ _ _ _ (h2 q) hg p e s m args below meth c hX H locs arr cells slots hS hL hA)
theorem so_if_eq {g : xG} {I : xI} {K : xR → xH → Prop} {d pc : Nat} {ls : List (Option Value)} {st : List Value} {σ : xH} {k : xK} (hk : ∀ pc ls st σ, k pc ls st σ → VW g I K d pc ls st σ) {off : Int} (hd : xd I pc = some (.ifCond .eq off, 3)) (h : pI st fun a r => tgo pc off (kbr (a = 0) k (pc + 3) ls r σ)) : VW g I K d pc ls st σ := by
  obtain ⟨a, r, rfl, h9⟩ := pI_i h
  obtain ⟨tgt, ht, h1, h2⟩ := tgo_i h9
  intro hg p e s m args below meth c hX H locs arr cells slots hS hL hA
  exact lv_if_eq hX.1 hX.2.1 (xd_to hd) ht (fun q => hk _ _ _ _ (h1 q) hg p e s m args below meth c hX H locs arr cells slots hS hL hA) (fun q => hk _ _ _ _ (h2 q) hg p e s m args below meth c hX H locs arr cells slots hS hL hA)
theorem so_icmp_ne {g : xG} {I : xI} {K : xR → xH → Prop} {d pc : Nat} {ls : List (Option Value)} {st : List Value} {σ : xH} {k : xK} (hk : ∀ pc ls st σ, k pc ls st σ → VW g I K d pc ls st σ) {off : Int} (hd : xd I pc = some (.if_icmp .ne off, 3)) (h : pII st fun a b r => tgo pc off (kbn (a = b) k (pc + 3) ls r σ)) : VW g I K d pc ls st σ := by
  obtain ⟨a, b, r, rfl, h9⟩ := pII_i h
  obtain ⟨tgt, ht, h1, h2⟩ := tgo_i h9
  intro hg p e s m args below meth c hX H locs arr cells slots hS hL hA
  exact lv_icmp_ne hX.1 hX.2.1 (xd_to hd) ht (fun q => hk _ _ _ _ (h1 q) hg p e s m args below meth c hX H locs arr cells slots hS hL hA) (fun q => hk _ _ _ _ (h2 q) hg p e s m args below meth c hX H locs arr cells slots hS hL hA)
theorem so_if_ne {g : xG} {I : xI} {K : xR → xH → Prop} {d pc : Nat} {ls : List (Option Value)} {st : List Value} {σ : xH} {k : xK} (hk : ∀ pc ls st σ, k pc ls st σ → VW g I K d pc ls st σ) {off : Int} (hd : xd I pc = some (.ifCond .ne off, 3)) (h : pI st fun a r => tgo pc off (kbn (a = 0) k (pc + 3) ls r σ)) : VW g I K d pc ls st σ := by
  obtain ⟨a, r, rfl, h9⟩ := pI_i h
  obtain ⟨tgt, ht, h1, h2⟩ := tgo_i h9
  intro hg p e s m args below meth c hX H locs arr cells slots hS hL hA
  exact lv_if_ne hX.1 hX.2.1 (xd_to hd) ht (fun q => hk _ _ _ _ (h1 q) hg p e s m args below meth c hX H locs arr cells slots hS hL hA) (fun q => hk _ _ _ _ (h2 q) hg p e s m args below meth c hX H locs arr cells slots hS hL hA)
theorem so_icmp_lt {g : xG} {I : xI} {K : xR → xH → Prop} {d pc : Nat} {ls : List (Option Value)} {st : List Value} {σ : xH} {k : xK} (hk : ∀ pc ls st σ, k pc ls st σ → VW g I K d pc ls st σ) {off : Int} (hd : xd I pc = some (.if_icmp .lt off, 3)) (h : pII st fun a b r => tgo pc off (kbr (a < b) k (pc + 3) ls r σ)) : VW g I K d pc ls st σ := by
  obtain ⟨a, b, r, rfl, h9⟩ := pII_i h
  obtain ⟨tgt, ht, h1, h2⟩ := tgo_i h9
  intro hg p e s m args below meth c hX H locs arr cells slots hS hL hA
  exact lv_icmp_lt hX.1 hX.2.1 (xd_to hd) ht (fun q => hk _ _ _ _ (h1 q) hg p e s m args below meth c hX H locs arr cells slots hS hL hA) (fun q => hk _ _ _ _ (h2 q) hg p e s m args below meth c hX H locs arr cells slots hS hL hA)
theorem so_if_lt {g : xG} {I : xI} {K : xR → xH → Prop} {d pc : Nat} {ls : List (Option Value)} {st : List Value} {σ : xH} {k : xK} (hk : ∀ pc ls st σ, k pc ls st σ → VW g I K d pc ls st σ) {off : Int} (hd : xd I pc = some (.ifCond .lt off, 3)) (h : pI st fun a r => tgo pc off (kbr (a < 0) k (pc + 3) ls r σ)) : VW g I K d pc ls st σ := by
  obtain ⟨a, r, rfl, h9⟩ := pI_i h
  obtain ⟨tgt, ht, h1, h2⟩ := tgo_i h9
  intro hg p e s m args below meth c hX H locs arr cells slots hS hL hA
  exact lv_if_lt hX.1 hX.2.1 (xd_to hd) ht (fun q => hk _ _ _ _ (h1 q) hg p e s m args below meth c hX H locs arr cells slots hS hL hA) (fun q => hk _ _ _ _ (h2 q) hg p e s m args below meth c hX H locs arr cells slots hS hL hA)
theorem so_icmp_ge {g : xG} {I : xI} {K : xR → xH → Prop} {d pc : Nat} {ls : List (Option Value)} {st : List Value} {σ : xH} {k : xK} (hk : ∀ pc ls st σ, k pc ls st σ → VW g I K d pc ls st σ) {off : Int} (hd : xd I pc = some (.if_icmp .ge off, 3)) (h : pII st fun a b r => tgo pc off (kbr (b ≤ a) k (pc + 3) ls r σ)) : VW g I K d pc ls st σ := by
  obtain ⟨a, b, r, rfl, h9⟩ := pII_i h
  obtain ⟨tgt, ht, h1, h2⟩ := tgo_i h9
  intro hg p e s m args below meth c hX H locs arr cells slots hS hL hA
  exact lv_icmp_ge hX.1 hX.2.1 (xd_to hd) ht (fun q => hk _ _ _ _ (h1 q) hg p e s m args below meth c hX H locs arr cells slots hS hL hA) (fun q => hk _ _ _ _ (h2 q) hg p e s m args below meth c hX H locs arr cells slots hS hL hA)
theorem so_if_ge {g : xG} {I : xI} {K : xR → xH → Prop} {d pc : Nat} {ls : List (Option Value)} {st : List Value} {σ : xH} {k : xK} (hk : ∀ pc ls st σ, k pc ls st σ → VW g I K d pc ls st σ) {off : Int} (hd : xd I pc = some (.ifCond .ge off, 3)) (h : pI st fun a r => tgo pc off (kbr (0 ≤ a) k (pc + 3) ls r σ)) : VW g I K d pc ls st σ := by
  obtain ⟨a, r, rfl, h9⟩ := pI_i h
  obtain ⟨tgt, ht, h1, h2⟩ := tgo_i h9
  intro hg p e s m args below meth c hX H locs arr cells slots hS hL hA
  exact lv_if_ge hX.1 hX.2.1 (xd_to hd) ht (fun q => hk _ _ _ _ (h1 q) hg p e s m args below meth c hX H locs arr cells slots hS hL hA) (fun q => hk _ _ _ _ (h2 q) hg p e s m args below meth c hX H locs arr cells slots hS hL hA)
theorem so_icmp_gt {g : xG} {I : xI} {K : xR → xH → Prop} {d pc : Nat} {ls : List (Option Value)} {st : List Value} {σ : xH} {k : xK} (hk : ∀ pc ls st σ, k pc ls st σ → VW g I K d pc ls st σ) {off : Int} (hd : xd I pc = some (.if_icmp .gt off, 3)) (h : pII st fun a b r => tgo pc off (kbr (b < a) k (pc + 3) ls r σ)) : VW g I K d pc ls st σ := by
  obtain ⟨a, b, r, rfl, h9⟩ := pII_i h
  obtain ⟨tgt, ht, h1, h2⟩ := tgo_i h9
  intro hg p e s m args below meth c hX H locs arr cells slots hS hL hA
  exact lv_icmp_gt hX.1 hX.2.1 (xd_to hd) ht (fun q => hk _ _ _ _ (h1 q) hg p e s m args below meth c hX H locs arr cells slots hS hL hA) (fun q => hk _ _ _ _ (h2 q) hg p e s m args below meth c hX H locs arr cells slots hS hL hA)
theorem so_if_gt {g : xG} {I : xI} {K : xR → xH → Prop} {d pc : Nat} {ls : List (Option Value)} {st : List Value} {σ : xH} {k : xK} (hk : ∀ pc ls st σ, k pc ls st σ → VW g I K d pc ls st σ) {off : Int} (hd : xd I pc = some (.ifCond .gt off, 3)) (h : pI st fun a r => tgo pc off (kbr (0 < a) k (pc + 3) ls r σ)) : VW g I K d pc ls st σ := by
  obtain ⟨a, r, rfl, h9⟩ := pI_i h
  obtain ⟨tgt, ht, h1, h2⟩ := tgo_i h9
  intro hg p e s m args below meth c hX H locs arr cells slots hS hL hA
  exact lv_if_gt hX.1 hX.2.1 (xd_to hd) ht (fun q => hk _ _ _ _ (h1 q) hg p e s m args below meth c hX H locs arr cells slots hS hL hA) (fun q => hk _ _ _ _ (h2 q) hg p e s m args below meth c hX H locs arr cells slots hS hL hA)
theorem so_icmp_le {g : xG} {I : xI} {K : xR → xH → Prop} {d pc : Nat} {ls : List (Option Value)} {st : List Value} {σ : xH} {k : xK} (hk : ∀ pc ls st σ, k pc ls st σ → VW g I K d pc ls st σ) {off : Int} (hd : xd I pc = some (.if_icmp .le off, 3)) (h : pII st fun a b r => tgo pc off (kbr (a ≤ b) k (pc + 3) ls r σ)) : VW g I K d pc ls st σ := by
  obtain ⟨a, b, r, rfl, h9⟩ := pII_i h
  obtain ⟨tgt, ht, h1, h2⟩ := tgo_i h9
  intro hg p e s m args below meth c hX H locs arr cells slots hS hL hA
  exact lv_icmp_le hX.1 hX.2.1 (xd_to hd) ht (fun q => hk _ _ _ _ (h1 q) hg p e s m args below meth c hX H locs arr cells slots hS hL hA) (fun q => hk _ _ _ _ (h2 q) hg p e s m args below meth c hX H locs arr cells slots hS hL hA)
theorem so_if_le {g : xG} {I : xI} {K : xR → xH → Prop} {d pc : Nat} {ls : List (Option Value)} {st : List Value} {σ : xH} {k : xK} (hk : ∀ pc ls st σ, k pc ls st σ → VW g I K d pc ls st σ) {off : Int} (hd : xd I pc = some (.ifCond .le off, 3)) (h : pI st fun a r => tgo pc off (kbr (a ≤ 0) k (pc + 3) ls r σ)) : VW g I K d pc ls st σ := by
  obtain ⟨a, r, rfl, h9⟩ := pI_i h
  obtain ⟨tgt, ht, h1, h2⟩ := tgo_i h9
  intro hg p e s m args below meth c hX H locs arr cells slots hS hL hA
  exact lv_if_le hX.1 hX.2.1 (xd_to hd) ht (fun q => hk _ _ _ _ (h1 q) hg p e s m args below meth c hX H locs arr cells slots hS hL hA) (fun q => hk _ _ _ _ (h2 q) hg p e s m args below meth c hX H locs arr cells slots hS hL hA)
theorem so_acmp_eq {g : xG} {I : xI} {K : xR → xH → Prop} {d pc : Nat} {ls : List (Option Value)} {st : List Value} {σ : xH} {k : xK} (hk : ∀ pc ls st σ, k pc ls st σ → VW g I K d pc ls st σ) {off : Int} (hd : xd I pc = some (.if_acmp .eq off, 3)) (h : pVV st fun a b r => (isr a = true ∧ isr b = true) ∧ tgo pc off (kbr (rq a = rq b) k (pc + 3) ls r σ)) : VW g I K d pc ls st σ := by
  obtain ⟨a, b, r, rfl, ⟨ha, hb⟩, h9⟩ := pVV_i h
  obtain ⟨tgt, ht, h1, h2⟩ := tgo_i h9
  intro hg p e s m args below meth c hX H locs arr cells slots hS hL hA
  have ea := isr_i ha
  have eb := isr_i hb
  rw [ea, eb]
  exact lv_acmp_eq hX.1 hX.2.1 (xd_to hd) ht (fun q => hk _ _ _ _ (h1 q) hg p e s m args below meth c hX H locs arr cells slots hS hL hA) (fun q => hk _ _ _ _ (h2 q) hg p e s m args below meth c hX H locs arr cells slots hS hL hA)
theorem so_acmp_ne {g : xG} {I : xI} {K : xR → xH → Prop} {d pc : Nat} {ls : List (Option Value)} {st : List Value} {σ : xH} {k : xK} (hk : ∀ pc ls st σ, k pc ls st σ → VW g I K d pc ls st σ) {off : Int} (hd : xd I pc = some (.if_acmp .ne off, 3)) (h : pVV st fun a b r => (isr a = true ∧ isr b = true) ∧ tgo pc off (kbn (rq a = rq b) k (pc + 3) ls r σ)) : VW g I K d pc ls st σ := by
  obtain ⟨a, b, r, rfl, ⟨ha, hb⟩, h9⟩ := pVV_i h
  obtain ⟨tgt, ht, h1, h2⟩ := tgo_i h9
  intro hg p e s m args below meth c hX H locs arr cells slots hS hL hA
  have ea := isr_i ha
  have eb := isr_i hb
  rw [ea, eb]
  exact lv_acmp_ne hX.1 hX.2.1 (xd_to hd) ht (fun q => hk _ _ _ _ (h1 q) hg p e s m args below meth c hX H locs arr cells slots hS hL hA) (fun q => hk _ _ _ _ (h2 q) hg p e s m args below meth c hX H locs arr cells slots hS hL hA)
theorem so_goto {g : xG} {I : xI} {K : xR → xH → Prop} {d pc : Nat} {ls : List (Option Value)} {st : List Value} {σ : xH} {k : xK} (hk : ∀ pc ls st σ, k pc ls st σ → VW g I K d pc ls st σ) {off : Int} (hd : xd I pc = some (.goto off, 3)) (h : tgo pc off (ktg k ls st σ)) : VW g I K d pc ls st σ := by
  obtain ⟨tgt, ht, h⟩ := tgo_i h
  intro hg p e s m args below meth c hX H locs arr cells slots hS hL hA
  exact lv_goto hX.1 hX.2.1 (xd_to hd) ht (hk _ _ _ _ h hg p e s m args below meth c hX H locs arr cells slots hS hL hA)
theorem so_ifnull {g : xG} {I : xI} {K : xR → xH → Prop} {d pc : Nat} {ls : List (Option Value)} {st : List Value} {σ : xH} {k : xK} (hk : ∀ pc ls st σ, k pc ls st σ → VW g I K d pc ls st σ) {off : Int} (hd : xd I pc = some (.ifnull off, 3)) (h : pV st fun a r => isr a = true ∧ (rq a = none → tgo pc off (ktg k ls r σ)) ∧ (∀ b, rq a = some b → k (pc + 3) ls r σ)) : VW g I K d pc ls st σ := by
  obtain ⟨a, r, rfl, ha, h1, h2⟩ := pV_i h
  intro hg p e s m args below meth c hX H locs arr cells slots hS hL hA
  have ea := isr_i ha
  cases hq : rq a with
  | none =>
    rw [hq] at ea
    obtain ⟨tgt, ht, h⟩ := tgo_i (h1 hq)
    rw [ea]
    exact lv_ifnullN hX.1 hX.2.1 (xd_to hd) ht (hk _ _ _ _ h hg p e s m args below meth c hX H locs arr cells slots hS hL hA)
  | some x =>
    rw [hq] at ea
    rw [ea]
    exact lv_ifnull hX.1 hX.2.1 (xd_to hd) (hk _ _ _ _ (h2 x hq) hg p e s m args below meth c hX H locs arr cells slots hS hL hA)
theorem so_ifnonnull {g : xG} {I : xI} {K : xR → xH → Prop} {d pc : Nat} {ls : List (Option Value)} {st : List Value} {σ : xH} {k : xK} (hk : ∀ pc ls st σ, k pc ls st σ → VW g I K d pc ls st σ) {off : Int} (hd : xd I pc = some (.ifnonnull off, 3)) (h : pV st fun a r => isr a = true ∧ (∀ b, rq a = some b → tgo pc off (ktg k ls r σ)) ∧ (rq a = none → k (pc + 3) ls r σ)) : VW g I K d pc ls st σ := by
  obtain ⟨a, r, rfl, ha, h1, h2⟩ := pV_i h
  intro hg p e s m args below meth c hX H locs arr cells slots hS hL hA
  have ea := isr_i ha
  cases hq : rq a with
  | none =>
    rw [hq] at ea
    rw [ea]
    exact lv_ifnonnullN hX.1 hX.2.1 (xd_to hd) (hk _ _ _ _ (h2 hq) hg p e s m args below meth c hX H locs arr cells slots hS hL hA)
  | some x =>
    rw [hq] at ea
    obtain ⟨tgt, ht, h⟩ := tgo_i (h1 x hq)
    rw [ea]
    exact lv_ifnonnull hX.1 hX.2.1 (xd_to hd) ht (hk _ _ _ _ h hg p e s m args below meth c hX H locs arr cells slots hS hL hA)
theorem xown {g : xG} {I : xI} {p : Program} {s : State} {m : MethodId} {meth : Method} {c : Code} (hX : xX g I p s m meth c) : s.vm.findClass (ocN (iO I)) = some m.cls := by rw [hX.2.2.2.2.2.2.2.2.2.2]; exact hX.2.2.2.2.1
theorem xwarm {g : xG} {I : xI} {p : Program} {s : State} {m : MethodId} {meth : Method} {c : Code} (hX : xX g I p s m meth c) : (gB g).WarmedH s.vm := hX.2.2.2.2.2.2.1
theorem xsame {g : xG} (hg : GOk g) {ref own nm ds : String} (h : ref = own ∨ Cond.sameField ref own nm ds ∈ lw_all) {s : State} (hW : (gB g).WarmedH s.vm) : ∀ x, s.fieldFound? own nm ds = some x → s.fieldFound? ref nm ds = some x := by
  rcases h with h | h
  · subst h; exact fun x hx => hx
  · exact fun x hx => u_same (hg.word h hW #[]) x hx
section XGN
variable {p : Program} {l : Launch} {e : Env} {R : Room} {s : State} {m : MethodId} {args : Array Value} {below : List Frame} {meth : Method} {c : Code} {H : Heap} {locs : List Loc} {cells slots : Nat} {Q : State → Prop}
theorem xgetfN {cc : ByteArray} (hexec : p.tables.exec = Jvm.exec) (hb : c.code = cc)
    {own ref name desc host : String} {index : Nat} (hown : s.vm.findClass own = some m.cls) (hlink : (Cond.fieldLinkNest own index ref name desc host).before args s = true)
    {cf i : Nat} {k : Class} {f : Field} (hi : s.fieldFound? ref name desc = some (cf, k, i, f)) (hst : f.isStatic = false)
    {a : Addr} {cell : Cell} {v : Value} (hcell : H[a]? = some cell) (hknown : cell.vm ≠ .unknown) (hslot : cell.slots[f.slot]? = some v)
    {g : JFrame} (hg : g.method = m) {rest : List Value} (hstack : g.stack = .ref a :: rest) (hdg : decode cc g.pc = .ok (.getfield index, 3))
    (kk : W p l e R s m args below meth c H locs cells slots Q { g with pc := g.pc + 3, stack := v :: rest }) : W p l e R s m args below meth c H locs cells slots Q g := by
  intro T hT X
  obtain ⟨vm', X', st⟩ := X.getfieldNest hexec hown hlink hi hst (by rw [hT]; exact hcell) hknown hslot hg hstack (by rw [hb]; exact hdg)
  obtain ⟨t, a1, b1⟩ := kk (T.setVm vm') hT X'
  exact ⟨t, st t a1, b1⟩
theorem xputfN {cc : ByteArray} (hexec : p.tables.exec = Jvm.exec) (hb : c.code = cc)
    {own ref name desc host : String} {index : Nat} (hown : s.vm.findClass own = some m.cls) (hlink : (Cond.fieldLinkNest own index ref name desc host).before args s = true)
    {cf i : Nat} {k : Class} {f : Field} (hi : s.fieldFound? ref name desc = some (cf, k, i, f)) (hst : f.isStatic = false) (hfin : hasFlag f.accessFlags Acc.final = false ∨ (m.cls = cf ∧ meth.name = "<init>"))
    {a : Addr} {cell : Cell} {v : Value} (hcell : H[a]? = some cell) (hknown : cell.vm ≠ .unknown) (hlt : f.slot < cell.slots.size) (hnarrow : narrow f.type v = v) (hfit : s.fitsSlot cell.cls cell.vm f.slot v = true)
    {g : JFrame} (hg : g.method = m) {rest : List Value} (hstack : g.stack = v :: .ref a :: rest) (hdg : decode cc g.pc = .ok (.putfield index, 3))
    (kk : W p l e R s m args below meth c (H.setIfInBounds a (cell.setSlot f.slot v)) (locs ++ [⟨a, f.slot⟩]) cells slots Q { g with pc := g.pc + 3, stack := rest }) : W p l e R s m args below meth c H locs cells slots Q g := by
  intro T hT X
  subst hT; subst hb
  obtain ⟨vm', X', st⟩ := X.putfieldNest hexec hown hlink hi hst hfin hcell hknown hlt hnarrow hfit hg hstack hdg
  obtain ⟨t, a1, b1⟩ := kk _ (by rfl) X'
  exact ⟨t, st t a1, b1⟩
end XGN
theorem so_getfield {g : xG} {I : xI} {K : xR → xH → Prop} {d pc : Nat} {ls : List (Option Value)} {st : List Value} {σ : xH} {k : xK} (hk : ∀ pc ls st σ, k pc ls st σ → VW g I K d pc ls st σ) {idx : Nat} (hd : xd I pc = some (.getfield idx, 3)) (h : pR st fun a r => obS (σ.1 a) (kgf I idx k (pc + 3) ls r σ)) : VW g I K d pc ls st σ := by
  obtain ⟨a, r, rfl, h1⟩ := pR_i h
  obtain ⟨ci, fs, ha, h2⟩ := obS_i h1
  obtain ⟨q, hq, h3⟩ := opS_i h2
  obtain ⟨v, hv, h⟩ := opS_i h3
  intro hg p e s m args below meth c hX H locs arr cells slots hS hL hA
  obtain ⟨ref, C, T, N, hc, hkN, hl, hsm, hty, hfin⟩ := fl_ok hq
  obtain ⟨cell, q1, q3, q2, q4, q5, -⟩ := hS.recv hg ha (xwarm hX) hc
  have hunk := q5 (Nat.lt_of_le_of_lt (Nat.zero_le _) hkN)
  obtain ⟨hcl, hkn⟩ := hg.kn hc (xwarm hX)
  obtain ⟨cf, kf, fi, f, hi, hsl, hst⟩ := hkn q.1 hkN
  have hfound := xsame hg hsm (xwarm hX) _ hi
  have hslot : cell.slots[f.slot]? = some v := by
    rw [hsl, q4 q.1 hkN]
    rw [lgv_eq] at hv
    simp [vp_V, hv]
  rcases hl with hl | ⟨host, hl⟩
  · exact W.getf hX.1 hX.2.1 (xown hX) (hg.word hl (xwarm hX) _) hfound hst q1 hunk hslot rfl rfl (xd_to hd) (hk _ _ _ _ h hg p e s m args below meth c hX H locs arr cells slots hS hL hA)
  · exact xgetfN hX.1 hX.2.1 (xown hX) (va_Nw.use rfl (va_Nw.warmF (xwarm hX) (hg.nw hl rfl))) hfound hst q1 hunk hslot rfl rfl (xd_to hd) (hk _ _ _ _ h hg p e s m args below meth c hX H locs arr cells slots hS hL hA)
theorem so_putfield {g : xG} {I : xI} {K : xR → xH → Prop} {d pc : Nat} {ls : List (Option Value)} {st : List Value} {σ : xH} {k : xK} (hk : ∀ pc ls st σ, k pc ls st σ → VW g I K d pc ls st σ) {idx : Nat} (hd : xd I pc = some (.putfield idx, 3)) (h : pVR st fun a x r => obS (σ.1 a) (kpf g I idx k (pc + 3) ls r σ a x)) : VW g I K d pc ls st σ := by
  obtain ⟨a, r, x, rfl, h1⟩ := pVR_i h
  obtain ⟨ci, fs, ha, h2⟩ := obS_i h1
  obtain ⟨q, hq, ⟨⟨hown0, hci⟩, ⟨hlen, hpf⟩, hnar, hfit⟩, h⟩ := opS_i h2
  intro hg p e s m args below meth c hX H locs arr cells slots hS hL hA
  obtain ⟨ref, C, T, N, hc, hkN, hl, hsm, hty, hfin⟩ := fl_ok hq
  obtain ⟨C', T', N', tyf, hc', hin, htyf, hnm⟩ := xCF_all ci hci
  have hcc := hc.symm.trans hc'
  cases hcc
  obtain ⟨cell, q1, -, q2, q4, -, q6⟩ := hS.recv hg ha (xwarm hX) hc
  have q3 := q6 hown0
  obtain ⟨hcl, hkn⟩ := hg.kn hc (xwarm hX)
  obtain ⟨kC, hkC, hkind0⟩ := hcl.2
  have hkind := hkind0 hci
  obtain ⟨cf, kf, fi, f, hi, hsl, hst⟩ := hkn q.1 hkN
  have hfound := xsame hg hsm (xwarm hX) _ hi
  have hts : ∀ w ∈ lw_all, w.before args s = true := fun w hw => hg.word hw (xwarm hX) args
  have hcls : cell.cls = (gD g).1 ci := Option.some.inj (q2.symm.trans hcl.1)
  have hff := u_fits hcl.1 hkC hkind (u_lays hts hin hkN) hi hty hnar hfit
  have hlay := hts _ (hin _ (u_in_lay hkN))
  have hfl : hasFlag f.accessFlags Acc.final = false ∨ (m.cls = cf ∧ meth.name = "<init>") := by
    unfold u_lay at hlay
    by_cases hf : q.2.2 = true
    · right
      simp only [pfin, hf, Bool.not_true, Bool.false_or, Bool.and_eq_true, decide_eq_true_eq] at hpf
      refine ⟨?_, by rw [hX.2.2.2.2.2.2.2.2.1]; exact hpf.1⟩
      have hCL : (CL.getD ci ("", TX24e, 0)) = (C, T, N) := by rw [List.getD_eq_getElem?_getD, hc]; rfl
      rw [hCL] at hpf
      rw [if_pos (by rw [hfin]; exact hf)] at hlay
      obtain ⟨_, _, c', _, _, _, -, -, hf', -, -, -, hown2, -⟩ := Cond.laysFinal_spec hlay
      have e1 : c' = cf := by have := hi.symm.trans hf'; simp at this; exact this.1.symm
      rw [hpf.2] at hown2
      rw [← e1]; exact Option.some.inj (hX.2.2.2.2.1.symm.trans hown2)
    · left
      have hf' : (T q.1).2.2.2 = false := by rw [hfin]; simpa using hf
      rw [if_neg (by rw [hf']; decide)] at hlay
      exact (u_store hcl.1 hkC hkind hlay hi hty hnar hfit).1
  have hlt : f.slot < cell.slots.size := by
    rw [hsl]
    exact (Array.getElem?_eq_some_iff.mp (q4 q.1 hkN)).1
  have ha0 : a < H.size := (Array.getElem?_eq_some_iff.mp q1).1
  have hap : ∀ x y, x < N → y < N → x ≠ y → (gD g).2 ci x ≠ (gD g).2 ci y := by
    intro x y hx hy hne
    obtain ⟨_, _, _, fa, hia, ea, -⟩ := hkn x hx
    obtain ⟨_, _, _, fb, hib, eb, -⟩ := hkn y hy
    rw [← ea, ← eb]
    refine u_apart (u_lays hts hin hx) (u_lays hts hin hy) hia hib ?_
    rw [(State.fieldFound?_type hia (htyf x hx)).1, (State.fieldFound?_type hib (htyf y hy)).1]
    exact hnm x hx y hy hne
  have hcellv : cell.slots.size = (cell.setSlot f.slot x).slots.size := by simp [Cell.setSlot]
  have key : xSt g (xu σ.1 a (ob ci (lsv fs q.1 x)), σ.2) (H.setIfInBounds a (cell.setSlot f.slot x)) := by
    refine hS.put hown0 q1 (x' := cell.setSlot f.slot x) (by simp [ha0]) hcellv.symm rfl (by simp) (fun z hz9 => by simp [Array.getElem?_setIfInBounds, Ne.symm hz9]) ?_
    refine ⟨_, hc, t_OB.to (V := updV (vp_V fs) q.1 x) ⟨cell.setSlot f.slot x, by simp [ha0], hcls, q3, ?_⟩ (fun j _ => by rw [lsv_eq]; exact vp_updV_set hlen x j)⟩
    rw [hsl]
    exact t_set q4 hap hkN x
  have hL' : ∀ z ∈ locs ++ [(⟨a, f.slot⟩ : Loc)], g0 g ≤ z.base := by
    intro z hz9
    rcases List.mem_append.mp hz9 with h1 | h1
    · exact hL z h1
    · rw [List.mem_singleton.mp h1]; exact hown0
  have next := hk _ _ _ _ h hg p e s m args below meth c hX (H.setIfInBounds a (cell.setSlot f.slot x)) (locs ++ [⟨a, f.slot⟩]) arr cells slots key hL' hA
  have hfs : s.fitsSlot cell.cls cell.vm f.slot x = true := by rw [hcls, q3]; exact hff.2
  rcases hl with hl | ⟨host, hl⟩
  · exact W.putf hX.1 hX.2.1 (xown hX) (hg.word hl (xwarm hX) _) hfound hst hfl q1 (by rw [q3]; exact fun h => by cases h) hlt hff.1 hfs rfl rfl (xd_to hd) next
  · exact xputfN hX.1 hX.2.1 (xown hX) (va_Nw.use rfl (va_Nw.warmF (xwarm hX) (hg.nw hl rfl))) hfound hst hfl q1 (by rw [q3]; exact fun h => by cases h) hlt hff.1 hfs rfl rfl (xd_to hd) next
theorem vp_mon (A A' : ClassId) (q q' : vp_A) : (vp_cell A q).monitor = (vp_cell A' q').monitor := by obtain ⟨n, f | f | f | f | f⟩ := q <;> obtain ⟨n', f' | f' | f' | f' | f'⟩ := q' <;> rfl
theorem xarr {g : xG} {σ : xH} {H : Heap} (h : xSt g σ H) {a k : Nat} {x : vp_A} (ha : σ.1 a = some (.inl (k, x))) (ha0 : g0 g ≤ a) : H[a]? = some (vp_cell (gA g k) x) := (h.2.2.2.1 a _ ha).1 ha0
theorem vp_vm (A : ClassId) (x : vp_A) : (vp_cell A x).vm = .none := by obtain ⟨n, f | f | f | f | f⟩ := x <;> rfl
theorem vp_cls (A : ClassId) (x : vp_A) : (vp_cell A x).cls = A := by obtain ⟨n, f | f | f | f | f⟩ := x <;> rfl
theorem vp_sz (A : ClassId) (x : vp_A) : (vp_cell A x).slots.size = x.1 := by obtain ⟨n, f | f | f | f | f⟩ := x <;> exact arrV_size _ _ _
/-- an array, the run's own or one that it found -/
theorem xarw {g : xG} (hg : GOk g) {σ : xH} {H : Heap} (h : xSt g σ H) {a k : Nat} {x : vp_A} (ha : σ.1 a = some (.inl (k, x))) {U : State} (hW : (gB g).WarmedH U.vm) : ∃ cell : Cell, H[a]? = some cell ∧ (∀ ty : FieldType, kty k = some ty → U.isArrayOf cell ty) ∧ cell.vm ≠ .unknown ∧ x.1 ≤ cell.slots.size ∧ cell.slots.size.toInt32 = Int32.ofNat x.1 ∧ (∀ j : Nat, j < x.1 → cell.slots[j]? = (vp_cell (gA g k) x).slots[j]?) ∧ cell.cls = gA g k := by
  have h1 := h.2.2.2.1 a _ ha
  by_cases ha0 : g0 g ≤ a
  · refine ⟨_, h1.1 ha0, fun ty hty => ?_, fun z => (by rw [vp_vm] at z; cases z), by rw [vp_sz]; exact Nat.le_refl _, by rw [vp_sz] <;> rfl, fun _ _ => rfl, vp_cls _ _⟩
    obtain ⟨-, kA, w1, w2⟩ := (hg.ar hty hW).1 0 (fun _ => .null)
    exact ⟨fun z e => (by rw [vp_vm] at e; cases e), kA, by rw [vp_cls]; exact w1, w2⟩
  · obtain ⟨cell, c1, c2, c3⟩ := h1.2 (by omega)
    exact ⟨cell, c1, fun ty hty => State.isArrayOf_alike hW.alike (c2 ty hty), c3⟩
theorem hz_st {H H' : Heap} {a : Nat} {x : Cell} {i : Nat} {v : Value} (h1 : H[a]? = some x) (h2 : H'[a]? = some (x.setSlot i v)) : (x.setSlot i v).slots.size = x.slots.size := by simp [Cell.setSlot]
theorem xown2 {g : xG} {locs : List Loc} {a i : Nat} (hL : ∀ q ∈ locs, g0 g ≤ q.base) (ha : g0 g ≤ a) : ∀ z ∈ locs ++ [(⟨a, i⟩ : Loc)], g0 g ≤ z.base := by
  intro z hz9
  rcases List.mem_append.mp hz9 with h1 | h1
  · exact hL z h1
  · rw [List.mem_singleton.mp h1]; exact ha
theorem so_iaload {g : xG} {I : xI} {K : xR → xH → Prop} {d pc : Nat} {ls : List (Option Value)} {st : List Value} {σ : xH} {k : xK} (hk : ∀ pc ls st σ, k pc ls st σ → VW g I K d pc ls st σ) (hd : xd I pc = some (.iaload, 1)) (h : pIR st fun a b r => arI (σ.1 a) (kal 0 k (pc + 1) ls r σ b)) : VW g I K d pc ls st σ := by
  obtain ⟨a, b, r, rfl, h1⟩ := pIR_i h
  obtain ⟨kk, n, f, ha, ⟨hkk, hin⟩, h2⟩ := arI_i h1
  subst hkk
  intro hg p e s m args below meth c hX H locs arr cells slots hS hL hA
  have hlt : b.toNatClampNeg < n := Nat.not_le.mp fun q => hin (Or.inr q)
  obtain ⟨cell, c1, c2, c3, c4, c5, c6, -⟩ := xarw hg hS ha (xwarm hX)
  have c4' : n ≤ cell.slots.size := c4
  exact W.iald (v := .int (f b.toNatClampNeg)) hX.1 hX.2.1 c1 (c2 _ rfl) c3 (fun q => hin (q.imp id (fun q => Nat.le_trans c4' q))) (by rw [c6 _ hlt]; show (arrV _ _ _).slots[_]? = _; rw [arrV_read _ _ hlt]) rfl rfl (xd_to hd) (hk _ _ _ _ h2 hg p e s m args below meth c hX H locs arr cells slots hS hL hA)
theorem so_baload {g : xG} {I : xI} {K : xR → xH → Prop} {d pc : Nat} {ls : List (Option Value)} {st : List Value} {σ : xH} {k : xK} (hk : ∀ pc ls st σ, k pc ls st σ → VW g I K d pc ls st σ) (hd : xd I pc = some (.baload, 1)) (h : pIR st fun a b r => arI (σ.1 a) (kal 1 k (pc + 1) ls r σ b)) : VW g I K d pc ls st σ := by
  obtain ⟨a, b, r, rfl, h1⟩ := pIR_i h
  obtain ⟨kk, n, f, ha, ⟨hkk, hin⟩, h2⟩ := arI_i h1
  subst hkk
  intro hg p e s m args below meth c hX H locs arr cells slots hS hL hA
  have hlt : b.toNatClampNeg < n := Nat.not_le.mp fun q => hin (Or.inr q)
  obtain ⟨cell, c1, c2, c3, c4, c5, c6, -⟩ := xarw hg hS ha (xwarm hX)
  have c4' : n ≤ cell.slots.size := c4
  exact W.bald (v := .int (f b.toNatClampNeg)) hX.1 hX.2.1 c1 (c2 _ rfl) c3 (fun q => hin (q.imp id (fun q => Nat.le_trans c4' q))) (by rw [c6 _ hlt]; show (arrV _ _ _).slots[_]? = _; rw [arrV_read _ _ hlt]) rfl rfl (xd_to hd) (hk _ _ _ _ h2 hg p e s m args below meth c hX H locs arr cells slots hS hL hA)
theorem so_laload {g : xG} {I : xI} {K : xR → xH → Prop} {d pc : Nat} {ls : List (Option Value)} {st : List Value} {σ : xH} {k : xK} (hk : ∀ pc ls st σ, k pc ls st σ → VW g I K d pc ls st σ) (hd : xd I pc = some (.laload, 1)) (h : pIR st fun a b r => arL (σ.1 a) (kall 2 k (pc + 1) ls r σ b)) : VW g I K d pc ls st σ := by
  obtain ⟨a, b, r, rfl, h1⟩ := pIR_i h
  obtain ⟨kk, n, f, ha, ⟨hkk, hin⟩, h2⟩ := arL_i h1
  subst hkk
  intro hg p e s m args below meth c hX H locs arr cells slots hS hL hA
  have hlt : b.toNatClampNeg < n := Nat.not_le.mp fun q => hin (Or.inr q)
  obtain ⟨cell, c1, c2, c3, c4, c5, c6, -⟩ := xarw hg hS ha (xwarm hX)
  have c4' : n ≤ cell.slots.size := c4
  exact W.lald (v := .long (f b.toNatClampNeg)) hX.1 hX.2.1 c1 (c2 _ rfl) c3 (fun q => hin (q.imp id (fun q => Nat.le_trans c4' q))) (by rw [c6 _ hlt]; show (arrV _ _ _).slots[_]? = _; rw [arrV_read _ _ hlt]) rfl rfl (xd_to hd) (hk _ _ _ _ h2 hg p e s m args below meth c hX H locs arr cells slots hS hL hA)
theorem kty_ob {kk : Nat} (h1 : 3 ≤ kk) (h2 : kk ≤ 8) : ∃ C, kty kk = some (.object C) := by
  match kk, h1, h2 with
  | 3, _, _ => exact ⟨_, rfl⟩
  | 4, _, _ => exact ⟨_, rfl⟩
  | 5, _, _ => exact ⟨_, rfl⟩
  | 6, _, _ => exact ⟨_, rfl⟩
  | 7, _, _ => exact ⟨_, rfl⟩
  | 8, _, _ => exact ⟨_, rfl⟩
  | n + 9, _, h2 => exact absurd h2 (by omega)
theorem kty_le {kk : Nat} (h2 : kk ≤ 8) : ∃ ty, kty kk = some ty := by
  match kk, h2 with
  | 0, _ => exact ⟨_, rfl⟩
  | 1, _ => exact ⟨_, rfl⟩
  | 2, _ => exact ⟨_, rfl⟩
  | n + 3, h2 =>
    obtain ⟨C, hC⟩ := kty_ob (kk := n + 3) (by omega) h2
    exact ⟨_, hC⟩
theorem so_aaload {g : xG} {I : xI} {K : xR → xH → Prop} {d pc : Nat} {ls : List (Option Value)} {st : List Value} {σ : xH} {k : xK} (hk : ∀ pc ls st σ, k pc ls st σ → VW g I K d pc ls st σ) (hd : xd I pc = some (.aaload, 1)) (h : pIR st fun a b r => arQ (σ.1 a) (kalq k (pc + 1) ls r σ b)) : VW g I K d pc ls st σ := by
  obtain ⟨a, b, r, rfl, h1⟩ := pIR_i h
  obtain ⟨kk, n, f, ha, hkk, hin, h2⟩ := arQ_i h1
  intro hg p e s m args below meth c hX H locs arr cells slots hS hL hA
  have hlt : b.toNatClampNeg < n := Nat.not_le.mp fun q => hin (Or.inr q)
  obtain ⟨C, hC⟩ : ∃ C, kty kk = some (.object C) := kty_ob hkk.1 hkk.2
  obtain ⟨cell, c1, c2, c3, c4, c5, c6, -⟩ := xarw hg hS ha (xwarm hX)
  have c4' : n ≤ cell.slots.size := c4
  exact W.aald (v := va_rf (f b.toNatClampNeg)) (ty := .object C) hX.1 hX.2.1 c1 (c2 _ hC) rfl c3 (fun q => hin (q.imp id (fun q => Nat.le_trans c4' q))) (by rw [c6 _ hlt]; show (arrV _ _ _).slots[_]? = _; rw [arrV_read _ _ hlt]) rfl rfl (xd_to hd) (hk _ _ _ _ h2 hg p e s m args below meth c hX H locs arr cells slots hS hL hA)
theorem so_iastore {g : xG} {I : xI} {K : xR → xH → Prop} {d pc : Nat} {ls : List (Option Value)} {st : List Value} {σ : xH} {k : xK} (hk : ∀ pc ls st σ, k pc ls st σ → VW g I K d pc ls st σ) (hd : xd I pc = some (.iastore, 1)) (h : pIIR st fun a b x r => arI (σ.1 a) (kas_iastore g k (pc + 1) ls r σ a b x)) : VW g I K d pc ls st σ := by
  obtain ⟨a, b, r, x, rfl, h1⟩ := pIIR_i h
  obtain ⟨kk, n, f, ha, ⟨hkk, hown0, hin⟩, h2⟩ := arI_i h1
  subst hkk
  intro hg p e s m args below meth c hX H locs arr cells slots hS hL hA
  refine W.iast hX.1 hX.2.1 (xarr hS ha hown0) ((hg.ar (k := 0) rfl (xwarm hX)).1 n (fun j => .int (f j))) (fun q => by cases q) (by show ¬ (b < 0 ∨ (arrV _ _ _).slots.size ≤ _); rw [arrV_size]; exact hin) rfl rfl (xd_to hd) fun H1 e1 z1 oq => ?_
  refine hk _ _ _ _ h2 hg p e s m args below meth c hX H1 _ arr cells slots (hS.put hown0 (xarr hS ha hown0) e1 (hz_st (xarr hS ha hown0) e1) (vp_mon _ _ _ _) z1 oq ?_) (xown2 hL hown0) hA
  show H1[a]? = some (vp_cell _ _)
  rw [e1]
  rw [vp_cell_i, vp_cell_i, arrV_store]
  congr 2
  funext q
  by_cases hq : q = b.toNatClampNeg
  · subst hq
    simp [updV, upd]
    try rfl
  · simp [updV, upd, hq]
theorem so_bastore {g : xG} {I : xI} {K : xR → xH → Prop} {d pc : Nat} {ls : List (Option Value)} {st : List Value} {σ : xH} {k : xK} (hk : ∀ pc ls st σ, k pc ls st σ → VW g I K d pc ls st σ) (hd : xd I pc = some (.bastore, 1)) (h : pIIR st fun a b x r => arI (σ.1 a) (kas_bastore g k (pc + 1) ls r σ a b x)) : VW g I K d pc ls st σ := by
  obtain ⟨a, b, r, x, rfl, h1⟩ := pIIR_i h
  obtain ⟨kk, n, f, ha, ⟨hkk, hown0, hin⟩, h2⟩ := arI_i h1
  subst hkk
  intro hg p e s m args below meth c hX H locs arr cells slots hS hL hA
  refine W.bast hX.1 hX.2.1 (xarr hS ha hown0) ((hg.ar (k := 1) rfl (xwarm hX)).1 n (fun j => .int (f j))) (fun q => by cases q) (by show ¬ (b < 0 ∨ (arrV _ _ _).slots.size ≤ _); rw [arrV_size]; exact hin) rfl rfl (xd_to hd) fun H1 e1 z1 oq => ?_
  refine hk _ _ _ _ h2 hg p e s m args below meth c hX H1 _ arr cells slots (hS.put hown0 (xarr hS ha hown0) e1 (hz_st (xarr hS ha hown0) e1) (vp_mon _ _ _ _) z1 oq ?_) (xown2 hL hown0) hA
  show H1[a]? = some (vp_cell _ _)
  rw [e1]
  rw [vp_cell_i, vp_cell_i, arrV_store]
  congr 2
  funext q
  by_cases hq : q = b.toNatClampNeg
  · subst hq
    simp [updV, upd, vp_nar]
    try rfl
  · simp [updV, upd, vp_nar, hq]
theorem so_lastore {g : xG} {I : xI} {K : xR → xH → Prop} {d pc : Nat} {ls : List (Option Value)} {st : List Value} {σ : xH} {k : xK} (hk : ∀ pc ls st σ, k pc ls st σ → VW g I K d pc ls st σ) (hd : xd I pc = some (.lastore, 1)) (h : pLIR st fun a b x r => arL (σ.1 a) (kas_lastore g k (pc + 1) ls r σ a b x)) : VW g I K d pc ls st σ := by
  obtain ⟨a, b, r, x, rfl, h1⟩ := pLIR_i h
  obtain ⟨kk, n, f, ha, ⟨hkk, hown0, hin⟩, h2⟩ := arL_i h1
  subst hkk
  intro hg p e s m args below meth c hX H locs arr cells slots hS hL hA
  refine W.last hX.1 hX.2.1 (xarr hS ha hown0) ((hg.ar (k := 2) rfl (xwarm hX)).1 n (fun j => .long (f j))) (fun q => by cases q) (by show ¬ (b < 0 ∨ (arrV _ _ _).slots.size ≤ _); rw [arrV_size]; exact hin) rfl rfl (xd_to hd) fun H1 e1 z1 oq => ?_
  refine hk _ _ _ _ h2 hg p e s m args below meth c hX H1 _ arr cells slots (hS.put hown0 (xarr hS ha hown0) e1 (hz_st (xarr hS ha hown0) e1) (vp_mon _ _ _ _) z1 oq ?_) (xown2 hL hown0) hA
  show H1[a]? = some (vp_cell _ _)
  rw [e1]
  rw [vp_cell_l, vp_cell_l, arrV_store]
  congr 2
  funext q
  by_cases hq : q = b.toNatClampNeg
  · subst hq
    simp [updV, vp_updL]
    try rfl
  · simp [updV, vp_updL, hq]
theorem so_aastore {g : xG} {I : xI} {K : xR → xH → Prop} {d pc : Nat} {ls : List (Option Value)} {st : List Value} {σ : xH} {k : xK} (hk : ∀ pc ls st σ, k pc ls st σ → VW g I K d pc ls st σ) (hd : xd I pc = some (.aastore, 1)) (h : pVIR st fun a b x r => arQ (σ.1 a) (kas_aastore g k (pc + 1) ls r σ a b x)) : VW g I K d pc ls st σ := by
  obtain ⟨a, b, r, x, rfl, h1⟩ := pVIR_i h
  obtain ⟨kk, n, f, ha, ⟨hkk, hown0, hin, hsto⟩, h2⟩ := arQ_i h1
  intro hg p e s m args below meth c hX H locs arr cells slots hS hL hA
  have hk6 := hkk.2
  obtain ⟨C, hC⟩ := kty_ob hkk.1 (Nat.le_trans hk6 (by decide))
  have hlt : b.toNatClampNeg < n := Nat.not_le.mp fun q => hin (Or.inr q)
  have h0 : ¬ b < 0 := fun q => hin (Or.inl q)
  have next : ∀ (x' : Value) (H1 : Heap), x' = x → H1[a]? = some ((vp_cell (gA g kk) (n, .inr (.inr (.inr (.inr f))))).setSlot b.toNatClampNeg x') → H1.size = H.size → (∀ q, q ≠ a → H1[q]? = H[q]?) → isr x' = true → W p (gL g) e (xRm g d s.heap.size (hz s.heap)) s m args below meth c H1 (locs ++ [⟨a, b.toNatClampNeg⟩]) cells slots (fun t => ∃ o, t.status = .running ∧ Ended t below o ∧ xQ g K s o t) (F0 m (pc + 1) arr r) := by
    intro x' H1 ex e1 z1 oq hx'
    subst ex
    refine hk _ _ _ _ h2 hg p e s m args below meth c hX H1 _ arr cells slots (hS.put hown0 (xarr hS ha hown0) e1 (hz_st (xarr hS ha hown0) e1) (vp_mon _ _ _ _) z1 oq ?_) (xown2 hL hown0) hA
    show H1[a]? = some (vp_cell _ _)
    rw [e1]
    rw [vp_cell_q, vp_cell_q, arrV_store]
    congr 2
    funext q
    by_cases hq : q = b.toNatClampNeg
    · subst hq
      simp [updV, va_up]
      exact isr_i hx'
    · simp [updV, va_up, hq]
  unfold sto at hsto
  split at hsto
  · exact va_WaastN (C := C) hX.1 hX.2.1 (xarr hS ha hown0) ((hg.ar hC (xwarm hX)).1 n (fun j => va_rf (f j))) (fun h => by cases h) (by show ¬ (b < 0 ∨ (arrV _ _ _).slots.size ≤ _); rw [arrV_size]; exact hin) rfl rfl (xd_to hd) fun H1 e1 z1 oq => next .null H1 rfl e1 z1 oq rfl
  · next bx =>
    obtain ⟨kA, comp, k1, k2, k3, -⟩ := (hg.ar hC (xwarm hX)).2 hk6
    obtain ⟨kE, hkE, -⟩ := Vm.findClass_spec k3
    split at hsto
    · next q hq =>
      obtain ⟨E, C9, T9, N9, e1, e2, e3⟩ := ac_ok hsto
      obtain ⟨cell, q1, q3, q2, -⟩ := hS.recv hg hq (xwarm hX) e2
      cases hC.symm.trans e1
      obtain ⟨kV, hkV, -⟩ := Vm.findClass_spec q2
      have hasg : s.vm.assignable cell.cls comp = true := by
        rcases e3 with e3 | e3
        · have hq2 : s.vm.findClass C9 = some cell.cls := q2
          rw [e3] at hq2
          cases hq2.symm.trans k3
          exact va_asg _ _
        · obtain ⟨c0, t1, f1, f2, f3⟩ := Cond.castable_spec (va_Nw.use (A := args) rfl (va_Nw.warmC (xwarm hX) (hg.nw e3 rfl)))
          have hq2 : s.vm.findClass C9 = some cell.cls := q2
          cases hq2.symm.trans f1
          cases k3.symm.trans f2
          exact f3
      exact W.aast hX.1 hX.2.1 (xarr hS ha hown0) (fun q h => by cases h) (fun h => by cases h) k1 k2 rfl hkE ⟨h0, by show _ < (arrV _ _ _).slots.size; rw [arrV_size]; exact hlt⟩ q1 (fun q h => by rw [h] at q3; cases q3) hkV hasg rfl rfl (xd_to hd) fun H1 e1 z1 oq => next (.ref bx) H1 rfl e1 z1 oq rfl
    · next q hq =>
      obtain ⟨hk3, hk0⟩ := hsto
      obtain ⟨qk, qx⟩ := q
      have hk0' : qk = 0 := hk0
      subst hk3
      subst hk0'
      cases hC
      obtain ⟨cv, hcv, hvm0, -, -, -, -, hcl⟩ := xarw hg hS hq (xwarm hX)
      have hcl0 := hcl
      have hra : s.vm.findClass "[I" = some (gA g 0) := (hg.ar (k := 0) rfl (xwarm hX)).2 (by decide)
      obtain ⟨kV, hkV, -⟩ := Vm.findClass_spec hra
      obtain ⟨c0, t1, f1, f2, f3⟩ := Cond.castable_spec (va_Nw.use (A := args) rfl (va_Nw.warmC (xwarm hX) (hg.nw q3385 rfl)))
      cases hra.symm.trans f1
      cases k3.symm.trans f2
      exact W.aast hX.1 hX.2.1 (xarr hS ha hown0) (fun q h => by cases h) (fun h => by cases h) k1 k2 rfl hkE ⟨h0, by show _ < (arrV _ _ _).slots.size; rw [arrV_size]; exact hlt⟩ hcv (hvm0 .int rfl).1 (by rw [hcl0]; exact hkV) (by rw [hcl0]; exact f3) rfl rfl (xd_to hd) fun H1 e1 z1 oq => next (.ref bx) H1 rfl e1 z1 oq rfl
    · exact hsto.elim
  · exact hsto.elim
theorem so_arraylength {g : xG} {I : xI} {K : xR → xH → Prop} {d pc : Nat} {ls : List (Option Value)} {st : List Value} {σ : xH} {k : xK} (hk : ∀ pc ls st σ, k pc ls st σ → VW g I K d pc ls st σ) (hd : xd I pc = some (.arraylength, 1)) (h : pR st fun a r => arA (σ.1 a) (kale k (pc + 1) ls r σ)) : VW g I K d pc ls st σ := by
  obtain ⟨a, r, rfl, h1⟩ := pR_i h
  obtain ⟨kk, x, ha, hkk, h2⟩ := arA_i h1
  intro hg p e s m args below meth c hX H locs arr cells slots hS hL hA
  obtain ⟨ty, hty⟩ := kty_le hkk
  obtain ⟨cell, c1, c2, -, -, c5, -⟩ := xarw hg hS ha (xwarm hX)
  exact W.alen (n := Int32.ofNat x.1) hX.1 hX.2.1 c1 (c2 ty hty) c5 rfl rfl (xd_to hd) (hk _ _ _ _ h2 hg p e s m args below meth c hX H locs arr cells slots hS hL hA)
theorem xroomC {g : xG} {σ : xH} {s : State} {H : Heap} {p : Program} {l : Launch} {e : Env} {Rm : Room} {m : MethodId} {args : Array Value} {below : List Frame} {meth : Method} {c : Code} {T : State} {locs : List Loc} {cells slots d n : Nat} (hS : xSt g σ H) (hT : T.heap = H) (X : Stand p l e Rm s m args below meth c T locs cells slots) (h1 : σ.2.1 + 1 ≤ gN g) (h2 : σ.2.2 + n ≤ gW g) : H.size - s.heap.size + 1 ≤ (xRm g d s.heap.size (hz s.heap)).cells ∧ hz H - hz s.heap + n ≤ (xRm g d s.heap.size (hz s.heap)).slots := by
  have hsz : s.heap.size ≤ H.size := by rw [← hT]; exact X.same.2.1
  have hzz : hz s.heap ≤ hz H := by
    have h9 := hz_drop X.same
    have h8 : hz (T.setVm s.vm).heap = hz T.heap := rfl
    rw [h8] at h9
    rw [← hT, h9]
    exact Nat.le_add_right _ _
  refine ⟨?_, ?_⟩
  · show H.size - s.heap.size + 1 ≤ gN g - s.heap.size
    rw [hS.1] at hsz ⊢
    omega
  · show hz H - hz s.heap + n ≤ gW g - hz s.heap
    rw [hS.2.1] at hzz ⊢
    omega
theorem W.ofS {p : Program} {l : Launch} {e : Env} {R : Room} {s : State} {m : MethodId} {args : Array Value} {below : List Frame} {meth : Method} {c : Code} {H : Heap} {locs : List Loc} {cells slots : Nat} {Q : State → Prop} {g : JFrame} (h : ∀ T : State, T.heap = H → Stand p l e R s m args below meth c T locs cells slots → W p l e R s m args below meth c H locs cells slots Q g) : W p l e R s m args below meth c H locs cells slots Q g := fun T hT X => h T hT X T hT X
theorem so_new {g : xG} {I : xI} {K : xR → xH → Prop} {d pc : Nat} {ls : List (Option Value)} {st : List Value} {σ : xH} {k : xK} (hk : ∀ pc ls st σ, k pc ls st σ → VW g I K d pc ls st σ) {idx : Nat} (hd : xd I pc = some (.new idx, 3)) (h : opS (nw (iO I) idx) (knw g k (pc + 3) ls st σ)) : VW g I K d pc ls st σ := by
  obtain ⟨ci, hci, ⟨hb1, hb2⟩, h2⟩ := opS_i h
  intro hg p e s m args below meth c hX H locs arr cells slots hS hL hA
  obtain ⟨hlt, C, T, N, hc, hcl, hinst, hini, hlen, hdf⟩ := nw_ok hci
  obtain ⟨hcls, hkn⟩ := hg.kn hc (xwarm hX)
  refine W.exact (W.ofS fun T9 hT9 X9 => ?_)
  obtain ⟨r1, r2⟩ := xroomC (d := d) hS hT9 X9 hb1 hb2
  rw [hlen] at r2 h2 hb2
  refine W.newcK hX.1 hX.2.1 (xown hX) (hg.word hcl (xwarm hX) _) (hg.word hinst (xwarm hX) _) (hg.word hini (xwarm hX) _) rfl (xd_to hd) r1 r2 hcls.1 rfl fun H' kC hkC e1 z1 oq => ?_
  rw [← hS.1] at h2
  have hsl : (blank ((gD g).1 ci) kC).slots.size = N := by
    obtain ⟨cC', kC', g1, g2, g3, g4⟩ := Cond.instantiable_spec (hg.word hinst (xwarm hX) args)
    cases g1.symm.trans hcls.1
    cases g2.symm.trans hkC
    simpa [blank] using g4.2.2
  have key := hS.new (e' := ob ci (dfT ci)) (n := N) (H' := H') hb1 hb2 e1 hsl ⟨rfl, rfl⟩ z1 oq (by
    obtain ⟨C', T', N', tyf, hc', hin, htyf, hnm⟩ := xCF_all ci hlt
    cases hc.symm.trans hc'
    have hts : ∀ w ∈ lw_all, w.before args s = true := fun w hw => hg.word hw (xwarm hX) args
    refine ⟨_, hc, t_OB.to (V := fun j => defaultValue (tyf j)) ⟨_, e1, rfl, rfl, fun j hj => ?_⟩ (fun j hj => ?_)⟩
    · obtain ⟨cf, kf, fi, fd, hi, hsl, -⟩ := hkn j hj
      have h3 := (u_facts hcls.1 hkC (u_lays hts hin hj) hi).2.2
      rw [(State.fieldFound?_type hi (htyf j hj)).2] at h3
      rw [← hsl]
      exact k2_blank h3
    · obtain ⟨ty, t1, t2⟩ := hdf j hj
      cases t1.symm.trans (htyf j hj)
      exact t2.symm)
  rw [← hS.1] at key
  exact hk _ _ _ _ h2 hg p e s m args below meth c hX H' locs arr _ _ key hL hA
theorem so_newarray_int {g : xG} {I : xI} {K : xR → xH → Prop} {d pc : Nat} {ls : List (Option Value)} {st : List Value} {σ : xH} {k : xK} (hk : ∀ pc ls st σ, k pc ls st σ → VW g I K d pc ls st σ) (hd : xd I pc = some (.newarray .int, 2)) (h : pI st fun a r => ((¬ a < 0 ∧ a.toNatClampNeg * 8 ≤ 536870912) ∧ σ.2.1 + 1 ≤ gN g ∧ σ.2.2 + a.toNatClampNeg ≤ gW g) ∧ k (pc + 2) ls (.ref σ.2.1 :: r) (xu σ.1 σ.2.1 (ai 0 a.toNatClampNeg (fun _ => 0)), σ.2.1 + 1, σ.2.2 + a.toNatClampNeg)) : VW g I K d pc ls st σ := by
  obtain ⟨a, r, rfl, ⟨⟨hneg, hbytes⟩, hb1, hb2⟩, h2⟩ := pI_i h
  intro hg p e s m args below meth c hX H locs arr cells slots hS hL hA
  refine W.exact (W.ofS fun T9 hT9 X9 => ?_)
  obtain ⟨r1, r2⟩ := xroomC (d := d) hS hT9 X9 hb1 hb2
  refine W.newa (atype := .int) hX.1 hX.2.1 (hg.word q236 (xwarm hX) _) rfl (xd_to hd) rfl hneg (by show _ * 4 ≤ _; omega) r1 r2 fun cA kA comp f1 f2 f3 => ?_
  have hra : s.vm.findClass ("[" ++ (FieldType.int).toString) = some (gA g 0) := (hg.ar (k := 0) rfl (xwarm hX)).2 (by decide)
  cases hra.symm.trans f1
  rw [← hS.1] at h2
  have key := hS.new (e' := ai 0 a.toNatClampNeg (fun _ => 0)) (n := a.toNatClampNeg) (H' := H.push { cls := gA g 0, slots := Array.replicate a.toNatClampNeg (defaultValue .int), vm := .none }) hb1 hb2 (x := { cls := gA g 0, slots := Array.replicate a.toNatClampNeg (defaultValue .int), vm := .none }) (by simp) (by simp) ⟨rfl, rfl⟩ (by simp) (fun q hq => by rw [Array.getElem?_push, if_neg (Nat.ne_of_lt hq)]) (by
    show (H.push _)[H.size]? = some (vp_cell _ _)
    rw [vp_cell_i]
    rw [← arrV_new]
    simp [defaultValue])
  rw [← hS.1] at key
  exact hk _ _ _ _ h2 hg p e s m args below meth c hX _ locs arr _ _ key hL hA
theorem so_newarray_byte {g : xG} {I : xI} {K : xR → xH → Prop} {d pc : Nat} {ls : List (Option Value)} {st : List Value} {σ : xH} {k : xK} (hk : ∀ pc ls st σ, k pc ls st σ → VW g I K d pc ls st σ) (hd : xd I pc = some (.newarray .byte, 2)) (h : pI st fun a r => ((¬ a < 0 ∧ a.toNatClampNeg * 8 ≤ 536870912) ∧ σ.2.1 + 1 ≤ gN g ∧ σ.2.2 + a.toNatClampNeg ≤ gW g) ∧ k (pc + 2) ls (.ref σ.2.1 :: r) (xu σ.1 σ.2.1 (ai 1 a.toNatClampNeg (fun _ => 0)), σ.2.1 + 1, σ.2.2 + a.toNatClampNeg)) : VW g I K d pc ls st σ := by
  obtain ⟨a, r, rfl, ⟨⟨hneg, hbytes⟩, hb1, hb2⟩, h2⟩ := pI_i h
  intro hg p e s m args below meth c hX H locs arr cells slots hS hL hA
  refine W.exact (W.ofS fun T9 hT9 X9 => ?_)
  obtain ⟨r1, r2⟩ := xroomC (d := d) hS hT9 X9 hb1 hb2
  refine W.newa (atype := .byte) hX.1 hX.2.1 (hg.word q200 (xwarm hX) _) rfl (xd_to hd) rfl hneg (by show _ * 1 ≤ _; omega) r1 r2 fun cA kA comp f1 f2 f3 => ?_
  have hra : s.vm.findClass ("[" ++ (FieldType.byte).toString) = some (gA g 1) := (hg.ar (k := 1) rfl (xwarm hX)).2 (by decide)
  cases hra.symm.trans f1
  rw [← hS.1] at h2
  have key := hS.new (e' := ai 1 a.toNatClampNeg (fun _ => 0)) (n := a.toNatClampNeg) (H' := H.push { cls := gA g 1, slots := Array.replicate a.toNatClampNeg (defaultValue .byte), vm := .none }) hb1 hb2 (x := { cls := gA g 1, slots := Array.replicate a.toNatClampNeg (defaultValue .byte), vm := .none }) (by simp) (by simp) ⟨rfl, rfl⟩ (by simp) (fun q hq => by rw [Array.getElem?_push, if_neg (Nat.ne_of_lt hq)]) (by
    show (H.push _)[H.size]? = some (vp_cell _ _)
    rw [vp_cell_i]
    rw [← arrV_new]
    simp [defaultValue])
  rw [← hS.1] at key
  exact hk _ _ _ _ h2 hg p e s m args below meth c hX _ locs arr _ _ key hL hA
theorem so_newarray_long {g : xG} {I : xI} {K : xR → xH → Prop} {d pc : Nat} {ls : List (Option Value)} {st : List Value} {σ : xH} {k : xK} (hk : ∀ pc ls st σ, k pc ls st σ → VW g I K d pc ls st σ) (hd : xd I pc = some (.newarray .long, 2)) (h : pI st fun a r => ((¬ a < 0 ∧ a.toNatClampNeg * 8 ≤ 536870912) ∧ σ.2.1 + 1 ≤ gN g ∧ σ.2.2 + a.toNatClampNeg ≤ gW g) ∧ k (pc + 2) ls (.ref σ.2.1 :: r) (xu σ.1 σ.2.1 (al 2 a.toNatClampNeg (fun _ => 0)), σ.2.1 + 1, σ.2.2 + a.toNatClampNeg)) : VW g I K d pc ls st σ := by
  obtain ⟨a, r, rfl, ⟨⟨hneg, hbytes⟩, hb1, hb2⟩, h2⟩ := pI_i h
  intro hg p e s m args below meth c hX H locs arr cells slots hS hL hA
  refine W.exact (W.ofS fun T9 hT9 X9 => ?_)
  obtain ⟨r1, r2⟩ := xroomC (d := d) hS hT9 X9 hb1 hb2
  refine W.newa (atype := .long) hX.1 hX.2.1 (hg.word q3291 (xwarm hX) _) rfl (xd_to hd) rfl hneg (by show _ * 8 ≤ _; omega) r1 r2 fun cA kA comp f1 f2 f3 => ?_
  have hra : s.vm.findClass ("[" ++ (FieldType.long).toString) = some (gA g 2) := (hg.ar (k := 2) rfl (xwarm hX)).2 (by decide)
  cases hra.symm.trans f1
  rw [← hS.1] at h2
  have key := hS.new (e' := al 2 a.toNatClampNeg (fun _ => 0)) (n := a.toNatClampNeg) (H' := H.push { cls := gA g 2, slots := Array.replicate a.toNatClampNeg (defaultValue .long), vm := .none }) hb1 hb2 (x := { cls := gA g 2, slots := Array.replicate a.toNatClampNeg (defaultValue .long), vm := .none }) (by simp) (by simp) ⟨rfl, rfl⟩ (by simp) (fun q hq => by rw [Array.getElem?_push, if_neg (Nat.ne_of_lt hq)]) (by
    show (H.push _)[H.size]? = some (vp_cell _ _)
    rw [vp_cell_l]
    rw [← arrV_new]
    simp [defaultValue])
  rw [← hS.1] at key
  exact hk _ _ _ _ h2 hg p e s m args below meth c hX _ locs arr _ _ key hL hA
theorem so_anewarray {g : xG} {I : xI} {K : xR → xH → Prop} {d pc : Nat} {ls : List (Option Value)} {st : List Value} {σ : xH} {k : xK} (hk : ∀ pc ls st σ, k pc ls st σ → VW g I K d pc ls st σ) {idx : Nat} (hd : xd I pc = some (.anewarray idx, 3)) (h : pI st fun a r => opS (an (iO I) idx) (kan g k (pc + 3) ls r σ a)) : VW g I K d pc ls st σ := by
  obtain ⟨a, r, rfl, h1⟩ := pI_i h
  obtain ⟨kk, hkk, ⟨⟨hneg, hbytes⟩, hb1, hb2⟩, h2⟩ := opS_i h1
  intro hg p e s m args below meth c hX H locs arr cells slots hS hL hA
  obtain ⟨C, hk6, hC, hcl, hov⟩ := an_ok hkk
  refine W.exact (W.ofS fun T9 hT9 X9 => ?_)
  obtain ⟨r1, r2⟩ := xroomC (d := d) hS hT9 X9 hb1 hb2
  obtain ⟨b9, hb9⟩ := hg.tbl hov
  refine W.anew (C := C) hX.1 hX.2.1 (xown hX) (hg.word hcl (xwarm hX) _) (va_AO.use (va_AO.moved (xwarm hX).alike (va_AO.of hb9))) rfl (xd_to hd) rfl hneg hbytes r1 r2 fun cA kA comp f1 f2 f3 f4 => ?_
  obtain ⟨kA', comp', g1, g2, g3, g4⟩ := (hg.ar hC (xwarm hX)).2 hk6
  cases g4.symm.trans f1
  rw [← hS.1] at h2
  have key := hS.new (e' := aq kk a.toNatClampNeg (fun _ => none)) (n := a.toNatClampNeg) (H' := H.push { cls := gA g kk, slots := Array.replicate a.toNatClampNeg .null, vm := .none }) hb1 hb2 (x := { cls := gA g kk, slots := Array.replicate a.toNatClampNeg .null, vm := .none }) (by simp) (by simp) ⟨rfl, rfl⟩ (by simp) (fun q hq => by rw [Array.getElem?_push, if_neg (Nat.ne_of_lt hq)]) (by
    show (H.push _)[H.size]? = some (vp_cell _ _)
    rw [vp_cell_q]
    rw [← arrV_new]
    simp [va_rf])
  rw [← hS.1] at key
  exact hk _ _ _ _ h2 hg p e s m args below meth c hX _ locs arr _ _ key hL hA
theorem va_RA.name {U : State} {cA : ClassId} {ty : FieldType} (h : va_RA U cA ty) : U.vm.findClass ("[" ++ ty.toString) = some cA := by
  cases ty with
  | object C => obtain ⟨_, _, _, _, _, h4⟩ := h; exact h4
  | _ => exact h
theorem so_checkcast {g : xG} {I : xI} {K : xR → xH → Prop} {d pc : Nat} {ls : List (Option Value)} {st : List Value} {σ : xH} {k : xK} (hk : ∀ pc ls st σ, k pc ls st σ → VW g I K d pc ls st σ) {idx : Nat} (hd : xd I pc = some (.checkcast idx, 3)) (h : pV st fun a r => cst (iO I) idx σ a ∧ k (pc + 3) ls (a :: r) σ) : VW g I K d pc ls st σ := by
  obtain ⟨a, r, rfl, hc, h2⟩ := pV_i h
  intro hg p e s m args below meth c hX H locs arr cells slots hS hL hA
  unfold cst at hc
  split at hc
  · exact lv_castN hX.1 hX.2.1 (xd_to hd) (hk _ _ _ _ h2 hg p e s m args below meth c hX H locs arr cells slots hS hL hA)
  · next b =>
    split at hc
    · next q hq =>
      obtain ⟨nm, C9, T9, N9, e2, hl, e3⟩ := ck_ok hc
      obtain ⟨cell, q1, q3, q2, -⟩ := hS.recv hg hq (xwarm hX) e2
      have hr : ∃ cell : Cell, H[b]? = some cell ∧ cell.vm.isStatics = false ∧ s.vm.findClass C9 = some cell.cls := ⟨cell, q1, q3, q2⟩
      rcases e3 with ⟨e3, -⟩ | ⟨-, e3⟩ | ⟨e3, -⟩
      · subst e3
        exact va_castE hX.1 hX.2.1 (xown hX) (hg.word hl (xwarm hX) _) hr (xd_to hd) (hk _ _ _ _ h2 hg p e s m args below meth c hX H locs arr cells slots hS hL hA)
      · exact va_castY hX.1 hX.2.1 (xown hX) (hg.word hl (xwarm hX) _) (va_Nw.warmC (xwarm hX) (hg.nw e3 rfl)) hr (xd_to hd) (hk _ _ _ _ h2 hg p e s m args below meth c hX H locs arr cells slots hS hL hA)
      · cases e3
    · next q hq =>
      obtain ⟨nm, ty, e8, e2, hl, e3⟩ := ca_ok hc
      obtain ⟨cell, c1, c2, -, -, -, -, c7⟩ := xarw hg hS hq (xwarm hX)
      have hst : cell.vm.isStatics = false := by
        have z := (c2 ty e2).1
        cases hv : cell.vm with
        | statics w => exact absurd hv (z w)
        | _ => rfl
      refine va_castE hX.1 hX.2.1 (xown hX) (hg.word hl (xwarm hX) _) ⟨cell, c1, hst, ?_⟩ (xd_to hd) (hk _ _ _ _ h2 hg p e s m args below meth c hX H locs arr cells slots hS hL hA)
      rw [c7, e3]
      exact va_RA.name ((hg.ar e2 (xwarm hX)).2 e8)
    · exact hc.elim
  · exact hc.elim
theorem so_instanceof {g : xG} {I : xI} {K : xR → xH → Prop} {d pc : Nat} {ls : List (Option Value)} {st : List Value} {σ : xH} {k : xK} (hk : ∀ pc ls st σ, k pc ls st σ → VW g I K d pc ls st σ) {idx : Nat} (hd : xd I pc = some (.instanceof idx, 3)) (h : pV st fun a r => iof (iO I) idx σ a (klI k (pc + 3) ls r σ)) : VW g I K d pc ls st σ := by
  obtain ⟨a, r, rfl, h1⟩ := pV_i h
  intro hg p e s m args below meth c hX H locs arr cells slots hS hL hA
  unfold iof at h1
  split at h1
  · exact lv_instN hX.1 hX.2.1 (xd_to hd) (hk _ _ _ _ h1 hg p e s m args below meth c hX H locs arr cells slots hS hL hA)
  · next b =>
    obtain ⟨ci, fs, hq, h2⟩ := obS_i h1
    obtain ⟨t, hc, h3⟩ := opS_i h2
    obtain ⟨nm, C9, T9, N9, e2, hl, e3⟩ := ck_ok hc
    obtain ⟨cell, q1, q3, q2, -⟩ := hS.recv hg hq (xwarm hX) e2
    have hr : ∃ cell : Cell, H[b]? = some cell ∧ cell.vm.isStatics = false ∧ s.vm.findClass C9 = some cell.cls := ⟨cell, q1, q3, q2⟩
    rcases e3 with ⟨e3, rfl⟩ | ⟨rfl, e3⟩ | ⟨rfl, e3⟩
    · subst e3
      exact va_instE hX.1 hX.2.1 (xown hX) (hg.word hl (xwarm hX) _) hr (xd_to hd) (hk _ _ _ _ h3 hg p e s m args below meth c hX H locs arr cells slots hS hL hA)
    · exact va_instY hX.1 hX.2.1 (xown hX) (hg.word hl (xwarm hX) _) (va_Nw.warmC (xwarm hX) (hg.nw e3 rfl)) hr (xd_to hd) (hk _ _ _ _ h3 hg p e s m args below meth c hX H locs arr cells slots hS hL hA)
    · exact va_instNo hX.1 hX.2.1 (xown hX) (hg.word hl (xwarm hX) _) ((hg.2.2.2.2.2.2.1 _ e3).moved (xwarm hX).alike) hr (xd_to hd) (hk _ _ _ _ h3 hg p e s m args below meth c hX H locs arr cells slots hS hL hA)
  · exact h1.elim
theorem so_getstatic {g : xG} {I : xI} {K : xR → xH → Prop} {d pc : Nat} {ls : List (Option Value)} {st : List Value} {σ : xH} {k : xK} (hk : ∀ pc ls st σ, k pc ls st σ → VW g I K d pc ls st σ) {idx : Nat} (hd : xd I pc = some (.getstatic idx, 3)) (h : opS (gs (iO I) idx) (kgs g k (pc + 3) ls st σ)) : VW g I K d pc ls st σ := by
  obtain ⟨i, hi, h2⟩ := opS_i h
  intro hg p e s m args below meth c hX H locs arr cells slots hS hL hA
  obtain ⟨q, hq, hl⟩ := gs_ok hi
  obtain ⟨cf, kf, fi, f, a, cell, h1, h3, h4, h5, h6, h7, h8, h9⟩ := (hg.2.2.2.2.1 i q hq).moved (xwarm hX).alike
  have ha : H[a]? = some cell := by rw [hS.2.2.2.2.1 a (Nat.lt_of_not_le h9)]; exact h6
  exact W.gets hX.1 hX.2.1 (xown hX) (hg.word hl (xwarm hX) _) h1 h3 h4 h5 ha (fun e => by rw [e] at h7; cases h7) h8 rfl (xd_to hd) (hk _ _ _ _ h2 hg p e s m args below meth c hX H locs arr cells slots hS hL hA)
theorem so_ldc {g : xG} {I : xI} {K : xR → xH → Prop} {d pc : Nat} {ls : List (Option Value)} {st : List Value} {σ : xH} {k : xK} (hk : ∀ pc ls st σ, k pc ls st σ → VW g I K d pc ls st σ) {idx : Nat} (hd : xd I pc = some (.ldc idx, 2)) (h : ldv g (iO I) idx (kvv k (pc + 2) ls st σ)) : VW g I K d pc ls st σ := by
  intro hg p e s m args below meth c hX H locs arr cells slots hS hL hA
  unfold ldv at h
  split at h
  · next v hv => exact lv_ldc hX.1 hX.2.1 (xown hX) (hg.word (li_ok hv) (xwarm hX) _) (xd_to hd) (hk _ _ _ _ h hg p e s m args below meth c hX H locs arr cells slots hS hL hA)
  · split at h
    · next i hi =>
      obtain ⟨t, ht⟩ := lt_ok hi
      exact va_ldcS hX.1 hX.2.1 (xown hX) (vk_R.warm (xwarm hX) (hg.2.2.2.2.2.1 i _ ht)) (xd_to hd) (hk _ _ _ _ h hg p e s m args below meth c hX H locs arr cells slots hS hL hA)
    · split at h
      · next i hi =>
        obtain ⟨C, hC, hl⟩ := lm_ok hi
        exact va_ldcM hX.1 hX.2.1 (xown hX) (hg.word hl (xwarm hX) _) ((hg.2.2.2.2.2.2.2.1 i C hC).moved (xwarm hX).alike) (xd_to hd) (hk _ _ _ _ h hg p e s m args below meth c hX H locs arr cells slots hS hL hA)
      · split at h
        · next v hv => exact lv_ldcf hX.1 hX.2.1 (xown hX) (hg.word (lf_ok hv) (xwarm hX) _) (xd_to hd) (hk _ _ _ _ h hg p e s m args below meth c hX H locs arr cells slots hS hL hA)
        · exact h.elim
theorem xldcSw {p : Program} {l : Launch} {e : Env} {R : Room} {s : State} {m : MethodId} {args : Array Value} {below : List Frame} {meth : Method} {c : Code} {H : Heap} {locs : List Loc} {cells slots : Nat} {Q : State → Prop} {cc : ByteArray} {pc : Nat} {ls : Array Slot} {rest : List Value} (hexec : p.tables.exec = Jvm.exec) (hb : c.code = cc) {own tx : String} {index q : Nat} (hown : s.vm.findClass own = some m.cls) (hZ : vk_R own index tx q s) (hdg : decode cc pc = .ok (.ldc_w index, 3))
    (k : W p l e R s m args below meth c H locs cells slots Q (F0 m (pc + 3) ls (.ref q :: rest))) : W p l e R s m args below meth c H locs cells slots Q (F0 m pc ls rest) := by
  intro T hT X
  obtain ⟨t, a1, b1⟩ := k T hT X
  exact ⟨t, X.ldcStringW hexec hown (text := tx) (a := q) hZ.1 hZ.2 (g := F0 m pc ls rest) rfl (by rw [hb]; exact hdg) t a1, b1⟩
theorem so_ldc_w {g : xG} {I : xI} {K : xR → xH → Prop} {d pc : Nat} {ls : List (Option Value)} {st : List Value} {σ : xH} {k : xK} (hk : ∀ pc ls st σ, k pc ls st σ → VW g I K d pc ls st σ) {idx : Nat} (hd : xd I pc = some (.ldc_w idx, 3)) (h : opS (lt (iO I) idx) (ktx g k (pc + 3) ls st σ)) : VW g I K d pc ls st σ := by
  obtain ⟨i, hi, h2⟩ := opS_i h
  intro hg p e s m args below meth c hX H locs arr cells slots hS hL hA
  obtain ⟨t, ht⟩ := lt_ok hi
  exact xldcSw hX.1 hX.2.1 (xown hX) (vk_R.warm (xwarm hX) (hg.2.2.2.2.2.1 i _ ht)) (xd_to hd) (hk _ _ _ _ h2 hg p e s m args below meth c hX H locs arr cells slots hS hL hA)
theorem so_ldc2_w {g : xG} {I : xI} {K : xR → xH → Prop} {d pc : Nat} {ls : List (Option Value)} {st : List Value} {σ : xH} {k : xK} (hk : ∀ pc ls st σ, k pc ls st σ → VW g I K d pc ls st σ) {idx : Nat} (hd : xd I pc = some (.ldc2_w idx, 3)) (h : opS (ll (iO I) idx) (klL k (pc + 3) ls st σ)) : VW g I K d pc ls st σ := by
  obtain ⟨v, hv, h2⟩ := opS_i h
  intro hg p e s m args below meth c hX H locs arr cells slots hS hL hA
  exact lv_ldc2 hX.1 hX.2.1 (xown hX) (hg.word (ll_ok hv) (xwarm hX) _) (xd_to hd) (hk _ _ _ _ h2 hg p e s m args below meth c hX H locs arr cells slots hS hL hA)
theorem xend {g : xG} {I : xI} {K : xR → xH → Prop} {d pc : Nat} {ls : List (Option Value)} {σ : xH} {v : Option Value} {st : List Value} (hK : K (.inl v) σ)
    (hret : GOk g → ∀ (p : Program) (e : Env) (s : State) (m : MethodId) (args : Array Value) (below : List Frame) (meth : Method) (c : Code), xX g I p s m meth c → ∀ (H : Heap) (arr : Array Slot) (locs : List Loc) (Qc : Array Value → State → Outcome → State → Prop) (R : Room) (cells slots : Nat),
      (∀ t : State, t.heap = H → s.WarmedH t.vm → Qc args s (.returned v) t) → (∀ q ∈ locs, g0 g ≤ q.base) → W p (gL g) e R s m args below meth c H locs cells slots (MQ below Qc args s cells slots (fun z => g0 g ≤ z)) (F0 m pc arr st)) : VW g I K d pc ls st σ := by
  intro hg p e s m args below meth c hX H locs arr cells slots hS hL hA
  refine W.exact ?_
  intro T hT X
  have w := hret hg p e s m args below meth c hX H arr locs (fun _ s' o t => o = .returned v ∧ t.heap = H ∧ s'.WarmedH t.vm) (xRm g d s.heap.size (hz s.heap)) (H.size - s.heap.size) (hz H - hz s.heap) (fun t h1 h2 => ⟨rfl, h1, h2⟩) hL
  obtain ⟨t, a1, o, b1, b2, ⟨rfl, hh, hw⟩, L, ⟨⟨v9, hv9⟩, f2, f3⟩, hLL⟩ := w T hT X
  exact ⟨t, a1, .returned v, b1, b2, σ, L, by rw [hh]; exact hS, hw, by rw [← hS.1, ← hS.2.1]; exact f3, fun q hq => hLL q hq, Or.inl ⟨v, rfl, hK⟩⟩
theorem rfit_i {o : Option FieldType} {x : Int32} (h : rfit o (.int x) = true) : ∃ ty, o = some ty ∧ narrow ty (.int x) = .int x := by
  unfold rfit at h
  split at h
  all_goals first | (next h1 => cases h1; exact ⟨_, rfl, rfl⟩) | skip
  · next y h1 =>
    cases h1
    refine ⟨_, rfl, ?_⟩
    simp only [Bool.or_eq_true, decide_eq_true_eq] at h
    rcases h with h | h <;> subst h <;> decide
  · next y h1 =>
    cases h1
    refine ⟨_, rfl, ?_⟩
    have h2 := of_decide_eq_true h
    have h3 := pk_nc x
    rw [h2] at h3
    exact h3
  · next y h1 =>
    cases h1
    refine ⟨_, rfl, ?_⟩
    have h2 := of_decide_eq_true h
    have h3 := pk_nb x
    rw [h2] at h3
    exact h3
  all_goals first | (next h1 => cases h1) | cases h
theorem rfit_a {o : Option FieldType} {v : Value} (hi : isr v = true) (h : rfit o v = true) : ∃ ty, o = some ty ∧ ((∃ n, ty = .object n) ∨ ∃ t, ty = .array t) ∧ (v = .null ∨ ∃ a, v = .ref a) := by
  unfold rfit at h
  split at h
  all_goals first
    | (cases hi; done)
    | exact ⟨_, rfl, Or.inl ⟨_, rfl⟩, Or.inr ⟨_, rfl⟩⟩
    | exact ⟨_, rfl, Or.inl ⟨_, rfl⟩, Or.inl rfl⟩
    | exact ⟨_, rfl, Or.inr ⟨_, rfl⟩, Or.inr ⟨_, rfl⟩⟩
    | exact ⟨_, rfl, Or.inr ⟨_, rfl⟩, Or.inl rfl⟩
    | cases h
theorem so_ireturn {g : xG} {I : xI} {K : xR → xH → Prop} {d pc : Nat} {ls : List (Option Value)} {st : List Value} {σ : xH} {k : xK} (hk : ∀ pc ls st σ, k pc ls st σ → VW g I K d pc ls st σ) (hd : xd I pc = some (.ireturn, 1)) (h : e1 st fun v => lI (some v) fun x => rfit (iR I) v = true ∧ K (.inl (some v)) σ) : VW g I K d pc ls st σ := by
  obtain ⟨v, rfl, h1⟩ := e1_i h
  obtain ⟨x, hv, hr, h2⟩ := lI_i h1
  cases hv
  refine xend h2 ?_
  intro hg p e s m args below meth c hX H arr locs Qc R cells slots hq hf
  obtain ⟨ty, h3, h4⟩ := rfit_i hr
  have hlocks := hX.2.2.2.2.2.1
  exact W.zret hX.1 hX.2.1 (by rw [hX.2.2.1]; exact h3) h4 hq hf (xd_to hd)
theorem so_areturn {g : xG} {I : xI} {K : xR → xH → Prop} {d pc : Nat} {ls : List (Option Value)} {st : List Value} {σ : xH} {k : xK} (hk : ∀ pc ls st σ, k pc ls st σ → VW g I K d pc ls st σ) (hd : xd I pc = some (.areturn, 1)) (h : e1 st fun v => (isr v = true ∧ rfit (iR I) v = true) ∧ K (.inl (some v)) σ) : VW g I K d pc ls st σ := by
  obtain ⟨v, rfl, ⟨hi, hr⟩, h2⟩ := e1_i h
  refine xend h2 ?_
  intro hg p e s m args below meth c hX H arr locs Qc R cells slots hq hf
  obtain ⟨ty, h3, h4, h5⟩ := rfit_a hi hr
  have hlocks := hX.2.2.2.2.2.1
  exact W.aret hX.1 hX.2.1 (by rw [hX.2.2.1]; exact h3) h4 h5 hq hf (xd_to hd)
theorem so_lreturn {g : xG} {I : xI} {K : xR → xH → Prop} {d pc : Nat} {ls : List (Option Value)} {st : List Value} {σ : xH} {k : xK} (hk : ∀ pc ls st σ, k pc ls st σ → VW g I K d pc ls st σ) (hd : xd I pc = some (.lreturn, 1)) (h : e1 st fun v => lL (some v) fun x => iR I = some .long ∧ K (.inl (some v)) σ) : VW g I K d pc ls st σ := by
  obtain ⟨v, rfl, h1⟩ := e1_i h
  obtain ⟨x, hv, hr, h2⟩ := lL_i h1
  cases hv
  refine xend h2 ?_
  intro hg p e s m args below meth c hX H arr locs Qc R cells slots hq hf
  have hlocks := hX.2.2.2.2.2.1
  exact W.lret hX.1 hX.2.1 (by rw [hX.2.2.1]; exact hr) hq hf (xd_to hd)
theorem so_dreturn {g : xG} {I : xI} {K : xR → xH → Prop} {d pc : Nat} {ls : List (Option Value)} {st : List Value} {σ : xH} {k : xK} (hk : ∀ pc ls st σ, k pc ls st σ → VW g I K d pc ls st σ) (hd : xd I pc = some (.dreturn, 1)) (h : e1 st fun v => lD (some v) fun x => iR I = some .double ∧ K (.inl (some v)) σ) : VW g I K d pc ls st σ := by
  obtain ⟨v, rfl, h1⟩ := e1_i h
  obtain ⟨x, hv, hr, h2⟩ := lD_i h1
  cases hv
  refine xend h2 ?_
  intro hg p e s m args below meth c hX H arr locs Qc R cells slots hq hf
  have hlocks := hX.2.2.2.2.2.1
  exact W.dret hX.1 hX.2.1 (by rw [hX.2.2.1]; exact hr) hq hf (xd_to hd)
theorem so_return {g : xG} {I : xI} {K : xR → xH → Prop} {d pc : Nat} {ls : List (Option Value)} {st : List Value} {σ : xH} {k : xK} (hk : ∀ pc ls st σ, k pc ls st σ → VW g I K d pc ls st σ) (hd : xd I pc = some (.return_, 1)) (h : (st = [] ∧ iR I = none) ∧ K (.inl none) σ) : VW g I K d pc ls st σ := by
  obtain ⟨⟨rfl, hr⟩, h2⟩ := h
  refine xend h2 ?_
  intro hg p e s m args below meth c hX H arr locs Qc R cells slots hq hf
  have hlocks := hX.2.2.2.2.2.1
  exact W.vret hX.1 hX.2.1 (by rw [hX.2.2.1]; exact hr) hq hf (xd_to hd)
theorem so_athrow {g : xG} {I : xI} {K : xR → xH → Prop} {d pc : Nat} {ls : List (Option Value)} {st : List Value} {σ : xH} {k : xK} (hk : ∀ pc ls st σ, k pc ls st σ → VW g I K d pc ls st σ) (hd : xd I pc = some (.athrow, 1)) (h : pR st fun a r => obS (σ.1 a) fun _ _ => xthr g I K d pc ls σ a) : VW g I K d pc ls st σ := by
  obtain ⟨a, r, rfl, h1⟩ := pR_i h
  obtain ⟨ci, fs, ha, h2⟩ := obS_i h1
  intro hg p e s m args below meth c hX H locs arr cells slots hS hL hA
  exact vx_athrow hX.1 hX.2.1 (xd_to hd) ((xthr.vx ha h2) hg p e s m args below meth c hX H locs arr cells slots r hS hL hA)
theorem so_invokestatic {g : xG} {I : xI} {K : xR → xH → Prop} {d pc : Nat} {ls : List (Option Value)} {st : List Value} {σ : xH} {k : xK} (hk : ∀ pc ls st σ, k pc ls st σ → VW g I K d pc ls st σ) {idx : Nat} (hd : xd I pc = some (.invokestatic idx, 3)) (h : opS (ms (iO I) idx) (kms g I K d k pc ls st σ)) : VW g I K d pc ls st σ := by
  obtain ⟨q, hq, h1⟩ := opS_i h
  obtain ⟨w, hw, ⟨hd1, hlen⟩, hC⟩ := opS_i h1
  obtain ⟨hm, hst, hl⟩ := ms_ok hq
  obtain ⟨w9, e1, e2, e3⟩ := tk_i _ _ _ _ _ hw
  rw [List.append_nil] at e1
  refine xcall hk hm hd1 hlen hC ?_
  intro hg p e s m args below meth c hX H arr hS T9 locs cells slots hT9 X9
  obtain ⟨m1, m2, m3, m4, m5, m6⟩ := hm
  refine inv_s X9 hX.1 (xown hX) ?_ (hg.word hst (xwarm hX) _) (hg.word m2 (xwarm hX) _) (hg.word m1 (xwarm hX) _) m3 m4 rfl (by rw [e1]; exact e2) (by rw [e1]; exact e3) (by rw [hX.2.1]; exact xd_to hd)
  rcases hl with hl | ⟨host, hl⟩
  · exact Or.inl (hg.word hl (xwarm hX) _)
  · exact Or.inr ⟨host, va_Nw.use rfl (va_Nw.warmM (xwarm hX) (hg.nw hl rfl))⟩
theorem so_invokespecial {g : xG} {I : xI} {K : xR → xH → Prop} {d pc : Nat} {ls : List (Option Value)} {st : List Value} {σ : xH} {k : xK} (hk : ∀ pc ls st σ, k pc ls st σ → VW g I K d pc ls st σ) {idx : Nat} (hd : xd I pc = some (.invokespecial idx, 3)) (h : opS (mp (iO I) idx) (kmp g I K d k pc ls st σ)) : VW g I K d pc ls st σ := by
  obtain ⟨q, hq, h1⟩ := opS_i h
  obtain ⟨w, hw, h2⟩ := opS_i h1
  obtain ⟨a, l9, ew, ⟨hd1, hlen⟩, hC⟩ := isv_i h2
  obtain ⟨hm, ⟨hy1, hret, hT⟩, hinst, hl⟩ := mp_ok hq
  obtain ⟨w9, e1, e2, e3⟩ := tk_i _ _ _ _ _ hw
  rw [List.append_nil, ew] at e1
  subst e1
  refine xcall hk hm hd1 hlen hC ?_
  intro hg p e s m args below meth c hX H arr hS T9 locs cells slots hT9 X9
  obtain ⟨m1, m2, m3, m4, m5, m6⟩ := hm
  rw [ew]
  refine inv_p X9 hX.1 (xown hX) hy1 hret hT ?_ (hg.word hinst (xwarm hX) _) (hg.word m1 (xwarm hX) _) m3 m4 rfl (by simpa using e2) (by rw [e3]; simp) (by rw [hX.2.1]; exact xd_to hd)
  rcases hl with hl | ⟨host, hl⟩
  · exact Or.inl (hg.word hl (xwarm hX) _)
  · exact Or.inr ⟨host, va_Nw.use rfl (va_Nw.warmM (xwarm hX) (hg.nw hl rfl))⟩
theorem so_invokevirtual {g : xG} {I : xI} {K : xR → xH → Prop} {d pc : Nat} {ls : List (Option Value)} {st : List Value} {σ : xH} {k : xK} (hk : ∀ pc ls st σ, k pc ls st σ → VW g I K d pc ls st σ) {idx : Nat} (hd : xd I pc = some (.invokevirtual idx, 3)) (h : vcv g I σ (mv (iO I) idx) idx st (kms2 g I K d 3 k pc ls st σ)) : VW g I K d pc ls st σ := by
  obtain ⟨a, l9, r9, ci, fs, q, hst, ha, hq, hlen9, ⟨hd1, hlen⟩, hC⟩ := vcv_i h
  obtain ⟨hm, hinst, C9, T9', N9, hc, hl⟩ := mv_ok hq
  refine xcall hk hm hd1 hlen hC ?_
  intro hg p e s m args below meth c hX H arr hS T9 locs cells slots hT9 X9
  obtain ⟨m1, m2, m3, m4, m5, m6⟩ := hm
  obtain ⟨cell, q1, q3, q2, -⟩ := hS.recv hg ha (xwarm hX) hc
  rcases hl with ⟨hsel, hl⟩ | ⟨x9, owner, hsel, hl, hsame, how, hpar, hdec⟩
  · refine inv_v X9 hX.1 (xown hX) ?_ (hg.word hinst (xwarm hX) _) (hg.word hsel (xwarm hX) _) (hg.word m1 (xwarm hX) _) m3 m4 (by rw [hT9]; exact q1) q3 q2 rfl hlen9 hst (by rw [hX.2.1]; exact xd_to hd)
    rcases hl with hl | ⟨host, hl⟩
    · exact Or.inl (hg.word hl (xwarm hX) _)
    · exact Or.inr ⟨host, va_Nw.use rfl (va_Nw.warmM (xwarm hX) (hg.nw hl rfl))⟩
  · refine inv_u X9 hX.1 (xown hX) (hg.word hl (xwarm hX) _) (hg.word hsame (xwarm hX) _) how ?_ (hg.word hsel (xwarm hX) _) (hg.word hinst (xwarm hX) _) hpar (by rw [hT9]; exact q1) q3 q2 rfl hlen9 hst (by rw [hX.2.1]; exact xd_to hd)
    rcases hdec with hdec | ⟨hdec, b9, m9, r9, hcode9⟩
    · exact va_Decl.abs (va_Nw.warmD (xwarm hX) (hg.nw hdec rfl))
    · exact va_Decl.of (hg.word hdec (xwarm hX) args) (hg.word hcode9 (xwarm hX) args)
theorem so_invokeinterface {g : xG} {I : xI} {K : xR → xH → Prop} {d pc : Nat} {ls : List (Option Value)} {st : List Value} {σ : xH} {k : xK} (hk : ∀ pc ls st σ, k pc ls st σ → VW g I K d pc ls st σ) {idx cnt : Nat} (hd : xd I pc = some (.invokeinterface idx cnt, 5)) (h : vcv g I σ (mf (iO I) idx) idx st (kms2 g I K d 5 k pc ls st σ)) : VW g I K d pc ls st σ := by
  obtain ⟨a, l9, r9, ci, fs, q, hst, ha, hq, hlen9, ⟨hd1, hlen⟩, hC⟩ := vcv_i h
  obtain ⟨hm, hinst, hT0, C9, T9', N9, x9, hc, hsel, hl, z1, z2, z3, z4, z5, hx9, hpar⟩ := mf_ok hq
  refine xcall hk hm hd1 hlen hC ?_
  intro hg p e s m args below meth c hX H arr hS T9 locs cells slots hT9 X9
  obtain ⟨cell, q1, q3, q2, -⟩ := hS.recv hg ha (xwarm hX) hc
  obtain ⟨b9, hb9⟩ := hg.1
  have hF : va_Fw C9 x9 (iY q.1) s := (va_Fw.of (hb9 _ z1) (hb9 _ z2) (hb9 _ z3) (hb9 _ z4) (hb9 _ z5)).moved hx9 (xwarm hX).alike
  exact inv_f X9 hX.1 (xown hX) (hg.word hl (xwarm hX) _) hF (hg.word hsel (xwarm hX) _) (hg.word hinst (xwarm hX) _) hx9 hpar (by rw [hT9]; exact q1) q3 q2 rfl hlen9 hst (by rw [hX.2.1]; exact xd_to hd)
theorem so_tableswitch {g : xG} {I : xI} {K : xR → xH → Prop} {d pc : Nat} {ls : List (Option Value)} {st : List Value} {σ : xH} {k : xK} (hk : ∀ pc ls st σ, k pc ls st σ → VW g I K d pc ls st σ) {dflt lo hi : Int} {offs : Array Int} {len : Nat} (hd : xd I pc = some (.tableswitch dflt lo hi offs, len)) (h : pI st fun a r => ((offs.toList.length : Int) = hi - lo + 1 ∧ -2147483648 ≤ lo ∧ hi ≤ 2147483647) ∧ ((a.toInt < lo ∨ hi < a.toInt) → tgo pc dflt (ktg k ls r σ)) ∧ tsw pc a (ktg k ls r σ) offs.toList lo) : VW g I K d pc ls st σ := by
  obtain ⟨a, r, rfl, ⟨hlen, hlo, hhi⟩, h1, h2⟩ := pI_i h
  intro hg p e s m args below meth c hX H locs arr cells slots hS hL hA
  by_cases ho : a.toInt < lo ∨ hi < a.toInt
  · obtain ⟨tgt, ht, h3⟩ := tgo_i (h1 ho)
    exact lv_tableOut hX.1 hX.2.1 (xd_to hd) ho ht (hk _ _ _ _ h3 hg p e s m args below meth c hX H locs arr cells slots hS hL hA)
  · have ho1 : ¬ a.toInt < lo := fun q => ho (Or.inl q)
    have ho2 : ¬ hi < a.toInt := fun q => ho (Or.inr q)
    have hj : (a.toInt - lo).toNat < offs.toList.length := by omega
    have hoff : offs[(a.toInt - lo).toNat]? = some (offs.toList[(a.toInt - lo).toNat]) := by
      rw [← Array.getElem?_toList]
      exact List.getElem?_eq_getElem hj
    have hx : a = Int32.ofInt (lo + ((a.toInt - lo).toNat : Nat)) := by
      have : lo + ((a.toInt - lo).toNat : Nat) = a.toInt := by omega
      rw [this, Int32.ofInt_toInt]
    obtain ⟨tgt, ht, h3⟩ := tgo_i (tsw_i _ _ _ _ h2 (List.getElem?_eq_getElem hj) hx)
    exact lv_tableIn hX.1 hX.2.1 (xd_to hd) ho1 ho2 hoff ht (hk _ _ _ _ h3 hg p e s m args below meth c hX H locs arr cells slots hS hL hA)
theorem so_lookupswitch {g : xG} {I : xI} {K : xR → xH → Prop} {d pc : Nat} {ls : List (Option Value)} {st : List Value} {σ : xH} {k : xK} (hk : ∀ pc ls st σ, k pc ls st σ → VW g I K d pc ls st σ) {dflt : Int} {ps : Array (Int × Int)} {len : Nat} (hd : xd I pc = some (.lookupswitch dflt ps, len)) (h : pI st fun a r => (ps.toList.zip (ps.toList.drop 1)).all (fun (a, next) => a.1 < next.1) = true ∧ lsw pc a (ktg k ls r σ) ps.toList dflt) : VW g I K d pc ls st σ := by
  obtain ⟨a, r, rfl, hs9, h2⟩ := pI_i h
  intro hg p e s m args below meth c hX H locs arr cells slots hS hL hA
  obtain ⟨off, ho, hof⟩ : ∃ off, Op.lookupswitch.offset ps.toList dflt a.toInt = off ∧ tgo pc off (ktg k ls r σ) := by
    generalize ps.toList = L at h2
    clear hs9
    induction L with
    | nil => exact ⟨dflt, rfl, h2⟩
    | cons q L ih =>
      rw [Op.lookupswitch.offset_cons]
      by_cases hq : a.toInt = q.1
      · exact ⟨_, rfl, by rw [if_pos hq.symm]; exact h2.1 hq⟩
      · obtain ⟨off, e1, e2⟩ := ih (h2.2 hq)
        exact ⟨off, by rw [if_neg (fun z => hq z.symm)]; exact e1, e2⟩
  obtain ⟨tgt, ht, h3⟩ := tgo_i hof
  exact lv_lookup hX.1 hX.2.1 (xd_to hd) hs9 ho ht (hk _ _ _ _ h3 hg p e s m args below meth c hX H locs arr cells slots hS hL hA)
theorem vs_ok {g : xG} {I : xI} {K : xR → xH → Prop} {d pc : Nat} {ls : List (Option Value)} {st : List Value} {σ : xH} {k : xK} (hk : ∀ pc ls st σ, k pc ls st σ → VW g I K d pc ls st σ) {i : Instr} {len : Nat} (hd : xd I pc = some (i, len)) (h : vs g I K d i len k pc ls st σ) : VW g I K d pc ls st σ := by
  unfold vs at h
  split at h
  · obtain ⟨rfl, h⟩ := h
    exact so_iadd hk hd h
  · obtain ⟨rfl, h⟩ := h
    exact so_isub hk hd h
  · obtain ⟨rfl, h⟩ := h
    exact so_imul hk hd h
  · obtain ⟨rfl, h⟩ := h
    exact so_iand hk hd h
  · obtain ⟨rfl, h⟩ := h
    exact so_ior hk hd h
  · obtain ⟨rfl, h⟩ := h
    exact so_ixor hk hd h
  · obtain ⟨rfl, h⟩ := h
    exact so_ishl hk hd h
  · obtain ⟨rfl, h⟩ := h
    exact so_ishr hk hd h
  · obtain ⟨rfl, h⟩ := h
    exact so_iushr hk hd h
  · obtain ⟨rfl, h⟩ := h
    exact so_idiv hk hd h
  · obtain ⟨rfl, h⟩ := h
    exact so_irem hk hd h
  · obtain ⟨rfl, h⟩ := h
    exact so_ineg hk hd h
  · obtain ⟨rfl, h⟩ := h
    exact so_ladd hk hd h
  · obtain ⟨rfl, h⟩ := h
    exact so_lsub hk hd h
  · obtain ⟨rfl, h⟩ := h
    exact so_lmul hk hd h
  · obtain ⟨rfl, h⟩ := h
    exact so_land hk hd h
  · obtain ⟨rfl, h⟩ := h
    exact so_lor hk hd h
  · obtain ⟨rfl, h⟩ := h
    exact so_lxor hk hd h
  · obtain ⟨rfl, h⟩ := h
    exact so_lshl hk hd h
  · obtain ⟨rfl, h⟩ := h
    exact so_lushr hk hd h
  · obtain ⟨rfl, h⟩ := h
    exact so_lcmp hk hd h
  · obtain ⟨rfl, h⟩ := h
    exact so_i2l hk hd h
  · obtain ⟨rfl, h⟩ := h
    exact so_l2i hk hd h
  · obtain ⟨rfl, h⟩ := h
    exact so_i2b hk hd h
  · obtain ⟨rfl, h⟩ := h
    exact so_i2c hk hd h
  · obtain ⟨rfl, h⟩ := h
    exact so_i2d hk hd h
  · obtain ⟨rfl, h⟩ := h
    exact so_i2f hk hd h
  · obtain ⟨rfl, h⟩ := h
    exact so_f2i hk hd h
  · obtain ⟨rfl, h⟩ := h
    exact so_ddiv hk hd h
  · obtain ⟨rfl, h⟩ := h
    exact so_fmul hk hd h
  · obtain ⟨rfl, h⟩ := h
    exact so_dconst0 hk hd h
  · obtain ⟨rfl, h⟩ := h
    exact so_dcmp hk hd h
  · obtain ⟨rfl, h⟩ := h
    exact so_fcmp hk hd h
  · obtain ⟨rfl, h⟩ := h
    exact so_iconst hk hd h
  · obtain ⟨rfl, h⟩ := h
    exact so_bipush hk hd h
  · obtain ⟨rfl, h⟩ := h
    exact so_sipush hk hd h
  · obtain ⟨rfl, h⟩ := h
    exact so_lconst hk hd h
  · obtain ⟨rfl, h⟩ := h
    exact so_null hk hd h
  · obtain ⟨rfl, h⟩ := h
    exact so_iload_n hk hd h
  · obtain ⟨rfl, h⟩ := h
    exact so_iload hk hd h
  · obtain ⟨rfl, h⟩ := h
    exact so_lload_n hk hd h
  · obtain ⟨rfl, h⟩ := h
    exact so_lload hk hd h
  · obtain ⟨rfl, h⟩ := h
    exact so_fload_n hk hd h
  · obtain ⟨rfl, h⟩ := h
    exact so_fload hk hd h
  · obtain ⟨rfl, h⟩ := h
    exact so_dload_n hk hd h
  · obtain ⟨rfl, h⟩ := h
    exact so_dload hk hd h
  · obtain ⟨rfl, h⟩ := h
    exact so_aload_n hk hd h
  · obtain ⟨rfl, h⟩ := h
    exact so_aload hk hd h
  · obtain ⟨rfl, h⟩ := h
    exact so_istore_n hk hd h
  · obtain ⟨rfl, h⟩ := h
    exact so_astore_n hk hd h
  · obtain ⟨rfl, h⟩ := h
    exact so_lstore_n hk hd h
  · obtain ⟨rfl, h⟩ := h
    exact so_dstore_n hk hd h
  · obtain ⟨rfl, h⟩ := h
    exact so_fstore_n hk hd h
  · obtain ⟨rfl, h⟩ := h
    exact so_istore hk hd h
  · obtain ⟨rfl, h⟩ := h
    exact so_astore hk hd h
  · obtain ⟨rfl, h⟩ := h
    exact so_lstore hk hd h
  · obtain ⟨rfl, h⟩ := h
    exact so_dstore hk hd h
  · obtain ⟨rfl, h⟩ := h
    exact so_fstore hk hd h
  · obtain ⟨rfl, h⟩ := h
    exact so_iinc hk hd h
  · obtain ⟨rfl, h⟩ := h
    exact so_dup hk hd h
  · obtain ⟨rfl, h⟩ := h
    exact so_pop hk hd h
  · obtain ⟨rfl, h⟩ := h
    exact so_dup_x1 hk hd h
  · obtain ⟨rfl, h⟩ := h
    exact so_dup_x2 hk hd h
  · obtain ⟨rfl, h⟩ := h
    exact so_dup2 hk hd h
  · obtain ⟨rfl, h⟩ := h
    exact so_icmp_eq hk hd h
  · obtain ⟨rfl, h⟩ := h
    exact so_if_eq hk hd h
  · obtain ⟨rfl, h⟩ := h
    exact so_icmp_ne hk hd h
  · obtain ⟨rfl, h⟩ := h
    exact so_if_ne hk hd h
  · obtain ⟨rfl, h⟩ := h
    exact so_icmp_lt hk hd h
  · obtain ⟨rfl, h⟩ := h
    exact so_if_lt hk hd h
  · obtain ⟨rfl, h⟩ := h
    exact so_icmp_ge hk hd h
  · obtain ⟨rfl, h⟩ := h
    exact so_if_ge hk hd h
  · obtain ⟨rfl, h⟩ := h
    exact so_icmp_gt hk hd h
  · obtain ⟨rfl, h⟩ := h
    exact so_if_gt hk hd h
  · obtain ⟨rfl, h⟩ := h
    exact so_icmp_le hk hd h
  · obtain ⟨rfl, h⟩ := h
    exact so_if_le hk hd h
  · obtain ⟨rfl, h⟩ := h
    exact so_acmp_eq hk hd h
  · obtain ⟨rfl, h⟩ := h
    exact so_acmp_ne hk hd h
  · obtain ⟨rfl, h⟩ := h
    exact so_goto hk hd h
  · obtain ⟨rfl, h⟩ := h
    exact so_ifnull hk hd h
  · obtain ⟨rfl, h⟩ := h
    exact so_ifnonnull hk hd h
  · obtain ⟨rfl, h⟩ := h
    exact so_getfield hk hd h
  · obtain ⟨rfl, h⟩ := h
    exact so_putfield hk hd h
  · obtain ⟨rfl, h⟩ := h
    exact so_iaload hk hd h
  · obtain ⟨rfl, h⟩ := h
    exact so_baload hk hd h
  · obtain ⟨rfl, h⟩ := h
    exact so_laload hk hd h
  · obtain ⟨rfl, h⟩ := h
    exact so_aaload hk hd h
  · obtain ⟨rfl, h⟩ := h
    exact so_iastore hk hd h
  · obtain ⟨rfl, h⟩ := h
    exact so_bastore hk hd h
  · obtain ⟨rfl, h⟩ := h
    exact so_lastore hk hd h
  · obtain ⟨rfl, h⟩ := h
    exact so_aastore hk hd h
  · obtain ⟨rfl, h⟩ := h
    exact so_arraylength hk hd h
  · obtain ⟨rfl, h⟩ := h
    exact so_new hk hd h
  · obtain ⟨rfl, h⟩ := h
    exact so_newarray_int hk hd h
  · obtain ⟨rfl, h⟩ := h
    exact so_newarray_byte hk hd h
  · obtain ⟨rfl, h⟩ := h
    exact so_newarray_long hk hd h
  · obtain ⟨rfl, h⟩ := h
    exact so_anewarray hk hd h
  · obtain ⟨rfl, h⟩ := h
    exact so_checkcast hk hd h
  · obtain ⟨rfl, h⟩ := h
    exact so_instanceof hk hd h
  · obtain ⟨rfl, h⟩ := h
    exact so_getstatic hk hd h
  · obtain ⟨rfl, h⟩ := h
    exact so_ldc hk hd h
  · obtain ⟨rfl, h⟩ := h
    exact so_ldc_w hk hd h
  · obtain ⟨rfl, h⟩ := h
    exact so_ldc2_w hk hd h
  · obtain ⟨rfl, h⟩ := h
    exact so_ireturn hk hd h
  · obtain ⟨rfl, h⟩ := h
    exact so_areturn hk hd h
  · obtain ⟨rfl, h⟩ := h
    exact so_lreturn hk hd h
  · obtain ⟨rfl, h⟩ := h
    exact so_dreturn hk hd h
  · obtain ⟨rfl, h⟩ := h
    exact so_return hk hd h
  · obtain ⟨rfl, h⟩ := h
    exact so_athrow hk hd h
  · obtain ⟨rfl, h⟩ := h
    exact so_invokestatic hk hd h
  · obtain ⟨rfl, h⟩ := h
    exact so_invokespecial hk hd h
  · obtain ⟨rfl, h⟩ := h
    exact so_invokevirtual hk hd h
  · obtain ⟨rfl, h⟩ := h
    exact so_invokeinterface hk hd h
  · exact so_tableswitch hk hd h
  · exact so_lookupswitch hk hd h
  · exact h
def xstop : List Nat → Nat → Bool
  | [], _ => false
  | a :: l, n => a == n || xstop l n
/-- one step from pc, then on with k -/
def v1 (g : xG) (I : xI) (K : xR → xH → Prop) (d : Nat) (k : xK) (pc : Nat) (ls : List (Option Value)) (st : List Value) (σ : xH) : Prop := opS (xd I pc) fun q => vs g I K d q.1 q.2 k pc ls st σ
/-- n steps, but no further than the places S -/
def vc (g : xG) (I : xI) (K : xR → xH → Prop) (d : Nat) (S : List Nat) : Nat → xK
  | 0 => VW g I K d
  | n + 1 => fun pc ls st σ => if xstop S pc = true then VW g I K d pc ls st σ else v1 g I K d (vc g I K d S n) pc ls st σ
theorem v1_ok {g : xG} {I : xI} {K : xR → xH → Prop} {d : Nat} {k : xK} (hk : ∀ pc ls st σ, k pc ls st σ → VW g I K d pc ls st σ) {pc : Nat} {ls : List (Option Value)} {st : List Value} {σ : xH} (h : v1 g I K d k pc ls st σ) : VW g I K d pc ls st σ := by
  obtain ⟨q, hq, h1⟩ := opS_i h
  exact vs_ok hk hq h1
theorem vc_ok {g : xG} {I : xI} {K : xR → xH → Prop} {d : Nat} {S : List Nat} : ∀ (n pc : Nat) (ls : List (Option Value)) (st : List Value) (σ : xH), vc g I K d S n pc ls st σ → VW g I K d pc ls st σ
  | 0, pc, ls, st, σ, h => h
  | n + 1, pc, ls, st, σ, h => by
    unfold vc at h
    split at h
    · exact h
    · exact v1_ok (vc_ok n) h
theorem vc_s {g : xG} {I : xI} {K : xR → xH → Prop} {d : Nat} {S : List Nat} (n pc : Nat) (ls : List (Option Value)) (st : List Value) (σ : xH) : vc g I K d S (n + 1) pc ls st σ = if xstop S pc = true then VW g I K d pc ls st σ else v1 g I K d (vc g I K d S n) pc ls st σ := rfl
/-- from pc on, up to the places S -/
theorem VW.go {g : xG} {I : xI} {K : xR → xH → Prop} {d : Nat} (S : List Nat) (n : Nat) {pc : Nat} {ls : List (Option Value)} {st : List Value} {σ : xH} (h : v1 g I K d (vc g I K d S n) pc ls st σ) : VW g I K d pc ls st σ := v1_ok (vc_ok n) h
