set_option maxRecDepth 40000
set_option maxHeartbeats 2000000
/-! ===== java/util/HashMap of names to numbers ===== -/
/-- HashMap.hash -/
def sprd (h : Int32) : Int32 := h ^^^ (h.toUInt32 >>> ((16 : Int32).toUInt32 &&& Int32.toUInt32 31)).toInt32
def hsN (w : List Nat) : Int32 := sprd (hsh w)
/-- the bin of a hash in a row of cap bins -/
def bix (cap : Nat) (h : Int32) : Nat := h.toBitVec.toNat % cap
/-- the entries of bin j, in the order they came -/
def binL (cap cnt : Nat) (nm : Nat → List Nat) (j : Nat) : List Nat := (List.range cnt).filter (fun i => decide (bix cap (hsN (nm i)) = j))
/-- a chain of plain nodes -/
def chn (M : xM) (nd ka vb : Nat → Nat) (nm : Nat → List Nat) : Option Nat → List Nat → Prop
  | o, [] => o = none
  | o, i :: l => o = some (nd i) ∧ ∃ nx : Option Nat, M (nd i) = some (ob 21 [.int (hsN (nm i)), .ref (ka i), .ref (vb i), va_rf nx]) ∧ chn M nd ka vb nm nx l
/-- String.compareTo: the first place where two texts differ -/
def cmF (w w' : List Nat) : Nat → Nat → Int32
  | 0, _ => nI w.length - nI w'.length
  | n + 1, j => if tq w j = tq w' j then cmF w w' n (j + 1) else nI (tq w j) - nI (tq w' j)
def cmW (w w' : List Nat) : Int32 := cmF w w' (min w.length w'.length) 0
/-- the order of a tree -/
def kLt (w w' : List Nat) : Prop := hsN w < hsN w' ∨ (hsN w = hsN w' ∧ cmW w w' < 0)
/-- trees over entries: core's RArray, for an inductive type of our own is refused -/
abbrev xT : Type := Lean.RArray Unit
def tRt : xT → Option Nat
  | .leaf _ => none
  | .branch i _ _ => some i
/-- its entries from left to right -/
def tEs : xT → List Nat
  | .leaf _ => []
  | .branch i l r => tEs l ++ i :: tEs r
/-- a tree, by who lies left, right and above -/
def tre (lf rt pa : Nat → Option Nat) : xT → Option Nat → Prop
  | .leaf _, _ => True
  | .branch i l r, p => pa i = p ∧ lf i = tRt l ∧ rt i = tRt r ∧ tre lf rt pa l (some i) ∧ tre lf rt pa r (some i)
def oN (nd : Nat → Nat) (o : Option Nat) : Value := va_rf (o.map nd)
/-- a tree's node -/
abbrev tnE (nd ka vb : Nat → Nat) (nm : Nat → List Nat) (lf rt pa nx pv : Nat → Option Nat) (rd : Nat → Int32) (i : Nat) : xE := ob 22 [.null, .null, .int (hsN (nm i)), .ref (ka i), .ref (vb i), oN nd (nx i), oN nd (pa i), oN nd (lf i), oN nd (rt i), oN nd (pv i), .int (rd i)]
/-- the cells of a tree's nodes -/
def trC (M : xM) (nd ka vb : Nat → Nat) (nm : Nat → List Nat) (lf rt pa nx pv : Nat → Option Nat) (rd : Nat → Int32) (l : List Nat) : Prop :=
  ∀ i ∈ l, M (nd i) = some (tnE nd ka vb nm lf rt pa nx pv rd i) ∧ (rd i = 0 ∨ rd i = 1) ∧ (∀ x, nx i = some x → x ∈ l) ∧ (∀ x, pv i = some x → x ∈ l)
def treB (M : xM) (nd ka vb : Nat → Nat) (nm : Nat → List Nat) (o : Option Nat) (l : List Nat) : Prop :=
  9 ≤ l.length ∧ ∃ (lf rt pa nx pv : Nat → Option Nat) (rd : Nat → Int32) (r : Nat) (t : xT), o = some (nd r) ∧ tRt t = some r ∧ (tEs t).Perm l ∧ (tEs t).Pairwise (fun i j => kLt (nm i) (nm j)) ∧ tre lf rt pa t none ∧ nx r ≠ none ∧ trC M nd ka vb nm lf rt pa nx pv rd l
/-- the entries: nodes, keys, values -/
def mEnt (g : xG) (F : xM) (T : Nat → Nat) (t cnt : Nat) (nm : Nat → List Nat) (nd ka vb : Nat → Nat) : Prop :=
  (∀ i, i < cnt → g0 g ≤ nd i ∧ T (nd i) = t ∧ isS F (ka i) (nm i) ∧ oS g F (ka i) ∧ gC g (vb i) = some (ob 15 [.int (nI i)])) ∧ ∀ i j, i < cnt → j < cnt → nd i = nd j → i = j
def mBin (M : xM) (cap cnt : Nat) (nm : Nat → List Nat) (nd ka vb : Nat → Nat) (row : Nat → Option Nat) : Prop :=
  ∀ j, j < cap → chn M nd ka vb nm (row j) (binL cap cnt nm j) ∨ (cap = 64 ∧ treB M nd ka vb nm (row j) (binL cap cnt nm j))
/-- the map at m, of the tag t: cnt names, nm i stands for i -/
def isMap (g : xG) (σ : xH) (F : xM) (T : Nat → Nat) (t m cnt : Nat) (nm : Nat → List Nat) : Prop :=
  g0 g ≤ m ∧ T m = t ∧ cnt ≤ 16 ∧ (∀ i j, i < cnt → j < cnt → nm i = nm j → i = j) ∧ ∃ (tbv : Value) (mc th : Int32) (lf : UInt32), σ.1 m = some (ob 11 [.null, .null, tbv, .null, .int (nI cnt), .int mc, .int th, .float lf]) ∧
  ((cnt = 0 ∧ tbv = .null ∧ th = 0) ∨ ∃ (tb cap : Nat) (row : Nat → Option Nat) (nd ka vb : Nat → Nat), tbv = .ref tb ∧ g0 g ≤ tb ∧ T tb = t ∧ σ.1 tb = some (aq 6 cap row) ∧ (cap = 16 ∨ cap = 32 ∨ cap = 64) ∧ th = nI (cap / 4 * 3) ∧ mEnt g F T t cnt nm nd ka vb ∧ mBin σ.1 cap cnt nm nd ka vb row)
theorem chn_keep {M M' : xM} {nd ka vb : Nat → Nat} {nm : Nat → List Nat} : ∀ {l : List Nat} {o : Option Nat}, (∀ i ∈ l, M' (nd i) = M (nd i)) → chn M nd ka vb nm o l → chn M' nd ka vb nm o l
  | [], o, _, h => h
  | i :: l, o, hk, h => by
    obtain ⟨h1, nx, h2, h3⟩ := h
    exact ⟨h1, nx, by rw [hk i List.mem_cons_self]; exact h2, chn_keep (fun j hj => hk j (List.mem_cons_of_mem _ hj)) h3⟩
theorem binL_lt {cap cnt j i : Nat} {nm : Nat → List Nat} (h : i ∈ binL cap cnt nm j) : i < cnt ∧ bix cap (hsN (nm i)) = j := by
  unfold binL at h
  have := List.mem_filter.mp h
  exact ⟨List.mem_range.mp this.1, of_decide_eq_true this.2⟩
theorem mBin_keep {M M' : xM} {cap cnt : Nat} {nm : Nat → List Nat} {nd ka vb : Nat → Nat} {row : Nat → Option Nat} (h : mBin M cap cnt nm nd ka vb row) (hk : ∀ i, i < cnt → M' (nd i) = M (nd i)) : mBin M' cap cnt nm nd ka vb row := fun j hj => by
  rcases h j hj with q | ⟨q0, q1, lf, rt, pa, nx, pv, rd, r, t, q2, q2', q3, q4, q5, q6, q7⟩
  · exact Or.inl (chn_keep (fun i hi => hk i (binL_lt hi).1) q)
  · refine Or.inr ⟨q0, q1, lf, rt, pa, nx, pv, rd, r, t, q2, q2', q3, q4, q5, q6, fun i hi => ?_⟩
    rw [hk i (binL_lt hi).1]
    exact q7 i hi
theorem mEnt_up {g : xG} {F F' : xM} {T T' : Nat → Nat} {t cnt n : Nat} {nm : Nat → List Nat} {nd ka vb : Nat → Nat} (h : mEnt g F T t cnt nm nd ka vb) (hF : fle F F') (ht : tex T T' n) (hn : ∀ i, i < cnt → nd i < n) : mEnt g F' T' t cnt nm nd ka vb :=
  ⟨fun i hi => by
    obtain ⟨a, b, c, d⟩ := h.1 i hi
    exact ⟨a, by rw [ht _ (hn i hi)]; exact b, isS_mono c hF, d.1.mono hF, d.2⟩, h.2⟩
theorem chn_lt {g : xG} {σ : xH} (hw : xWF g σ) {nd ka vb : Nat → Nat} {nm : Nat → List Nat} : ∀ {l : List Nat} {o : Option Nat}, chn σ.1 nd ka vb nm o l → ∀ i ∈ l, nd i < σ.2.1
  | [], o, _, i, hi => by cases hi
  | j :: l, o, h, i, hi => by
    obtain ⟨h1, nx, h2, h3⟩ := h
    rcases List.mem_cons.mp hi with e | e
    · rw [e]; exact hw.2.1 _ _ h2
    · exact chn_lt hw h3 i e
theorem bix_lt {cap : Nat} (h : cap = 16 ∨ cap = 32 ∨ cap = 64) (x : Int32) : bix cap x < cap := Nat.mod_lt _ (by omega)
theorem mBin_lt {g : xG} {σ : xH} (hw : xWF g σ) {cap cnt : Nat} {nm : Nat → List Nat} {nd ka vb : Nat → Nat} {row : Nat → Option Nat} (hc : cap = 16 ∨ cap = 32 ∨ cap = 64) (h : mBin σ.1 cap cnt nm nd ka vb row) : ∀ i, i < cnt → nd i < σ.2.1 := fun i hi => by
  have hm : i ∈ binL cap cnt nm (bix cap (hsN (nm i))) := List.mem_filter.mpr ⟨List.mem_range.mpr hi, decide_eq_true rfl⟩
  rcases h _ (bix_lt hc _) with q | ⟨q0, q1, lf, rt, pa, nx, pv, rd, r, t, q2, q2', q3, q4, q5, q6, q7⟩
  · exact chn_lt hw q i hm
  · exact hw.2.1 _ _ (q7 i hm).1
/-- what others write leaves the map as it is -/
theorem isMap.tagx {g : xG} {σ σ' : xH} {F F' : xM} {T T' : Nat → Nat} {S : Nat → Prop} {t m cnt c s : Nat} {nm : Nat → List Nat} (h : isMap g σ F T t m cnt nm) (hw : xWF g σ) (hx : xg σ σ' c s (fun z => S (T z))) (hS : ¬ S t) (hF : fle F F') (ht : tex T T' σ.2.1) : isMap g σ' F' T' t m cnt nm := by
  obtain ⟨h1, h2, h3, h4, tbv, mc, th, lf, h5, h6⟩ := h
  have lm := hw.2.1 _ _ h5
  refine ⟨h1, by rw [ht m lm]; exact h2, h3, h4, tbv, mc, th, lf, hx.at hw h5 (by show ¬ S (T m); rw [h2]; exact hS), ?_⟩
  rcases h6 with h6 | ⟨tb, cap, row, nd, ka, vb, q1, q2, q3, q4, q5, q6, q7, q8⟩
  · exact Or.inl h6
  · have lt := mBin_lt hw q5 q8
    refine Or.inr ⟨tb, cap, row, nd, ka, vb, q1, q2, by rw [ht tb (hw.2.1 _ _ q4)]; exact q3, hx.at hw q4 (by show ¬ S (T tb); rw [q3]; exact hS), q5, q6, mEnt_up q7 hF ht lt, mBin_keep q8 (fun i hi => ?_)⟩
    refine hx.2.2.2 _ (lt i hi) ?_
    show ¬ S (T (nd i))
    rw [(q7.1 i hi).2.1]
    exact hS
theorem isMap.tx {g : xG} {σ : xH} {F F' : xM} {T T' : Nat → Nat} {t m cnt : Nat} {nm : Nat → List Nat} (h : isMap g σ F T t m cnt nm) (hw : xWF g σ) (hF : fle F F') (ht : tex T T' σ.2.1) : isMap g σ F' T' t m cnt nm :=
  h.tagx (S := fun _ => False) hw (xg.refl σ _) (fun q => q) hF ht
theorem isMap.o11 {g : xG} {σ : xH} {F : xM} {T : Nat → Nat} {t m cnt : Nat} {nm : Nat → List Nat} (h : isMap g σ F T t m cnt nm) : ∃ a b c e, σ.1 m = some (ob 11 [.null, .null, a, .null, .int (nI cnt), b, c, e]) := by
  obtain ⟨h1, h2, h3, h4, tbv, mc, th, lf, h5, h6⟩ := h
  exact ⟨_, _, _, _, h5⟩
set_option maxRecDepth 100000 in
theorem bJ21_init : (iO iJ21_init = 59) ∧ (iT iJ21_init = []) ∧ (iR iJ21_init = (Option.none : Option Jvm.ClassFile.FieldType)) ∧ (iL iJ21_init = 1) ∧ (mp 59 1 = some (iJ33_init, 0)) := ⟨rfl, rfl, rfl, rfl, rfl⟩
set_option maxRecDepth 100000 in
theorem pJ21_init : (∀ (g : xG) (K : xR → xH → Prop) (d : Nat) (k : xK) (ls : List (Option Value)) (st : List Value) (σ : xH), v1 g iJ21_init K d k 0 ls st σ = vs g iJ21_init K d (.aload_n 0) 1 k 0 ls st σ) ∧ (∀ (g : xG) (K : xR → xH → Prop) (d : Nat) (k : xK) (ls : List (Option Value)) (st : List Value) (σ : xH), v1 g iJ21_init K d k 1 ls st σ = vs g iJ21_init K d (.invokespecial 1) 3 k 1 ls st σ) ∧ (∀ (g : xG) (K : xR → xH → Prop) (d : Nat) (k : xK) (ls : List (Option Value)) (st : List Value) (σ : xH), v1 g iJ21_init K d k 4 ls st σ = vs g iJ21_init K d (.return_) 1 k 4 ls st σ) := ⟨v1_of (xd_of (I := iJ21_init) dJ21_init_0), v1_of (xd_of (I := iJ21_init) dJ21_init_1), v1_of (xd_of (I := iJ21_init) dJ21_init_4)⟩
set_option maxRecDepth 100000 in
theorem bJ22_init : (iO iJ22_init = 63) ∧ (iT iJ22_init = []) ∧ (iR iJ22_init = (Option.none : Option Jvm.ClassFile.FieldType)) ∧ (iL iJ22_init = 1) ∧ (mp 63 43 = some (iJ21_init, 0)) ∧ (∀ (g : xG) (f : Value → Prop), ldv g 63 92 f = f (.float (1061158912))) ∧ (fl 63 81 11 = some (7, .float, true)) ∧ (pfin iJ22_init 11 (7, .float, true) = true) := ⟨rfl, rfl, rfl, rfl, rfl, fun _ _ => rfl, rfl, by decide +kernel⟩
set_option maxRecDepth 100000 in
theorem pJ22_init : (∀ (g : xG) (K : xR → xH → Prop) (d : Nat) (k : xK) (ls : List (Option Value)) (st : List Value) (σ : xH), v1 g iJ22_init K d k 0 ls st σ = vs g iJ22_init K d (.aload_n 0) 1 k 0 ls st σ) ∧ (∀ (g : xG) (K : xR → xH → Prop) (d : Nat) (k : xK) (ls : List (Option Value)) (st : List Value) (σ : xH), v1 g iJ22_init K d k 1 ls st σ = vs g iJ22_init K d (.invokespecial 43) 3 k 1 ls st σ) ∧ (∀ (g : xG) (K : xR → xH → Prop) (d : Nat) (k : xK) (ls : List (Option Value)) (st : List Value) (σ : xH), v1 g iJ22_init K d k 4 ls st σ = vs g iJ22_init K d (.aload_n 0) 1 k 4 ls st σ) ∧ (∀ (g : xG) (K : xR → xH → Prop) (d : Nat) (k : xK) (ls : List (Option Value)) (st : List Value) (σ : xH), v1 g iJ22_init K d k 5 ls st σ = vs g iJ22_init K d (.ldc 92) 2 k 5 ls st σ) ∧ (∀ (g : xG) (K : xR → xH → Prop) (d : Nat) (k : xK) (ls : List (Option Value)) (st : List Value) (σ : xH), v1 g iJ22_init K d k 7 ls st σ = vs g iJ22_init K d (.putfield 81) 3 k 7 ls st σ) ∧ (∀ (g : xG) (K : xR → xH → Prop) (d : Nat) (k : xK) (ls : List (Option Value)) (st : List Value) (σ : xH), v1 g iJ22_init K d k 10 ls st σ = vs g iJ22_init K d (.return_) 1 k 10 ls st σ) := ⟨v1_of (xd_of (I := iJ22_init) dJ22_init_0), v1_of (xd_of (I := iJ22_init) dJ22_init_1), v1_of (xd_of (I := iJ22_init) dJ22_init_4), v1_of (xd_of (I := iJ22_init) dJ22_init_5), v1_of (xd_of (I := iJ22_init) dJ22_init_7), v1_of (xd_of (I := iJ22_init) dJ22_init_10)⟩
set_option maxRecDepth 100000 in
theorem bJ22_size : (iO iJ22_size = 63) ∧ (iT iJ22_size = []) ∧ (iR iJ22_size = (Option.some Jvm.ClassFile.FieldType.int)) ∧ (iL iJ22_size = 1) ∧ (fl 63 156 11 = some (4, .int, false)) := ⟨rfl, rfl, rfl, rfl, rfl⟩
set_option maxRecDepth 100000 in
theorem pJ22_size : (∀ (g : xG) (K : xR → xH → Prop) (d : Nat) (k : xK) (ls : List (Option Value)) (st : List Value) (σ : xH), v1 g iJ22_size K d k 0 ls st σ = vs g iJ22_size K d (.aload_n 0) 1 k 0 ls st σ) ∧ (∀ (g : xG) (K : xR → xH → Prop) (d : Nat) (k : xK) (ls : List (Option Value)) (st : List Value) (σ : xH), v1 g iJ22_size K d k 1 ls st σ = vs g iJ22_size K d (.getfield 156) 3 k 1 ls st σ) ∧ (∀ (g : xG) (K : xR → xH → Prop) (d : Nat) (k : xK) (ls : List (Option Value)) (st : List Value) (σ : xH), v1 g iJ22_size K d k 4 ls st σ = vs g iJ22_size K d (.ireturn) 1 k 4 ls st σ) := ⟨v1_of (xd_of (I := iJ22_size) dJ22_size_0), v1_of (xd_of (I := iJ22_size) dJ22_size_1), v1_of (xd_of (I := iJ22_size) dJ22_size_4)⟩
set_option maxRecDepth 100000 in
theorem bJ22_hash : (iO iJ22_hash = 63) ∧ (iT iJ22_hash = []) ∧ (iR iJ22_hash = (Option.some Jvm.ClassFile.FieldType.int)) ∧ (iL iJ22_hash = 2) ∧ (pn 63 1 = 0) ∧ (mv 63 1 8 = some (iJ11_hashCode, 0)) ∧ (mv 63 1 15 = some (iJ19_hashCode, 0)) ∧ (mv 63 1 36 = some (iJ8_hashCode, 0)) ∧ (mv 63 1 37 = some (iJ8_hashCode, 0)) ∧ (mv 63 1 38 = some (iJ8_hashCode, 0)) ∧ (mv 63 1 39 = some (iJ8_hashCode, 0)) ∧ (mv 63 1 40 = some (iJ8_hashCode, 0)) ∧ (mv 63 1 41 = some (iJ8_hashCode, 0)) ∧ (mv 63 1 42 = some (iJ8_hashCode, 0)) ∧ (mv 63 1 43 = some (iJ8_hashCode, 0)) ∧ (mv 63 1 44 = some (iJ8_hashCode, 0)) ∧ (mv 63 1 45 = some (iJ8_hashCode, 0)) ∧ (mv 63 1 46 = some (iJ8_hashCode, 0)) ∧ (mv 63 1 47 = some (iJ8_hashCode, 0)) ∧ (mv 63 1 48 = some (iJ8_hashCode, 0)) ∧ (mv 63 1 49 = some (iJ8_hashCode, 0)) := ⟨rfl, rfl, rfl, rfl, rfl, rfl, rfl, rfl, rfl, rfl, rfl, rfl, rfl, rfl, rfl, rfl, rfl, rfl, rfl, rfl, rfl⟩
set_option maxRecDepth 100000 in
theorem pJ22_hash : (∀ (g : xG) (K : xR → xH → Prop) (d : Nat) (k : xK) (ls : List (Option Value)) (st : List Value) (σ : xH), v1 g iJ22_hash K d k 0 ls st σ = vs g iJ22_hash K d (.aload_n 0) 1 k 0 ls st σ) ∧ (∀ (g : xG) (K : xR → xH → Prop) (d : Nat) (k : xK) (ls : List (Option Value)) (st : List Value) (σ : xH), v1 g iJ22_hash K d k 1 ls st σ = vs g iJ22_hash K d (.ifnonnull 7) 3 k 1 ls st σ) ∧ (∀ k : Nat → Prop, tgo 1 7 k = k 8) ∧ (∀ (g : xG) (K : xR → xH → Prop) (d : Nat) (k : xK) (ls : List (Option Value)) (st : List Value) (σ : xH), v1 g iJ22_hash K d k 4 ls st σ = vs g iJ22_hash K d (.iconst 0) 1 k 4 ls st σ) ∧ (∀ (g : xG) (K : xR → xH → Prop) (d : Nat) (k : xK) (ls : List (Option Value)) (st : List Value) (σ : xH), v1 g iJ22_hash K d k 5 ls st σ = vs g iJ22_hash K d (.goto 14) 3 k 5 ls st σ) ∧ (∀ k : Nat → Prop, tgo 5 14 k = k 19) ∧ (∀ (g : xG) (K : xR → xH → Prop) (d : Nat) (k : xK) (ls : List (Option Value)) (st : List Value) (σ : xH), v1 g iJ22_hash K d k 8 ls st σ = vs g iJ22_hash K d (.aload_n 0) 1 k 8 ls st σ) ∧ (∀ (g : xG) (K : xR → xH → Prop) (d : Nat) (k : xK) (ls : List (Option Value)) (st : List Value) (σ : xH), v1 g iJ22_hash K d k 9 ls st σ = vs g iJ22_hash K d (.invokevirtual 1) 3 k 9 ls st σ) ∧ (∀ (g : xG) (K : xR → xH → Prop) (d : Nat) (k : xK) (ls : List (Option Value)) (st : List Value) (σ : xH), v1 g iJ22_hash K d k 12 ls st σ = vs g iJ22_hash K d (.dup) 1 k 12 ls st σ) ∧ (∀ (g : xG) (K : xR → xH → Prop) (d : Nat) (k : xK) (ls : List (Option Value)) (st : List Value) (σ : xH), v1 g iJ22_hash K d k 13 ls st σ = vs g iJ22_hash K d (.istore_n 1) 1 k 13 ls st σ) ∧ (∀ (g : xG) (K : xR → xH → Prop) (d : Nat) (k : xK) (ls : List (Option Value)) (st : List Value) (σ : xH), v1 g iJ22_hash K d k 14 ls st σ = vs g iJ22_hash K d (.iload_n 1) 1 k 14 ls st σ) ∧ (∀ (g : xG) (K : xR → xH → Prop) (d : Nat) (k : xK) (ls : List (Option Value)) (st : List Value) (σ : xH), v1 g iJ22_hash K d k 15 ls st σ = vs g iJ22_hash K d (.bipush 16) 2 k 15 ls st σ) ∧ (∀ (g : xG) (K : xR → xH → Prop) (d : Nat) (k : xK) (ls : List (Option Value)) (st : List Value) (σ : xH), v1 g iJ22_hash K d k 17 ls st σ = vs g iJ22_hash K d (.iushr) 1 k 17 ls st σ) ∧ (∀ (g : xG) (K : xR → xH → Prop) (d : Nat) (k : xK) (ls : List (Option Value)) (st : List Value) (σ : xH), v1 g iJ22_hash K d k 18 ls st σ = vs g iJ22_hash K d (.ixor) 1 k 18 ls st σ) ∧ (∀ (g : xG) (K : xR → xH → Prop) (d : Nat) (k : xK) (ls : List (Option Value)) (st : List Value) (σ : xH), v1 g iJ22_hash K d k 19 ls st σ = vs g iJ22_hash K d (.ireturn) 1 k 19 ls st σ) := ⟨v1_of (xd_of (I := iJ22_hash) dJ22_hash_0), v1_of (xd_of (I := iJ22_hash) dJ22_hash_1), fun k => propext ⟨fun h => h.2, fun h => ⟨by decide, h⟩⟩, v1_of (xd_of (I := iJ22_hash) dJ22_hash_4), v1_of (xd_of (I := iJ22_hash) dJ22_hash_5), fun k => propext ⟨fun h => h.2, fun h => ⟨by decide, h⟩⟩, v1_of (xd_of (I := iJ22_hash) dJ22_hash_8), v1_of (xd_of (I := iJ22_hash) dJ22_hash_9), v1_of (xd_of (I := iJ22_hash) dJ22_hash_12), v1_of (xd_of (I := iJ22_hash) dJ22_hash_13), v1_of (xd_of (I := iJ22_hash) dJ22_hash_14), v1_of (xd_of (I := iJ22_hash) dJ22_hash_15), v1_of (xd_of (I := iJ22_hash) dJ22_hash_17), v1_of (xd_of (I := iJ22_hash) dJ22_hash_18), v1_of (xd_of (I := iJ22_hash) dJ22_hash_19)⟩
set_option maxRecDepth 100000 in
theorem bJ22_containsKey : (iO iJ22_containsKey = 63) ∧ (iT iJ22_containsKey = []) ∧ (iR iJ22_containsKey = (Option.some Jvm.ClassFile.FieldType.boolean)) ∧ (iL iJ22_containsKey = 2) ∧ (pn 63 158 = 1) ∧ (mv 63 158 11 = some (iJ22_getNode, 1)) := ⟨rfl, rfl, rfl, rfl, rfl, rfl⟩
set_option maxRecDepth 100000 in
theorem pJ22_containsKey : (∀ (g : xG) (K : xR → xH → Prop) (d : Nat) (k : xK) (ls : List (Option Value)) (st : List Value) (σ : xH), v1 g iJ22_containsKey K d k 0 ls st σ = vs g iJ22_containsKey K d (.aload_n 0) 1 k 0 ls st σ) ∧ (∀ (g : xG) (K : xR → xH → Prop) (d : Nat) (k : xK) (ls : List (Option Value)) (st : List Value) (σ : xH), v1 g iJ22_containsKey K d k 1 ls st σ = vs g iJ22_containsKey K d (.aload_n 1) 1 k 1 ls st σ) ∧ (∀ (g : xG) (K : xR → xH → Prop) (d : Nat) (k : xK) (ls : List (Option Value)) (st : List Value) (σ : xH), v1 g iJ22_containsKey K d k 2 ls st σ = vs g iJ22_containsKey K d (.invokevirtual 158) 3 k 2 ls st σ) ∧ (∀ (g : xG) (K : xR → xH → Prop) (d : Nat) (k : xK) (ls : List (Option Value)) (st : List Value) (σ : xH), v1 g iJ22_containsKey K d k 5 ls st σ = vs g iJ22_containsKey K d (.ifnull 7) 3 k 5 ls st σ) ∧ (∀ k : Nat → Prop, tgo 5 7 k = k 12) ∧ (∀ (g : xG) (K : xR → xH → Prop) (d : Nat) (k : xK) (ls : List (Option Value)) (st : List Value) (σ : xH), v1 g iJ22_containsKey K d k 8 ls st σ = vs g iJ22_containsKey K d (.iconst 1) 1 k 8 ls st σ) ∧ (∀ (g : xG) (K : xR → xH → Prop) (d : Nat) (k : xK) (ls : List (Option Value)) (st : List Value) (σ : xH), v1 g iJ22_containsKey K d k 9 ls st σ = vs g iJ22_containsKey K d (.goto 4) 3 k 9 ls st σ) ∧ (∀ k : Nat → Prop, tgo 9 4 k = k 13) ∧ (∀ (g : xG) (K : xR → xH → Prop) (d : Nat) (k : xK) (ls : List (Option Value)) (st : List Value) (σ : xH), v1 g iJ22_containsKey K d k 12 ls st σ = vs g iJ22_containsKey K d (.iconst 0) 1 k 12 ls st σ) ∧ (∀ (g : xG) (K : xR → xH → Prop) (d : Nat) (k : xK) (ls : List (Option Value)) (st : List Value) (σ : xH), v1 g iJ22_containsKey K d k 13 ls st σ = vs g iJ22_containsKey K d (.ireturn) 1 k 13 ls st σ) := ⟨v1_of (xd_of (I := iJ22_containsKey) dJ22_containsKey_0), v1_of (xd_of (I := iJ22_containsKey) dJ22_containsKey_1), v1_of (xd_of (I := iJ22_containsKey) dJ22_containsKey_2), v1_of (xd_of (I := iJ22_containsKey) dJ22_containsKey_5), fun k => propext ⟨fun h => h.2, fun h => ⟨by decide, h⟩⟩, v1_of (xd_of (I := iJ22_containsKey) dJ22_containsKey_8), v1_of (xd_of (I := iJ22_containsKey) dJ22_containsKey_9), fun k => propext ⟨fun h => h.2, fun h => ⟨by decide, h⟩⟩, v1_of (xd_of (I := iJ22_containsKey) dJ22_containsKey_12), v1_of (xd_of (I := iJ22_containsKey) dJ22_containsKey_13)⟩
set_option maxRecDepth 100000 in
theorem bJ22_get : (iO iJ22_get = 63) ∧ (iT iJ22_get = []) ∧ (iR iJ22_get = (Option.some (Jvm.ClassFile.FieldType.object "java/lang/Object"))) ∧ (iL iJ22_get = 3) ∧ (pn 63 158 = 1) ∧ (mv 63 158 11 = some (iJ22_getNode, 1)) ∧ (fl 63 162 21 = some (2, (.object "java/lang/Object"), false)) ∧ (fl 63 162 22 = some (4, (.object "java/lang/Object"), false)) := ⟨rfl, rfl, rfl, rfl, rfl, rfl, rfl, rfl⟩
set_option maxRecDepth 100000 in
theorem pJ22_get : (∀ (g : xG) (K : xR → xH → Prop) (d : Nat) (k : xK) (ls : List (Option Value)) (st : List Value) (σ : xH), v1 g iJ22_get K d k 0 ls st σ = vs g iJ22_get K d (.aload_n 0) 1 k 0 ls st σ) ∧ (∀ (g : xG) (K : xR → xH → Prop) (d : Nat) (k : xK) (ls : List (Option Value)) (st : List Value) (σ : xH), v1 g iJ22_get K d k 1 ls st σ = vs g iJ22_get K d (.aload_n 1) 1 k 1 ls st σ) ∧ (∀ (g : xG) (K : xR → xH → Prop) (d : Nat) (k : xK) (ls : List (Option Value)) (st : List Value) (σ : xH), v1 g iJ22_get K d k 2 ls st σ = vs g iJ22_get K d (.invokevirtual 158) 3 k 2 ls st σ) ∧ (∀ (g : xG) (K : xR → xH → Prop) (d : Nat) (k : xK) (ls : List (Option Value)) (st : List Value) (σ : xH), v1 g iJ22_get K d k 5 ls st σ = vs g iJ22_get K d (.dup) 1 k 5 ls st σ) ∧ (∀ (g : xG) (K : xR → xH → Prop) (d : Nat) (k : xK) (ls : List (Option Value)) (st : List Value) (σ : xH), v1 g iJ22_get K d k 6 ls st σ = vs g iJ22_get K d (.astore_n 2) 1 k 6 ls st σ) ∧ (∀ (g : xG) (K : xR → xH → Prop) (d : Nat) (k : xK) (ls : List (Option Value)) (st : List Value) (σ : xH), v1 g iJ22_get K d k 7 ls st σ = vs g iJ22_get K d (.ifnonnull 7) 3 k 7 ls st σ) ∧ (∀ k : Nat → Prop, tgo 7 7 k = k 14) ∧ (∀ (g : xG) (K : xR → xH → Prop) (d : Nat) (k : xK) (ls : List (Option Value)) (st : List Value) (σ : xH), v1 g iJ22_get K d k 10 ls st σ = vs g iJ22_get K d (.aconst_null) 1 k 10 ls st σ) ∧ (∀ (g : xG) (K : xR → xH → Prop) (d : Nat) (k : xK) (ls : List (Option Value)) (st : List Value) (σ : xH), v1 g iJ22_get K d k 11 ls st σ = vs g iJ22_get K d (.goto 7) 3 k 11 ls st σ) ∧ (∀ k : Nat → Prop, tgo 11 7 k = k 18) ∧ (∀ (g : xG) (K : xR → xH → Prop) (d : Nat) (k : xK) (ls : List (Option Value)) (st : List Value) (σ : xH), v1 g iJ22_get K d k 14 ls st σ = vs g iJ22_get K d (.aload_n 2) 1 k 14 ls st σ) ∧ (∀ (g : xG) (K : xR → xH → Prop) (d : Nat) (k : xK) (ls : List (Option Value)) (st : List Value) (σ : xH), v1 g iJ22_get K d k 15 ls st σ = vs g iJ22_get K d (.getfield 162) 3 k 15 ls st σ) ∧ (∀ (g : xG) (K : xR → xH → Prop) (d : Nat) (k : xK) (ls : List (Option Value)) (st : List Value) (σ : xH), v1 g iJ22_get K d k 18 ls st σ = vs g iJ22_get K d (.areturn) 1 k 18 ls st σ) := ⟨v1_of (xd_of (I := iJ22_get) dJ22_get_0), v1_of (xd_of (I := iJ22_get) dJ22_get_1), v1_of (xd_of (I := iJ22_get) dJ22_get_2), v1_of (xd_of (I := iJ22_get) dJ22_get_5), v1_of (xd_of (I := iJ22_get) dJ22_get_6), v1_of (xd_of (I := iJ22_get) dJ22_get_7), fun k => propext ⟨fun h => h.2, fun h => ⟨by decide, h⟩⟩, v1_of (xd_of (I := iJ22_get) dJ22_get_10), v1_of (xd_of (I := iJ22_get) dJ22_get_11), fun k => propext ⟨fun h => h.2, fun h => ⟨by decide, h⟩⟩, v1_of (xd_of (I := iJ22_get) dJ22_get_14), v1_of (xd_of (I := iJ22_get) dJ22_get_15), v1_of (xd_of (I := iJ22_get) dJ22_get_18)⟩
set_option maxRecDepth 100000 in
theorem bJ22_put : (iO iJ22_put = 63) ∧ (iT iJ22_put = []) ∧ (iR iJ22_put = (Option.some (Jvm.ClassFile.FieldType.object "java/lang/Object"))) ∧ (iL iJ22_put = 3) ∧ (ms 63 149 = some (iJ22_hash, 1)) ∧ (pn 63 152 = 5) ∧ (mv 63 152 11 = some (iJ22_putVal, 5)) := ⟨rfl, rfl, rfl, rfl, rfl, rfl, rfl⟩
set_option maxRecDepth 100000 in
theorem pJ22_put : (∀ (g : xG) (K : xR → xH → Prop) (d : Nat) (k : xK) (ls : List (Option Value)) (st : List Value) (σ : xH), v1 g iJ22_put K d k 0 ls st σ = vs g iJ22_put K d (.aload_n 0) 1 k 0 ls st σ) ∧ (∀ (g : xG) (K : xR → xH → Prop) (d : Nat) (k : xK) (ls : List (Option Value)) (st : List Value) (σ : xH), v1 g iJ22_put K d k 1 ls st σ = vs g iJ22_put K d (.aload_n 1) 1 k 1 ls st σ) ∧ (∀ (g : xG) (K : xR → xH → Prop) (d : Nat) (k : xK) (ls : List (Option Value)) (st : List Value) (σ : xH), v1 g iJ22_put K d k 2 ls st σ = vs g iJ22_put K d (.invokestatic 149) 3 k 2 ls st σ) ∧ (∀ (g : xG) (K : xR → xH → Prop) (d : Nat) (k : xK) (ls : List (Option Value)) (st : List Value) (σ : xH), v1 g iJ22_put K d k 5 ls st σ = vs g iJ22_put K d (.aload_n 1) 1 k 5 ls st σ) ∧ (∀ (g : xG) (K : xR → xH → Prop) (d : Nat) (k : xK) (ls : List (Option Value)) (st : List Value) (σ : xH), v1 g iJ22_put K d k 6 ls st σ = vs g iJ22_put K d (.aload_n 2) 1 k 6 ls st σ) ∧ (∀ (g : xG) (K : xR → xH → Prop) (d : Nat) (k : xK) (ls : List (Option Value)) (st : List Value) (σ : xH), v1 g iJ22_put K d k 7 ls st σ = vs g iJ22_put K d (.iconst 0) 1 k 7 ls st σ) ∧ (∀ (g : xG) (K : xR → xH → Prop) (d : Nat) (k : xK) (ls : List (Option Value)) (st : List Value) (σ : xH), v1 g iJ22_put K d k 8 ls st σ = vs g iJ22_put K d (.iconst 1) 1 k 8 ls st σ) ∧ (∀ (g : xG) (K : xR → xH → Prop) (d : Nat) (k : xK) (ls : List (Option Value)) (st : List Value) (σ : xH), v1 g iJ22_put K d k 9 ls st σ = vs g iJ22_put K d (.invokevirtual 152) 3 k 9 ls st σ) ∧ (∀ (g : xG) (K : xR → xH → Prop) (d : Nat) (k : xK) (ls : List (Option Value)) (st : List Value) (σ : xH), v1 g iJ22_put K d k 12 ls st σ = vs g iJ22_put K d (.areturn) 1 k 12 ls st σ) := ⟨v1_of (xd_of (I := iJ22_put) dJ22_put_0), v1_of (xd_of (I := iJ22_put) dJ22_put_1), v1_of (xd_of (I := iJ22_put) dJ22_put_2), v1_of (xd_of (I := iJ22_put) dJ22_put_5), v1_of (xd_of (I := iJ22_put) dJ22_put_6), v1_of (xd_of (I := iJ22_put) dJ22_put_7), v1_of (xd_of (I := iJ22_put) dJ22_put_8), v1_of (xd_of (I := iJ22_put) dJ22_put_9), v1_of (xd_of (I := iJ22_put) dJ22_put_12)⟩
theorem ct_J21_init {g : xG} {d : Nat} {σ : xH} {K : xR → xH → Prop} (hd : 1 ≤ d) (a : Nat) (hK : K (.inl none) σ) : Ctr g d iJ21_init [.ref a] σ K := by
  refine Ctr.of (by decide +kernel) rfl (by simp only [lent_0, lent_i, lent_r, lent_n, lent_l, lent_f, List.length_cons, List.length_nil, bJ21_init]; decide) ?_
  simp only [lpad, lent_0, lent_i, lent_r, lent_n, lent_l, lent_f, List.length_cons, List.length_nil, bJ21_init, Nat.reduceAdd, Nat.reduceSub, List.replicate_succ, List.replicate_zero, List.cons_append, List.nil_append]
  refine VW.go [1] 400 ?_
  simp only [↓vcp, ↓vc_s, vch, vcn, Option.toList_some, Option.toList_none, List.cons_append, List.nil_append, Bool.false_eq_true, Bool.or_false, Bool.or_true, Bool.false_or, Bool.true_or, Nat.reduceAdd, Nat.reduceBEq, Nat.reduceLeDiff, Nat.zero_le, Nat.reduceLT, Nat.le_refl, ↓reduceIte, decide_true, decide_false, true_and, and_true, false_imp_iff, true_imp_iff, not_false_eq_true, not_true_eq_false, implies_true, and_self, eq_self, i10, List.length_cons, List.length_nil, vcv, xur, ↓pJ21_init, bJ21_init, hd]
  refine VW.obji (xd_of (I := iJ21_init) dJ21_init_1) q879 (by omega) (by simp) ?_
  refine VW.go [] 400 ?_
  simp only [↓vcp, ↓vc_s, vch, vcn, Option.toList_some, Option.toList_none, List.cons_append, List.nil_append, Bool.false_eq_true, Bool.or_false, Bool.or_true, Bool.false_or, Bool.true_or, Nat.reduceAdd, Nat.reduceBEq, Nat.reduceLeDiff, Nat.zero_le, Nat.reduceLT, Nat.le_refl, ↓reduceIte, decide_true, decide_false, true_and, and_true, false_imp_iff, true_imp_iff, not_false_eq_true, not_true_eq_false, implies_true, and_self, eq_self, i10, List.length_cons, List.length_nil, vcv, xur, ↓pJ21_init, bJ21_init]
  exact hK
theorem ct_J22_init {g : xG} {d : Nat} {σ : xH} {K : xR → xH → Prop} (hd : 2 ≤ d) {F : xM} {T : Nat → Nat} {t a : Nat} (ha : g0 g ≤ a) (hT : T a = t) (h : σ.1 a = some (ob 11 [.null, .null, .null, .null, .int 0, .int 0, .int 0, .float 0])) (hK : ∀ σ', isMap g σ' F T t a 0 (fun _ => []) → xg σ σ' 0 0 (fun z => z = a) → K (.inl none) σ') : Ctr g d iJ22_init [.ref a] σ K := by
  have d1 : 1 ≤ d := by omega
  refine Ctr.of (by decide +kernel) rfl (by simp only [lent_0, lent_i, lent_r, lent_n, lent_l, lent_f, List.length_cons, List.length_nil, bJ22_init]; decide) ?_
  simp only [lpad, lent_0, lent_i, lent_r, lent_n, lent_l, lent_f, List.length_cons, List.length_nil, bJ22_init, Nat.reduceAdd, Nat.reduceSub, List.replicate_succ, List.replicate_zero, List.cons_append, List.nil_append]
  refine VW.go [] 400 ?_
  simp only [↓vcp, ↓vc_s, vch, vcn, Option.toList_some, Option.toList_none, List.cons_append, List.nil_append, Bool.false_eq_true, Bool.or_false, Bool.or_true, Bool.false_or, Bool.true_or, Nat.reduceAdd, Nat.reduceBEq, Nat.reduceLeDiff, Nat.zero_le, Nat.reduceLT, Nat.le_refl, ↓reduceIte, decide_true, decide_false, true_and, and_true, false_imp_iff, true_imp_iff, not_false_eq_true, not_true_eq_false, implies_true, and_self, eq_self, i10, List.length_cons, List.length_nil, vcv, xur, ↓pJ22_init, bJ22_init, d1]
  refine ct_J21_init (by omega) _ ?_
  simp only [↓vcp, ↓vc_s, vch, vcn, Option.toList_some, Option.toList_none, List.cons_append, List.nil_append, Bool.false_eq_true, Bool.or_false, Bool.or_true, Bool.false_or, Bool.true_or, Nat.reduceAdd, Nat.reduceBEq, Nat.reduceLeDiff, Nat.zero_le, Nat.reduceLT, Nat.le_refl, ↓reduceIte, decide_true, decide_false, true_and, and_true, false_imp_iff, true_imp_iff, not_false_eq_true, not_true_eq_false, implies_true, and_self, eq_self, i10, List.length_cons, List.length_nil, vcv, xur, ↓pJ22_init, bJ22_init, h, ha]
  refine hK _ ⟨ha, hT, by omega, fun i j hi => by omega, .null, 0, 0, _, by show xu _ _ _ _ = _; exact xu_same _ _ _, Or.inl ⟨rfl, rfl, rfl⟩⟩ ⟨Nat.le_refl _, Nat.le_refl _, Nat.le_refl _, fun z hz hp => ?_⟩
  show xu _ _ _ z = _
  rw [xu_ne _ _ hp]
theorem ct_J22_size {g : xG} {d : Nat} {σ : xH} {K : xR → xH → Prop} {F : xM} {T : Nat → Nat} {t a cnt : Nat} {nm : Nat → List Nat} (h : isMap g σ F T t a cnt nm) (hK : K (.inl (some (.int (nI cnt)))) σ) : Ctr g d iJ22_size [.ref a] σ K := by
  obtain ⟨v1, v2, v3, v4, h1⟩ := h.o11
  refine Ctr.of (by decide +kernel) rfl (by simp only [lent_0, lent_i, lent_r, lent_n, lent_l, lent_f, List.length_cons, List.length_nil, bJ22_size]; decide) ?_
  simp only [lpad, lent_0, lent_i, lent_r, lent_n, lent_l, lent_f, List.length_cons, List.length_nil, bJ22_size, Nat.reduceAdd, Nat.reduceSub, List.replicate_succ, List.replicate_zero, List.cons_append, List.nil_append]
  refine VW.go [] 400 ?_
  simp only [↓vcp, ↓vc_s, vch, vcn, Option.toList_some, Option.toList_none, List.cons_append, List.nil_append, Bool.false_eq_true, Bool.or_false, Bool.or_true, Bool.false_or, Bool.true_or, Nat.reduceAdd, Nat.reduceBEq, Nat.reduceLeDiff, Nat.zero_le, Nat.reduceLT, Nat.le_refl, ↓reduceIte, decide_true, decide_false, true_and, and_true, false_imp_iff, true_imp_iff, not_false_eq_true, not_true_eq_false, implies_true, and_self, eq_self, i10, List.length_cons, List.length_nil, vcv, xur, ↓pJ22_size, bJ22_size, h1]
  exact hK
