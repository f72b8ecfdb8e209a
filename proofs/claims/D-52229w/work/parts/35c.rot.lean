set_option maxRecDepth 40000
set_option maxHeartbeats 2000000
/-! ===== HashMap's trees: the nodes' cells, turning (printed by gen/rot.py) ===== -/
def famL (g : xG) (σ : xH) (l : List Nat) (nd : Nat → Nat) (E : Nat → xE) : Prop := (∀ i ∈ l, ∀ j ∈ l, nd i = nd j → i = j) ∧ ∀ i ∈ l, g0 g ≤ nd i ∧ σ.1 (nd i) = some (E i)
def inL (l : List Nat) (nd : Nat → Nat) (z : Nat) : Prop := ∃ i ∈ l, z = nd i
theorem xg1 {σ : xH} {a : Nat} {e : xE} {P : Nat → Prop} (hp : P a) : xg σ (xu σ.1 a e, σ.2) 0 0 P := ⟨Nat.le_refl _, Nat.le_refl _, Nat.le_refl _, fun z _ hz => by
  show xu _ _ _ z = _
  rw [xu_ne _ _ (fun q => hz (by rw [q]; exact hp))]⟩
theorem xg.t2 {σ σ1 σ2 : xH} {c s c' s' : Nat} {P : Nat → Prop} (h : xg σ σ1 c s P) (h' : xg σ1 σ2 c' s' P) : xg σ σ2 (c + c') (s + s') P :=
  ⟨by have := h.1; have := h'.1; omega, by have := h.2.1; have := h'.2.1; omega, by have := h.2.2.1; have := h'.2.2.1; omega, fun z hz hp => by rw [h'.2.2.2 z (by have := h.1; omega) hp, h.2.2.2 z hz hp]⟩
section FL
variable {g : xG} {σ σ' : xH} {l : List Nat} {nd ka vb : Nat → Nat} {E E' : Nat → xE} {nm : Nat → List Nat} {lf rt pa nx pv lf' rt' pa' nx' pv' : Nat → Option Nat} {rd rd' : Nat → Int32} {i : Nat} {e : xE}
theorem famL.put (h : famL g σ l nd E) (hi : i ∈ l) (e : xE) : famL g (xu σ.1 (nd i) e, σ.2) l nd (va_up E i e) := by
  refine ⟨h.1, fun j hj => ⟨(h.2 j hj).1, ?_⟩⟩
  show xu _ _ _ _ = _
  by_cases q : j = i
  · subst q; rw [xu_same, va_up_self]
  · rw [xu_ne _ _ (fun z => q (h.1 j hj i hi z)), (h.2 j hj).2, va_up_ne _ _ q]
theorem famL.cg (h : famL g σ l nd E) (he : ∀ i ∈ l, E i = E' i) : famL g σ l nd E' := ⟨h.1, fun i hi => ⟨(h.2 i hi).1, by rw [(h.2 i hi).2, he i hi]⟩⟩
theorem famL.kp (h : famL g σ l nd E) (hk : ∀ i ∈ l, σ'.1 (nd i) = σ.1 (nd i)) : famL g σ' l nd E := ⟨h.1, fun i hi => ⟨(h.2 i hi).1, by rw [hk i hi]; exact (h.2 i hi).2⟩⟩
theorem famL.wf (h : famL g σ l nd E) (hw : xWF g σ) (hi : i ∈ l) (e : xE) : xWF g (xu σ.1 (nd i) e, σ.2) := hw.put (h.2 i hi).1 (h.2 i hi).2
theorem famL.set (h : famL g σ l nd (tnE nd ka vb nm lf rt pa nx pv rd)) (hi : i ∈ l) (he : e = tnE nd ka vb nm lf' rt' pa' nx' pv' rd' i) (ho : ∀ j ∈ l, j ≠ i → tnE nd ka vb nm lf' rt' pa' nx' pv' rd' j = tnE nd ka vb nm lf rt pa nx pv rd j) : famL g (xu σ.1 (nd i) e, σ.2) l nd (tnE nd ka vb nm lf' rt' pa' nx' pv' rd') := by
  refine (h.put hi e).cg (fun j hj => ?_)
  by_cases q : j = i
  · subst q; rw [va_up_self, he]
  · rw [va_up_ne _ _ q, ho j hj q]
theorem famL.ne (h : famL g σ l nd E) {j : Nat} (hi : i ∈ l) (hj : j ∈ l) (hij : i ≠ j) : ¬ nd i = nd j := fun q => hij (h.1 i hi j hj q)
end FL
theorem inL_i {l : List Nat} {nd : Nat → Nat} {i : Nat} (hi : i ∈ l) : inL l nd (nd i) := ⟨i, hi, rfl⟩
theorem tRt_b (i : Nat) (l r : xT) : tRt (.branch i l r) = some i := rfl
theorem paT_none {t : xT} {pa : Nat → Option Nat} {o : Option Nat} (h : tRt t = none) : paT t pa o = pa := by
  cases t with
  | leaf _ => rfl
  | branch i l r => cases h
theorem paT_some {t : xT} {pa : Nat → Option Nat} {o : Option Nat} {b : Nat} (h : tRt t = some b) : paT t pa o = va_up pa b o := by
  cases t with
  | leaf _ => cases h
  | branch i l r => cases h; rfl
theorem zPa_none {c : xZ} (h : zPa c = none) : c = [] := by
  match c, h with
  | [], _ => rfl
  | (b, i, s) :: c, h => cases h
theorem zSide {lf rt pa : Nat → Option Nat} {c : xZ} {i : Nat} {o : Option Nat} (h : zOk lf rt pa c o) (hi : zPa c = some i) : ∃ s : xT, ((lf i = o ∧ rt i = tRt s ∧ (∀ f v, lfZ c f v = va_up f i v) ∧ ∀ f v, rtZ c f v = f) ∨ (lf i = tRt s ∧ rt i = o ∧ (∀ f v, lfZ c f v = f) ∧ ∀ f v, rtZ c f v = va_up f i v)) ∧ ∀ j ∈ tEs s, j ∈ zL c ∨ j ∈ zR c := by
  match c, h, hi with
  | (true, j, s) :: c, h, hi =>
    cases hi
    obtain ⟨h1, h2, -⟩ := h
    exact ⟨s, Or.inl ⟨h1, h2, fun _ _ => rfl, fun _ _ => rfl⟩, fun j hj => Or.inr (by simp [zR, hj])⟩
  | (false, j, s) :: c, h, hi =>
    cases hi
    obtain ⟨h1, h2, -⟩ := h
    exact ⟨s, Or.inr ⟨h1, h2, fun _ _ => rfl, fun _ _ => rfl⟩, fun j hj => Or.inl (by simp [zL, hj])⟩
set_option maxRecDepth 100000 in
theorem bJ29_rotateLeft : (iO iJ29_rotateLeft = 65) ∧ (iT iJ29_rotateLeft = []) ∧ (iR iJ29_rotateLeft = (Option.some (Jvm.ClassFile.FieldType.object "java/util/HashMap$TreeNode"))) ∧ (iL iJ29_rotateLeft = 5) ∧ (fl 65 42 22 = some (8, (.object "java/util/HashMap$TreeNode"), false)) ∧ (fl 65 39 22 = some (7, (.object "java/util/HashMap$TreeNode"), false)) ∧ (fl 65 9 22 = some (6, (.object "java/util/HashMap$TreeNode"), false)) ∧ (fl 65 93 22 = some (10, .boolean, false)) := ⟨rfl, rfl, rfl, rfl, rfl, rfl, rfl, rfl⟩
set_option maxRecDepth 100000 in
theorem pJ29_rotateLeft : (∀ (g : xG) (K : xR → xH → Prop) (d : Nat) (k : xK) (ls : List (Option Value)) (st : List Value) (σ : xH), v1 g iJ29_rotateLeft K d k 0 ls st σ = vs g iJ29_rotateLeft K d (.aload_n 1) 1 k 0 ls st σ) ∧ (∀ (g : xG) (K : xR → xH → Prop) (d : Nat) (k : xK) (ls : List (Option Value)) (st : List Value) (σ : xH), v1 g iJ29_rotateLeft K d k 1 ls st σ = vs g iJ29_rotateLeft K d (.ifnull 88) 3 k 1 ls st σ) ∧ (∀ k : Nat → Prop, tgo 1 88 k = k 89) ∧ (∀ (g : xG) (K : xR → xH → Prop) (d : Nat) (k : xK) (ls : List (Option Value)) (st : List Value) (σ : xH), v1 g iJ29_rotateLeft K d k 4 ls st σ = vs g iJ29_rotateLeft K d (.aload_n 1) 1 k 4 ls st σ) ∧ (∀ (g : xG) (K : xR → xH → Prop) (d : Nat) (k : xK) (ls : List (Option Value)) (st : List Value) (σ : xH), v1 g iJ29_rotateLeft K d k 5 ls st σ = vs g iJ29_rotateLeft K d (.getfield 42) 3 k 5 ls st σ) ∧ (∀ (g : xG) (K : xR → xH → Prop) (d : Nat) (k : xK) (ls : List (Option Value)) (st : List Value) (σ : xH), v1 g iJ29_rotateLeft K d k 8 ls st σ = vs g iJ29_rotateLeft K d (.dup) 1 k 8 ls st σ) ∧ (∀ (g : xG) (K : xR → xH → Prop) (d : Nat) (k : xK) (ls : List (Option Value)) (st : List Value) (σ : xH), v1 g iJ29_rotateLeft K d k 9 ls st σ = vs g iJ29_rotateLeft K d (.astore_n 2) 1 k 9 ls st σ) ∧ (∀ (g : xG) (K : xR → xH → Prop) (d : Nat) (k : xK) (ls : List (Option Value)) (st : List Value) (σ : xH), v1 g iJ29_rotateLeft K d k 10 ls st σ = vs g iJ29_rotateLeft K d (.ifnull 79) 3 k 10 ls st σ) ∧ (∀ k : Nat → Prop, tgo 10 79 k = k 89) ∧ (∀ (g : xG) (K : xR → xH → Prop) (d : Nat) (k : xK) (ls : List (Option Value)) (st : List Value) (σ : xH), v1 g iJ29_rotateLeft K d k 13 ls st σ = vs g iJ29_rotateLeft K d (.aload_n 1) 1 k 13 ls st σ) ∧ (∀ (g : xG) (K : xR → xH → Prop) (d : Nat) (k : xK) (ls : List (Option Value)) (st : List Value) (σ : xH), v1 g iJ29_rotateLeft K d k 14 ls st σ = vs g iJ29_rotateLeft K d (.aload_n 2) 1 k 14 ls st σ) ∧ (∀ (g : xG) (K : xR → xH → Prop) (d : Nat) (k : xK) (ls : List (Option Value)) (st : List Value) (σ : xH), v1 g iJ29_rotateLeft K d k 15 ls st σ = vs g iJ29_rotateLeft K d (.getfield 39) 3 k 15 ls st σ) ∧ (∀ (g : xG) (K : xR → xH → Prop) (d : Nat) (k : xK) (ls : List (Option Value)) (st : List Value) (σ : xH), v1 g iJ29_rotateLeft K d k 18 ls st σ = vs g iJ29_rotateLeft K d (.dup_x1) 1 k 18 ls st σ) ∧ (∀ (g : xG) (K : xR → xH → Prop) (d : Nat) (k : xK) (ls : List (Option Value)) (st : List Value) (σ : xH), v1 g iJ29_rotateLeft K d k 19 ls st σ = vs g iJ29_rotateLeft K d (.putfield 42) 3 k 19 ls st σ) ∧ (∀ (g : xG) (K : xR → xH → Prop) (d : Nat) (k : xK) (ls : List (Option Value)) (st : List Value) (σ : xH), v1 g iJ29_rotateLeft K d k 22 ls st σ = vs g iJ29_rotateLeft K d (.dup) 1 k 22 ls st σ) ∧ (∀ (g : xG) (K : xR → xH → Prop) (d : Nat) (k : xK) (ls : List (Option Value)) (st : List Value) (σ : xH), v1 g iJ29_rotateLeft K d k 23 ls st σ = vs g iJ29_rotateLeft K d (.astore 4) 2 k 23 ls st σ) ∧ (∀ (g : xG) (K : xR → xH → Prop) (d : Nat) (k : xK) (ls : List (Option Value)) (st : List Value) (σ : xH), v1 g iJ29_rotateLeft K d k 25 ls st σ = vs g iJ29_rotateLeft K d (.ifnull 9) 3 k 25 ls st σ) ∧ (∀ k : Nat → Prop, tgo 25 9 k = k 34) ∧ (∀ (g : xG) (K : xR → xH → Prop) (d : Nat) (k : xK) (ls : List (Option Value)) (st : List Value) (σ : xH), v1 g iJ29_rotateLeft K d k 28 ls st σ = vs g iJ29_rotateLeft K d (.aload 4) 2 k 28 ls st σ) ∧ (∀ (g : xG) (K : xR → xH → Prop) (d : Nat) (k : xK) (ls : List (Option Value)) (st : List Value) (σ : xH), v1 g iJ29_rotateLeft K d k 30 ls st σ = vs g iJ29_rotateLeft K d (.aload_n 1) 1 k 30 ls st σ) ∧ (∀ (g : xG) (K : xR → xH → Prop) (d : Nat) (k : xK) (ls : List (Option Value)) (st : List Value) (σ : xH), v1 g iJ29_rotateLeft K d k 31 ls st σ = vs g iJ29_rotateLeft K d (.putfield 9) 3 k 31 ls st σ) ∧ (∀ (g : xG) (K : xR → xH → Prop) (d : Nat) (k : xK) (ls : List (Option Value)) (st : List Value) (σ : xH), v1 g iJ29_rotateLeft K d k 34 ls st σ = vs g iJ29_rotateLeft K d (.aload_n 2) 1 k 34 ls st σ) ∧ (∀ (g : xG) (K : xR → xH → Prop) (d : Nat) (k : xK) (ls : List (Option Value)) (st : List Value) (σ : xH), v1 g iJ29_rotateLeft K d k 35 ls st σ = vs g iJ29_rotateLeft K d (.aload_n 1) 1 k 35 ls st σ) ∧ (∀ (g : xG) (K : xR → xH → Prop) (d : Nat) (k : xK) (ls : List (Option Value)) (st : List Value) (σ : xH), v1 g iJ29_rotateLeft K d k 36 ls st σ = vs g iJ29_rotateLeft K d (.getfield 9) 3 k 36 ls st σ) ∧ (∀ (g : xG) (K : xR → xH → Prop) (d : Nat) (k : xK) (ls : List (Option Value)) (st : List Value) (σ : xH), v1 g iJ29_rotateLeft K d k 39 ls st σ = vs g iJ29_rotateLeft K d (.dup_x1) 1 k 39 ls st σ) ∧ (∀ (g : xG) (K : xR → xH → Prop) (d : Nat) (k : xK) (ls : List (Option Value)) (st : List Value) (σ : xH), v1 g iJ29_rotateLeft K d k 40 ls st σ = vs g iJ29_rotateLeft K d (.putfield 9) 3 k 40 ls st σ) ∧ (∀ (g : xG) (K : xR → xH → Prop) (d : Nat) (k : xK) (ls : List (Option Value)) (st : List Value) (σ : xH), v1 g iJ29_rotateLeft K d k 43 ls st σ = vs g iJ29_rotateLeft K d (.dup) 1 k 43 ls st σ) ∧ (∀ (g : xG) (K : xR → xH → Prop) (d : Nat) (k : xK) (ls : List (Option Value)) (st : List Value) (σ : xH), v1 g iJ29_rotateLeft K d k 44 ls st σ = vs g iJ29_rotateLeft K d (.astore_n 3) 1 k 44 ls st σ) ∧ (∀ (g : xG) (K : xR → xH → Prop) (d : Nat) (k : xK) (ls : List (Option Value)) (st : List Value) (σ : xH), v1 g iJ29_rotateLeft K d k 45 ls st σ = vs g iJ29_rotateLeft K d (.ifnonnull 13) 3 k 45 ls st σ) ∧ (∀ k : Nat → Prop, tgo 45 13 k = k 58) ∧ (∀ (g : xG) (K : xR → xH → Prop) (d : Nat) (k : xK) (ls : List (Option Value)) (st : List Value) (σ : xH), v1 g iJ29_rotateLeft K d k 48 ls st σ = vs g iJ29_rotateLeft K d (.aload_n 2) 1 k 48 ls st σ) ∧ (∀ (g : xG) (K : xR → xH → Prop) (d : Nat) (k : xK) (ls : List (Option Value)) (st : List Value) (σ : xH), v1 g iJ29_rotateLeft K d k 49 ls st σ = vs g iJ29_rotateLeft K d (.dup) 1 k 49 ls st σ) ∧ (∀ (g : xG) (K : xR → xH → Prop) (d : Nat) (k : xK) (ls : List (Option Value)) (st : List Value) (σ : xH), v1 g iJ29_rotateLeft K d k 50 ls st σ = vs g iJ29_rotateLeft K d (.astore_n 0) 1 k 50 ls st σ) ∧ (∀ (g : xG) (K : xR → xH → Prop) (d : Nat) (k : xK) (ls : List (Option Value)) (st : List Value) (σ : xH), v1 g iJ29_rotateLeft K d k 51 ls st σ = vs g iJ29_rotateLeft K d (.iconst 0) 1 k 51 ls st σ) ∧ (∀ (g : xG) (K : xR → xH → Prop) (d : Nat) (k : xK) (ls : List (Option Value)) (st : List Value) (σ : xH), v1 g iJ29_rotateLeft K d k 52 ls st σ = vs g iJ29_rotateLeft K d (.putfield 93) 3 k 52 ls st σ) ∧ (∀ (g : xG) (K : xR → xH → Prop) (d : Nat) (k : xK) (ls : List (Option Value)) (st : List Value) (σ : xH), v1 g iJ29_rotateLeft K d k 55 ls st σ = vs g iJ29_rotateLeft K d (.goto 24) 3 k 55 ls st σ) ∧ (∀ k : Nat → Prop, tgo 55 24 k = k 79) ∧ (∀ (g : xG) (K : xR → xH → Prop) (d : Nat) (k : xK) (ls : List (Option Value)) (st : List Value) (σ : xH), v1 g iJ29_rotateLeft K d k 58 ls st σ = vs g iJ29_rotateLeft K d (.aload_n 3) 1 k 58 ls st σ) ∧ (∀ (g : xG) (K : xR → xH → Prop) (d : Nat) (k : xK) (ls : List (Option Value)) (st : List Value) (σ : xH), v1 g iJ29_rotateLeft K d k 59 ls st σ = vs g iJ29_rotateLeft K d (.getfield 39) 3 k 59 ls st σ) ∧ (∀ (g : xG) (K : xR → xH → Prop) (d : Nat) (k : xK) (ls : List (Option Value)) (st : List Value) (σ : xH), v1 g iJ29_rotateLeft K d k 62 ls st σ = vs g iJ29_rotateLeft K d (.aload_n 1) 1 k 62 ls st σ) ∧ (∀ (g : xG) (K : xR → xH → Prop) (d : Nat) (k : xK) (ls : List (Option Value)) (st : List Value) (σ : xH), v1 g iJ29_rotateLeft K d k 63 ls st σ = vs g iJ29_rotateLeft K d (.if_acmp .ne 11) 3 k 63 ls st σ) ∧ (∀ k : Nat → Prop, tgo 63 11 k = k 74) ∧ (∀ (g : xG) (K : xR → xH → Prop) (d : Nat) (k : xK) (ls : List (Option Value)) (st : List Value) (σ : xH), v1 g iJ29_rotateLeft K d k 66 ls st σ = vs g iJ29_rotateLeft K d (.aload_n 3) 1 k 66 ls st σ) ∧ (∀ (g : xG) (K : xR → xH → Prop) (d : Nat) (k : xK) (ls : List (Option Value)) (st : List Value) (σ : xH), v1 g iJ29_rotateLeft K d k 67 ls st σ = vs g iJ29_rotateLeft K d (.aload_n 2) 1 k 67 ls st σ) ∧ (∀ (g : xG) (K : xR → xH → Prop) (d : Nat) (k : xK) (ls : List (Option Value)) (st : List Value) (σ : xH), v1 g iJ29_rotateLeft K d k 68 ls st σ = vs g iJ29_rotateLeft K d (.putfield 39) 3 k 68 ls st σ) ∧ (∀ (g : xG) (K : xR → xH → Prop) (d : Nat) (k : xK) (ls : List (Option Value)) (st : List Value) (σ : xH), v1 g iJ29_rotateLeft K d k 71 ls st σ = vs g iJ29_rotateLeft K d (.goto 8) 3 k 71 ls st σ) ∧ (∀ k : Nat → Prop, tgo 71 8 k = k 79) ∧ (∀ (g : xG) (K : xR → xH → Prop) (d : Nat) (k : xK) (ls : List (Option Value)) (st : List Value) (σ : xH), v1 g iJ29_rotateLeft K d k 74 ls st σ = vs g iJ29_rotateLeft K d (.aload_n 3) 1 k 74 ls st σ) ∧ (∀ (g : xG) (K : xR → xH → Prop) (d : Nat) (k : xK) (ls : List (Option Value)) (st : List Value) (σ : xH), v1 g iJ29_rotateLeft K d k 75 ls st σ = vs g iJ29_rotateLeft K d (.aload_n 2) 1 k 75 ls st σ) ∧ (∀ (g : xG) (K : xR → xH → Prop) (d : Nat) (k : xK) (ls : List (Option Value)) (st : List Value) (σ : xH), v1 g iJ29_rotateLeft K d k 76 ls st σ = vs g iJ29_rotateLeft K d (.putfield 42) 3 k 76 ls st σ) ∧ (∀ (g : xG) (K : xR → xH → Prop) (d : Nat) (k : xK) (ls : List (Option Value)) (st : List Value) (σ : xH), v1 g iJ29_rotateLeft K d k 79 ls st σ = vs g iJ29_rotateLeft K d (.aload_n 2) 1 k 79 ls st σ) ∧ (∀ (g : xG) (K : xR → xH → Prop) (d : Nat) (k : xK) (ls : List (Option Value)) (st : List Value) (σ : xH), v1 g iJ29_rotateLeft K d k 80 ls st σ = vs g iJ29_rotateLeft K d (.aload_n 1) 1 k 80 ls st σ) ∧ (∀ (g : xG) (K : xR → xH → Prop) (d : Nat) (k : xK) (ls : List (Option Value)) (st : List Value) (σ : xH), v1 g iJ29_rotateLeft K d k 81 ls st σ = vs g iJ29_rotateLeft K d (.putfield 39) 3 k 81 ls st σ) ∧ (∀ (g : xG) (K : xR → xH → Prop) (d : Nat) (k : xK) (ls : List (Option Value)) (st : List Value) (σ : xH), v1 g iJ29_rotateLeft K d k 84 ls st σ = vs g iJ29_rotateLeft K d (.aload_n 1) 1 k 84 ls st σ) ∧ (∀ (g : xG) (K : xR → xH → Prop) (d : Nat) (k : xK) (ls : List (Option Value)) (st : List Value) (σ : xH), v1 g iJ29_rotateLeft K d k 85 ls st σ = vs g iJ29_rotateLeft K d (.aload_n 2) 1 k 85 ls st σ) ∧ (∀ (g : xG) (K : xR → xH → Prop) (d : Nat) (k : xK) (ls : List (Option Value)) (st : List Value) (σ : xH), v1 g iJ29_rotateLeft K d k 86 ls st σ = vs g iJ29_rotateLeft K d (.putfield 9) 3 k 86 ls st σ) ∧ (∀ (g : xG) (K : xR → xH → Prop) (d : Nat) (k : xK) (ls : List (Option Value)) (st : List Value) (σ : xH), v1 g iJ29_rotateLeft K d k 89 ls st σ = vs g iJ29_rotateLeft K d (.aload_n 0) 1 k 89 ls st σ) ∧ (∀ (g : xG) (K : xR → xH → Prop) (d : Nat) (k : xK) (ls : List (Option Value)) (st : List Value) (σ : xH), v1 g iJ29_rotateLeft K d k 90 ls st σ = vs g iJ29_rotateLeft K d (.areturn) 1 k 90 ls st σ) := ⟨v1_of (xd_of (I := iJ29_rotateLeft) dJ29_rotateLeft_0), v1_of (xd_of (I := iJ29_rotateLeft) dJ29_rotateLeft_1), fun k => propext ⟨fun h => h.2, fun h => ⟨by decide, h⟩⟩, v1_of (xd_of (I := iJ29_rotateLeft) dJ29_rotateLeft_4), v1_of (xd_of (I := iJ29_rotateLeft) dJ29_rotateLeft_5), v1_of (xd_of (I := iJ29_rotateLeft) dJ29_rotateLeft_8), v1_of (xd_of (I := iJ29_rotateLeft) dJ29_rotateLeft_9), v1_of (xd_of (I := iJ29_rotateLeft) dJ29_rotateLeft_10), fun k => propext ⟨fun h => h.2, fun h => ⟨by decide, h⟩⟩, v1_of (xd_of (I := iJ29_rotateLeft) dJ29_rotateLeft_13), v1_of (xd_of (I := iJ29_rotateLeft) dJ29_rotateLeft_14), v1_of (xd_of (I := iJ29_rotateLeft) dJ29_rotateLeft_15), v1_of (xd_of (I := iJ29_rotateLeft) dJ29_rotateLeft_18), v1_of (xd_of (I := iJ29_rotateLeft) dJ29_rotateLeft_19), v1_of (xd_of (I := iJ29_rotateLeft) dJ29_rotateLeft_22), v1_of (xd_of (I := iJ29_rotateLeft) dJ29_rotateLeft_23), v1_of (xd_of (I := iJ29_rotateLeft) dJ29_rotateLeft_25), fun k => propext ⟨fun h => h.2, fun h => ⟨by decide, h⟩⟩, v1_of (xd_of (I := iJ29_rotateLeft) dJ29_rotateLeft_28), v1_of (xd_of (I := iJ29_rotateLeft) dJ29_rotateLeft_30), v1_of (xd_of (I := iJ29_rotateLeft) dJ29_rotateLeft_31), v1_of (xd_of (I := iJ29_rotateLeft) dJ29_rotateLeft_34), v1_of (xd_of (I := iJ29_rotateLeft) dJ29_rotateLeft_35), v1_of (xd_of (I := iJ29_rotateLeft) dJ29_rotateLeft_36), v1_of (xd_of (I := iJ29_rotateLeft) dJ29_rotateLeft_39), v1_of (xd_of (I := iJ29_rotateLeft) dJ29_rotateLeft_40), v1_of (xd_of (I := iJ29_rotateLeft) dJ29_rotateLeft_43), v1_of (xd_of (I := iJ29_rotateLeft) dJ29_rotateLeft_44), v1_of (xd_of (I := iJ29_rotateLeft) dJ29_rotateLeft_45), fun k => propext ⟨fun h => h.2, fun h => ⟨by decide, h⟩⟩, v1_of (xd_of (I := iJ29_rotateLeft) dJ29_rotateLeft_48), v1_of (xd_of (I := iJ29_rotateLeft) dJ29_rotateLeft_49), v1_of (xd_of (I := iJ29_rotateLeft) dJ29_rotateLeft_50), v1_of (xd_of (I := iJ29_rotateLeft) dJ29_rotateLeft_51), v1_of (xd_of (I := iJ29_rotateLeft) dJ29_rotateLeft_52), v1_of (xd_of (I := iJ29_rotateLeft) dJ29_rotateLeft_55), fun k => propext ⟨fun h => h.2, fun h => ⟨by decide, h⟩⟩, v1_of (xd_of (I := iJ29_rotateLeft) dJ29_rotateLeft_58), v1_of (xd_of (I := iJ29_rotateLeft) dJ29_rotateLeft_59), v1_of (xd_of (I := iJ29_rotateLeft) dJ29_rotateLeft_62), v1_of (xd_of (I := iJ29_rotateLeft) dJ29_rotateLeft_63), fun k => propext ⟨fun h => h.2, fun h => ⟨by decide, h⟩⟩, v1_of (xd_of (I := iJ29_rotateLeft) dJ29_rotateLeft_66), v1_of (xd_of (I := iJ29_rotateLeft) dJ29_rotateLeft_67), v1_of (xd_of (I := iJ29_rotateLeft) dJ29_rotateLeft_68), v1_of (xd_of (I := iJ29_rotateLeft) dJ29_rotateLeft_71), fun k => propext ⟨fun h => h.2, fun h => ⟨by decide, h⟩⟩, v1_of (xd_of (I := iJ29_rotateLeft) dJ29_rotateLeft_74), v1_of (xd_of (I := iJ29_rotateLeft) dJ29_rotateLeft_75), v1_of (xd_of (I := iJ29_rotateLeft) dJ29_rotateLeft_76), v1_of (xd_of (I := iJ29_rotateLeft) dJ29_rotateLeft_79), v1_of (xd_of (I := iJ29_rotateLeft) dJ29_rotateLeft_80), v1_of (xd_of (I := iJ29_rotateLeft) dJ29_rotateLeft_81), v1_of (xd_of (I := iJ29_rotateLeft) dJ29_rotateLeft_84), v1_of (xd_of (I := iJ29_rotateLeft) dJ29_rotateLeft_85), v1_of (xd_of (I := iJ29_rotateLeft) dJ29_rotateLeft_86), v1_of (xd_of (I := iJ29_rotateLeft) dJ29_rotateLeft_89), v1_of (xd_of (I := iJ29_rotateLeft) dJ29_rotateLeft_90)⟩
theorem ct_J29_rotL {g : xG} {d : Nat} {σ : xH} {K : xR → xH → Prop} {l : List Nat} {nd ka vb : Nat → Nat} {nm : Nat → List Nat} {lf rt pa nx pv : Nat → Option Nat} {rd : Nat → Int32} (h : famL g σ l nd (tnE nd ka vb nm lf rt pa nx pv rd)) {c : xZ} {p r ro : Nat} {A B C : xT} (hl : ∀ i ∈ tEs (zPlug c (.branch p A (.branch r B C))), i ∈ l) (hn : (tEs (zPlug c (.branch p A (.branch r B C)))).Nodup) (ht : tre lf rt pa (zPlug c (.branch p A (.branch r B C))) none) (hro : tRt (zPlug c (.branch p A (.branch r B C))) = some ro)
    (hK : ∀ (σ' : xH) (lf' rt' pa' : Nat → Option Nat) (rd' : Nat → Int32) (ro' : Nat), famL g σ' l nd (tnE nd ka vb nm lf' rt' pa' nx pv rd') → tre lf' rt' pa' (zPlug c (.branch r (.branch p A B) C)) none → tRt (zPlug c (.branch r (.branch p A B) C)) = some ro' → (∀ i, rd' i = rd i ∨ rd' i = 0) → xg σ σ' 0 0 (inL l nd) → K (.inl (some (.ref (nd ro')))) σ') : Ctr g d iJ29_rotateLeft [.ref (nd ro), .ref (nd p)] σ K := by
  have hn0 := hn
  rw [plug_in] at hn0
  simp only [tEs, List.append_assoc, List.cons_append] at hn0
  obtain ⟨hpr0, hBn, hcn, hz, hA, hB, hC⟩ := nod5 hn0
  have hpr : p ≠ r := hpr0
  have ok := rotL_ok hn ht
  obtain ⟨h1, h2, h3, h4, h5, h6, h7, h8, h9, h10⟩ := (plug_tre _ _).mp ht
  have ml : ∀ i, i ∈ zL c ∨ i ∈ zR c → i ∈ l := fun i hi => hl i (by rw [plug_in]; simp only [List.mem_append]; rcases hi with q | q <;> simp [q])
  have mp : p ∈ l := hl p (by rw [plug_in]; simp [tEs])
  have mr : r ∈ l := hl r (by rw [plug_in]; simp [tEs])
  have mB : ∀ b, tRt B = some b → b ∈ l ∧ b ≠ p ∧ b ≠ r := fun b hb => ⟨hl b (by rw [plug_in]; have := tRt_in hb; simp [tEs, this]), (hB b (tRt_in hb)).1, (hB b (tRt_in hb)).2.1⟩
  have zp : ∀ i, i ∈ zL c ∨ i ∈ zR c → i ≠ p := fun i hi => (hz i hi).1
  have zr : ∀ i, i ∈ zL c ∨ i ∈ zR c → i ≠ r := fun i hi => (hz i hi).2.1
  have gp := (h.2 p mp).1
  have gr := (h.2 r mr).1
  have dpr := h.ne mp mr hpr
  have drp := h.ne mr mp (fun e => hpr e.symm)
  have e0 : tRt (zPlug c (.branch r (.branch p A B) C)) = if c = [] then some r else some ro := by
    by_cases q : c = []
    · subst q; rfl
    · rw [if_neg q, ← hro]; exact plug_rt c _ _ q
  -- the end
  have S79 : ∀ (σ1 : xH) (rd1 : Nat → Int32) (ro1 : Nat) (v3 v4 : Option Value), famL g σ1 l nd (tnE nd ka vb nm (lfZ c lf (some r)) (rtZ c (va_up rt p (tRt B)) (some r)) (va_up (paT B pa (some p)) r (zPa c)) nx pv rd1) → tRt (zPlug c (.branch r (.branch p A B) C)) = some ro1 → (∀ i, rd1 i = rd i ∨ rd1 i = 0) → xg σ σ1 0 0 (inL l nd) → VW g iJ29_rotateLeft K d 79 [some (.ref (nd ro1)), some (.ref (nd p)), some (.ref (nd r)), v3, v4] [] σ1 := by
    intro σ1 rd1 ro1 v3 v4 hf e4 e5 e6
    have cp := (hf.2 p mp).2
    have cr := (hf.2 r mr).2
    simp only [tnE, va_up_self, va_up_ne _ _ hpr, va_up_ne _ _ (Ne.symm hpr), oN_s] at cp cr
    refine VW.go [] 400 ?_
    simp only [↓vcp, ↓vc_s, vch, vcn, Option.toList_some, Option.toList_none, List.cons_append, List.nil_append, Bool.false_eq_true, Bool.or_false, Bool.or_true, Bool.false_or, Bool.true_or, Nat.reduceAdd, Nat.reduceBEq, Nat.reduceLeDiff, Nat.zero_le, Nat.reduceLT, Nat.le_refl, ↓reduceIte, decide_true, decide_false, true_and, and_true, false_imp_iff, true_imp_iff, not_false_eq_true, not_true_eq_false, implies_true, and_self, eq_self, i10, List.length_cons, List.length_nil, vcv, xur, ↓pJ29_rotateLeft, bJ29_rotateLeft, cp, cr, gp, gr, dpr, drp, Option.some.injEq, reduceCtorEq, forall_eq']
    have f1 := famL.set (e := _) (lf' := va_up (lfZ c lf (some r)) r (some p)) (rt' := rtZ c (va_up rt p (tRt B)) (some r)) (pa' := va_up (paT B pa (some p)) r (zPa c)) (nx' := nx) (pv' := pv) (rd' := rd1) hf mr rfl (fun j hj q => by simp [tnE, va_up_ne _ _ q])
    have f2 := famL.set (e := _) (lf' := va_up (lfZ c lf (some r)) r (some p)) (rt' := rtZ c (va_up rt p (tRt B)) (some r)) (pa' := va_up (va_up (paT B pa (some p)) r (zPa c)) p (some r)) (nx' := nx) (pv' := pv) (rd' := rd1) f1 mp rfl (fun j hj q => by simp [tnE, va_up_ne _ _ q])
    have g2 := hK _ _ _ _ rd1 ro1 f2 ok e4 e5 (((e6.t2 (xg1 (inL_i mr))).t2 (xg1 (inL_i mp))).mono (Nat.le_refl _) (Nat.le_refl _) (fun _ _ q => q))
    simp only [tnE, va_up_self, va_up_ne _ _ hpr, va_up_ne _ _ (Ne.symm hpr), oN_s] at g2
    exact g2
  -- r's parent, the link above
  have S34 : ∀ (σ1 : xH) (v3 v4 : Option Value), famL g σ1 l nd (tnE nd ka vb nm lf (va_up rt p (tRt B)) (paT B pa (some p)) nx pv rd) → xg σ σ1 0 0 (inL l nd) → VW g iJ29_rotateLeft K d 34 [some (.ref (nd ro)), some (.ref (nd p)), some (.ref (nd r)), v3, v4] [] σ1 := by
    intro σ1 v3 v4 hf e6
    have cp := (hf.2 p mp).2
    have cr := (hf.2 r mr).2
    have pp : paT B pa (some p) p = zPa c := by rw [paT_ne (fun e => (mB p e).2.1 rfl)]; exact h2
    unfold tnE at cp cr
    rw [pp] at cp
    cases hc : zPa c with
    | none =>
      have c0 := zPa_none hc
      rw [hc, oN_n] at cp
      rw [if_pos c0] at e0
      subst c0
      have f1 := famL.set (e := _) (lf' := lf) (rt' := (va_up rt p (tRt B))) (pa' := va_up (paT B pa (some p)) r none) (nx' := nx) (pv' := pv) (rd' := va_up rd r 0) hf mr rfl (fun j hj q => by simp [tnE, va_up_ne _ _ q])
      have fin := fun v3 v4 => S79 _ _ r v3 v4 f1 e0 (fun i => by
        by_cases q : i = r
        · subst q; exact Or.inr (va_up_self _ _ _)
        · exact Or.inl (va_up_ne _ _ q)) ((e6.t2 (xg1 (inL_i mr))).mono (Nat.le_refl _) (Nat.le_refl _) (fun _ _ q => q))
      simp only [tnE, va_up_self, va_up_ne _ _ (Ne.symm hpr), oN_n] at fin
      simp only [va_up_ne _ _ (Ne.symm hpr)] at cr
      refine VW.go [79] 400 ?_
      simp only [↓vcp, ↓vc_s, vch, vcn, Option.toList_some, Option.toList_none, List.cons_append, List.nil_append, Bool.false_eq_true, Bool.or_false, Bool.or_true, Bool.false_or, Bool.true_or, Nat.reduceAdd, Nat.reduceBEq, Nat.reduceLeDiff, Nat.zero_le, Nat.reduceLT, Nat.le_refl, ↓reduceIte, decide_true, decide_false, true_and, and_true, false_imp_iff, true_imp_iff, not_false_eq_true, not_true_eq_false, implies_true, and_self, eq_self, i10, List.length_cons, List.length_nil, vcv, xur, ↓pJ29_rotateLeft, bJ29_rotateLeft, cp, cr, gp, gr, dpr, drp, Option.some.injEq, reduceCtorEq, forall_eq']
      exact fin _ _
    | some i =>
      obtain ⟨s, hs, hs2⟩ := zSide h1 hc
      have hi := zPa_in hc
      have mi := ml i hi
      have gi := (h.2 i mi).1
      have ip := zp i hi
      have ir := zr i hi
      have dir := h.ne mi mr ir
      have dri := h.ne mr mi (fun e => ir e.symm)
      have ci := (hf.2 i mi).2
      unfold tnE at ci
      rw [hc, oN_s] at cp
      have sp : tRt s ≠ some p := fun e => zp p (hs2 p (tRt_in e)) rfl
      have c0 : c ≠ [] := fun e => by rw [e] at hc; cases hc
      rw [if_neg c0] at e0
      have f1 := famL.set (e := _) (lf' := lf) (rt' := (va_up rt p (tRt B))) (pa' := va_up (paT B pa (some p)) r (some i)) (nx' := nx) (pv' := pv) (rd' := rd) hf mr rfl (fun j hj q => by simp [tnE, va_up_ne _ _ q])
      have f2 := fun (h1 : ∀ j ∈ l, j ≠ i → tnE nd ka vb nm (lfZ c lf (some r)) (rtZ c (va_up rt p (tRt B)) (some r)) (va_up (paT B pa (some p)) r (zPa c)) nx pv rd j = tnE nd ka vb nm lf (va_up rt p (tRt B)) (va_up (paT B pa (some p)) r (some i)) nx pv rd j) => famL.set (e := _) (lf' := (lfZ c lf (some r))) (rt' := (rtZ c (va_up rt p (tRt B)) (some r))) (pa' := va_up (paT B pa (some p)) r (zPa c)) (nx' := nx) (pv' := pv) (rd' := rd) f1 mi rfl h1
      have fin := fun h1 v3 v4 => S79 _ _ ro v3 v4 (f2 h1) e0 (fun i => Or.inl rfl) (((e6.t2 (xg1 (inL_i mr))).t2 (xg1 (inL_i mi))).mono (Nat.le_refl _) (Nat.le_refl _) (fun _ _ q => q))
      rcases hs with ⟨s1, s2, s3, s4⟩ | ⟨s1, s2, s3, s4⟩
      · have fin := fin (fun j hj q => by rw [hc]; simp [tnE, s3, s4, va_up_ne _ _ q])
        simp only [tnE, s3, s4, hc, va_up_self, va_up_ne _ _ ir, va_up_ne _ _ ip, va_up_ne _ _ (Ne.symm ir), va_up_ne _ _ (Ne.symm hpr), oN_s] at fin
        simp only [va_up_ne _ _ (Ne.symm hpr)] at cr
        simp only [va_up_ne _ _ ip, s1, tRt_b, oN_s] at ci
        refine VW.go [79] 400 ?_
        simp only [↓vcp, ↓vc_s, vch, vcn, Option.toList_some, Option.toList_none, List.cons_append, List.nil_append, Bool.false_eq_true, Bool.or_false, Bool.or_true, Bool.false_or, Bool.true_or, Nat.reduceAdd, Nat.reduceBEq, Nat.reduceLeDiff, Nat.zero_le, Nat.reduceLT, Nat.le_refl, ↓reduceIte, decide_true, decide_false, true_and, and_true, false_imp_iff, true_imp_iff, not_false_eq_true, not_true_eq_false, implies_true, and_self, eq_self, i10, List.length_cons, List.length_nil, vcv, xur, ↓pJ29_rotateLeft, bJ29_rotateLeft, cp, cr, ci, gp, gr, gi, dpr, drp, dir, dri, Option.some.injEq, reduceCtorEq, forall_eq']
        exact fin _ _
      · have fin := fin (fun j hj q => by rw [hc]; simp [tnE, s3, s4, va_up_ne _ _ q])
        simp only [va_up_ne _ _ (Ne.symm hpr)] at cr
        cases hs9 : tRt s with
        | none =>
          simp only [tnE, s3, s4, hc, va_up_self, va_up_ne _ _ ir, va_up_ne _ _ ip, va_up_ne _ _ (Ne.symm ir), va_up_ne _ _ (Ne.symm hpr), s1, hs9, oN_s, oN_n] at fin
          simp only [va_up_ne _ _ ip, s1, hs9, oN_n] at ci
          refine VW.go [79] 400 ?_
          simp only [↓vcp, ↓vc_s, vch, vcn, Option.toList_some, Option.toList_none, List.cons_append, List.nil_append, Bool.false_eq_true, Bool.or_false, Bool.or_true, Bool.false_or, Bool.true_or, Nat.reduceAdd, Nat.reduceBEq, Nat.reduceLeDiff, Nat.zero_le, Nat.reduceLT, Nat.le_refl, ↓reduceIte, decide_true, decide_false, true_and, and_true, false_imp_iff, true_imp_iff, not_false_eq_true, not_true_eq_false, implies_true, and_self, eq_self, i10, List.length_cons, List.length_nil, vcv, xur, ↓pJ29_rotateLeft, bJ29_rotateLeft, cp, cr, ci, gp, gr, gi, dpr, drp, dir, dri, Option.some.injEq, reduceCtorEq, forall_eq']
          exact fin _ _
        | some x =>
          have mx := ml x (hs2 x (tRt_in hs9))
          have dxp := h.ne mx mp (zp x (hs2 x (tRt_in hs9)))
          simp only [tnE, s3, s4, hc, va_up_self, va_up_ne _ _ ir, va_up_ne _ _ ip, va_up_ne _ _ (Ne.symm ir), va_up_ne _ _ (Ne.symm hpr), s1, hs9, oN_s] at fin
          simp only [va_up_ne _ _ ip, s1, hs9, oN_s] at ci
          refine VW.go [79] 400 ?_
          simp only [↓vcp, ↓vc_s, vch, vcn, Option.toList_some, Option.toList_none, List.cons_append, List.nil_append, Bool.false_eq_true, Bool.or_false, Bool.or_true, Bool.false_or, Bool.true_or, Nat.reduceAdd, Nat.reduceBEq, Nat.reduceLeDiff, Nat.zero_le, Nat.reduceLT, Nat.le_refl, ↓reduceIte, decide_true, decide_false, true_and, and_true, false_imp_iff, true_imp_iff, not_false_eq_true, not_true_eq_false, implies_true, and_self, eq_self, i10, List.length_cons, List.length_nil, vcv, xur, ↓pJ29_rotateLeft, bJ29_rotateLeft, cp, cr, ci, gp, gr, gi, dpr, drp, dir, dri, dxp, Option.some.injEq, reduceCtorEq, forall_eq']
          exact fin _ _
  -- the child's child
  refine Ctr.of (by decide +kernel) rfl (by simp only [lent_0, lent_i, lent_r, lent_n, lent_l, lent_f, List.length_cons, List.length_nil, bJ29_rotateLeft]; decide) ?_
  simp only [lpad, lent_0, lent_i, lent_r, lent_n, lent_l, lent_f, List.length_cons, List.length_nil, bJ29_rotateLeft, Nat.reduceAdd, Nat.reduceSub, List.replicate_succ, List.replicate_zero, List.cons_append, List.nil_append]
  have cp := (h.2 p mp).2
  have cr := (h.2 r mr).2
  have f1 := famL.set (e := _) (lf' := lf) (rt' := (va_up rt p (tRt B))) (pa' := pa) (nx' := nx) (pv' := pv) (rd' := rd) h mp rfl (fun j hj q => by simp [tnE, va_up_ne _ _ q])
  cases hB9 : tRt B with
  | none =>
    have fin := fun v3 v4 => S34 (xu σ.1 (nd p) (tnE nd ka vb nm lf (va_up rt p (tRt B)) pa nx pv rd p), σ.2) v3 v4 (by rw [paT_none hB9]; exact f1) (xg1 (inL_i mp))
    simp only [tnE, h4, h7, hB9, tRt_b, oN_s, oN_n] at cp cr
    simp only [tnE, hB9, va_up_self, oN_s, oN_n] at fin
    refine VW.go [34] 400 ?_
    simp only [↓vcp, ↓vc_s, vch, vcn, Option.toList_some, Option.toList_none, List.cons_append, List.nil_append, Bool.false_eq_true, Bool.or_false, Bool.or_true, Bool.false_or, Bool.true_or, Nat.reduceAdd, Nat.reduceBEq, Nat.reduceLeDiff, Nat.zero_le, Nat.reduceLT, Nat.le_refl, ↓reduceIte, decide_true, decide_false, true_and, and_true, false_imp_iff, true_imp_iff, not_false_eq_true, not_true_eq_false, implies_true, and_self, eq_self, i10, List.length_cons, List.length_nil, vcv, xur, ↓pJ29_rotateLeft, bJ29_rotateLeft, cp, cr, gp, gr, dpr, drp, Option.some.injEq, reduceCtorEq, forall_eq']
    exact fin _ _
  | some b =>
    obtain ⟨mb, bp, br⟩ := mB b hB9
    have gb := (h.2 b mb).1
    have dbp := h.ne mb mp bp
    have dpb := h.ne mp mb (fun e => bp e.symm)
    have cb := (h.2 b mb).2
    have f2 := famL.set (e := _) (lf' := lf) (rt' := (va_up rt p (tRt B))) (pa' := va_up pa b (some p)) (nx' := nx) (pv' := pv) (rd' := rd) f1 mb rfl (fun j hj q => by simp [tnE, va_up_ne _ _ q])
    have fin := fun v3 v4 => S34 _ v3 v4 (by rw [paT_some hB9]; exact f2) (((xg1 (inL_i mp)).t2 (xg1 (inL_i mb))).mono (Nat.le_refl _) (Nat.le_refl _) (fun _ _ q => q))
    simp only [tnE, h4, h7, hB9, tRt_b, oN_s] at cp cr cb
    simp only [tnE, hB9, va_up_self, va_up_ne _ _ bp, oN_s] at fin
    refine VW.go [34] 400 ?_
    simp only [↓vcp, ↓vc_s, vch, vcn, Option.toList_some, Option.toList_none, List.cons_append, List.nil_append, Bool.false_eq_true, Bool.or_false, Bool.or_true, Bool.false_or, Bool.true_or, Nat.reduceAdd, Nat.reduceBEq, Nat.reduceLeDiff, Nat.zero_le, Nat.reduceLT, Nat.le_refl, ↓reduceIte, decide_true, decide_false, true_and, and_true, false_imp_iff, true_imp_iff, not_false_eq_true, not_true_eq_false, implies_true, and_self, eq_self, i10, List.length_cons, List.length_nil, vcv, xur, ↓pJ29_rotateLeft, bJ29_rotateLeft, cp, cr, cb, gp, gr, gb, dpr, drp, dbp, dpb, Option.some.injEq, reduceCtorEq, forall_eq']
    exact fin _ _
set_option maxRecDepth 100000 in
theorem bJ29_rotateRight : (iO iJ29_rotateRight = 65) ∧ (iT iJ29_rotateRight = []) ∧ (iR iJ29_rotateRight = (Option.some (Jvm.ClassFile.FieldType.object "java/util/HashMap$TreeNode"))) ∧ (iL iJ29_rotateRight = 5) ∧ (fl 65 39 22 = some (7, (.object "java/util/HashMap$TreeNode"), false)) ∧ (fl 65 42 22 = some (8, (.object "java/util/HashMap$TreeNode"), false)) ∧ (fl 65 9 22 = some (6, (.object "java/util/HashMap$TreeNode"), false)) ∧ (fl 65 93 22 = some (10, .boolean, false)) := ⟨rfl, rfl, rfl, rfl, rfl, rfl, rfl, rfl⟩
set_option maxRecDepth 100000 in
theorem pJ29_rotateRight : (∀ (g : xG) (K : xR → xH → Prop) (d : Nat) (k : xK) (ls : List (Option Value)) (st : List Value) (σ : xH), v1 g iJ29_rotateRight K d k 0 ls st σ = vs g iJ29_rotateRight K d (.aload_n 1) 1 k 0 ls st σ) ∧ (∀ (g : xG) (K : xR → xH → Prop) (d : Nat) (k : xK) (ls : List (Option Value)) (st : List Value) (σ : xH), v1 g iJ29_rotateRight K d k 1 ls st σ = vs g iJ29_rotateRight K d (.ifnull 88) 3 k 1 ls st σ) ∧ (∀ k : Nat → Prop, tgo 1 88 k = k 89) ∧ (∀ (g : xG) (K : xR → xH → Prop) (d : Nat) (k : xK) (ls : List (Option Value)) (st : List Value) (σ : xH), v1 g iJ29_rotateRight K d k 4 ls st σ = vs g iJ29_rotateRight K d (.aload_n 1) 1 k 4 ls st σ) ∧ (∀ (g : xG) (K : xR → xH → Prop) (d : Nat) (k : xK) (ls : List (Option Value)) (st : List Value) (σ : xH), v1 g iJ29_rotateRight K d k 5 ls st σ = vs g iJ29_rotateRight K d (.getfield 39) 3 k 5 ls st σ) ∧ (∀ (g : xG) (K : xR → xH → Prop) (d : Nat) (k : xK) (ls : List (Option Value)) (st : List Value) (σ : xH), v1 g iJ29_rotateRight K d k 8 ls st σ = vs g iJ29_rotateRight K d (.dup) 1 k 8 ls st σ) ∧ (∀ (g : xG) (K : xR → xH → Prop) (d : Nat) (k : xK) (ls : List (Option Value)) (st : List Value) (σ : xH), v1 g iJ29_rotateRight K d k 9 ls st σ = vs g iJ29_rotateRight K d (.astore_n 2) 1 k 9 ls st σ) ∧ (∀ (g : xG) (K : xR → xH → Prop) (d : Nat) (k : xK) (ls : List (Option Value)) (st : List Value) (σ : xH), v1 g iJ29_rotateRight K d k 10 ls st σ = vs g iJ29_rotateRight K d (.ifnull 79) 3 k 10 ls st σ) ∧ (∀ k : Nat → Prop, tgo 10 79 k = k 89) ∧ (∀ (g : xG) (K : xR → xH → Prop) (d : Nat) (k : xK) (ls : List (Option Value)) (st : List Value) (σ : xH), v1 g iJ29_rotateRight K d k 13 ls st σ = vs g iJ29_rotateRight K d (.aload_n 1) 1 k 13 ls st σ) ∧ (∀ (g : xG) (K : xR → xH → Prop) (d : Nat) (k : xK) (ls : List (Option Value)) (st : List Value) (σ : xH), v1 g iJ29_rotateRight K d k 14 ls st σ = vs g iJ29_rotateRight K d (.aload_n 2) 1 k 14 ls st σ) ∧ (∀ (g : xG) (K : xR → xH → Prop) (d : Nat) (k : xK) (ls : List (Option Value)) (st : List Value) (σ : xH), v1 g iJ29_rotateRight K d k 15 ls st σ = vs g iJ29_rotateRight K d (.getfield 42) 3 k 15 ls st σ) ∧ (∀ (g : xG) (K : xR → xH → Prop) (d : Nat) (k : xK) (ls : List (Option Value)) (st : List Value) (σ : xH), v1 g iJ29_rotateRight K d k 18 ls st σ = vs g iJ29_rotateRight K d (.dup_x1) 1 k 18 ls st σ) ∧ (∀ (g : xG) (K : xR → xH → Prop) (d : Nat) (k : xK) (ls : List (Option Value)) (st : List Value) (σ : xH), v1 g iJ29_rotateRight K d k 19 ls st σ = vs g iJ29_rotateRight K d (.putfield 39) 3 k 19 ls st σ) ∧ (∀ (g : xG) (K : xR → xH → Prop) (d : Nat) (k : xK) (ls : List (Option Value)) (st : List Value) (σ : xH), v1 g iJ29_rotateRight K d k 22 ls st σ = vs g iJ29_rotateRight K d (.dup) 1 k 22 ls st σ) ∧ (∀ (g : xG) (K : xR → xH → Prop) (d : Nat) (k : xK) (ls : List (Option Value)) (st : List Value) (σ : xH), v1 g iJ29_rotateRight K d k 23 ls st σ = vs g iJ29_rotateRight K d (.astore 4) 2 k 23 ls st σ) ∧ (∀ (g : xG) (K : xR → xH → Prop) (d : Nat) (k : xK) (ls : List (Option Value)) (st : List Value) (σ : xH), v1 g iJ29_rotateRight K d k 25 ls st σ = vs g iJ29_rotateRight K d (.ifnull 9) 3 k 25 ls st σ) ∧ (∀ k : Nat → Prop, tgo 25 9 k = k 34) ∧ (∀ (g : xG) (K : xR → xH → Prop) (d : Nat) (k : xK) (ls : List (Option Value)) (st : List Value) (σ : xH), v1 g iJ29_rotateRight K d k 28 ls st σ = vs g iJ29_rotateRight K d (.aload 4) 2 k 28 ls st σ) ∧ (∀ (g : xG) (K : xR → xH → Prop) (d : Nat) (k : xK) (ls : List (Option Value)) (st : List Value) (σ : xH), v1 g iJ29_rotateRight K d k 30 ls st σ = vs g iJ29_rotateRight K d (.aload_n 1) 1 k 30 ls st σ) ∧ (∀ (g : xG) (K : xR → xH → Prop) (d : Nat) (k : xK) (ls : List (Option Value)) (st : List Value) (σ : xH), v1 g iJ29_rotateRight K d k 31 ls st σ = vs g iJ29_rotateRight K d (.putfield 9) 3 k 31 ls st σ) ∧ (∀ (g : xG) (K : xR → xH → Prop) (d : Nat) (k : xK) (ls : List (Option Value)) (st : List Value) (σ : xH), v1 g iJ29_rotateRight K d k 34 ls st σ = vs g iJ29_rotateRight K d (.aload_n 2) 1 k 34 ls st σ) ∧ (∀ (g : xG) (K : xR → xH → Prop) (d : Nat) (k : xK) (ls : List (Option Value)) (st : List Value) (σ : xH), v1 g iJ29_rotateRight K d k 35 ls st σ = vs g iJ29_rotateRight K d (.aload_n 1) 1 k 35 ls st σ) ∧ (∀ (g : xG) (K : xR → xH → Prop) (d : Nat) (k : xK) (ls : List (Option Value)) (st : List Value) (σ : xH), v1 g iJ29_rotateRight K d k 36 ls st σ = vs g iJ29_rotateRight K d (.getfield 9) 3 k 36 ls st σ) ∧ (∀ (g : xG) (K : xR → xH → Prop) (d : Nat) (k : xK) (ls : List (Option Value)) (st : List Value) (σ : xH), v1 g iJ29_rotateRight K d k 39 ls st σ = vs g iJ29_rotateRight K d (.dup_x1) 1 k 39 ls st σ) ∧ (∀ (g : xG) (K : xR → xH → Prop) (d : Nat) (k : xK) (ls : List (Option Value)) (st : List Value) (σ : xH), v1 g iJ29_rotateRight K d k 40 ls st σ = vs g iJ29_rotateRight K d (.putfield 9) 3 k 40 ls st σ) ∧ (∀ (g : xG) (K : xR → xH → Prop) (d : Nat) (k : xK) (ls : List (Option Value)) (st : List Value) (σ : xH), v1 g iJ29_rotateRight K d k 43 ls st σ = vs g iJ29_rotateRight K d (.dup) 1 k 43 ls st σ) ∧ (∀ (g : xG) (K : xR → xH → Prop) (d : Nat) (k : xK) (ls : List (Option Value)) (st : List Value) (σ : xH), v1 g iJ29_rotateRight K d k 44 ls st σ = vs g iJ29_rotateRight K d (.astore_n 3) 1 k 44 ls st σ) ∧ (∀ (g : xG) (K : xR → xH → Prop) (d : Nat) (k : xK) (ls : List (Option Value)) (st : List Value) (σ : xH), v1 g iJ29_rotateRight K d k 45 ls st σ = vs g iJ29_rotateRight K d (.ifnonnull 13) 3 k 45 ls st σ) ∧ (∀ k : Nat → Prop, tgo 45 13 k = k 58) ∧ (∀ (g : xG) (K : xR → xH → Prop) (d : Nat) (k : xK) (ls : List (Option Value)) (st : List Value) (σ : xH), v1 g iJ29_rotateRight K d k 48 ls st σ = vs g iJ29_rotateRight K d (.aload_n 2) 1 k 48 ls st σ) ∧ (∀ (g : xG) (K : xR → xH → Prop) (d : Nat) (k : xK) (ls : List (Option Value)) (st : List Value) (σ : xH), v1 g iJ29_rotateRight K d k 49 ls st σ = vs g iJ29_rotateRight K d (.dup) 1 k 49 ls st σ) ∧ (∀ (g : xG) (K : xR → xH → Prop) (d : Nat) (k : xK) (ls : List (Option Value)) (st : List Value) (σ : xH), v1 g iJ29_rotateRight K d k 50 ls st σ = vs g iJ29_rotateRight K d (.astore_n 0) 1 k 50 ls st σ) ∧ (∀ (g : xG) (K : xR → xH → Prop) (d : Nat) (k : xK) (ls : List (Option Value)) (st : List Value) (σ : xH), v1 g iJ29_rotateRight K d k 51 ls st σ = vs g iJ29_rotateRight K d (.iconst 0) 1 k 51 ls st σ) ∧ (∀ (g : xG) (K : xR → xH → Prop) (d : Nat) (k : xK) (ls : List (Option Value)) (st : List Value) (σ : xH), v1 g iJ29_rotateRight K d k 52 ls st σ = vs g iJ29_rotateRight K d (.putfield 93) 3 k 52 ls st σ) ∧ (∀ (g : xG) (K : xR → xH → Prop) (d : Nat) (k : xK) (ls : List (Option Value)) (st : List Value) (σ : xH), v1 g iJ29_rotateRight K d k 55 ls st σ = vs g iJ29_rotateRight K d (.goto 24) 3 k 55 ls st σ) ∧ (∀ k : Nat → Prop, tgo 55 24 k = k 79) ∧ (∀ (g : xG) (K : xR → xH → Prop) (d : Nat) (k : xK) (ls : List (Option Value)) (st : List Value) (σ : xH), v1 g iJ29_rotateRight K d k 58 ls st σ = vs g iJ29_rotateRight K d (.aload_n 3) 1 k 58 ls st σ) ∧ (∀ (g : xG) (K : xR → xH → Prop) (d : Nat) (k : xK) (ls : List (Option Value)) (st : List Value) (σ : xH), v1 g iJ29_rotateRight K d k 59 ls st σ = vs g iJ29_rotateRight K d (.getfield 42) 3 k 59 ls st σ) ∧ (∀ (g : xG) (K : xR → xH → Prop) (d : Nat) (k : xK) (ls : List (Option Value)) (st : List Value) (σ : xH), v1 g iJ29_rotateRight K d k 62 ls st σ = vs g iJ29_rotateRight K d (.aload_n 1) 1 k 62 ls st σ) ∧ (∀ (g : xG) (K : xR → xH → Prop) (d : Nat) (k : xK) (ls : List (Option Value)) (st : List Value) (σ : xH), v1 g iJ29_rotateRight K d k 63 ls st σ = vs g iJ29_rotateRight K d (.if_acmp .ne 11) 3 k 63 ls st σ) ∧ (∀ k : Nat → Prop, tgo 63 11 k = k 74) ∧ (∀ (g : xG) (K : xR → xH → Prop) (d : Nat) (k : xK) (ls : List (Option Value)) (st : List Value) (σ : xH), v1 g iJ29_rotateRight K d k 66 ls st σ = vs g iJ29_rotateRight K d (.aload_n 3) 1 k 66 ls st σ) ∧ (∀ (g : xG) (K : xR → xH → Prop) (d : Nat) (k : xK) (ls : List (Option Value)) (st : List Value) (σ : xH), v1 g iJ29_rotateRight K d k 67 ls st σ = vs g iJ29_rotateRight K d (.aload_n 2) 1 k 67 ls st σ) ∧ (∀ (g : xG) (K : xR → xH → Prop) (d : Nat) (k : xK) (ls : List (Option Value)) (st : List Value) (σ : xH), v1 g iJ29_rotateRight K d k 68 ls st σ = vs g iJ29_rotateRight K d (.putfield 42) 3 k 68 ls st σ) ∧ (∀ (g : xG) (K : xR → xH → Prop) (d : Nat) (k : xK) (ls : List (Option Value)) (st : List Value) (σ : xH), v1 g iJ29_rotateRight K d k 71 ls st σ = vs g iJ29_rotateRight K d (.goto 8) 3 k 71 ls st σ) ∧ (∀ k : Nat → Prop, tgo 71 8 k = k 79) ∧ (∀ (g : xG) (K : xR → xH → Prop) (d : Nat) (k : xK) (ls : List (Option Value)) (st : List Value) (σ : xH), v1 g iJ29_rotateRight K d k 74 ls st σ = vs g iJ29_rotateRight K d (.aload_n 3) 1 k 74 ls st σ) ∧ (∀ (g : xG) (K : xR → xH → Prop) (d : Nat) (k : xK) (ls : List (Option Value)) (st : List Value) (σ : xH), v1 g iJ29_rotateRight K d k 75 ls st σ = vs g iJ29_rotateRight K d (.aload_n 2) 1 k 75 ls st σ) ∧ (∀ (g : xG) (K : xR → xH → Prop) (d : Nat) (k : xK) (ls : List (Option Value)) (st : List Value) (σ : xH), v1 g iJ29_rotateRight K d k 76 ls st σ = vs g iJ29_rotateRight K d (.putfield 39) 3 k 76 ls st σ) ∧ (∀ (g : xG) (K : xR → xH → Prop) (d : Nat) (k : xK) (ls : List (Option Value)) (st : List Value) (σ : xH), v1 g iJ29_rotateRight K d k 79 ls st σ = vs g iJ29_rotateRight K d (.aload_n 2) 1 k 79 ls st σ) ∧ (∀ (g : xG) (K : xR → xH → Prop) (d : Nat) (k : xK) (ls : List (Option Value)) (st : List Value) (σ : xH), v1 g iJ29_rotateRight K d k 80 ls st σ = vs g iJ29_rotateRight K d (.aload_n 1) 1 k 80 ls st σ) ∧ (∀ (g : xG) (K : xR → xH → Prop) (d : Nat) (k : xK) (ls : List (Option Value)) (st : List Value) (σ : xH), v1 g iJ29_rotateRight K d k 81 ls st σ = vs g iJ29_rotateRight K d (.putfield 42) 3 k 81 ls st σ) ∧ (∀ (g : xG) (K : xR → xH → Prop) (d : Nat) (k : xK) (ls : List (Option Value)) (st : List Value) (σ : xH), v1 g iJ29_rotateRight K d k 84 ls st σ = vs g iJ29_rotateRight K d (.aload_n 1) 1 k 84 ls st σ) ∧ (∀ (g : xG) (K : xR → xH → Prop) (d : Nat) (k : xK) (ls : List (Option Value)) (st : List Value) (σ : xH), v1 g iJ29_rotateRight K d k 85 ls st σ = vs g iJ29_rotateRight K d (.aload_n 2) 1 k 85 ls st σ) ∧ (∀ (g : xG) (K : xR → xH → Prop) (d : Nat) (k : xK) (ls : List (Option Value)) (st : List Value) (σ : xH), v1 g iJ29_rotateRight K d k 86 ls st σ = vs g iJ29_rotateRight K d (.putfield 9) 3 k 86 ls st σ) ∧ (∀ (g : xG) (K : xR → xH → Prop) (d : Nat) (k : xK) (ls : List (Option Value)) (st : List Value) (σ : xH), v1 g iJ29_rotateRight K d k 89 ls st σ = vs g iJ29_rotateRight K d (.aload_n 0) 1 k 89 ls st σ) ∧ (∀ (g : xG) (K : xR → xH → Prop) (d : Nat) (k : xK) (ls : List (Option Value)) (st : List Value) (σ : xH), v1 g iJ29_rotateRight K d k 90 ls st σ = vs g iJ29_rotateRight K d (.areturn) 1 k 90 ls st σ) := ⟨v1_of (xd_of (I := iJ29_rotateRight) dJ29_rotateRight_0), v1_of (xd_of (I := iJ29_rotateRight) dJ29_rotateRight_1), fun k => propext ⟨fun h => h.2, fun h => ⟨by decide, h⟩⟩, v1_of (xd_of (I := iJ29_rotateRight) dJ29_rotateRight_4), v1_of (xd_of (I := iJ29_rotateRight) dJ29_rotateRight_5), v1_of (xd_of (I := iJ29_rotateRight) dJ29_rotateRight_8), v1_of (xd_of (I := iJ29_rotateRight) dJ29_rotateRight_9), v1_of (xd_of (I := iJ29_rotateRight) dJ29_rotateRight_10), fun k => propext ⟨fun h => h.2, fun h => ⟨by decide, h⟩⟩, v1_of (xd_of (I := iJ29_rotateRight) dJ29_rotateRight_13), v1_of (xd_of (I := iJ29_rotateRight) dJ29_rotateRight_14), v1_of (xd_of (I := iJ29_rotateRight) dJ29_rotateRight_15), v1_of (xd_of (I := iJ29_rotateRight) dJ29_rotateRight_18), v1_of (xd_of (I := iJ29_rotateRight) dJ29_rotateRight_19), v1_of (xd_of (I := iJ29_rotateRight) dJ29_rotateRight_22), v1_of (xd_of (I := iJ29_rotateRight) dJ29_rotateRight_23), v1_of (xd_of (I := iJ29_rotateRight) dJ29_rotateRight_25), fun k => propext ⟨fun h => h.2, fun h => ⟨by decide, h⟩⟩, v1_of (xd_of (I := iJ29_rotateRight) dJ29_rotateRight_28), v1_of (xd_of (I := iJ29_rotateRight) dJ29_rotateRight_30), v1_of (xd_of (I := iJ29_rotateRight) dJ29_rotateRight_31), v1_of (xd_of (I := iJ29_rotateRight) dJ29_rotateRight_34), v1_of (xd_of (I := iJ29_rotateRight) dJ29_rotateRight_35), v1_of (xd_of (I := iJ29_rotateRight) dJ29_rotateRight_36), v1_of (xd_of (I := iJ29_rotateRight) dJ29_rotateRight_39), v1_of (xd_of (I := iJ29_rotateRight) dJ29_rotateRight_40), v1_of (xd_of (I := iJ29_rotateRight) dJ29_rotateRight_43), v1_of (xd_of (I := iJ29_rotateRight) dJ29_rotateRight_44), v1_of (xd_of (I := iJ29_rotateRight) dJ29_rotateRight_45), fun k => propext ⟨fun h => h.2, fun h => ⟨by decide, h⟩⟩, v1_of (xd_of (I := iJ29_rotateRight) dJ29_rotateRight_48), v1_of (xd_of (I := iJ29_rotateRight) dJ29_rotateRight_49), v1_of (xd_of (I := iJ29_rotateRight) dJ29_rotateRight_50), v1_of (xd_of (I := iJ29_rotateRight) dJ29_rotateRight_51), v1_of (xd_of (I := iJ29_rotateRight) dJ29_rotateRight_52), v1_of (xd_of (I := iJ29_rotateRight) dJ29_rotateRight_55), fun k => propext ⟨fun h => h.2, fun h => ⟨by decide, h⟩⟩, v1_of (xd_of (I := iJ29_rotateRight) dJ29_rotateRight_58), v1_of (xd_of (I := iJ29_rotateRight) dJ29_rotateRight_59), v1_of (xd_of (I := iJ29_rotateRight) dJ29_rotateRight_62), v1_of (xd_of (I := iJ29_rotateRight) dJ29_rotateRight_63), fun k => propext ⟨fun h => h.2, fun h => ⟨by decide, h⟩⟩, v1_of (xd_of (I := iJ29_rotateRight) dJ29_rotateRight_66), v1_of (xd_of (I := iJ29_rotateRight) dJ29_rotateRight_67), v1_of (xd_of (I := iJ29_rotateRight) dJ29_rotateRight_68), v1_of (xd_of (I := iJ29_rotateRight) dJ29_rotateRight_71), fun k => propext ⟨fun h => h.2, fun h => ⟨by decide, h⟩⟩, v1_of (xd_of (I := iJ29_rotateRight) dJ29_rotateRight_74), v1_of (xd_of (I := iJ29_rotateRight) dJ29_rotateRight_75), v1_of (xd_of (I := iJ29_rotateRight) dJ29_rotateRight_76), v1_of (xd_of (I := iJ29_rotateRight) dJ29_rotateRight_79), v1_of (xd_of (I := iJ29_rotateRight) dJ29_rotateRight_80), v1_of (xd_of (I := iJ29_rotateRight) dJ29_rotateRight_81), v1_of (xd_of (I := iJ29_rotateRight) dJ29_rotateRight_84), v1_of (xd_of (I := iJ29_rotateRight) dJ29_rotateRight_85), v1_of (xd_of (I := iJ29_rotateRight) dJ29_rotateRight_86), v1_of (xd_of (I := iJ29_rotateRight) dJ29_rotateRight_89), v1_of (xd_of (I := iJ29_rotateRight) dJ29_rotateRight_90)⟩
theorem ct_J29_rotR {g : xG} {d : Nat} {σ : xH} {K : xR → xH → Prop} {l : List Nat} {nd ka vb : Nat → Nat} {nm : Nat → List Nat} {lf rt pa nx pv : Nat → Option Nat} {rd : Nat → Int32} (h : famL g σ l nd (tnE nd ka vb nm lf rt pa nx pv rd)) {c : xZ} {p r ro : Nat} {A B C : xT} (hl : ∀ i ∈ tEs (zPlug c (.branch p (.branch r A B) C)), i ∈ l) (hn : (tEs (zPlug c (.branch p (.branch r A B) C))).Nodup) (ht : tre lf rt pa (zPlug c (.branch p (.branch r A B) C)) none) (hro : tRt (zPlug c (.branch p (.branch r A B) C)) = some ro)
    (hK : ∀ (σ' : xH) (lf' rt' pa' : Nat → Option Nat) (rd' : Nat → Int32) (ro' : Nat), famL g σ' l nd (tnE nd ka vb nm lf' rt' pa' nx pv rd') → tre lf' rt' pa' (zPlug c (.branch r A (.branch p B C))) none → tRt (zPlug c (.branch r A (.branch p B C))) = some ro' → (∀ i, rd' i = rd i ∨ rd' i = 0) → xg σ σ' 0 0 (inL l nd) → K (.inl (some (.ref (nd ro')))) σ') : Ctr g d iJ29_rotateRight [.ref (nd ro), .ref (nd p)] σ K := by
  have hn0 := hn
  rw [plug_in] at hn0
  simp only [tEs, List.append_assoc, List.cons_append] at hn0
  obtain ⟨hpr0, hBn, hcn, hz, hA, hB, hC⟩ := nod5 hn0
  have hpr : p ≠ r := fun e => hpr0 e.symm
  have ok := rotR_ok hn ht
  obtain ⟨h1, h2, h3, h4, ⟨h6, h7, h8, h9, h10⟩, h5⟩ := (plug_tre _ _).mp ht
  have ml : ∀ i, i ∈ zL c ∨ i ∈ zR c → i ∈ l := fun i hi => hl i (by rw [plug_in]; simp only [List.mem_append]; rcases hi with q | q <;> simp [q])
  have mp : p ∈ l := hl p (by rw [plug_in]; simp [tEs])
  have mr : r ∈ l := hl r (by rw [plug_in]; simp [tEs])
  have mB : ∀ b, tRt B = some b → b ∈ l ∧ b ≠ p ∧ b ≠ r := fun b hb => ⟨hl b (by rw [plug_in]; have := tRt_in hb; simp [tEs, this]), (hB b (tRt_in hb)).2.1, (hB b (tRt_in hb)).1⟩
  have zp : ∀ i, i ∈ zL c ∨ i ∈ zR c → i ≠ p := fun i hi => (hz i hi).2.1
  have zr : ∀ i, i ∈ zL c ∨ i ∈ zR c → i ≠ r := fun i hi => (hz i hi).1
  have gp := (h.2 p mp).1
  have gr := (h.2 r mr).1
  have dpr := h.ne mp mr hpr
  have drp := h.ne mr mp (fun e => hpr e.symm)
  have e0 : tRt (zPlug c (.branch r A (.branch p B C))) = if c = [] then some r else some ro := by
    by_cases q : c = []
    · subst q; rfl
    · rw [if_neg q, ← hro]; exact plug_rt c _ _ q
  -- the end
  have S79 : ∀ (σ1 : xH) (rd1 : Nat → Int32) (ro1 : Nat) (v3 v4 : Option Value), famL g σ1 l nd (tnE nd ka vb nm (lfZ c (va_up lf p (tRt B)) (some r)) (rtZ c rt (some r)) (va_up (paT B pa (some p)) r (zPa c)) nx pv rd1) → tRt (zPlug c (.branch r A (.branch p B C))) = some ro1 → (∀ i, rd1 i = rd i ∨ rd1 i = 0) → xg σ σ1 0 0 (inL l nd) → VW g iJ29_rotateRight K d 79 [some (.ref (nd ro1)), some (.ref (nd p)), some (.ref (nd r)), v3, v4] [] σ1 := by
    intro σ1 rd1 ro1 v3 v4 hf e4 e5 e6
    have cp := (hf.2 p mp).2
    have cr := (hf.2 r mr).2
    simp only [tnE, va_up_self, va_up_ne _ _ hpr, va_up_ne _ _ (Ne.symm hpr), oN_s] at cp cr
    refine VW.go [] 400 ?_
    simp only [↓vcp, ↓vc_s, vch, vcn, Option.toList_some, Option.toList_none, List.cons_append, List.nil_append, Bool.false_eq_true, Bool.or_false, Bool.or_true, Bool.false_or, Bool.true_or, Nat.reduceAdd, Nat.reduceBEq, Nat.reduceLeDiff, Nat.zero_le, Nat.reduceLT, Nat.le_refl, ↓reduceIte, decide_true, decide_false, true_and, and_true, false_imp_iff, true_imp_iff, not_false_eq_true, not_true_eq_false, implies_true, and_self, eq_self, i10, List.length_cons, List.length_nil, vcv, xur, ↓pJ29_rotateRight, bJ29_rotateRight, cp, cr, gp, gr, dpr, drp, Option.some.injEq, reduceCtorEq, forall_eq']
    have f1 := famL.set (e := _) (lf' := lfZ c (va_up lf p (tRt B)) (some r)) (rt' := va_up (rtZ c rt (some r)) r (some p)) (pa' := va_up (paT B pa (some p)) r (zPa c)) (nx' := nx) (pv' := pv) (rd' := rd1) hf mr rfl (fun j hj q => by simp [tnE, va_up_ne _ _ q])
    have f2 := famL.set (e := _) (lf' := lfZ c (va_up lf p (tRt B)) (some r)) (rt' := va_up (rtZ c rt (some r)) r (some p)) (pa' := va_up (va_up (paT B pa (some p)) r (zPa c)) p (some r)) (nx' := nx) (pv' := pv) (rd' := rd1) f1 mp rfl (fun j hj q => by simp [tnE, va_up_ne _ _ q])
    have g2 := hK _ _ _ _ rd1 ro1 f2 ok e4 e5 (((e6.t2 (xg1 (inL_i mr))).t2 (xg1 (inL_i mp))).mono (Nat.le_refl _) (Nat.le_refl _) (fun _ _ q => q))
    simp only [tnE, va_up_self, va_up_ne _ _ hpr, va_up_ne _ _ (Ne.symm hpr), oN_s] at g2
    exact g2
  -- r's parent, the link above
  have S34 : ∀ (σ1 : xH) (v3 v4 : Option Value), famL g σ1 l nd (tnE nd ka vb nm (va_up lf p (tRt B)) rt (paT B pa (some p)) nx pv rd) → xg σ σ1 0 0 (inL l nd) → VW g iJ29_rotateRight K d 34 [some (.ref (nd ro)), some (.ref (nd p)), some (.ref (nd r)), v3, v4] [] σ1 := by
    intro σ1 v3 v4 hf e6
    have cp := (hf.2 p mp).2
    have cr := (hf.2 r mr).2
    have pp : paT B pa (some p) p = zPa c := by rw [paT_ne (fun e => (mB p e).2.1 rfl)]; exact h2
    unfold tnE at cp cr
    rw [pp] at cp
    cases hc : zPa c with
    | none =>
      have c0 := zPa_none hc
      rw [hc, oN_n] at cp
      rw [if_pos c0] at e0
      subst c0
      have f1 := famL.set (e := _) (lf' := (va_up lf p (tRt B))) (rt' := rt) (pa' := va_up (paT B pa (some p)) r none) (nx' := nx) (pv' := pv) (rd' := va_up rd r 0) hf mr rfl (fun j hj q => by simp [tnE, va_up_ne _ _ q])
      have fin := fun v3 v4 => S79 _ _ r v3 v4 f1 e0 (fun i => by
        by_cases q : i = r
        · subst q; exact Or.inr (va_up_self _ _ _)
        · exact Or.inl (va_up_ne _ _ q)) ((e6.t2 (xg1 (inL_i mr))).mono (Nat.le_refl _) (Nat.le_refl _) (fun _ _ q => q))
      simp only [tnE, va_up_self, va_up_ne _ _ (Ne.symm hpr), oN_n] at fin
      simp only [va_up_ne _ _ (Ne.symm hpr)] at cr
      refine VW.go [79] 400 ?_
      simp only [↓vcp, ↓vc_s, vch, vcn, Option.toList_some, Option.toList_none, List.cons_append, List.nil_append, Bool.false_eq_true, Bool.or_false, Bool.or_true, Bool.false_or, Bool.true_or, Nat.reduceAdd, Nat.reduceBEq, Nat.reduceLeDiff, Nat.zero_le, Nat.reduceLT, Nat.le_refl, ↓reduceIte, decide_true, decide_false, true_and, and_true, false_imp_iff, true_imp_iff, not_false_eq_true, not_true_eq_false, implies_true, and_self, eq_self, i10, List.length_cons, List.length_nil, vcv, xur, ↓pJ29_rotateRight, bJ29_rotateRight, cp, cr, gp, gr, dpr, drp, Option.some.injEq, reduceCtorEq, forall_eq']
      exact fin _ _
    | some i =>
      obtain ⟨s, hs, hs2⟩ := zSide h1 hc
      have hi := zPa_in hc
      have mi := ml i hi
      have gi := (h.2 i mi).1
      have ip := zp i hi
      have ir := zr i hi
      have dir := h.ne mi mr ir
      have dri := h.ne mr mi (fun e => ir e.symm)
      have ci := (hf.2 i mi).2
      unfold tnE at ci
      rw [hc, oN_s] at cp
      have sp : tRt s ≠ some p := fun e => zp p (hs2 p (tRt_in e)) rfl
      have c0 : c ≠ [] := fun e => by rw [e] at hc; cases hc
      rw [if_neg c0] at e0
      have f1 := famL.set (e := _) (lf' := (va_up lf p (tRt B))) (rt' := rt) (pa' := va_up (paT B pa (some p)) r (some i)) (nx' := nx) (pv' := pv) (rd' := rd) hf mr rfl (fun j hj q => by simp [tnE, va_up_ne _ _ q])
      have f2 := fun (h1 : ∀ j ∈ l, j ≠ i → tnE nd ka vb nm (lfZ c (va_up lf p (tRt B)) (some r)) (rtZ c rt (some r)) (va_up (paT B pa (some p)) r (zPa c)) nx pv rd j = tnE nd ka vb nm (va_up lf p (tRt B)) rt (va_up (paT B pa (some p)) r (some i)) nx pv rd j) => famL.set (e := _) (lf' := (lfZ c (va_up lf p (tRt B)) (some r))) (rt' := (rtZ c rt (some r))) (pa' := va_up (paT B pa (some p)) r (zPa c)) (nx' := nx) (pv' := pv) (rd' := rd) f1 mi rfl h1
      have fin := fun h1 v3 v4 => S79 _ _ ro v3 v4 (f2 h1) e0 (fun i => Or.inl rfl) (((e6.t2 (xg1 (inL_i mr))).t2 (xg1 (inL_i mi))).mono (Nat.le_refl _) (Nat.le_refl _) (fun _ _ q => q))
      rcases hs with ⟨s1, s2, s3, s4⟩ | ⟨s1, s2, s3, s4⟩
      · have fin := fin (fun j hj q => by rw [hc]; simp [tnE, s3, s4, va_up_ne _ _ q])
        simp only [va_up_ne _ _ (Ne.symm hpr)] at cr
        cases hs9 : tRt s with
        | none =>
          simp only [tnE, s3, s4, hc, va_up_self, va_up_ne _ _ ir, va_up_ne _ _ ip, va_up_ne _ _ (Ne.symm ir), va_up_ne _ _ (Ne.symm hpr), s2, hs9, oN_s, oN_n] at fin
          simp only [va_up_ne _ _ ip, s2, hs9, oN_n] at ci
          refine VW.go [79] 400 ?_
          simp only [↓vcp, ↓vc_s, vch, vcn, Option.toList_some, Option.toList_none, List.cons_append, List.nil_append, Bool.false_eq_true, Bool.or_false, Bool.or_true, Bool.false_or, Bool.true_or, Nat.reduceAdd, Nat.reduceBEq, Nat.reduceLeDiff, Nat.zero_le, Nat.reduceLT, Nat.le_refl, ↓reduceIte, decide_true, decide_false, true_and, and_true, false_imp_iff, true_imp_iff, not_false_eq_true, not_true_eq_false, implies_true, and_self, eq_self, i10, List.length_cons, List.length_nil, vcv, xur, ↓pJ29_rotateRight, bJ29_rotateRight, cp, cr, ci, gp, gr, gi, dpr, drp, dir, dri, Option.some.injEq, reduceCtorEq, forall_eq']
          exact fin _ _
        | some x =>
          have mx := ml x (hs2 x (tRt_in hs9))
          have dxp := h.ne mx mp (zp x (hs2 x (tRt_in hs9)))
          simp only [tnE, s3, s4, hc, va_up_self, va_up_ne _ _ ir, va_up_ne _ _ ip, va_up_ne _ _ (Ne.symm ir), va_up_ne _ _ (Ne.symm hpr), s2, hs9, oN_s] at fin
          simp only [va_up_ne _ _ ip, s2, hs9, oN_s] at ci
          refine VW.go [79] 400 ?_
          simp only [↓vcp, ↓vc_s, vch, vcn, Option.toList_some, Option.toList_none, List.cons_append, List.nil_append, Bool.false_eq_true, Bool.or_false, Bool.or_true, Bool.false_or, Bool.true_or, Nat.reduceAdd, Nat.reduceBEq, Nat.reduceLeDiff, Nat.zero_le, Nat.reduceLT, Nat.le_refl, ↓reduceIte, decide_true, decide_false, true_and, and_true, false_imp_iff, true_imp_iff, not_false_eq_true, not_true_eq_false, implies_true, and_self, eq_self, i10, List.length_cons, List.length_nil, vcv, xur, ↓pJ29_rotateRight, bJ29_rotateRight, cp, cr, ci, gp, gr, gi, dpr, drp, dir, dri, dxp, Option.some.injEq, reduceCtorEq, forall_eq']
          exact fin _ _
      · have fin := fin (fun j hj q => by rw [hc]; simp [tnE, s3, s4, va_up_ne _ _ q])
        simp only [tnE, s3, s4, hc, va_up_self, va_up_ne _ _ ir, va_up_ne _ _ ip, va_up_ne _ _ (Ne.symm ir), va_up_ne _ _ (Ne.symm hpr), oN_s] at fin
        simp only [va_up_ne _ _ (Ne.symm hpr)] at cr
        simp only [va_up_ne _ _ ip, s2, tRt_b, oN_s] at ci
        refine VW.go [79] 400 ?_
        simp only [↓vcp, ↓vc_s, vch, vcn, Option.toList_some, Option.toList_none, List.cons_append, List.nil_append, Bool.false_eq_true, Bool.or_false, Bool.or_true, Bool.false_or, Bool.true_or, Nat.reduceAdd, Nat.reduceBEq, Nat.reduceLeDiff, Nat.zero_le, Nat.reduceLT, Nat.le_refl, ↓reduceIte, decide_true, decide_false, true_and, and_true, false_imp_iff, true_imp_iff, not_false_eq_true, not_true_eq_false, implies_true, and_self, eq_self, i10, List.length_cons, List.length_nil, vcv, xur, ↓pJ29_rotateRight, bJ29_rotateRight, cp, cr, ci, gp, gr, gi, dpr, drp, dir, dri, Option.some.injEq, reduceCtorEq, forall_eq']
        exact fin _ _
  -- the child's child
  refine Ctr.of (by decide +kernel) rfl (by simp only [lent_0, lent_i, lent_r, lent_n, lent_l, lent_f, List.length_cons, List.length_nil, bJ29_rotateRight]; decide) ?_
  simp only [lpad, lent_0, lent_i, lent_r, lent_n, lent_l, lent_f, List.length_cons, List.length_nil, bJ29_rotateRight, Nat.reduceAdd, Nat.reduceSub, List.replicate_succ, List.replicate_zero, List.cons_append, List.nil_append]
  have cp := (h.2 p mp).2
  have cr := (h.2 r mr).2
  have f1 := famL.set (e := _) (lf' := (va_up lf p (tRt B))) (rt' := rt) (pa' := pa) (nx' := nx) (pv' := pv) (rd' := rd) h mp rfl (fun j hj q => by simp [tnE, va_up_ne _ _ q])
  cases hB9 : tRt B with
  | none =>
    have fin := fun v3 v4 => S34 (xu σ.1 (nd p) (tnE nd ka vb nm (va_up lf p (tRt B)) rt pa nx pv rd p), σ.2) v3 v4 (by rw [paT_none hB9]; exact f1) (xg1 (inL_i mp))
    simp only [tnE, h3, h8, hB9, tRt_b, oN_s, oN_n] at cp cr
    simp only [tnE, hB9, va_up_self, oN_s, oN_n] at fin
    refine VW.go [34] 400 ?_
    simp only [↓vcp, ↓vc_s, vch, vcn, Option.toList_some, Option.toList_none, List.cons_append, List.nil_append, Bool.false_eq_true, Bool.or_false, Bool.or_true, Bool.false_or, Bool.true_or, Nat.reduceAdd, Nat.reduceBEq, Nat.reduceLeDiff, Nat.zero_le, Nat.reduceLT, Nat.le_refl, ↓reduceIte, decide_true, decide_false, true_and, and_true, false_imp_iff, true_imp_iff, not_false_eq_true, not_true_eq_false, implies_true, and_self, eq_self, i10, List.length_cons, List.length_nil, vcv, xur, ↓pJ29_rotateRight, bJ29_rotateRight, cp, cr, gp, gr, dpr, drp, Option.some.injEq, reduceCtorEq, forall_eq']
    exact fin _ _
  | some b =>
    obtain ⟨mb, bp, br⟩ := mB b hB9
    have gb := (h.2 b mb).1
    have dbp := h.ne mb mp bp
    have dpb := h.ne mp mb (fun e => bp e.symm)
    have cb := (h.2 b mb).2
    have f2 := famL.set (e := _) (lf' := (va_up lf p (tRt B))) (rt' := rt) (pa' := va_up pa b (some p)) (nx' := nx) (pv' := pv) (rd' := rd) f1 mb rfl (fun j hj q => by simp [tnE, va_up_ne _ _ q])
    have fin := fun v3 v4 => S34 _ v3 v4 (by rw [paT_some hB9]; exact f2) (((xg1 (inL_i mp)).t2 (xg1 (inL_i mb))).mono (Nat.le_refl _) (Nat.le_refl _) (fun _ _ q => q))
    simp only [tnE, h3, h8, hB9, tRt_b, oN_s] at cp cr cb
    simp only [tnE, hB9, va_up_self, va_up_ne _ _ bp, oN_s] at fin
    refine VW.go [34] 400 ?_
    simp only [↓vcp, ↓vc_s, vch, vcn, Option.toList_some, Option.toList_none, List.cons_append, List.nil_append, Bool.false_eq_true, Bool.or_false, Bool.or_true, Bool.false_or, Bool.true_or, Nat.reduceAdd, Nat.reduceBEq, Nat.reduceLeDiff, Nat.zero_le, Nat.reduceLT, Nat.le_refl, ↓reduceIte, decide_true, decide_false, true_and, and_true, false_imp_iff, true_imp_iff, not_false_eq_true, not_true_eq_false, implies_true, and_self, eq_self, i10, List.length_cons, List.length_nil, vcv, xur, ↓pJ29_rotateRight, bJ29_rotateRight, cp, cr, cb, gp, gr, gb, dpr, drp, dbp, dpb, Option.some.injEq, reduceCtorEq, forall_eq']
    exact fin _ _
