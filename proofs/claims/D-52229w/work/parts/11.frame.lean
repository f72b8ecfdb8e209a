/-! ===== the run's constants, the state under an abstract heap, contracts, the judgement VW ===== -/
abbrev xG : Type := State × Launch × va_G × (Nat → ClassId) × xM × (Nat → Value) × (Nat → Nat) × (Nat → Nat) × Nat × Nat
def gB (g : xG) : State := g.1
def gL (g : xG) : Launch := g.2.1
def gD (g : xG) : va_G := g.2.2.1
def gA (g : xG) : Nat → ClassId := g.2.2.2.1
def gC (g : xG) : xM := g.2.2.2.2.1
def gS (g : xG) : Nat → Value := g.2.2.2.2.2.1
def gT (g : xG) : Nat → Nat := g.2.2.2.2.2.2.1
def gM (g : xG) : Nat → Nat := g.2.2.2.2.2.2.2.1
def gN (g : xG) : Nat := g.2.2.2.2.2.2.2.2.1
def gW (g : xG) : Nat := g.2.2.2.2.2.2.2.2.2
def g0 (g : xG) : Nat := (gB g).heap.size
def toE (g : xG) : xE → va_E
  | .inl q => .inl (gA g q.1, q.2)
  | .inr o => .inr o
def xKn (U : State) (b : Prop) (q : vw_C) (cC : ClassId) (iS : Nat → Nat) : Prop :=
  (U.vm.findClass q.1 = some cC ∧ ∃ kC : Class, U.vm.classes[cC]? = some kC ∧ (b → kC.kind = .ordinary)) ∧ ∀ k, k < q.2.2 → ∃ cf kf fi fd, U.fieldFound? (q.2.1 k).1 (q.2.1 k).2.1 (q.2.1 k).2.2.1 = some (cf, kf, fi, fd) ∧ fd.slot = iS k ∧ fd.isStatic = false
def hz (H : Heap) : Nat := (H.toList.map (·.slots.size)).sum
/-- what is known of an array that the run has not made -/
def xOld (g : xG) (k : Nat) (x : vp_A) (cell : Cell) : Prop :=
  (∀ ty : FieldType, kty k = some ty → (gB g).isArrayOf cell ty) ∧ cell.vm ≠ .unknown ∧ x.1 ≤ cell.slots.size ∧ cell.slots.size.toInt32 = Int32.ofNat x.1 ∧ (∀ j : Nat, j < x.1 → cell.slots[j]? = (vp_cell (gA g k) x).slots[j]?) ∧ cell.cls = gA g k
/-- the cell at a is e: an own one wholly, one that the run found there as far as the start says -/
def xat (g : xG) (a : Nat) (e : xE) (H : Heap) : Prop := match e with
  | .inr o => ∃ (r : vw_C) (cell : Cell), CL[o.1]? = some r ∧ H[a]? = some cell ∧ cell.cls = (gD g).1 o.1 ∧ cell.vm.isStatics = false ∧ (∀ k, k < r.2.2 → cell.slots[(gD g).2 o.1 k]? = some (vp_V o.2 k)) ∧ (0 < r.2.2 → cell.vm ≠ .unknown) ∧ (g0 g ≤ a → cell.vm = .none)
  | .inl q => (g0 g ≤ a → H[a]? = some (vp_cell (gA g q.1) q.2)) ∧ (a < g0 g → ∃ cell : Cell, H[a]? = some cell ∧ xOld g q.1 q.2 cell)
theorem xat.lt {g : xG} {a : Nat} {e : xE} {H : Heap} (h : xat g a e H) : a < H.size := by
  cases e with
  | inr o =>
    obtain ⟨r, cell, -, h1, -⟩ := h
    exact (Array.getElem?_eq_some_iff.mp h1).1
  | inl q =>
    by_cases ha : g0 g ≤ a
    · exact (Array.getElem?_eq_some_iff.mp (h.1 ha)).1
    · obtain ⟨cell, h1, -⟩ := h.2 (by omega)
      exact (Array.getElem?_eq_some_iff.mp h1).1
theorem xat.kept {g : xG} {a : Nat} {e : xE} {H H1 : Heap} (h : xat g a e H) (h1 : H1[a]? = H[a]?) : xat g a e H1 := by
  cases e with
  | inr o =>
    obtain ⟨r, cell, c1, c2, c3⟩ := h
    exact ⟨r, cell, c1, by rw [h1]; exact c2, c3⟩
  | inl q => exact ⟨fun ha => by rw [h1]; exact h.1 ha, fun ha => by rw [h1]; exact h.2 ha⟩
theorem xat.of {g : xG} {a : Nat} {e : xE} {H : Heap} (ha : g0 g ≤ a) (h : va_at (gD g) CL (a, toE g e) H) : xat g a e H := by
  cases e with
  | inr o =>
    obtain ⟨r, c1, cell, c2, c3, c4, c5⟩ := h
    exact ⟨r, cell, c1, c2, c3, by rw [c4]; rfl, c5, fun _ z => (by rw [c4] at z; cases z), fun _ => c4⟩
  | inl q => exact ⟨fun _ => h, fun z => by omega⟩
def GOk (g : xG) : Prop :=
  (∃ b : Nat, ∀ w ∈ lw_tbl, w.before #[Value.ref b] (gB g) = true) ∧
  (∀ (c : Nat) (q : vw_C), CL[c]? = some q → xKn (gB g) (c < 36) q ((gD g).1 c) ((gD g).2 c)) ∧
  (∀ (k : Nat) (ty : FieldType), kty k = some ty → ArrOfT (gB g) (gA g k) ty ∧ (k ≤ 6 → va_RA (gB g) (gA g k) ty)) ∧
  (∀ (a : Nat) (e : xE), gC g a = some e → a < g0 g ∧ xat g a e (gB g).heap) ∧
  (∀ (i : Nat) (q : String × String × String), ST[i]? = some q → va_Z q.1 q.2.1 q.2.2 (gS g i) (fun a => g0 g ≤ a) (gB g) (gB g).heap) ∧
  (∀ (i : Nat) (q : String × Nat × String), TX[i]? = some q → vk_R q.1 q.2.1 q.2.2 (gT g i) (gB g)) ∧
  (∀ q ∈ NC, va_Nc q.1 q.2 (gB g)) ∧
  (∀ (i : Nat) (C : String), MR[i]? = some C → va_Mi C (gM g i) (gB g)) ∧
  (gL g).flags = flags0
/-- the monitors of the run's own cells are free -/
def mfree (g : xG) (H : Heap) : Prop := ∀ (q : Nat) (x : Cell), g0 g ≤ q → H[q]? = some x → x.monitor.owner = none ∧ x.monitor.count = 0
/-- the heap H is as σ says -/
def xSt (g : xG) (σ : xH) (H : Heap) : Prop :=
  H.size = σ.2.1 ∧ hz H = σ.2.2 ∧ g0 g ≤ σ.2.1 ∧ (∀ (a : Nat) (e : xE), σ.1 a = some e → xat g a e H) ∧
  (∀ q : Nat, q < g0 g → H[q]? = (gB g).heap[q]?) ∧ (∀ a : Nat, a < g0 g → σ.1 a = gC g a) ∧ σ.2.1 ≤ gN g ∧ σ.2.2 ≤ gW g ∧ mfree g H
/-- what every σ that is met has: for nothing -/
def xWF (g : xG) (σ : xH) : Prop := g0 g ≤ σ.2.1 ∧ (∀ (a : Nat) (e : xE), σ.1 a = some e → a < σ.2.1) ∧ (∀ a : Nat, a < g0 g → σ.1 a = gC g a) ∧ σ.2.1 ≤ gN g ∧ σ.2.2 ≤ gW g
theorem xSt.wf {g : xG} {σ : xH} {H : Heap} (h : xSt g σ H) : xWF g σ := ⟨h.2.2.1, fun a e he => by rw [← h.1]; exact (h.2.2.2.1 a e he).lt, h.2.2.2.2.2.1, h.2.2.2.2.2.2.1, h.2.2.2.2.2.2.2.1⟩
def xRm (g : xG) (d n k : Nat) : Room := { frames := d, cells := gN g - n, slots := gW g - k, locals := 64 * d }
/-- how a method has ended -/
def xQ (g : xG) (K : xR → xH → Prop) (s : State) (o : Outcome) (t : State) : Prop :=
  ∃ (σ : xH) (L : List Loc), xSt g σ t.heap ∧ s.WarmedH t.vm ∧ s.sameButNew ({ t with vm := s.vm } : State) L (σ.2.1 - s.heap.size) (σ.2.2 - hz s.heap) ∧ (∀ q ∈ L, g0 g ≤ q.base) ∧
  ((∃ v : Option Value, o = .returned v ∧ K (.inl v) σ) ∨ ∃ (q c : Nat) (fs : List Value), o = .threw q ∧ σ.1 q = some (ob c fs) ∧ K (.inr q) σ)
/-- A CONTRACT: the method I, called with av over σ, ends with K -/
def Ctr (g : xG) (d : Nat) (I : xI) (av : List Value) (σ : xH) (K : xR → xH → Prop) : Prop := GOk g →
  MetFree (gL g) (iY I) (headSpec [xCode I] (xRm g d σ.2.1 σ.2.2)) (fun a U => a = av.toArray ∧ xSt g σ U.heap ∧ (gB g).WarmedH U.vm) (fun _ _ _ _ _ => True) (fun _ st o t => xQ g K st o t)
/-- what stays the same in a method's body -/
def xX (g : xG) (I : xI) (p : Program) (s : State) (m : MethodId) (meth : Method) (c : Code) : Prop :=
  p.tables.exec = Jvm.exec ∧ c.code = iC I ∧ meth.sig.returnType = iR I ∧ c.maxLocals = iL I ∧ s.vm.findClass (iY I).cls = some m.cls ∧ meth.locks = false ∧ (gB g).WarmedH s.vm ∧
  c.exceptionTable.toList.map (fun h => (h.startPc, h.endPc, h.handlerPc, h.catchType)) = iT I ∧ meth.name = (iY I).name ∧ g0 g ≤ s.heap.size ∧ ocN (iO I) = (iY I).cls
/-- the method I stands at pc, with these locals and this stack, over σ; it comes to an end with K -/
def VW (g : xG) (I : xI) (K : xR → xH → Prop) (d pc : Nat) (ls : List (Option Value)) (st : List Value) (σ : xH) : Prop := GOk g →
  ∀ (p : Program) (e : Env) (s : State) (m : MethodId) (args : Array Value) (below : List Frame) (meth : Method) (c : Code), xX g I p s m meth c →
  ∀ (H : Heap) (locs : List Loc) (arr : Array Slot) (cells slots : Nat), xSt g σ H → (∀ q ∈ locs, g0 g ≤ q.base) → lh arr (iL I) ls →
  W p (gL g) e (xRm g d s.heap.size (hz s.heap)) s m args below meth c H locs cells slots (fun t => ∃ o, t.status = .running ∧ Ended t below o ∧ xQ g K s o t) (F0 m pc arr st)
/-- .. with the cell q thrown there -/
def VX (g : xG) (I : xI) (K : xR → xH → Prop) (d pc : Nat) (ls : List (Option Value)) (σ : xH) (q : Nat) : Prop := GOk g →
  ∀ (p : Program) (e : Env) (s : State) (m : MethodId) (args : Array Value) (below : List Frame) (meth : Method) (c : Code), xX g I p s m meth c →
  ∀ (H : Heap) (locs : List Loc) (arr : Array Slot) (cells slots : Nat) (st : List Value), xSt g σ H → (∀ q ∈ locs, g0 g ≤ q.base) → lh arr (iL I) ls →
  vx_W p (gL g) e (xRm g d s.heap.size (hz s.heap)) s m args below meth c H locs cells slots (fun t => ∃ o, t.status = .running ∧ Ended t below o ∧ xQ g K s o t) (F0 m pc arr st) q
theorem VW.wf {g : xG} {I : xI} {K : xR → xH → Prop} {d pc : Nat} {ls : List (Option Value)} {st : List Value} {σ : xH} (h : xWF g σ → VW g I K d pc ls st σ) : VW g I K d pc ls st σ :=
  fun hg p e s m args below meth c hX H locs arr cells slots hS hL hA => h hS.wf hg p e s m args below meth c hX H locs arr cells slots hS hL hA
theorem VW.ok {g : xG} {I : xI} {K : xR → xH → Prop} {d pc : Nat} {ls : List (Option Value)} {st : List Value} {σ : xH} (h : GOk g → VW g I K d pc ls st σ) : VW g I K d pc ls st σ := fun hg => h hg hg
/-! heap sizes -/
theorem hz_drop {s t : State} {L : List Loc} {k n : Nat} (h : s.sameButNew t L k n) : hz t.heap = hz s.heap + ((t.heap.toList.drop s.heap.size).map (·.slots.size)).sum := by
  obtain ⟨-, h2, -, -, -, h6⟩ := h
  have e1 : (t.heap.toList.take s.heap.size).map (·.slots.size) = s.heap.toList.map (·.slots.size) := by
    apply List.ext_getElem?
    intro i
    rw [List.getElem?_map, List.getElem?_map, List.getElem?_take]
    by_cases hi : i < s.heap.size
    · rw [if_pos hi]
      obtain ⟨c9, a1, -, a3, -⟩ := h6 i _ (Array.getElem?_eq_getElem hi)
      rw [Array.getElem?_toList, a1, Array.getElem?_toList, Array.getElem?_eq_getElem hi]
      simp [a3]
    · rw [if_neg hi, Array.getElem?_toList, Array.getElem?_eq_none (by omega)]
  unfold hz
  conv => lhs; rw [← List.take_append_drop s.heap.size t.heap.toList]
  rw [List.map_append, List.sum_append, e1]
theorem same_exact {s t : State} {L : List Loc} {k n : Nat} (h : s.sameButNew t L k n) : s.sameButNew t L (t.heap.size - s.heap.size) (hz t.heap - hz s.heap) := by
  have e := hz_drop h
  obtain ⟨h1, h2, h3, h4, h5, h6⟩ := h
  exact ⟨h1, h2, by omega, h4, by omega, h6⟩
section FR1
variable {p : Program} {l : Launch} {e : Env} {R : Room} {s : State} {m : MethodId} {args : Array Value} {below : List Frame} {meth : Method} {c : Code} {H : Heap} {locs : List Loc} {cells slots : Nat} {Q : State → Prop}
theorem stand_exact {T : State} (X : Stand p l e R s m args below meth c T locs cells slots) : Stand p l e R s m args below meth c T locs (T.heap.size - s.heap.size) (hz T.heap - hz s.heap) := { X with same := same_exact X.same }
theorem W.exact {g : JFrame} (k : W p l e R s m args below meth c H locs (H.size - s.heap.size) (hz H - hz s.heap) Q g) : W p l e R s m args below meth c H locs cells slots Q g := by
  intro T hT X
  have X' := stand_exact X
  rw [hT] at X'
  exact k T hT X'
end FR1
theorem hz_push (H : Heap) (x : Cell) : hz (H.push x) = hz H + x.slots.size := by simp [hz]
theorem hz_of_sizes {H H' : Heap} (h : ∀ q : Nat, (H'[q]?).map (·.slots.size) = (H[q]?).map (·.slots.size)) : hz H' = hz H := by
  unfold hz
  congr 1
  apply List.ext_getElem?
  intro i
  rw [List.getElem?_map, List.getElem?_map, Array.getElem?_toList, Array.getElem?_toList]
  exact h i
theorem hz_set {H H' : Heap} {a : Nat} {x x' : Cell} (h1 : H[a]? = some x) (h2 : H'[a]? = some x') (hs : x'.slots.size = x.slots.size) (h3 : ∀ q, q ≠ a → H'[q]? = H[q]?) : hz H' = hz H := by
  apply hz_of_sizes
  intro q
  by_cases hq : q = a
  · subst hq
    rw [h1, h2]
    simp [hs]
  · rw [h3 q hq]
theorem hz_new {H H' : Heap} {x : Cell} (h1 : H'[H.size]? = some x) (h2 : H'.size = H.size + 1) (h3 : ∀ q, q < H.size → H'[q]? = H[q]?) : hz H' = hz H + x.slots.size := by
  have e : hz H' = hz (H.push x) := by
    apply hz_of_sizes
    intro q
    rcases Nat.lt_trichotomy q H.size with h | h | h
    · rw [h3 q h, Array.getElem?_push, if_neg (by omega)]
    · rw [h, h1]; simp
    · rw [Array.getElem?_eq_none (by omega), Array.getElem?_eq_none (by simp; omega)]
  rw [e, hz_push]
/-! a written cell, a new cell -/
theorem xSt.put {g : xG} {σ : xH} {H H' : Heap} {a : Nat} {e' : xE} (h : xSt g σ H) (ha : g0 g ≤ a) {x x' : Cell} (h1 : H[a]? = some x) (h2 : H'[a]? = some x') (hs : x'.slots.size = x.slots.size) (hmn : x'.monitor = x.monitor) (hz' : H'.size = H.size) (h3 : ∀ q, q ≠ a → H'[q]? = H[q]?) (hat : va_at (gD g) CL (a, toE g e') H') : xSt g (xu σ.1 a e', σ.2) H' := by
  obtain ⟨a1, a2, a3, a4, a5, a6, a7, a8, a9⟩ := h
  refine ⟨by rw [hz']; exact a1, by rw [hz_set h1 h2 hs h3]; exact a2, a3, fun b e hb => ?_, fun q hq => by rw [h3 q (by omega)]; exact a5 q hq, fun q hq => ?_, a7, a8, fun q y hq hy => ?_⟩
  · by_cases hba : b = a
    · subst hba
      have hb' : xu σ.1 b e' b = some e := hb
      rw [xu_same] at hb'
      cases hb'
      exact xat.of ha hat
    · have hb' : xu σ.1 a e' b = some e := hb
      rw [xu_ne _ _ hba] at hb'
      exact (a4 b e hb').kept (h3 b hba)
  · show xu σ.1 a e' q = _
    have hqa : q ≠ a := by omega
    rw [xu_ne _ _ hqa]
    exact a6 q hq
  · by_cases hqa : q = a
    · subst hqa
      rw [h2] at hy
      cases hy
      rw [hmn]
      exact a9 _ _ hq h1
    · rw [h3 q hqa] at hy
      exact a9 _ _ hq hy
theorem xSt.new {g : xG} {σ : xH} {H H' : Heap} {e' : xE} {n : Nat} (h : xSt g σ H) (hb1 : σ.2.1 + 1 ≤ gN g) (hb2 : σ.2.2 + n ≤ gW g) {x : Cell} (h1 : H'[H.size]? = some x) (hn : x.slots.size = n) (hmn : x.monitor.owner = none ∧ x.monitor.count = 0) (h2 : H'.size = H.size + 1) (h3 : ∀ q, q < H.size → H'[q]? = H[q]?) (hat : va_at (gD g) CL (H.size, toE g e') H') : xSt g (xu σ.1 σ.2.1 e', σ.2.1 + 1, σ.2.2 + n) H' := by
  obtain ⟨a1, a2, a3, a4, a5, a6, -, -, a9⟩ := h
  refine ⟨by show H'.size = _; rw [h2, a1], by show hz H' = _; rw [hz_new h1 h2 h3, a2, hn], by show g0 g ≤ σ.2.1 + 1; omega, fun b e hb => ?_, fun q hq => by rw [h3 q (by omega)]; exact a5 q hq, fun q hq => ?_, hb1, hb2, fun q y hq hy => ?_⟩
  · by_cases hba : b = σ.2.1
    · subst hba
      have hb' : xu σ.1 σ.2.1 e' σ.2.1 = some e := hb
      rw [xu_same] at hb'
      cases hb'
      rw [← a1]
      exact xat.of (by rw [a1]; exact a3) hat
    · have hb' : xu σ.1 σ.2.1 e' b = some e := hb
      rw [xu_ne _ _ hba] at hb'
      have hl := (a4 b e hb').lt
      exact (a4 b e hb').kept (h3 b hl)
  · show xu σ.1 σ.2.1 e' q = _
    rw [xu_ne _ _ (by omega)]
    exact a6 q hq
  · rcases Nat.lt_trichotomy q H.size with hl | hl | hl
    · rw [h3 q hl] at hy
      exact a9 _ _ hq hy
    · subst hl
      rw [h1] at hy
      cases hy
      exact hmn
    · rw [Array.getElem?_eq_none (by omega)] at hy
      cases hy
/-! the tables' words, anywhere in the run -/
theorem GOk.word {g : xG} (h : GOk g) {w : Cond} (hw : w ∈ lw_all) {U : State} (hW : (gB g).WarmedH U.vm) (A : Array Value) : w.before A U = true := by
  obtain ⟨b, hb⟩ := h.1
  exact word_at hW (good_of_word (List.mem_filter.mp hw).2) (hb w (lw_all_tbl hw))
theorem GOk.tbl {g : xG} (h : GOk g) {w : Cond} (hw : w ∈ lw_tbl) : ∃ b : Nat, w.before #[Value.ref b] (gB g) = true := h.1.elim fun b hb => ⟨b, hb w hw⟩
theorem GOk.nw {g : xG} (h : GOk g) {w : Cond} (hw : w ∈ lw_tbl) (ho : w.onTables = true) : va_Nw w (gB g) := by
  obtain ⟨b, hb⟩ := h.tbl hw
  exact va_Nw.of ho hb
theorem xKn.moved {b : Prop} {q : vw_C} {cC : ClassId} {iS : Nat → Nat} {u U : State} (hvm : u.vm.Alike U.vm) (h : xKn u b q cC iS) : xKn U b q cC iS := by
  obtain ⟨⟨h1, kC, h2, h3⟩, h4⟩ := h
  obtain ⟨k', hk', he⟩ := hvm.2.2 _ _ h2
  refine ⟨⟨by rw [hvm.findClass]; exact h1, k', hk', fun hb => by rw [he]; exact h3 hb⟩, fun k hk => ?_⟩
  obtain ⟨cf, kf, fi, fd, a, b, d⟩ := h4 k hk
  obtain ⟨kf', hi', -⟩ := State.fieldFound?_setVm hvm a
  exact ⟨cf, kf', fi, fd, hi', b, d⟩
theorem GOk.kn {g : xG} (h : GOk g) {c : Nat} {q : vw_C} (hc : CL[c]? = some q) {U : State} (hW : (gB g).WarmedH U.vm) : xKn U (c < 36) q ((gD g).1 c) ((gD g).2 c) := (h.2.1 c q hc).moved hW.alike
theorem GOk.ar {g : xG} (h : GOk g) {k : Nat} {ty : FieldType} (hk : kty k = some ty) {U : State} (hW : (gB g).WarmedH U.vm) : ArrOfT U (gA g k) ty ∧ (k ≤ 6 → va_RA U (gA g k) ty) := ⟨arrOfT_moved hW.alike (h.2.2.1 k ty hk).1, fun h6 => ((h.2.2.1 k ty hk).2 h6).moved hW.alike⟩
/-- the receiver's cell -/
theorem xSt.recv {g : xG} (hg : GOk g) {σ : xH} {H : Heap} (h : xSt g σ H) {a c : Nat} {fs : List Value} (ha : σ.1 a = some (ob c fs)) {U : State} (hW : (gB g).WarmedH U.vm) {q : vw_C} (hq : CL[c]? = some q) : ∃ cell : Cell, H[a]? = some cell ∧ cell.vm.isStatics = false ∧ U.vm.findClass q.1 = some cell.cls ∧ (∀ k, k < q.2.2 → cell.slots[(gD g).2 c k]? = some (vp_V fs k)) ∧ (0 < q.2.2 → cell.vm ≠ .unknown) ∧ (g0 g ≤ a → cell.vm = .none) := by
  obtain ⟨r, cell, h1, q1, q2, q3, q4, q5, q6⟩ := h.2.2.2.1 a _ ha
  have hr : r = q := Option.some.inj (h1.symm.trans hq)
  subst hr
  exact ⟨cell, q1, q3, by rw [q2]; exact (hg.kn hq hW).1.1, q4, q5, q6⟩
/-! entering a method -/
theorem lent_args : ∀ (vs : List Value) (i : Nat), lass i (lent vs) = lv_args i vs
  | [], i => by simp [lent, lass, lv_args]
  | v :: vs, i => by
    by_cases hc : c2 v = true
    · have h2 : v.category = 2 := (c2_iff v).mp hc
      rw [lent, if_pos hc, lass, lass, lv_args, if_pos h2, lent_args vs (i + 2)]
    · have h2 : ¬ v.category = 2 := fun h => hc ((c2_iff v).mpr h)
      rw [lent, if_neg hc, lass, lv_args, if_neg h2, lent_args vs (i + 1)]
theorem lent_len : ∀ (vs : List Value), (lent vs).length = (lg_sl vs).length
  | [] => by simp [lent, lg_sl]
  | v :: vs => by
    have ih := lent_len vs
    by_cases hc : c2 v = true
    · have h2 : v.category = 2 := (c2_iff v).mp hc
      rw [lent, if_pos hc]
      simp [lg_sl, h2] at ih ⊢
      omega
    · have h2 : ¬ v.category = 2 := fun h => hc ((c2_iff v).mpr h)
      rw [lent, if_neg hc]
      simp [lg_sl, h2] at ih ⊢
      omega
theorem xcode_spec {I : xI} {args : Array Value} {s : State} {m : MethodId} (hn : s.methodNamed? (iY I) = some m) (h : (xCode I).before args s = true) :
    ∃ meth c, s.vm.method? m = some meth ∧ meth.code = some c ∧ c.code = iC I ∧ c.maxLocals = iL I ∧ meth.sig.returnType = iR I ∧ meth.locks = false ∧ c.exceptionTable.toList.map (fun h => (h.startPc, h.endPc, h.handlerPc, h.catchType)) = iT I ∧ parseMethodDescriptor (iY I).desc = some meth.sig := by
  unfold xCode at h
  split at h
  · next hT =>
    obtain ⟨meth, c, h1, h2, h3, h4, h5, h6, h7, h8⟩ := Cond.code_spec hn h
    refine ⟨meth, c, h1, h2, h3, h4, h5, h6, ?_, h8⟩
    rw [hT]
    have : c.exceptionTable = #[] := by simpa using h7
    rw [this]; rfl
  · obtain ⟨m9, meth, c, hn9, h1, h2, h3, h4, h7, h5, h6, h8⟩ := Cond.codeWith_spec h
    cases hn.symm.trans hn9
    exact ⟨meth, c, h1, h2, h3, h4, h5, h6, h7, h8⟩
/-- a contract out of the walk of the body -/
theorem Ctr.of {g : xG} {d : Nat} {I : xI} {av : List Value} {σ : xH} {K : xR → xH → Prop} (hy : plainFor (iY I) = true) (ho : ocN (iO I) = (iY I).cls) (hl : (lent av).length ≤ iL I) (h : VW g I K d 0 (lpad (iL I) (lent av)) [] σ) : Ctr g d I av σ K := by
  intro hg
  refine MetFree.of_bodySF (code := iC I) (maxLocals := iL I) (ret := iR I) hy ?_ ?_
  · intro args s m h hn
    obtain ⟨meth, c, h1, h2, h3, h4, h5, h6, -, -⟩ := xcode_spec hn (atoms_spec (ws := [xCode I]) h _ List.mem_cons_self)
    exact ⟨meth, c, h1, h2, h3, h4, h5, h6⟩
  · intro p e s m args below meth c s₁ B hml hP _
    obtain ⟨rfl, hS, hW⟩ := hP
    have hh0 : s₁.heap = s.heap := by rw [B.state]; rfl
    obtain ⟨meth', c', h1, h2, -, -, -, -, h7, -⟩ := xcode_spec B.named (atoms_spec (ws := [xCode I]) B.pre _ List.mem_cons_self)
    have hX₀ := Stand.of_body B
    have hmm : meth' = meth := Option.some.inj (h1.symm.trans B.method)
    subst hmm
    have hcc : c' = c := Option.some.inj (h2.symm.trans hX₀.code)
    subst hcc
    have hX : xX g I p s m meth' c' := ⟨B.exec, B.bytes, B.returns, hml, findClass_of_methodNamed B.named, B.notSynchronized, hW, h7, (name_of_methodNamed B.named B.method).1, by have := hS.2.2.1; rw [← hS.1] at this; exact this, ho⟩
    have hle := lv_entry av (n := iL I) (by rw [← lent_len]; exact hl)
    have hlh : lh (((lg_sl av) ++ List.replicate (iL I - (lg_sl av).length) Slot.unset).toArray) (iL I) (lpad (iL I) (lent av)) := by
      unfold lh lpad
      rw [lass_app, lent_args]
      exact hle
    have k := h hg p e s m av.toArray below meth' c' hX s.heap [] _ 0 0 hS (fun q h => by cases h) hlh
    rw [← lg_entry_eq, hS.1, hS.2.1] at k
    obtain ⟨t, a1, o, b1, b2, b3⟩ := k s₁ hh0 hX₀
    exact ⟨t, o, a1, b1, b2, b3⟩
theorem Ctr.mono {g : xG} {d : Nat} {I : xI} {av : List Value} {σ : xH} {K K' : xR → xH → Prop} (h : Ctr g d I av σ K) (hK : ∀ r σ', K r σ' → K' r σ') : Ctr g d I av σ K' := by
  intro hg p e ha hc hk s m args below hf happ hP hT
  obtain ⟨n, o, h1, h2, h3, σ', L, a1, a2, a3, a4, a5⟩ := h hg p e ha hc hk s m args below hf happ hP hT
  refine ⟨n, o, h1, h2, h3, σ', L, a1, a2, a3, a4, ?_⟩
  rcases a5 with ⟨v, e1, e2⟩ | ⟨q, c9, fs, e1, e2, e3⟩
  · exact Or.inl ⟨v, e1, hK _ _ e2⟩
  · exact Or.inr ⟨q, c9, fs, e1, e2, hK _ _ e3⟩
theorem Ctr.ok {g : xG} {d : Nat} {I : xI} {av : List Value} {σ : xH} {K : xR → xH → Prop} (h : GOk g → Ctr g d I av σ K) : Ctr g d I av σ K := fun hg => h hg hg
/-! what a call gives: the kit's vx_Back, out of a contract -/
def xPre (g : xG) (R : Room) (σ : xH) (av : List Value) : Pt → Array Value → Prop := fun A a => a = av.toArray ∧ xSt g σ A.U.heap ∧ (gB g).WarmedH A.U.vm ∧ A.cells + (gN g - σ.2.1) ≤ R.cells ∧ A.slots + (gW g - σ.2.2) ≤ R.slots
def xPost (g : xG) (K : xR → xH → Prop) : Pt → Array Value → Option Value → Pt → Prop := fun A _ v B => ∃ (σ' : xH) (L : List Loc), xSt g σ' B.U.heap ∧ K (.inl v) σ' ∧ B.locs = A.locs ++ L ∧ ∀ q ∈ L, g0 g ≤ q.base
def xPostX (g : xG) (K : xR → xH → Prop) : Pt → Array Value → Addr → Pt → Prop := fun A _ q B => ∃ (σ' : xH) (L : List Loc) (c : Nat) (fs : List Value), xSt g σ' B.U.heap ∧ σ'.1 q = some (ob c fs) ∧ K (.inr q) σ' ∧ B.locs = A.locs ++ L ∧ ∀ q ∈ L, g0 g ≤ q.base
theorem xback {g : xG} {d : Nat} {I : xI} {av : List Value} {σ : xH} {K : xR → xH → Prop} {R : Room} {p : Program} {e : Env} {below : List Frame} {s : State} {sargs : Array Value} {len W9 : Nat} (hg : GOk g) (hM : Ctr g d I av σ K) (hd : d + 1 ≤ R.frames) (hlo : W9 + (iL I + 11) + 64 * d ≤ R.locals) (hc : xCode I ∈ lw_all) (hini : Cond.initialized (iY I).cls ∈ lw_all) :
    vx_Back (gL g) R p e below s sargs (iY I) len W9 (xPre g R σ av) (xPost g K) (xPostX g K) := by
  intro m meth c A gf ig mk a X hgm hsize hdg hW hn hp
  obtain ⟨U, Ls, c0, s0⟩ := A
  dsimp only [Pt.U, Pt.locs, Pt.cells, Pt.slots] at X hn
  obtain ⟨rfl, hS, hWm, hr1, hr2⟩ := hp
  dsimp only [Pt.U, Pt.locs, Pt.cells, Pt.slots] at hS hWm hr1 hr2
  have h2 : (xCode I).before av.toArray U = true := hg.word hc hWm _
  have h1 : (headSpec [xCode I] (xRm g d σ.2.1 σ.2.2)).pre.before av.toArray U = true := atoms_intro fun w hw => by
    rcases List.mem_cons.mp hw with e | e
    · rw [e]; exact h2
    · cases e
  have h3 : (Cond.initialized (iY I).cls).before av.toArray U = true := hg.word hini hWm _
  obtain ⟨methY, cY, hmY, hcY, -, hlY, -, -, -, -⟩ := xcode_spec hn h2
  obtain ⟨kY, hkY, -⟩ := className_of_methodNamed hn
  have hinitY : kY.init = .initialized := Cond.initialized_spec (findClass_of_methodNamed hn) hkY h3
  have h : At U gf.method c below := by rw [hgm]; exact X.here
  have happ : (headSpec [xCode I] (xRm g d σ.2.1 σ.2.2)).appliesLoose (iY I) e.platform (U.calling gf mk av.toArray) = true :=
    Spec.appliesLoose_calling (g := gf) h hdg hn hkY hinitY
      (X.room_calling (g := gf) (R' := (headSpec [xCode I] (xRm g d σ.2.1 σ.2.2)).room) hsize hmY hcY hd (by rw [hlY]; show _ + _ + 64 * d ≤ _; omega) hr1 hr2) h1
  obtain ⟨mid, hmid⟩ := h.above
  have hfr : (U.setTop gf).frames = (.java gf :: mid) ++ below := by rw [State.frames_setTop' gf h.top, hmid]; rfl
  have hPc : av.toArray = av.toArray ∧ xSt g σ (U.calling gf mk av.toArray).heap ∧ (gB g).WarmedH (U.calling gf mk av.toArray).vm := ⟨rfl, hS, hWm⟩
  obtain ⟨o, s₂, hsteps, -, hend, hq⟩ := Steps.callFree (hM hg) p X.admits X.cas X.clock (acts := []) hfr happ hPc trivial
  have hq9 : xQ g K (U.calling gf mk av.toArray) o s₂ := hq
  obtain ⟨σ', L, q1, hW₂, hsm, hL, hres⟩ := hq9
  rw [State.frames_setTop' gf h.top] at hend
  obtain ⟨g₀, hg0⟩ := Option.isSome_iff_exists.mp h.top
  obtain ⟨r, hr⟩ := State.topJava?_eq_some.mp hg0
  have hr' : (({ U with heap := s₂.heap, slotsUsed := s₂.slotsUsed } : State).setVm s₂.vm).frames = .java g₀ :: r := hr
  have hW' : U.WarmedH s₂.vm := hW₂
  obtain ⟨e2, q2, q3, q4, q5, q6⟩ := id hsm
  have e3 : s₂ = ({ (U.calling gf mk av.toArray).setFrames s₂.frames with heap := s₂.heap, slotsUsed := s₂.slotsUsed } : State).setVm s₂.vm := by
    have : s₂ = ({ s₂ with vm := (U.calling gf mk av.toArray).vm } : State).setVm s₂.vm := rfl
    rw [e2] at this
    exact this
  have hsame : U.sameButNew ({ U with heap := s₂.heap, slotsUsed := s₂.slotsUsed } : State) L (σ'.2.1 - U.heap.size) (σ'.2.2 - hz U.heap) := by
    refine ⟨?_, q2, q3, q4, q5, q6⟩
    obtain ⟨t, ht, -⟩ := State.frames_cons hr
    show ({ U with heap := s₂.heap, slotsUsed := s₂.slotsUsed } : State) = { U.setFrames U.frames with heap := s₂.heap, slotsUsed := s₂.slotsUsed }
    rw [State.setFrames_self ht]
  subst hgm
  have XB : Stand p (gL g) e R s gf.method sargs below meth c (({ U with heap := s₂.heap, slotsUsed := s₂.slotsUsed } : State).setVm s₂.vm) (Ls ++ L) (c0 + (σ'.2.1 - U.heap.size)) (s0 + (σ'.2.2 - hz U.heap)) :=
    ⟨X.admits, X.cas, X.clock, X.frames, X.room, X.hears, X.method, X.code, (X.here.setHeapUsed s₂.heap s₂.slotsUsed).setVm hW'.alike, X.tail, State.WarmedH.trans X.warmed hW', X.limits, X.bytes, X.same.trans (hsame.setVm s.vm)⟩
  rcases hres with ⟨v, rfl, hK⟩ | ⟨q, cq, fs, rfl, hqc, hK⟩
  · obtain ⟨c₂, i₂, len₂, hc₂, hd₂, hf₂⟩ := hend
    have hcc : c₂ = c := by
      have h1 : s₂.code? gf.method = U.code? gf.method := by
        rw [State.code?_eq, State.code?_eq, hW'.alike.method?]
      exact Option.some.inj (hc₂.symm.trans (h1.trans h.code))
    subst hcc
    have hlen : len₂ = len := by rw [hdg] at hd₂; cases hd₂; rfl
    subst hlen
    have hs₂ : s₂ = (({ U with heap := s₂.heap, slotsUsed := s₂.slotsUsed } : State).setVm s₂.vm).setTop { gf with pc := gf.pc + len₂, stack := v.toList ++ gf.stack } := by
      refine e3.trans ?_
      rw [hf₂, State.calling_eq h.top, State.setFrames_setFrames, State.setTop_of_frames _ hr', hr]
      rfl
    refine Or.inl ⟨v, ⟨(({ U with heap := s₂.heap, slotsUsed := s₂.slotsUsed } : State).setVm s₂.vm), Ls ++ L, c0 + (σ'.2.1 - U.heap.size), s0 + (σ'.2.2 - hz U.heap)⟩, XB, ⟨σ', L, q1, hK, rfl, hL⟩, ?_⟩
    show Steps p.tables e below _ ((({ U with heap := s₂.heap, slotsUsed := s₂.slotsUsed } : State).setVm s₂.vm).setTop { gf with pc := gf.pc + len₂, stack := v.toList ++ gf.stack })
    rw [← hs₂]
    exact hsteps
  · have hf₂ : s₂.frames = .throwing q :: .java gf :: U.frames.tail := hend
    have hs₂ : s₂ = ((({ U with heap := s₂.heap, slotsUsed := s₂.slotsUsed } : State).setVm s₂.vm).setTop gf).pushFrame (.throwing q) := by
      refine e3.trans ?_
      rw [hf₂, State.calling_eq h.top, State.setFrames_setFrames, State.pushFrame, State.frames_setTop _ hr', State.setTop_of_frames _ hr', State.setFrames_setFrames, hr]
      rfl
    refine Or.inr ⟨q, ⟨(({ U with heap := s₂.heap, slotsUsed := s₂.slotsUsed } : State).setVm s₂.vm), Ls ++ L, c0 + (σ'.2.1 - U.heap.size), s0 + (σ'.2.2 - hz U.heap)⟩, XB, ⟨σ', L, cq, fs, q1, hqc, hK, rfl, hL⟩, ?_⟩
    show Steps p.tables e below _ (((({ U with heap := s₂.heap, slotsUsed := s₂.slotsUsed } : State).setVm s₂.vm).setTop gf).pushFrame (.throwing q))
    rw [← hs₂]
    exact hsteps
