/-! ===== the constructor of Throwable, called out of Exception's ===== -/
def thrL : List Cond := Bundle.throwableAtoms ++ [.isRef (.static Bundle.tN "UNASSIGNED_STACK" Bundle.steD), .isRef (.static Bundle.tN "SUPPRESSED_SENTINEL" Bundle.listD), .fieldLink Bundle.tN 198 Bundle.tN "backtrace" "Ljava/lang/Object;", .lays Bundle.tN Bundle.tN "backtrace" "Ljava/lang/Object;"]
theorem thr_in : ∀ w ∈ thrL.filter vx_no, w ∈ lw_all := by decide +kernel
theorem thr_tbl : Cond.laysStatic Bundle.tN "UNASSIGNED_STACK" Bundle.steD ∈ lw_tbl ∧ Cond.laysStatic Bundle.tN "SUPPRESSED_SENTINEL" Bundle.listD ∈ lw_tbl ∧ Cond.initialized Bundle.tN ∈ lw_tbl := by decide +kernel
/-- two statics of Throwable's hold references, or null -/
def gwX (g : xG) : Prop := (gS g 7).isRef = true ∧ (gS g 8).isRef = true
theorem thr_atoms {g : xG} (hg : GOk g) (hx : gwX g) {s : State} (hW : (gB g).WarmedH s.vm) (hH : ∀ q, q < g0 g → s.heap[q]? = (gB g).heap[q]?) (args : Array Value) : ∀ w ∈ thrL, w.before args s = true := by
  obtain ⟨b, hb⟩ := hg.1
  obtain ⟨t1, t2, t3⟩ := thr_tbl
  have hA : ∀ a : Nat, a < (gB g).heap.size → ¬ (fun q => g0 g ≤ q) a := fun a ha h => by unfold g0 at h; omega
  have hU : vx_Zq Bundle.tN "UNASSIGNED_STACK" Bundle.steD (fun q => g0 g ≤ q) (gB g) (gB g).heap := vx_Zqof (hb _ t1) (hb _ t3) (vx_isRef (hg.2.2.2.2.1 7 _ rfl) hx.1) hA
  have hN : vx_Zq Bundle.tN "SUPPRESSED_SENTINEL" Bundle.listD (fun q => g0 g ≤ q) (gB g) (gB g).heap := vx_Zqof (hb _ t2) (hb _ t3) (vx_isRef (hg.2.2.2.2.1 8 _ rfl) hx.2) hA
  have hk : ∀ a : Nat, a < (gB g).heap.size → ¬ g0 g ≤ a → s.heap[a]? = (gB g).heap[a]? := fun a _ h => hH a (by omega)
  have hU' : vx_Zq Bundle.tN "UNASSIGNED_STACK" Bundle.steD (fun q => g0 g ≤ q) s s.heap := vx_Zq.moved hW.alike (hU.kept hk)
  have hN' : vx_Zq Bundle.tN "SUPPRESSED_SENTINEL" Bundle.listD (fun q => g0 g ≤ q) s s.heap := vx_Zq.moved hW.alike (hN.kept hk)
  exact vx_own (fun w hw => hg.word (thr_in w hw) hW _) (vx_isRefq hU'.1) (vx_isRefq hN'.1) hU'.2.word hN'.2.word
/-- the words of a class of exceptions -/
def thrC (C : String) : List Cond := [.selects C Bundle.tFill0 Bundle.tFill0, .selects C Bundle.tFill Bundle.tFill]
theorem VW.thr {g : xG} {K : xR → xH → Prop} {d : Nat} {ls : List (Option Value)} {rest : List Value} {σ : xH} {a ci N : Nat} {C : String} {T9 : u_T} {v0 v1 v2 v3 : Value} {fs : List Value}
    (hx : gwX g) (hc : CL[ci]? = some (C, T9, N)) (hci : ci < 36) (hN : 4 < N) (e0 : T9 0 = ("java/lang/Throwable", "cause", "Ljava/lang/Throwable;", false)) (e1 : T9 1 = ("java/lang/Throwable", "stackTrace", "[Ljava/lang/StackTraceElement;", false)) (e2 : T9 2 = ("java/lang/Throwable", "suppressedExceptions", "Ljava/util/List;", false)) (e4 : T9 4 = ("java/lang/Throwable", "backtrace", "Ljava/lang/Object;", false))
    (hsl : ∀ w ∈ thrC C, w ∈ lw_all) (ha : g0 g ≤ a) (h1 : σ.1 a = some (ob ci (v0 :: v1 :: v2 :: v3 :: .null :: fs))) (hd1 : 4 ≤ d) (hr : rest.length ≤ 4)
    (next : ∀ v w : Value, VW g iJ4_init_2 K d 4 ls rest (xu σ.1 a (ob ci (.ref a :: v :: w :: v3 :: .null :: fs)), σ.2)) : VW g iJ4_init_2 K d 1 ls (.ref a :: rest) σ := by
  intro hg p e s m args below meth c hX H locs arr cells slots hS hL hA
  refine W.exact ?_
  intro T9' hT X
  have htr : e.platform.stackTraces = false := (show e.platform.stackTraces = (gL g).stackTraces by rw [X.admits.platform]).trans (by unfold Launch.stackTraces; rw [hg.2.2.2.2.2.2.2.2]; decide)
  have hpl : e.platform.magicAccessors = ({} : Platform).magicAccessors := by rw [X.admits.platform]
  have howns : e.platform.frameOwnsMonitors = true := by rw [X.admits.platform]
  have hfin : e.platform.finalization = false := by rw [X.admits.platform]
  have q1 := hS.1
  have q2 := hS.2.1
  have q7 := hS.2.2.2.2.2.2.1
  have q8 := hS.2.2.2.2.2.2.2.1
  have Y := vx_rebase X (R' := { frames := d, locals := 64 * d, cells := 0, slots := 0 }) (Nat.le_refl _) (Nat.le_refl _) (by show _ + 0 ≤ gN g - _; omega) (by show _ + 0 ≤ gW g - _; omega)
  obtain ⟨s', hs'⟩ : ∃ z, z = (T9'.setVm s.vm).setFrames (.invoking m args :: below) := ⟨_, rfl⟩
  rw [← hs'] at Y
  have hvm : s'.vm = s.vm := by rw [hs']; rfl
  have hhp : s'.heap = H := by rw [hs']; exact hT
  have hW' : (gB g).WarmedH s'.vm := by rw [hvm]; exact xwarm hX
  have hat := thr_atoms hg hx hW' (fun q hq => by rw [hhp]; exact hS.2.2.2.2.1 q hq) args
  obtain ⟨T, Z, L, LZ, Yt⟩ := ThrowableC.of_atoms (args := args) howns hfin hpl (fun x hx => hat x (by simp [thrL, hx]))
  obtain ⟨cell, c1, -, c2, c4, -, c6⟩ := hS.recv hg h1 (xwarm hX) hc
  have c3 := c6 ha
  obtain ⟨hcl, hkn⟩ := hg.kn hc (xwarm hX)
  obtain ⟨kC, hkC, hkind0⟩ := hcl.2
  have hkind := hkind0 hci
  obtain ⟨C', T', N', tyf, hc', hin, htyf, hnm⟩ := xCF_all ci hci
  have hcc := hc.symm.trans hc'
  cases hcc
  have hts : ∀ w ∈ lw_all, w.before args s = true := fun w hw => hg.word hw (xwarm hX) args
  have hts' : ∀ w ∈ lw_all, w.before args s' = true := fun w hw => hg.word hw hW' args
  have hcls : cell.cls = (gD g).1 ci := Option.some.inj (c2.symm.trans hcl.1)
  have hap : ∀ x y, x < N → y < N → x ≠ y → (gD g).2 ci x ≠ (gD g).2 ci y := by
    intro x y hx hy hne
    obtain ⟨_, _, _, fa, hia, ea, -⟩ := hkn x hx
    obtain ⟨_, _, _, fb, hib, eb, -⟩ := hkn y hy
    rw [← ea, ← eb]
    refine u_apart (u_lays hts hin hx) (u_lays hts hin hy) hia hib ?_
    rw [(State.fieldFound?_type hia (htyf x hx)).1, (State.fieldFound?_type hib (htyf y hy)).1]
    exact hnm x hx y hy hne
  have hkn : ∀ k, k < N → ∃ cf kf fi fd, s.fieldFound? (T9 k).1 (T9 k).2.1 (T9 k).2.2.1 = some (cf, kf, fi, fd) ∧ fd.slot = (gD g).2 ci k ∧ fd.isStatic = false := hkn
  have hff : ∀ x y z, s'.fieldFound? x y z = s.fieldFound? x y z := fun x y z => by unfold State.fieldFound?; rw [hvm]
  obtain ⟨_, _, _, f0, i0, s0, -⟩ := hkn 0 (by omega)
  obtain ⟨_, _, _, f1, i1, s1, -⟩ := hkn 1 (by omega)
  obtain ⟨_, _, _, f2, i2, s2, -⟩ := hkn 2 (by omega)
  obtain ⟨_, _, _, f4, i4, s4, -⟩ := hkn 4 (by omega)
  have y0 : tyf 0 = .object "java/lang/Throwable" := by have h := htyf 0 (by omega); rw [e0] at h; exact Option.some.inj (h.symm.trans (by decide +kernel))
  have y1 : tyf 1 = .array (.object "java/lang/StackTraceElement") := by have h := htyf 1 (by omega); rw [e1] at h; exact Option.some.inj (h.symm.trans (by decide +kernel))
  have y2 : tyf 2 = .object "java/util/List" := by have h := htyf 2 (by omega); rw [e2] at h; exact Option.some.inj (h.symm.trans (by decide +kernel))
  have t0 := fun v => u_fits hcl.1 hkC hkind (u_lays hts hin (show 0 < N by omega)) i0 (htyf 0 (by omega)) (v := v)
  have t1 := fun v => u_fits hcl.1 hkC hkind (u_lays hts hin (show 1 < N by omega)) i1 (htyf 1 (by omega)) (v := v)
  have t2 := fun v => u_fits hcl.1 hkC hkind (u_lays hts hin (show 2 < N by omega)) i2 (htyf 2 (by omega)) (v := v)
  rw [e0] at i0
  rw [e1] at i1
  rw [e2] at i2
  rw [e4] at i4
  have k0 : T.fCause = f0 := by have h := Yt.cause; rw [hff] at h; have := h.symm.trans i0; simp at this; exact this.2.2.2
  have k1 : T.fStack = f1 := by have h := Yt.stack; rw [hff] at h; have := h.symm.trans i1; simp at this; exact this.2.2.2
  have k2 : T.fSupp = f2 := by have h := Yt.supp; rw [hff] at h; have := h.symm.trans i2; simp at this; exact this.2.2.2
  obtain ⟨cellS, hcS, hiss⟩ := Yt.statics
  obtain ⟨u0, hu0⟩ := Cond.staticRefV Yt.unassigned L.unassignedStatic L.statics hcS hiss (hat (.isRef (.static Bundle.tN "UNASSIGNED_STACK" Bundle.steD)) (by simp [thrL]))
  obtain ⟨sen, hsen⟩ := Cond.staticRefV Yt.sentinel L.sentinelStatic L.statics hcS hiss (hat (.isRef (.static Bundle.tN "SUPPRESSED_SENTINEL" Bundle.listD)) (by simp [thrL]))
  obtain ⟨ci198, i198, fB, hk198, hg198, ha198, hsB, -, hnB, htB, hffB⟩ := Cond.ownField (t := .object "java/lang/Object") Yt.found L.cls (by decide +kernel) (hat (.fieldLink Bundle.tN 198 Bundle.tN "backtrace" "Ljava/lang/Object;") (by simp [thrL])) (hat (.lays Bundle.tN Bundle.tN "backtrace" "Ljava/lang/Object;") (by simp [thrL])) e.platform hpl
  have k4 : fB = f4 := by have h := hffB; rw [hff] at h; have := h.symm.trans i4; simp at this; exact this.2.2.2
  have hneS : T.aS ≠ a := by
    intro q
    rw [q, hhp, c1] at hcS
    cases hcS
    rw [c3] at hiss
    cases hiss
  have hselG : ∀ t tm, t ∈ [Bundle.tFill0, Bundle.tFill] → s'.methodNamed? t = some tm → t.cls ≠ "java/lang/invoke/MethodHandle" ∧ t.cls ≠ "java/lang/invoke/VarHandle" → selectMethod e.platform s'.vm cell.cls tm = .method tm := by
    intro t tm ht hn hno
    obtain ⟨c2', r2, m2, p1, p2, p3, p4, -⟩ := Cond.selects_spec (hts' (.selects C t t) (hsl _ (by simp [thrC] at ht ⊢; exact ht)))
    cases Option.some.inj (p1.symm.trans (by rw [hvm]; exact c2))
    cases Option.some.inj (p2.symm.trans (State.methodFound?_of_named hn hno))
    cases Option.some.inj (p3.symm.trans hn)
    rw [Launch.admits_selectMethod X.admits]; exact p4
  have z0 : T.fCause.slot = (gD g).2 ci 0 := by rw [k0]; exact s0
  have z1 : T.fStack.slot = (gD g).2 ci 1 := by rw [k1]; exact s1
  have z2 : T.fSupp.slot = (gD g).2 ci 2 := by rw [k2]; exact s2
  have z4 : fB.slot = (gD g).2 ci 4 := by rw [k4]; exact s4
  have b0 := c4 0 (show 0 < N by omega)
  have b1 := c4 1 (show 1 < N by omega)
  have b2 := c4 2 (show 2 < N by omega)
  have b4 := c4 4 (show 4 < N by omega)
  have hcell' : T9'.heap[a]? = some cell := by rw [hT]; exact c1
  obtain ⟨mo, mc⟩ := hS.2.2.2.2.2.2.2.2 a cell ha c1
  have htk : ∀ (f : Field) (k : Nat) (v : Value), k < N → f.slot = (gD g).2 ci k → s.fitsSlot ((gD g).1 ci) VmData.none f.slot v = true → Takes s' cell f v := by
    intro f k v hk hf hv
    refine ⟨?_, ?_⟩
    · rw [hf]; exact (Array.getElem?_eq_some_iff.mp (c4 k hk)).1
    · rw [hcls, c3]
      have e9 : s'.fitsSlot ((gD g).1 ci) VmData.none f.slot v = s.fitsSlot ((gD g).1 ci) VmData.none f.slot v := by unfold State.fitsSlot State.slotType?; rw [hvm]
      rw [e9]; exact hv
  have htC : Takes s' cell T.fCause (.ref a) := by
    refine htk _ 0 _ (by omega) z0 ?_
    have := (t0 (.ref a) (by rw [y0]; rfl) (by rw [y0]; rfl)).2
    rw [k0]; exact this
  have htS : Takes s' cell T.fStack u0.v := by
    refine htk _ 1 _ (by omega) z1 ?_
    have := (t1 u0.v (by rw [y1]; exact narrow_refV _ u0) (by rw [y1]; exact fits_refV_array _ u0)).2
    rw [k1]; exact this
  have htP : Takes s' cell T.fSupp sen.v := by
    refine htk _ 2 _ (by omega) z2 ?_
    have := (t2 sen.v (by rw [y2]; exact narrow_refV _ sen) (by rw [y2]; exact fits_refV_object _ sen)).2
    rw [k2]; exact this
  have w40 : fB.slot ≠ T.fCause.slot := by rw [z4, z0]; exact hap 4 0 (by omega) (by omega) (by decide)
  have w41 : fB.slot ≠ T.fStack.slot := by rw [z4, z1]; exact hap 4 1 (by omega) (by omega) (by decide)
  have w42 : fB.slot ≠ T.fSupp.slot := by rw [z4, z2]; exact hap 4 2 (by omega) (by omega) (by decide)
  have hskip : SkipFacts T e.platform s' (fun u => u) u0 ((preparedCellV T.toThrowableT cell a u0 sen).withEntry T9'.cur) :=
    ⟨{ ci198 := ci198, i198 := i198, fBack := fB }, ⟨hk198, hg198, ha198, hsB⟩, by
      show (preparedCellV T.toThrowableT cell a u0 sen).slots[fB.slot]? = some .null
      have : cell.slots[fB.slot]? = some .null := by rw [z4, b4]; rfl
      simpa [preparedCellV, Cell.setSlot, Array.getElem?_setIfInBounds, w40.symm, w41.symm, w42.symm] using this, fun _ _ => rfl⟩
  have hown' : s'.vm.findClass "java/lang/Exception" = some m.cls := by rw [hvm]; exact xown hX
  have hdec : decode c.code 1 = .ok (.invokespecial 1, 3) := by rw [hX.2.1]; exact xd_to (xd_of (I := iJ4_init_2) dJ4_init_2_1)
  obtain ⟨tm, methC, cdC, kC', vm₁, hnC, -, -, -, -, -, -, -, hW₁, st1⟩ := Steps.initCold (tb := p.tables) (e := e) (below := below) (s := s') (U := T9') (mm := m) Y.here hX.1 Y.warmed hpl hown' (t := Bundle.tInit0) rfl rfl (by decide)
    (hts' (.methodLink "java/lang/Exception" 1 Bundle.tInit0) (by decide +kernel)) (hat (.instanceMethod Bundle.tInit0) (by simp [thrL, Bundle.throwableAtoms])) (bytes := LibCode.Throwable.Init0.code) (maxL := 1) (hat (.code Bundle.tInit0 LibCode.Throwable.Init0.code 1 none) (by simp [thrL, Bundle.throwableAtoms]))
    (f := F0 m 1 arr (.ref a :: rest)) rfl (a := a) (rest := rest) rfl hdec
  cases Option.some.inj (hnC.symm.trans Yt.init0)
  have Y₁ := Y.noted hW₁
  have hrl : (rest.map fun v => v.category).sum ≤ 8 := by have := cat_sum rest; omega
  obtain ⟨vm₂, X₂, st2⟩ := Y₁.ctorPlainOffV hX.1 (g := F0 m 1 arr rest) rfl (by rw [hX.2.2.2.1]; exact lh_size hA) T L Z LZ [] (fun P h => nomatch h) trivial (u0 := u0) (sen := sen) (self := a) (cell := cell) (cellS := cellS)
    hcell' (fun k h => by rw [c3] at h; cases h) (fun h => by rw [c3] at h; cases h) mo mc (hselG _ _ (by simp) Yt.fill0 (by decide)) (hselG _ _ (by simp) Yt.fill (by decide)) (by show T9'.heap[T.aS]? = _; rw [hT, ← hhp]; exact hcS) hneS (fun h => by rw [h] at hiss; cases hiss) hu0 hsen htC htS htP Yt.objLocals hskip htr [] hdec
    (by show 0 + 2 < d; omega) (by show 2 * 0 + (rest.map fun v => v.category).sum + (13 * 0 + 41) ≤ 64 * d; omega)
  have hW2 : s.WarmedH vm₂ := by
    have h9 : s'.WarmedH vm₂ := X₂.warmed
    rw [hs'] at h9
    exact h9
  have hlt : a < (T9'.setVm vm₂).heap.size := (Array.getElem?_eq_some_iff.mp hcell').1
  have XF := ((((X.noted hW2).stored (a := a) hcell' T.fCause.slot (.ref a)).storedAgain hlt T.fStack.slot u0.v).storedAgain hlt T.fSupp.slot sen.v).storedAgain hlt T.fStack.slot u0.v
  have c4' : ∀ k, k < N → cell.slots[(gD g).2 ci k]? = some (vp_V (v0 :: v1 :: v2 :: v3 :: .null :: fs) k) := c4
  have c5 := t_set (t_set (t_set (t_set c4' hap (show 0 < N by omega) (.ref a)) hap (show 1 < N by omega) u0.v) hap (show 2 < N by omega) sen.v) hap (show 1 < N by omega) u0.v
  rw [← z0, ← z1, ← z2] at c5
  have key : xSt g (xu σ.1 a (ob ci (.ref a :: u0.v :: sen.v :: v3 :: .null :: fs)), σ.2) (H.setIfInBounds a ((preparedCellV T.toThrowableT cell a u0 sen).setSlot T.fStack.slot u0.v)) := by
    have ha0 : a < H.size := (Array.getElem?_eq_some_iff.mp c1).1
    refine hS.put ha c1 (x' := (preparedCellV T.toThrowableT cell a u0 sen).setSlot T.fStack.slot u0.v) (by simp [ha0]) (by simp [preparedCellV, Cell.setSlot]) rfl (by simp) (fun z hz9 => by simp [Array.getElem?_setIfInBounds, Ne.symm hz9]) ?_
    refine ⟨_, hc, t_OB.to ⟨(preparedCellV T.toThrowableT cell a u0 sen).setSlot T.fStack.slot u0.v, by simp [ha0], hcls, c3, c5⟩ (fun j hj => ?_)⟩
    unfold updV vp_V
    match j with
    | 0 => rfl
    | 1 => rfl
    | 2 => rfl
    | j + 3 => simp
  have nx := next u0.v sen.v hg p e s m args below meth c hX (H.setIfInBounds a ((preparedCellV T.toThrowableT cell a u0 sen).setSlot T.fStack.slot u0.v)) ((((locs ++ [⟨a, T.fCause.slot⟩]) ++ [⟨a, T.fStack.slot⟩]) ++ [⟨a, T.fSupp.slot⟩]) ++ [⟨a, T.fStack.slot⟩]) arr (H.size - s.heap.size) (hz H - hz s.heap) key (fun q hq => by
      simp only [List.mem_append, List.mem_singleton] at hq
      rcases hq with (((h | h) | h) | h) | h
      · exact hL q h
      · rw [h]; exact ha
      · rw [h]; exact ha
      · rw [h]; exact ha
      · rw [h]; exact ha) hA
  obtain ⟨t, a1, b1⟩ := nx _ (by show (T9'.heap.setIfInBounds a _) = _; rw [hT]) XF
  refine ⟨t, st1 t (fun acts => ?_), b1⟩
  rw [doInvoke_state]
  exact st2 t a1
/-! ===== handlers ===== -/
theorem xtab {α β γ δ : Type} {l : List ExceptionTableEntry} {a : Nat × Nat × Nat × Nat} {r : List (Nat × Nat × Nat × Nat)} (h : l.map (fun h => (h.startPc, h.endPc, h.handlerPc, h.catchType)) = a :: r) : ∃ (x : ExceptionTableEntry) (l' : List ExceptionTableEntry), l = x :: l' ∧ x.startPc = a.1 ∧ x.endPc = a.2.1 ∧ x.handlerPc = a.2.2.1 ∧ x.catchType = a.2.2.2 ∧ l'.map (fun h => (h.startPc, h.endPc, h.handlerPc, h.catchType)) = r := by
  cases l with
  | nil => cases h
  | cons x l' =>
    simp only [List.map_cons, List.cons.injEq] at h
    obtain ⟨rfl, rfl⟩ := h
    exact ⟨x, l', rfl, rfl, rfl, rfl, rfl, rfl⟩
section XCT
variable {p : Program} {l : Launch} {e : Env} {R : Room} {s : State} {m : MethodId} {args : Array Value} {below : List Frame} {meth : Method} {c : Code} {H : Heap} {locs : List Loc} {cells slots : Nat} {Q : State → Prop}
/-- the kit's vx_catch, for a cell of which less is known -/
theorem xcatch {pc : Nat} {ls : Array Slot} {rest : List Value} {own name : String} {E : String} {ce : Cell} {q : Addr} (hown : s.vm.findClass own = some m.cls) (pre : List ExceptionTableEntry) (x : ExceptionTableEntry) (suf : List ExceptionTableEntry) (hsplit : c.exceptionTable.toList = pre ++ x :: suf)
    (hpass : ∀ z ∈ pre, covers z pc = false ∨ (z.catchType ≠ 0 ∧ ∃ nm : String, (Cond.classLink own z.catchType nm).before args s = true ∧ va_Nc E nm s)) (hx : covers x pc = true) (h0 : x.catchType ≠ 0)
    (hlink : (Cond.classLink own x.catchType name).before args s = true) (hcast : (Cond.castable E name).before args s = true) (hcell : H[q]? = some ce) (hv : ce.vm.isStatics = false) (hcl : s.vm.findClass E = some ce.cls)
    (kk : W p l e R s m args below meth c H locs cells slots Q (F0 m x.handlerPc ls [.ref q])) : vx_W p l e R s m args below meth c H locs cells slots Q (F0 m pc ls rest) q := by
  intro T hT X
  have hpl : e.platform.magicAccessors = ({} : Platform).magicAccessors := by rw [X.admits.platform]
  obtain ⟨c3, c4, hc3, hc4, hasg⟩ := Cond.castable_spec hcast
  cases Option.some.inj (hc3.symm.trans hcl)
  obtain ⟨c5, hc5, hcl5⟩ := Cond.classLink_spec hown hlink e.platform hpl
  cases Option.some.inj (hc4.symm.trans hc5)
  obtain ⟨vm', X', st⟩ := X.thenCaughtThrough q (g := F0 m pc ls rest) rfl (Steps.refl _) (by rw [hT]; exact hcell) hv (by obtain ⟨k9, h9, -⟩ := Vm.findClass_spec hcl; exact ⟨k9, h9⟩) pre x suf hsplit
    (fun z hz => by
      rcases hpass z hz with h | ⟨hz0, nm, hl1, hn1⟩
      · exact Or.inl h
      · obtain ⟨c6, hc6, hcl6⟩ := Cond.classLink_spec hown hl1 e.platform hpl
        obtain ⟨a8, b8, h1, h2, h3⟩ := hn1
        cases Option.some.inj (h1.symm.trans hcl)
        cases Option.some.inj (h2.symm.trans hc6)
        exact Or.inr ⟨hz0, _, hcl6, h3⟩) hx (Or.inr ⟨h0, c4, hcl5, hasg⟩)
  obtain ⟨t, a1, b1⟩ := kk (T.setVm vm') hT X'
  exact ⟨t, st.trans a1, b1⟩
end XCT
theorem VX.catch {g : xG} {I : xI} {K : xR → xH → Prop} {d pc : Nat} {ls : List (Option Value)} {σ : xH} {q cq : Nat} {fs : List Value} {s0 e0 h0 ct : Nat} {r : List (Nat × Nat × Nat × Nat)} {C nm : String} {T9 : u_T} {N : Nat}
    (hT : iT I = (s0, e0, h0, ct) :: r) (h1 : s0 ≤ pc) (h2 : pc < e0) (h3 : ct ≠ 0) (hq : σ.1 q = some (ob cq fs)) (hc : CL[cq]? = some (C, T9, N)) (hl : Cond.classLink (ocN (iO I)) ct nm ∈ lw_all) (hcast : Cond.castable C nm ∈ lw_all)
    (next : VW g I K d h0 ls [.ref q] σ) : VX g I K d pc ls σ q := by
  intro hg p e s m args below meth c hX H locs arr cells slots st hS hL hA
  obtain ⟨cell, q1, q3, q2, -⟩ := hS.recv hg hq (xwarm hX) hc
  have h9 := hX.2.2.2.2.2.2.2.1
  rw [hT] at h9
  obtain ⟨x, l', e1, x1, x2, x3, x4, -⟩ := xtab (α := Unit) (β := Unit) (γ := Unit) (δ := Unit) h9
  refine xcatch (own := ocN (iO I)) (name := nm) (E := C) (xown hX) [] x l' e1 (fun z hz => nomatch hz) ?_ (by rw [x4]; exact h3) (by rw [x4]; exact hg.word hl (xwarm hX) _) (hg.word hcast (xwarm hX) _) q1 q3 q2 ?_
  · unfold covers
    rw [x1, x2]
    simp [h1, h2]
  · rw [x3]
    exact next hg p e s m args below meth c hX H locs arr cells slots hS hL hA
theorem VX.catch2 {g : xG} {I : xI} {K : xR → xH → Prop} {d pc : Nat} {ls : List (Option Value)} {σ : xH} {q cq : Nat} {fs : List Value} {s0 e0 h0 ct s1 e1 hh1 ct1 : Nat} {r : List (Nat × Nat × Nat × Nat)} {C nm nm1 : String} {T9 : u_T} {N : Nat}
    (hT : iT I = (s1, e1, hh1, ct1) :: (s0, e0, h0, ct) :: r) (h31 : ct1 ≠ 0) (hl1 : Cond.classLink (ocN (iO I)) ct1 nm1 ∈ lw_all) (hno : (C, nm1) ∈ NC) (h1 : s0 ≤ pc) (h2 : pc < e0) (h3 : ct ≠ 0) (hq : σ.1 q = some (ob cq fs)) (hc : CL[cq]? = some (C, T9, N)) (hl : Cond.classLink (ocN (iO I)) ct nm ∈ lw_all) (hcast : Cond.castable C nm ∈ lw_all)
    (next : VW g I K d h0 ls [.ref q] σ) : VX g I K d pc ls σ q := by
  intro hg p e s m args below meth c hX H locs arr cells slots st hS hL hA
  obtain ⟨cell, q1, q3, q2, -⟩ := hS.recv hg hq (xwarm hX) hc
  have h9 := hX.2.2.2.2.2.2.2.1
  rw [hT] at h9
  obtain ⟨x', l1, e1, x1', x2', x3', x4', h10⟩ := xtab (α := Unit) (β := Unit) (γ := Unit) (δ := Unit) h9
  obtain ⟨x, l', e1', x1, x2, x3, x4, -⟩ := xtab (α := Unit) (β := Unit) (γ := Unit) (δ := Unit) h10
  refine xcatch (own := ocN (iO I)) (name := nm) (E := C) (xown hX) [x'] x l' (by rw [e1, e1']; rfl) (fun z hz => ?_) ?_ (by rw [x4]; exact h3) (by rw [x4]; exact hg.word hl (xwarm hX) _) (hg.word hcast (xwarm hX) _) q1 q3 q2 ?_
  · rw [List.mem_singleton.mp hz]
    exact Or.inr ⟨by rw [x4']; exact h31, nm1, by rw [x4']; exact hg.word hl1 (xwarm hX) _, (hg.2.2.2.2.2.2.1 _ hno).moved (xwarm hX).alike⟩
  · unfold covers
    rw [x1, x2]
    simp [h1, h2]
  · rw [x3]
    exact next hg p e s m args below meth c hX H locs arr cells slots hS hL hA
