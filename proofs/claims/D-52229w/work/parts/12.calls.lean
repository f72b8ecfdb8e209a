/-! ===== calls: the invoking instruction of every kind, and the rule ===== -/
section XCalls
variable {p : Program} {l : Launch} {e : Env} {R : Room} {s : State} {m : MethodId} {args : Array Value} {below : List Frame} {meth : Method} {c : Code} {T : State} {locs : List Loc} {cells slots : Nat}
/-- the call is entered: the method y with the arguments av, the frame keeps 'rest' -/
def xInv (p : Program) (l : Launch) (e : Env) (R : Room) (s : State) (m : MethodId) (args : Array Value) (below : List Frame) (meth : Method) (c : Code) (T : State) (locs : List Loc) (cells slots : Nat) (gf : JFrame) (rest : List Value) (y : MethodName) (av : List Value) (len : Nat) : Prop :=
  ∃ (vm₁ : Vm) (mk : MethodId) (ins : Instr), Stand p l e R s m args below meth c (T.setVm vm₁) locs cells slots ∧ (T.setVm vm₁).methodNamed? y = some mk ∧ decode c.code gf.pc = .ok (ins, len) ∧
    ∀ target, Steps p.tables e below (doInvoke e ((T.setVm vm₁).setTop { gf with stack := rest }) [] mk av.toArray).1 target → Steps p.tables e below (T.setTop gf) target
theorem xcode_named {I : xI} (h : (xCode I).before args s = true) : ∃ mk, s.methodNamed? (iY I) = some mk := by
  unfold xCode at h
  split at h
  · exact Cond.code_named h
  · obtain ⟨m9, meth, c, hn9, -⟩ := Cond.codeWith_spec h
    exact ⟨m9, hn9⟩
theorem len_of {y : MethodName} {n : Nat} (h : (parseMethodDescriptor y.desc).map (fun d => d.parameters.length) = some n) {sig : MethodDescriptor} (hs : parseMethodDescriptor y.desc = some sig) : n = sig.parameters.length := by
  rw [hs] at h
  exact (Option.some.inj h).symm
theorem inv_s (X : Stand p l e R s m args below meth c T locs cells slots) (hexec : p.tables.exec = Jvm.exec) {own : String} {index n : Nat} {I : xI} (hown : s.vm.findClass own = some m.cls)
    (hlink : (Cond.methodLink own index (iY I)).before args s = true ∨ ∃ host, (Cond.methodLinkNest own index (iY I) host).before args s = true) (hstat : (Cond.static (iY I)).before args s = true) (hinit : (Cond.initialized (iY I).cls).before args s = true) (hcode : (xCode I).before args s = true)
    (hy : (iY I).cls ≠ "java/lang/invoke/MethodHandle" ∧ (iY I).cls ≠ "java/lang/invoke/VarHandle") (hp : (parseMethodDescriptor (iY I).desc).map (fun d => d.parameters.length) = some n)
    {gf : JFrame} (hg : gf.method = m) {av rest : List Value} (hn : av.length = n) (hstack : gf.stack = av.reverse ++ rest) (hdg : decode c.code gf.pc = .ok (.invokestatic index, 3)) :
    xInv p l e R s m args below meth c T locs cells slots gf rest (iY I) av 3 := by
  obtain ⟨mk, hnamed⟩ := xcode_named hcode
  obtain ⟨methM, cM, hmethM, -, -, -, -, -, -, hsigM⟩ := xcode_spec hnamed hcode
  have hstatic : methM.isStatic = true := Cond.static_spec hnamed hmethM hstat
  obtain ⟨kP, hkP, -⟩ := className_of_methodNamed hnamed
  have hinitP : kP.init = .initialized := Cond.initialized_spec (findClass_of_methodNamed hnamed) hkP hinit
  rcases hlink with hlink | ⟨host, hlink⟩
  · obtain ⟨vm₁, X₁, hstep₁⟩ := X.invokestatic hexec hown hlink hnamed hmethM hstatic hkP hinitP hy (g := gf) hg (argsL := av) (rest := rest) (hn.trans (len_of hp hsigM)) hstack hdg
    exact ⟨vm₁, mk, _, X₁, X₁.named hnamed, hdg, fun target h => hstep₁ _ fun acts => by rw [doInvoke_state]; exact h⟩
  · obtain ⟨vm₁, X₁, hstep₁⟩ := X.invokestaticNest hexec hown hlink hnamed hmethM hstatic hkP hinitP hy (g := gf) hg (argsL := av) (rest := rest) (hn.trans (len_of hp hsigM)) hstack hdg
    exact ⟨vm₁, mk, _, X₁, X₁.named hnamed, hdg, fun target h => hstep₁ _ fun acts => by rw [doInvoke_state]; exact h⟩
theorem inv_p (X : Stand p l e R s m args below meth c T locs cells slots) (hexec : p.tables.exec = Jvm.exec) {own : String} {index n : Nat} {I : xI} (hown : s.vm.findClass own = some m.cls) (hy1 : (iY I).name = "<init>") (hret : iR I = none) (hT : iT I = [])
    (hlink : (Cond.methodLink own index (iY I)).before args s = true ∨ ∃ host, (Cond.methodLinkNest own index (iY I) host).before args s = true) (hinst : (Cond.instanceMethod (iY I)).before args s = true) (hcode : (xCode I).before args s = true)
    (hy : (iY I).cls ≠ "java/lang/invoke/MethodHandle" ∧ (iY I).cls ≠ "java/lang/invoke/VarHandle") (hp : (parseMethodDescriptor (iY I).desc).map (fun d => d.parameters.length) = some n)
    {gf : JFrame} (hg : gf.method = m) {a : Addr} {av rest : List Value} (hn : av.length = n) (hstack : gf.stack = av.reverse ++ .ref a :: rest) (hdg : decode c.code gf.pc = .ok (.invokespecial index, 3)) :
    xInv p l e R s m args below meth c T locs cells slots gf rest (iY I) (.ref a :: av) 3 := by
  subst hg
  have hpl : e.platform.magicAccessors = ({} : Platform).magicAccessors := by rw [X.admits.platform]
  have hcode' : (Cond.code (iY I) (iC I) (iL I) none).before args s = true := by
    have := hcode
    unfold xCode at this
    rw [hT, hret] at this
    exact this
  rcases hlink with hlink | ⟨host, hlink⟩
  · obtain ⟨mk, methM, cM, kP, vm₁, hnamed, hmethM, hcodeM, -, hlocalsM, -, hkP, -, hW₁, hstep₁⟩ := Steps.initColdArgs (e := e) X.here hexec X.warmed hpl hown hy1 hy hlink hinst hcode' (f := gf) rfl (fun sig h => hn.trans (len_of hp h)) hstack hdg
    have X₁ := X.noted hW₁
    exact ⟨vm₁, mk, _, X₁, X₁.named hnamed, hdg, fun target h => hstep₁ _ fun acts => by rw [doInvoke_state]; exact h⟩
  · obtain ⟨mk, methM, cM, kP, vm₁, hnamed, hmethM, hcodeM, -, hlocalsM, -, hkP, -, hW₁, hstep₁⟩ := Steps.initColdArgsNest (e := e) X.here hexec X.warmed hpl hown hy1 hy hlink hinst hcode' (f := gf) rfl (fun sig h => hn.trans (len_of hp h)) hstack hdg
    have X₁ := X.noted hW₁
    exact ⟨vm₁, mk, _, X₁, X₁.named hnamed, hdg, fun target h => hstep₁ _ fun acts => by rw [doInvoke_state]; exact h⟩
theorem inv_v (X : Stand p l e R s m args below meth c T locs cells slots) (hexec : p.tables.exec = Jvm.exec) {own C : String} {index n : Nat} {I : xI} (hown : s.vm.findClass own = some m.cls)
    (hlink : (Cond.methodLink own index (iY I)).before args s = true ∨ ∃ host, (Cond.methodLinkNest own index (iY I) host).before args s = true) (hinst : (Cond.instanceMethod (iY I)).before args s = true) (hsel : (Cond.selects C (iY I) (iY I)).before args s = true) (hcode : (xCode I).before args s = true)
    (hy : (iY I).cls ≠ "java/lang/invoke/MethodHandle" ∧ (iY I).cls ≠ "java/lang/invoke/VarHandle") (hp : (parseMethodDescriptor (iY I).desc).map (fun d => d.parameters.length) = some n)
    {b : Addr} {cellB : Cell} (hcell : T.heap[b]? = some cellB) (hobj : cellB.vm.isStatics = false) (hcls : s.vm.findClass C = some cellB.cls)
    {gf : JFrame} (hg : gf.method = m) {av rest : List Value} (hn : av.length = n) (hstack : gf.stack = av.reverse ++ .ref b :: rest) (hdg : decode c.code gf.pc = .ok (.invokevirtual index, 3)) :
    xInv p l e R s m args below meth c T locs cells slots gf rest (iY I) (.ref b :: av) 3 := by
  obtain ⟨mk, methM, hnamed, hmethM, hstM, habM⟩ := Cond.instanceMethod_spec hinst
  obtain ⟨methM', cM, hmethM', -, -, -, -, -, -, hsigM⟩ := xcode_spec hnamed hcode
  cases hmethM.symm.trans hmethM'
  obtain ⟨c2, r2, m2, q1, q2, q3, q4, kP, hkP, hkPi⟩ := Cond.selects_spec hsel
  cases hcls.symm.trans q1
  cases (State.methodFound?_of_named hnamed hy).symm.trans q2
  cases hnamed.symm.trans q3
  have hselP : selectMethod e.platform s.vm cellB.cls mk = .method mk := by rw [Launch.admits_selectMethod X.admits]; exact q4
  rcases hlink with hlink | ⟨host, hlink⟩
  · obtain ⟨vm₁, X₁, hstep₁⟩ := X.invokevirtual hexec hown hlink hnamed hmethM hstM hkP hkPi hy (a := b) (cell := cellB) hcell
      (fun z h => by rw [h] at hobj; cases hobj) hselP hmethM habM hkP hkPi (g := gf) hg (argsL := av) (rest := rest) (hn.trans (len_of hp hsigM)) hstack hdg
    exact ⟨vm₁, mk, _, X₁, X₁.named hnamed, hdg, fun target h => hstep₁ _ fun acts => by rw [doInvoke_state]; exact h⟩
  · obtain ⟨vm₁, X₁, hstep₁⟩ := X.invokevirtualNest hexec hown hlink hnamed hmethM hstM hkP hkPi hy (a := b) (cell := cellB) hcell
      (fun z h => by rw [h] at hobj; cases hobj) hselP hmethM habM hkP hkPi (g := gf) hg (argsL := av) (rest := rest) (hn.trans (len_of hp hsigM)) hstack hdg
    exact ⟨vm₁, mk, _, X₁, X₁.named hnamed, hdg, fun target h => hstep₁ _ fun acts => by rw [doInvoke_state]; exact h⟩
theorem inv_u (X : Stand p l e R s m args below meth c T locs cells slots) (hexec : p.tables.exec = Jvm.exec) {own C owner : String} {index n : Nat} {x y : MethodName} (hown : s.vm.findClass own = some m.cls)
    (hlink : (Cond.methodLink own index x).before args s = true) (hsame : (Cond.sameMethod x.cls owner x.name x.desc).before args s = true) (howner : owner ≠ "java/lang/invoke/MethodHandle" ∧ owner ≠ "java/lang/invoke/VarHandle") (hd0 : va_Decl s ⟨owner, x.name, x.desc⟩)
    (hsel : (Cond.selects C x y).before args s = true) (hinst : (Cond.instanceMethod y).before args s = true) (hp : (parseMethodDescriptor x.desc).map (fun d => d.parameters.length) = some n)
    {b : Addr} {cellB : Cell} (hcell : T.heap[b]? = some cellB) (hobj : cellB.vm.isStatics = false) (hcls : s.vm.findClass C = some cellB.cls)
    {gf : JFrame} (hg : gf.method = m) {av rest : List Value} (hn : av.length = n) (hstack : gf.stack = av.reverse ++ .ref b :: rest) (hdg : decode c.code gf.pc = .ok (.invokevirtual index, 3)) :
    xInv p l e R s m args below meth c T locs cells slots gf rest y (.ref b :: av) 3 := by
  obtain ⟨r0, r, hn0, hrm, hstR, hsigR⟩ := hd0
  obtain ⟨cn, ck, r1, hcn, hck, hni, hf, hn1⟩ := Cond.sameMethod_found hsame
  cases hn0.symm.trans hn1
  obtain ⟨mk, methM, hnamed, hmethM, -, habM⟩ := Cond.instanceMethod_spec hinst
  obtain ⟨c2, r2, m2, q1, q2, q3, q4, kP, hkP, hkPi⟩ := Cond.selects_spec hsel
  cases hcls.symm.trans q1
  cases hf.symm.trans q2
  cases hnamed.symm.trans q3
  have hselP : selectMethod e.platform s.vm cellB.cls r0 = .method mk := by rw [Launch.admits_selectMethod X.admits]; exact q4
  obtain ⟨vm₁, X₁, hstep₁⟩ := X.invokevirtualUp hexec hown hlink hsame howner hn0 hrm hstR (a := b) (cell := cellB) hcell
    (fun z h => by rw [h] at hobj; cases hobj) hselP hmethM habM hkP hkPi (g := gf) hg (argsL := av) (rest := rest) (hn.trans (len_of (y := x) hp hsigR)) hstack hdg
  exact ⟨vm₁, mk, _, X₁, X₁.named hnamed, hdg, fun target h => hstep₁ _ fun acts => by rw [doInvoke_state]; exact h⟩
theorem inv_f (X : Stand p l e R s m args below meth c T locs cells slots) (hexec : p.tables.exec = Jvm.exec) {own C : String} {index count n : Nat} {x y : MethodName} (hown : s.vm.findClass own = some m.cls)
    (hlink : (Cond.methodLink own index x).before args s = true) (hF : va_Fw C x y s) (hsel : (Cond.selects C x y).before args s = true) (hinst : (Cond.instanceMethod y).before args s = true)
    (hx : x.cls ≠ "java/lang/invoke/MethodHandle" ∧ x.cls ≠ "java/lang/invoke/VarHandle") (hp : (parseMethodDescriptor x.desc).map (fun d => d.parameters.length) = some n)
    {b : Addr} {cellB : Cell} (hcell : T.heap[b]? = some cellB) (hobj : cellB.vm.isStatics = false) (hcls : s.vm.findClass C = some cellB.cls)
    {gf : JFrame} (hg : gf.method = m) {av rest : List Value} (hn : av.length = n) (hstack : gf.stack = av.reverse ++ .ref b :: rest) (hdg : decode c.code gf.pc = .ok (.invokeinterface index count, 5)) :
    xInv p l e R s m args below meth c T locs cells slots gf rest y (.ref b :: av) 5 := by
  obtain ⟨hdecl, hface, hpub, hunh, hcast⟩ := hF
  obtain ⟨r0, r, hn0, hrm, hstR, hsigR⟩ := Cond.declares_spec hdecl
  obtain ⟨cL, kL, r1, hcL, hkL, hiL, hfoundL, hn1⟩ := Cond.interfaceMethod_spec hface
  cases hn0.symm.trans hn1
  have hr0cls : r0.cls = cL := Option.some.inj ((findClass_of_methodNamed hn0).symm.trans hcL)
  obtain ⟨hnameR, hdescR⟩ := name_of_methodNamed hn0 hrm
  obtain ⟨mk, methM, hnamed, hmethM, -, habM⟩ := Cond.instanceMethod_spec hinst
  obtain ⟨c2, r2, m2, q1, q2, q3, q4, -⟩ := Cond.selects_spec hsel
  cases hcls.symm.trans q1
  cases hfoundL.symm.trans q2
  cases hnamed.symm.trans q3
  have hselP : selectMethod e.platform s.vm cellB.cls r0 = .method mk := by rw [Launch.admits_selectMethod X.admits]; exact q4
  have hpubM : hasFlag methM.accessFlags Acc.public_ = true := Cond.publicMethod_spec hnamed hmethM hpub
  have hway : ((cellB.cls :: s.vm.superclasses cellB.cls).any fun k => (declaredIn s.vm r.name r.desc k).any fun (_, z) => z.isPrivate || z.isStatic) = false := by
    rw [hnameR, hdescR]; exact Cond.unhidden_spec hcls hunh
  obtain ⟨c3, t3, w1, w2, w3⟩ := Cond.castable_spec hcast
  cases hcls.symm.trans w1
  cases hcL.symm.trans w2
  obtain ⟨kB, hkB, -⟩ := Vm.findClass_spec hcls
  obtain ⟨vm₁, X₁, hstep₁⟩ := X.invokeinterface hexec hown hlink hn0 hrm hstR (by rw [hr0cls]; exact hkL) hiL hx (a := b) (cell := cellB) (kcell := kB) hcell
    (fun z h => by rw [h] at hobj; cases hobj) hkB (by rw [hr0cls]; exact w3) hselP hmethM hway hpubM habM (g := gf) hg (argsL := av) (rest := rest) (hn.trans (len_of (y := x) hp hsigR)) hstack hdg
  exact ⟨vm₁, mk, _, X₁, X₁.named hnamed, hdg, fun target h => hstep₁ _ fun acts => by rw [doInvoke_state]; exact h⟩
end XCalls
abbrev xK : Type := Nat → List (Option Value) → List Value → xH → Prop
/-- a cell thrown at pc -/
def xthr (g : xG) (I : xI) (K : xR → xH → Prop) (d pc : Nat) (ls : List (Option Value)) (σ : xH) (q : Nat) : Prop := match iT I with
  | [] => K (.inr q) σ
  | _ => VX g I K d pc ls σ q
/-- behind a call -/
def xcont (g : xG) (I : xI) (K : xR → xH → Prop) (d pc len : Nat) (ls : List (Option Value)) (rest : List Value) (k : xK) : xR → xH → Prop := fun r σ => match r with
  | .inl v => k (pc + len) ls (v.toList ++ rest) σ
  | .inr q => xthr g I K d pc ls σ q
theorem lh_size {arr : Array Slot} {n : Nat} {ls : List (Option Value)} (h : lh arr n ls) : arr.size = n := h.1
theorem VX.out {g : xG} {I : xI} {K : xR → xH → Prop} {d pc : Nat} {ls : List (Option Value)} {σ : xH} {q cq : Nat} {fs : List Value} (hT : iT I = []) (hq : σ.1 q = some (ob cq fs)) (h : K (.inr q) σ) : VX g I K d pc ls σ q := by
  intro hg p e s m args below meth c hX H locs arr cells slots st hS hL hA T hT9 X
  have htab : ∀ x ∈ c.exceptionTable.toList, covers x pc = false := by
    have h9 := hX.2.2.2.2.2.2.2.1
    rw [hT] at h9
    intro x hx
    have : c.exceptionTable.toList = [] := List.map_eq_nil_iff.mp h9
    rw [this] at hx
    cases hx
  obtain ⟨st1, hrun, hend, hW, hsm⟩ := X.leaveThrown q (g := F0 m pc arr st) rfl rfl rfl htab hX.2.2.2.2.2.1
  have hS' : xSt g σ (T.setFrames (.throwing q :: below)).heap := by
    show xSt g σ T.heap
    rw [hT9]; exact hS
  refine ⟨_, st1, .threw q, hrun, hend, σ, locs, hS', hW, ?_, hL, Or.inr ⟨q, cq, fs, rfl, hq, h⟩⟩
  have := same_exact hsm
  rw [← hS'.1, ← hS'.2.1]
  exact this
theorem xthr.vx {g : xG} {I : xI} {K : xR → xH → Prop} {d pc : Nat} {ls : List (Option Value)} {σ : xH} {q cq : Nat} {fs : List Value} (hq : σ.1 q = some (ob cq fs)) (h : xthr g I K d pc ls σ q) : VX g I K d pc ls σ q := by
  unfold xthr at h
  split at h
  · next hT => exact VX.out hT hq h
  · exact h
theorem cat_sum : ∀ (r : List Value), (r.map fun v => v.category).sum ≤ 2 * r.length
  | [] => by simp
  | v :: r => by
    have := cat_sum r
    rcases lv_cat v with h | h <;> simp [h] <;> omega
/-- THE RULE OF THE CALL -/
theorem xcall {g : xG} {I I' : xI} {K : xR → xH → Prop} {d pc n len : Nat} {ls : List (Option Value)} {st rest av : List Value} {σ : xH} {k : xK} (hk : ∀ pc ls st σ, k pc ls st σ → VW g I K d pc ls st σ) (hm : xMk I' n) (hd : 1 ≤ d) (hr : rest.length ≤ 16) (hC : Ctr g (d - 1) I' av σ (xcont g I K d pc len ls rest k))
    (inv : GOk g → ∀ (p : Program) (e : Env) (s : State) (m : MethodId) (args : Array Value) (below : List Frame) (meth : Method) (c : Code), xX g I p s m meth c → ∀ (H : Heap) (arr : Array Slot), xSt g σ H → ∀ (T : State) (locs : List Loc) (cells slots : Nat), T.heap = H → Stand p (gL g) e (xRm g d s.heap.size (hz s.heap)) s m args below meth c T locs cells slots → xInv p (gL g) e (xRm g d s.heap.size (hz s.heap)) s m args below meth c T locs cells slots (F0 m pc arr st) rest (iY I') av len) :
    VW g I K d pc ls st σ := by
  intro hg p e s m args below meth c hX H locs arr cells slots hS hL hA
  refine W.exact ?_
  intro T hT X
  obtain ⟨vm₁, mk, ins, X₁, hn, hdg, hst⟩ := inv hg p e s m args below meth c hX H arr hS T locs _ _ hT X
  have hWm : (gB g).WarmedH vm₁ := State.WarmedH.trans hX.2.2.2.2.2.2.1 X₁.warmed
  have hsz : s.heap.size ≤ H.size := by rw [← hT]; exact X.same.2.1
  have hzz : hz s.heap ≤ hz H := by
    have h9 := hz_drop X.same
    have h8 : hz (T.setVm s.vm).heap = hz T.heap := rfl
    rw [h8] at h9
    rw [← hT, h9]
    exact Nat.le_add_right _ _
  obtain ⟨m1, m2, m3, m4, m5, m6⟩ := hm
  have hroom : d - 1 + 1 ≤ (xRm g d s.heap.size (hz s.heap)).frames := by show d - 1 + 1 ≤ d; omega
  have hloc : 34 + (iL I' + 11) + 64 * (d - 1) ≤ (xRm g d s.heap.size (hz s.heap)).locals := by show _ ≤ 64 * d; omega
  have hb := xback (R := xRm g d s.heap.size (hz s.heap)) (p := p) (e := e) (below := below) (s := s) (sargs := args) (len := len) (W9 := 34) hg hC hroom hloc m1 m2
  have hs7 := hS.2.2.2.2.2.2.1
  have hs8 := hS.2.2.2.2.2.2.2.1
  have hpre : xPre g (xRm g d s.heap.size (hz s.heap)) σ av ⟨T.setVm vm₁, locs, H.size - s.heap.size, hz H - hz s.heap⟩ av.toArray := by
    refine ⟨rfl, ?_, hWm, ?_, ?_⟩
    · show xSt g σ T.heap
      rw [hT]; exact hS
    · show H.size - s.heap.size + (gN g - σ.2.1) ≤ gN g - s.heap.size
      rw [hS.1] at hsz ⊢
      omega
    · show hz H - hz s.heap + (gW g - σ.2.2) ≤ gW g - hz s.heap
      rw [hS.2.1] at hzz ⊢
      omega
  rcases hb m meth c ⟨T.setVm vm₁, locs, H.size - s.heap.size, hz H - hz s.heap⟩ { F0 m pc arr st with stack := rest } ins mk av.toArray X₁ rfl (by rw [hX.2.2.2.1]; exact lh_size hA) hdg (by show 2 * 0 + (rest.map fun v => v.category).sum ≤ 34; have := cat_sum rest; omega) hn hpre with ⟨v, B, X', ⟨σ', L, q1, hK1, hl1, hL1⟩, hsteps⟩ | ⟨q, B, X', ⟨σ', L, c9, fs, q1, hq, hK1, hl1, hL1⟩, hsteps⟩
  · have hown : ∀ q ∈ B.locs, g0 g ≤ q.base := by
      rw [hl1]
      intro q hq
      rcases List.mem_append.mp hq with h | h
      · exact hL q h
      · exact hL1 q h
    obtain ⟨t, a1, b1⟩ := hk _ _ _ _ hK1 hg p e s m args below meth c hX B.U.heap B.locs arr B.cells B.slots q1 hown hA B.U rfl X'
    exact ⟨t, hst t (hsteps.trans a1), b1⟩
  · have hown : ∀ q ∈ B.locs, g0 g ≤ q.base := by
      rw [hl1]
      intro q hq
      rcases List.mem_append.mp hq with h | h
      · exact hL q h
      · exact hL1 q h
    obtain ⟨t, a1, b1⟩ := (xthr.vx hq hK1) hg p e s m args below meth c hX B.U.heap B.locs arr B.cells B.slots rest q1 hown hA B.U rfl X'
    exact ⟨t, hst t (hsteps.trans a1), b1⟩
