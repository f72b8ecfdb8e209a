/-! ===== a call into a class of which no word says that it is initialised: the machine asks it of static calls alone ===== -/
/-- what an invocation has at its start -/
def xAp (g : xG) (d : Nat) (I : xI) (σ : xH) (e : Env) (s : State) (m : MethodId) (args : Array Value) (below : List Frame) : Prop :=
  s.status = .running ∧ s.curStatus? = some .runnable ∧ s.alone = true ∧ s.methodNamed? (iY I) = some m ∧ s.hears m below = true ∧ s.hasRoom e.platform (xRm g d σ.2.1 σ.2.2) = true ∧ (xCode I).before args s = true
def CtrC (g : xG) (d : Nat) (I : xI) (av : List Value) (σ : xH) (K : xR → xH → Prop) : Prop := GOk g →
  ∀ (p : Program) (e : Env), (gL g).admits e → FairCas e.choices → FairClock e.choices → ∀ (s : State) (m : MethodId) (args : Array Value) (below : List Frame), s.frames = .invoking m args :: below →
  xAp g d I σ e s m args below → (args = av.toArray ∧ xSt g σ s.heap ∧ (gB g).WarmedH s.vm) →
  ∃ n o, (∀ k, k < n → Within (stepsAlone p.tables e k s) below) ∧ (stepsAlone p.tables e n s).status = .running ∧ Ended (stepsAlone p.tables e n s) below o ∧ xQ g K s o (stepsAlone p.tables e n s)
theorem CtrC.of {g : xG} {d : Nat} {I : xI} {av : List Value} {σ : xH} {K : xR → xH → Prop} (hy : plainFor (iY I) = true) (ho : ocN (iO I) = (iY I).cls) (hl : (lent av).length ≤ iL I) (h : VW g I K d 0 (lpad (iL I) (lent av)) [] σ) : CtrC g d I av σ K := by
  intro hg p e ha hc hk s m args below hf happ hP
  obtain ⟨hrun, hable, halone, hname, hhears, hroom, hpre⟩ := happ
  obtain ⟨rfl, hS, hW⟩ := hP
  obtain ⟨meth, c, hmeth, hcode, hbytes, hlocals, hret, hlocks, h7, -⟩ := xcode_spec hname hpre
  have hcur := State.cur_lt_of_frames hf
  have hf1 : (s.setFrames (.java (entryFrame m av.toArray (iL I)) :: below)).frames = .java (entryFrame m av.toArray (iL I)) :: below :=
    State.frames_setFrames _ hcur
  have ht1 := State.topJava?_of_frames hf1
  have hplain : (s.setFrames (.java (entryFrame m av.toArray (iL I)) :: below)).plainMethod m := State.plainMethod.of_named (s := s) hy hname hmeth
  have hAt : At (s.setFrames (.java (entryFrame m av.toArray (iL I)) :: below)) m c below :=
    ⟨by rw [ht1]; rfl, ⟨[], by rw [hf1]; rfl⟩, hrun, by simpa using hable, by simpa using halone,
      by rw [State.code?_eq]; simp [State.setFrames, hmeth, hcode], hplain⟩
  have hstep : (stepThread p.tables e s).1 = (s.setFrames (.java (entryFrame m av.toArray (iL I)) :: below)).setTop (entryFrame m av.toArray (iL I)) := by
    have hfull : e.platform.stackFull (s.setFrames below).me (s.setFrames below).frames c.maxLocals = false := by
      obtain ⟨-, h1, -, h2⟩ := State.hasRoom_stack hroom
      rw [hf, List.length_cons] at h1
      rw [State.localsInUse_invoking hf hmeth hcode] at h2
      have hw := stackUse_le_stackWeight below
      rw [State.frames_setFrames _ hcur]
      exact Platform.stackFull_eq_false (by rw [State.stackLimits_setFrames]; omega) (by rw [State.stackLimits_setFrames]; omega)
    rw [stepThread_invoking hf, (doInvoke_java (s := s.setFrames below) (e := e) (meth := meth) (code := c) hmeth hcode hlocks hfull).1, State.setTop_self ht1]
    simp only [State.pushFrame, State.frames_setFrames _ hcur, State.setFrames_setFrames, hlocals, entryFrame]
  obtain ⟨t0, ht0, -⟩ := State.frames_cons hf
  have hX₀ : Stand p (gL g) e (xRm g d σ.2.1 σ.2.2) s m av.toArray below meth c (s.setFrames (.java (entryFrame m av.toArray (iL I)) :: below)) [] 0 0 := by
    refine ⟨ha, hc, hk, hf, hroom, hhears, hmeth, hcode, hAt, by rw [hf1]; rfl, State.WarmedH.refl s, by rw [State.stackLimits_setFrames], by rw [State.stackBytes_setFrames], ?_⟩
    exact (State.sameButNew.refl s ht0).setFrames (.java (entryFrame m av.toArray (iL I)) :: below) hcur
  have hX : xX g I p s m meth c := ⟨by cases p <;> rfl, hbytes, hret, hlocals, findClass_of_methodNamed hname, hlocks, hW, h7, (name_of_methodNamed hname hmeth).1, by have := hS.2.2.1; rw [← hS.1] at this; exact this, ho⟩
  have hle := lv_entry av (n := iL I) (by rw [← lent_len]; exact hl)
  have hlh : lh (((lg_sl av) ++ List.replicate (iL I - (lg_sl av).length) Slot.unset).toArray) (iL I) (lpad (iL I) (lent av)) := by
    unfold lh lpad
    rw [lass_app, lent_args]
    exact hle
  have k := h hg p e s m av.toArray below meth c hX s.heap [] _ 0 0 hS (fun q h => by cases h) hlh
  rw [← lg_entry_eq, hS.1, hS.2.1] at k
  obtain ⟨t, a1, o, b1, b2, b3⟩ := k (s.setFrames (.java (entryFrame m av.toArray (iL I)) :: below)) rfl hX₀
  obtain ⟨n, hn, hw⟩ := Steps.head (tb := p.tables) (e := e) ⟨hrun, hable, halone⟩ ⟨[.invoking m av.toArray], hf, by simp, by simp⟩ (hstep ▸ a1)
  exact ⟨n, o, hw, hn ▸ b1, hn ▸ b2, hn ▸ b3⟩
theorem callC {g : xG} {d : Nat} {I : xI} {av : List Value} {σ : xH} {K : xR → xH → Prop} (hM : CtrC g d I av σ K) (hg : GOk g) (p : Program) {e : Env} (ha : (gL g).admits e) (hc : FairCas e.choices) (hk : FairClock e.choices)
    {s : State} {m : MethodId} {args : Array Value} {acts : List Action} {mid below fr : List Frame}
    (hfr : s.frames = mid ++ below) (hfr9 : s.frames = fr) (happ : xAp g d I σ e (s.pushFrame (.invoking m args)) m args fr) (hP : args = av.toArray ∧ xSt g σ (s.pushFrame (.invoking m args)).heap ∧ (gB g).WarmedH (s.pushFrame (.invoking m args)).vm) :
    ∃ o s₂, Steps p.tables e below (doInvoke e s acts m args).1 s₂ ∧ s₂.status = .running ∧ Ended s₂ s.frames o ∧ xQ g K (s.pushFrame (.invoking m args)) o s₂ := by
  obtain ⟨t, ht⟩ : ∃ t, s.threads[s.cur]? = some t := by
    cases h : s.threads[s.cur]? with
    | some t => exact ⟨t, rfl⟩
    | none =>
      have h9 := happ.2.1
      simp [State.curStatus?, State.pushFrame, State.setFrames, Array.getElem?_modify, h] at h9
  have hlt : s.cur < s.threads.size := (Array.getElem?_eq_some_iff.mp ht).1
  have hf' : (s.pushFrame (.invoking m args)).frames = .invoking m args :: s.frames := State.frames_setFrames _ hlt
  have hgo : (s.pushFrame (.invoking m args)).goesOn := ⟨happ.1, happ.2.1, happ.2.2.1⟩
  subst hfr9
  obtain ⟨n, o, hw, hr, he, hp⟩ := hM hg p e ha hc hk (s.pushFrame (.invoking m args)) m args s.frames hf' happ hP
  have hstep : (stepThread p.tables e (s.pushFrame (.invoking m args))).1 = (doInvoke e s acts m args).1 := by
    rw [stepThread_invoking hf', doInvoke_state e s acts, State.pushFrame, State.setFrames_setFrames, State.setFrames_self ht]
  cases n with
  | zero => exact absurd ⟨[.invoking m args], hf', by simp, by simp⟩ he.not_within
  | succ k =>
    rw [stepsAlone_succ _ hgo, hstep] at hr he hp
    refine ⟨o, _, ⟨k, rfl, fun j hj => ?_⟩, hr, he, hp⟩
    have := hw (j + 1) (by omega)
    rw [stepsAlone_succ _ hgo, hstep, hfr] at this
    exact this.weaken
theorem xbackC {g : xG} {d : Nat} {I : xI} {av : List Value} {σ : xH} {K : xR → xH → Prop} {R : Room} {p : Program} {e : Env} {below : List Frame} {s : State} {sargs : Array Value} {len W9 : Nat} (hg : GOk g) (hM : CtrC g d I av σ K) (hd : d + 1 ≤ R.frames) (hlo : W9 + (iL I + 11) + 64 * d ≤ R.locals) (hc : xCode I ∈ lw_all) :
    vx_Back (gL g) R p e below s sargs (iY I) len W9 (xPre g R σ av) (xPost g K) (xPostX g K) := by
  intro m meth c A gf ig mk a X hgm hsize hdg hW hn hp
  obtain ⟨U, Ls, c0, s0⟩ := A
  dsimp only [Pt.U, Pt.locs, Pt.cells, Pt.slots] at X hn
  obtain ⟨rfl, hS, hWm, hr1, hr2⟩ := hp
  dsimp only [Pt.U, Pt.locs, Pt.cells, Pt.slots] at hS hWm hr1 hr2
  have h2 : (xCode I).before av.toArray U = true := hg.word hc hWm _
  obtain ⟨methY, cY, hmY, hcY, -, hlY, -, -, -, -⟩ := xcode_spec hn h2
  have h : At U gf.method c below := by rw [hgm]; exact X.here
  have hroom9 : (U.calling gf mk av.toArray).hasRoom e.platform (xRm g d σ.2.1 σ.2.2) = true :=
    X.room_calling (g := gf) (R' := xRm g d σ.2.1 σ.2.2) hsize hmY hcY hd (by rw [hlY]; show _ + _ + 64 * d ≤ _; omega) hr1 hr2
  have happ : xAp g d I σ e (U.calling gf mk av.toArray) mk av.toArray (.java gf :: U.frames.tail) := by
    have hcode : (U.calling gf mk av.toArray).code? gf.method = some c := by
      have := h.code
      rw [State.code?_eq] at this ⊢
      simpa [State.calling, State.pushFrame, State.setFrames] using this
    refine ⟨h.running, ?_, ?_, hn, ?_, hroom9, ?_⟩
    · simpa [State.calling] using h.runnable
    · simpa [State.calling] using h.alone
    · simp [State.hears, hcode, hdg, Except.toOption]
    · rw [State.calling_eq h.top, Cond.before_setFrames]; exact h2
  obtain ⟨mid, hmid⟩ := h.above
  have hfr : (U.setTop gf).frames = (.java gf :: mid) ++ below := by rw [State.frames_setTop' gf h.top, hmid]; rfl
  have hPc : av.toArray = av.toArray ∧ xSt g σ (U.calling gf mk av.toArray).heap ∧ (gB g).WarmedH (U.calling gf mk av.toArray).vm := ⟨rfl, hS, hWm⟩
  obtain ⟨o, s₂, hsteps, -, hend, hq⟩ := callC hM hg p X.admits X.cas X.clock (acts := []) hfr (State.frames_setTop' gf h.top) happ hPc
  have hq9 : xQ g K (U.calling gf mk av.toArray) o s₂ := hq
  obtain ⟨σ', L, q1, hW₂, hsm, hL, hres⟩ := hq9
  rw [State.frames_setTop' gf h.top] at hend
  obtain ⟨g₀, hg0⟩ := Option.isSome_iff_exists.mp h.top
  obtain ⟨r, hr⟩ := State.topJava?_eq_some.mp hg0
  have hr' : (({ U with heap := s₂.heap, slotsUsed := s₂.slotsUsed } : State).setVm s₂.vm).frames = .java g₀ :: r := hr
  have hW' : U.WarmedH s₂.vm := hW₂
  obtain ⟨e2, q2, q3, q4, q5, q6⟩ := id hsm
  have e3 : s₂ = ({ (U.calling gf mk av.toArray).setFrames s₂.frames with heap := s₂.heap, slotsUsed := s₂.slotsUsed } : State).setVm s₂.vm := by
    have : s₂ = ({ s₂ with vm := (U.calling gf mk av.toArray).vm } : State).setVm s₂.vm := rfl
    rw [e2] at this
    exact this
  have hsame : U.sameButNew ({ U with heap := s₂.heap, slotsUsed := s₂.slotsUsed } : State) L (σ'.2.1 - U.heap.size) (σ'.2.2 - hz U.heap) := by
    refine ⟨?_, q2, q3, q4, q5, q6⟩
    obtain ⟨t, ht, -⟩ := State.frames_cons hr
    show ({ U with heap := s₂.heap, slotsUsed := s₂.slotsUsed } : State) = { U.setFrames U.frames with heap := s₂.heap, slotsUsed := s₂.slotsUsed }
    rw [State.setFrames_self ht]
  subst hgm
  have XB : Stand p (gL g) e R s gf.method sargs below meth c (({ U with heap := s₂.heap, slotsUsed := s₂.slotsUsed } : State).setVm s₂.vm) (Ls ++ L) (c0 + (σ'.2.1 - U.heap.size)) (s0 + (σ'.2.2 - hz U.heap)) :=
    ⟨X.admits, X.cas, X.clock, X.frames, X.room, X.hears, X.method, X.code, (X.here.setHeapUsed s₂.heap s₂.slotsUsed).setVm hW'.alike, X.tail, State.WarmedH.trans X.warmed hW', X.limits, X.bytes, X.same.trans (hsame.setVm s.vm)⟩
  rcases hres with ⟨v, rfl, hK⟩ | ⟨q, cq, fs, rfl, hqc, hK⟩
  · obtain ⟨c₂, i₂, len₂, hc₂, hd₂, hf₂⟩ := hend
    have hcc : c₂ = c := by
      have h1 : s₂.code? gf.method = U.code? gf.method := by
        rw [State.code?_eq, State.code?_eq, hW'.alike.method?]
      exact Option.some.inj (hc₂.symm.trans (h1.trans h.code))
    subst hcc
    have hlen : len₂ = len := by rw [hdg] at hd₂; cases hd₂; rfl
    subst hlen
    have hs₂ : s₂ = (({ U with heap := s₂.heap, slotsUsed := s₂.slotsUsed } : State).setVm s₂.vm).setTop { gf with pc := gf.pc + len₂, stack := v.toList ++ gf.stack } := by
      refine e3.trans ?_
      rw [hf₂, State.calling_eq h.top, State.setFrames_setFrames, State.setTop_of_frames _ hr', hr]
      rfl
    refine Or.inl ⟨v, ⟨(({ U with heap := s₂.heap, slotsUsed := s₂.slotsUsed } : State).setVm s₂.vm), Ls ++ L, c0 + (σ'.2.1 - U.heap.size), s0 + (σ'.2.2 - hz U.heap)⟩, XB, ⟨σ', L, q1, hK, rfl, hL⟩, ?_⟩
    show Steps p.tables e below _ ((({ U with heap := s₂.heap, slotsUsed := s₂.slotsUsed } : State).setVm s₂.vm).setTop { gf with pc := gf.pc + len₂, stack := v.toList ++ gf.stack })
    rw [← hs₂]
    exact hsteps
  · have hf₂ : s₂.frames = .throwing q :: .java gf :: U.frames.tail := hend
    have hs₂ : s₂ = ((({ U with heap := s₂.heap, slotsUsed := s₂.slotsUsed } : State).setVm s₂.vm).setTop gf).pushFrame (.throwing q) := by
      refine e3.trans ?_
      rw [hf₂, State.calling_eq h.top, State.setFrames_setFrames, State.pushFrame, State.frames_setTop _ hr', State.setTop_of_frames _ hr', State.setFrames_setFrames, hr]
      rfl
    refine Or.inr ⟨q, ⟨(({ U with heap := s₂.heap, slotsUsed := s₂.slotsUsed } : State).setVm s₂.vm), Ls ++ L, c0 + (σ'.2.1 - U.heap.size), s0 + (σ'.2.2 - hz U.heap)⟩, XB, ⟨σ', L, cq, fs, q1, hqc, hK, rfl, hL⟩, ?_⟩
    show Steps p.tables e below _ (((({ U with heap := s₂.heap, slotsUsed := s₂.slotsUsed } : State).setVm s₂.vm).setTop gf).pushFrame (.throwing q))
    rw [← hs₂]
    exact hsteps
def xMkC (I : xI) (n : Nat) : Prop := xCode I ∈ lw_all ∧ ((iY I).cls ≠ "java/lang/invoke/MethodHandle" ∧ (iY I).cls ≠ "java/lang/invoke/VarHandle") ∧ (parseMethodDescriptor (iY I).desc).map (fun d => d.parameters.length) = some n ∧ iL I ≤ 19 ∧ ocN (iO I) = (iY I).cls
/-- THE RULE OF THE CALL -/
theorem xcallC {g : xG} {I I' : xI} {K : xR → xH → Prop} {d pc n len : Nat} {ls : List (Option Value)} {st rest av : List Value} {σ : xH} {k : xK} (hk : ∀ pc ls st σ, k pc ls st σ → VW g I K d pc ls st σ) (hm : xMkC I' n) (hd : 1 ≤ d) (hr : rest.length ≤ 16) (hC : CtrC g (d - 1) I' av σ (xcont g I K d pc len ls rest k))
    (inv : GOk g → ∀ (p : Program) (e : Env) (s : State) (m : MethodId) (args : Array Value) (below : List Frame) (meth : Method) (c : Code), xX g I p s m meth c → ∀ (H : Heap) (arr : Array Slot), xSt g σ H → ∀ (T : State) (locs : List Loc) (cells slots : Nat), T.heap = H → Stand p (gL g) e (xRm g d s.heap.size (hz s.heap)) s m args below meth c T locs cells slots → xInv p (gL g) e (xRm g d s.heap.size (hz s.heap)) s m args below meth c T locs cells slots (F0 m pc arr st) rest (iY I') av len) :
    VW g I K d pc ls st σ := by
  intro hg p e s m args below meth c hX H locs arr cells slots hS hL hA
  refine W.exact ?_
  intro T hT X
  obtain ⟨vm₁, mk, ins, X₁, hn, hdg, hst⟩ := inv hg p e s m args below meth c hX H arr hS T locs _ _ hT X
  have hWm : (gB g).WarmedH vm₁ := State.WarmedH.trans hX.2.2.2.2.2.2.1 X₁.warmed
  have hsz : s.heap.size ≤ H.size := by rw [← hT]; exact X.same.2.1
  have hzz : hz s.heap ≤ hz H := by
    have h9 := hz_drop X.same
    have h8 : hz (T.setVm s.vm).heap = hz T.heap := rfl
    rw [h8] at h9
    rw [← hT, h9]
    exact Nat.le_add_right _ _
  obtain ⟨m1, m3, m4, m5, m6⟩ := hm
  have hroom : d - 1 + 1 ≤ (xRm g d s.heap.size (hz s.heap)).frames := by show d - 1 + 1 ≤ d; omega
  have hloc : 34 + (iL I' + 11) + 64 * (d - 1) ≤ (xRm g d s.heap.size (hz s.heap)).locals := by show _ ≤ 64 * d; omega
  have hb := xbackC (R := xRm g d s.heap.size (hz s.heap)) (p := p) (e := e) (below := below) (s := s) (sargs := args) (len := len) (W9 := 34) hg hC hroom hloc m1
  have hs7 := hS.2.2.2.2.2.2.1
  have hs8 := hS.2.2.2.2.2.2.2.1
  have hpre : xPre g (xRm g d s.heap.size (hz s.heap)) σ av ⟨T.setVm vm₁, locs, H.size - s.heap.size, hz H - hz s.heap⟩ av.toArray := by
    refine ⟨rfl, ?_, hWm, ?_, ?_⟩
    · show xSt g σ T.heap
      rw [hT]; exact hS
    · show H.size - s.heap.size + (gN g - σ.2.1) ≤ gN g - s.heap.size
      rw [hS.1] at hsz ⊢
      omega
    · show hz H - hz s.heap + (gW g - σ.2.2) ≤ gW g - hz s.heap
      rw [hS.2.1] at hzz ⊢
      omega
  rcases hb m meth c ⟨T.setVm vm₁, locs, H.size - s.heap.size, hz H - hz s.heap⟩ { F0 m pc arr st with stack := rest } ins mk av.toArray X₁ rfl (by rw [hX.2.2.2.1]; exact lh_size hA) hdg (by show 2 * 0 + (rest.map fun v => v.category).sum ≤ 34; have := cat_sum rest; omega) hn hpre with ⟨v, B, X', ⟨σ', L, q1, hK1, hl1, hL1⟩, hsteps⟩ | ⟨q, B, X', ⟨σ', L, c9, fs, q1, hq, hK1, hl1, hL1⟩, hsteps⟩
  · have hown : ∀ q ∈ B.locs, g0 g ≤ q.base := by
      rw [hl1]
      intro q hq
      rcases List.mem_append.mp hq with h | h
      · exact hL q h
      · exact hL1 q h
    obtain ⟨t, a1, b1⟩ := hk _ _ _ _ hK1 hg p e s m args below meth c hX B.U.heap B.locs arr B.cells B.slots q1 hown hA B.U rfl X'
    exact ⟨t, hst t (hsteps.trans a1), b1⟩
  · have hown : ∀ q ∈ B.locs, g0 g ≤ q.base := by
      rw [hl1]
      intro q hq
      rcases List.mem_append.mp hq with h | h
      · exact hL q h
      · exact hL1 q h
    obtain ⟨t, a1, b1⟩ := (xthr.vx hq hK1) hg p e s m args below meth c hX B.U.heap B.locs arr B.cells B.slots rest q1 hown hA B.U rfl X'
    exact ⟨t, hst t (hsteps.trans a1), b1⟩
/-- the row: invokevirtual of x, which the receiver's class overrides by I' -/
theorem VW.cold {g : xG} {I I' : xI} {K : xR → xH → Prop} {d pc idx n : Nat} {ls : List (Option Value)} {rest av : List Value} {σ : xH} {a ci : Nat} {fs : List Value} {q : vw_C} {x : MethodName}
    (hd : xd I pc = some (.invokevirtual idx, 3)) (hm : xMkC I' n) (hl : Cond.methodLink (ocN (iO I)) idx x ∈ lw_all) (hsm : Cond.sameMethod x.cls x.cls x.name x.desc ∈ lw_all) (how : x.cls ≠ "java/lang/invoke/MethodHandle" ∧ x.cls ≠ "java/lang/invoke/VarHandle") (hdec : Cond.declares x ∈ lw_tbl)
    (hsel : Cond.selects q.1 x (iY I') ∈ lw_all) (hin : Cond.instanceMethod (iY I') ∈ lw_all) (hpar : (parseMethodDescriptor x.desc).map (fun d => d.parameters.length) = some n)
    (hn : av.length = n) (ha : σ.1 a = some (ob ci fs)) (hc : CL[ci]? = some q) (hd1 : 1 ≤ d) (hr : rest.length ≤ 16)
    (hC : CtrC g (d - 1) I' (.ref a :: av) σ (xcont g I K d pc 3 ls rest (VW g I K d))) : VW g I K d pc ls (av.reverse ++ .ref a :: rest) σ := by
  refine xcallC (fun _ _ _ _ h => h) hm hd1 hr hC ?_
  intro hg p e s m args below meth c hX H arr hS T9 locs cells slots hT9 X9
  obtain ⟨cell, q1, q3, q2, -⟩ := hS.recv hg ha (xwarm hX) hc
  exact inv_u X9 hX.1 (xown hX) (hg.word hl (xwarm hX) _) (hg.word hsm (xwarm hX) _) how (va_Decl.abs (va_Nw.warmD (xwarm hX) (hg.nw hdec rfl))) (hg.word hsel (xwarm hX) _) (hg.word hin (xwarm hX) _) hpar (by rw [hT9]; exact q1) q3 q2 rfl hn rfl (by rw [hX.2.1]; exact xd_to hd)
