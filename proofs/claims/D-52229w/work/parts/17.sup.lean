/-! ===== super.m(..): a method of the superclass, by invokespecial ===== -/
section XSup
variable {p : Program} {l : Launch} {e : Env} {R : Room} {s : State} {m : MethodId} {args : Array Value} {below : List Frame} {meth : Method} {c : Code} {T : State} {locs : List Loc} {cells slots : Nat}
theorem inv_su (X : Stand p l e R s m args below meth c T locs cells slots) (hexec : p.tables.exec = Jvm.exec) {own : String} {index n : Nat} {I : xI} (hown : s.vm.findClass own = some m.cls) (hno : (iY I).name ≠ "<init>")
    (hlink : (Cond.methodLink own index (iY I)).before args s = true) (hsame : (Cond.sameMethod (iY I).cls (iY I).cls (iY I).name (iY I).desc).before args s = true) (hsup : (Cond.superclass own (iY I).cls).before args s = true) (hinst : (Cond.instanceMethod (iY I)).before args s = true) (hcode : (xCode I).before args s = true)
    (hp : (parseMethodDescriptor (iY I).desc).map (fun d => d.parameters.length) = some n)
    {b : Addr} {cellB : Cell} {kB : Class} (hcell : T.heap[b]? = some cellB) (hobj : cellB.vm.isStatics = false) (hkB : s.vm.classes[cellB.cls]? = some kB)
    {gf : JFrame} (hg : gf.method = m) {av rest : List Value} (hn : av.length = n) (hstack : gf.stack = av.reverse ++ .ref b :: rest) (hdg : decode c.code gf.pc = .ok (.invokespecial index, 3)) :
    xInv p l e R s m args below meth c T locs cells slots gf rest (iY I) (.ref b :: av) 3 := by
  obtain ⟨mk, methM, hnamed, hmethM, hstM, habM⟩ := Cond.instanceMethod_spec hinst
  obtain ⟨methM', cM, hmethM', -, -, -, -, -, -, hsigM⟩ := xcode_spec hnamed hcode
  cases hmethM.symm.trans hmethM'
  obtain ⟨ps, dk, kp, hps, hdk, hkp, hsuper, -, -, hnid⟩ := Cond.superclass_spec hown hsup
  have hn9 : s.methodNamed? ⟨(iY I).cls, (iY I).name, (iY I).desc⟩ = some mk := hnamed
  have hpm : ps = mk.cls := Option.some.inj (hps.symm.trans (findClass_of_methodNamed hnamed))
  have hsub : s.vm.isSubclass ps mk.cls = true := by rw [hpm]; simp [Vm.isSubclass, Vm.isSubclassAux]
  obtain ⟨vm₁, X₁, hstep₁⟩ := X.invokespecialUp hexec hown hlink hsame hn9 hmethM hstM habM hno hdk hnid hps hsuper hsub (a := b) (cell := cellB) hcell
    (fun z h => by rw [h] at hobj; cases hobj) hkB (g := gf) hg (argsL := av) (rest := rest) (hn.trans (len_of hp hsigM)) hstack hdg
  exact ⟨vm₁, mk, _, X₁, X₁.named hnamed, hdg, fun target h => hstep₁ target h⟩
end XSup
theorem VW.sup {g : xG} {I I' : xI} {K : xR → xH → Prop} {d pc idx n : Nat} {ls : List (Option Value)} {rest av : List Value} {σ : xH} {a ci : Nat} {fs : List Value} {q : vw_C}
    (hd : xd I pc = some (.invokespecial idx, 3)) (hm : xMk I' n) (hl : Cond.methodLink (ocN (iO I)) idx (iY I') ∈ lw_all) (hsm : Cond.sameMethod (iY I').cls (iY I').cls (iY I').name (iY I').desc ∈ lw_all) (hsp : Cond.superclass (ocN (iO I)) (iY I').cls ∈ lw_all) (hin : Cond.instanceMethod (iY I') ∈ lw_all) (hno : (iY I').name ≠ "<init>")
    (hn : av.length = n) (ha : σ.1 a = some (ob ci fs)) (hc : CL[ci]? = some q) (hd1 : 1 ≤ d) (hr : rest.length ≤ 16)
    (hC : Ctr g (d - 1) I' (.ref a :: av) σ (xcont g I K d pc 3 ls rest (VW g I K d))) : VW g I K d pc ls (av.reverse ++ .ref a :: rest) σ := by
  refine xcall (fun _ _ _ _ h => h) hm hd1 hr hC ?_
  intro hg p e s m args below meth c hX H arr hS T9 locs cells slots hT9 X9
  obtain ⟨m1, m2, m3, m4, m5, m6⟩ := hm
  obtain ⟨cell, q1, q3, q2, -⟩ := hS.recv hg ha (xwarm hX) hc
  obtain ⟨kB, hkB, -⟩ := Vm.findClass_spec q2
  exact inv_su X9 hX.1 (xown hX) hno (hg.word hl (xwarm hX) _) (hg.word hsm (xwarm hX) _) (hg.word hsp (xwarm hX) _) (hg.word hin (xwarm hX) _) (hg.word m1 (xwarm hX) _) m4 (by rw [hT9]; exact q1) q3 hkB rfl hn rfl (by rw [hX.2.1]; exact xd_to hd)
