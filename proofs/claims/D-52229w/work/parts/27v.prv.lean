/-! ===== a method that is its own maker's alone, called on an object of a class below ===== -/
section XPrv
variable {p : Program} {l : Launch} {e : Env} {R : Room} {s : State} {m : MethodId} {args : Array Value} {below : List Frame} {meth : Method} {c : Code} {T : State} {locs : List Loc} {cells slots : Nat}
theorem inv_pv (X : Stand p l e R s m args below meth c T locs cells slots) (hexec : p.tables.exec = Jvm.exec) {own : String} {index n : Nat} {I : xI} (hown : s.vm.findClass own = some m.cls)
    (hlink : (Cond.methodLink own index (iY I)).before args s = true) (hsame : (Cond.sameMethod (iY I).cls (iY I).cls (iY I).name (iY I).desc).before args s = true) (hinst : (Cond.instanceMethod (iY I)).before args s = true) (hpriv : (Cond.privateMethod (iY I)).before args s = true) (hcode : (xCode I).before args s = true)
    (hy : (iY I).cls ≠ "java/lang/invoke/MethodHandle" ∧ (iY I).cls ≠ "java/lang/invoke/VarHandle") (hp : (parseMethodDescriptor (iY I).desc).map (fun d => d.parameters.length) = some n)
    {b : Addr} {cellB : Cell} (hcell : T.heap[b]? = some cellB) (hobj : cellB.vm.isStatics = false)
    {gf : JFrame} (hg : gf.method = m) {av rest : List Value} (hn : av.length = n) (hstack : gf.stack = av.reverse ++ .ref b :: rest) (hdg : decode c.code gf.pc = .ok (.invokevirtual index, 3)) :
    xInv p l e R s m args below meth c T locs cells slots gf rest (iY I) (.ref b :: av) 3 := by
  obtain ⟨mk, methM, hnamed, hmethM, hstM, habM⟩ := Cond.instanceMethod_spec hinst
  obtain ⟨methM', cM, hmethM', -, -, -, -, -, -, hsigM⟩ := xcode_spec hnamed hcode
  cases hmethM.symm.trans hmethM'
  obtain ⟨cn, ck, r1, hcn, hck, hni, hf, hn1⟩ := Cond.sameMethod_found hsame
  have hcm : cn = mk.cls := Option.some.inj (hcn.symm.trans (findClass_of_methodNamed hnamed))
  subst hcm
  have hpr : methM.isPrivate = true := (Cond.privateMethod_at hpriv) mk methM hnamed hmethM
  have hselP : selectMethod e.platform s.vm cellB.cls mk = .method mk := selectMethod_private hmethM hpr
  obtain ⟨vm₁, X₁, hstep₁⟩ := X.invokevirtual hexec hown hlink hnamed hmethM hstM hck hni hy (a := b) (cell := cellB) hcell (fun z h => by rw [h] at hobj; cases hobj) hselP hmethM habM hck hni (g := gf) hg (argsL := av) (rest := rest) (hn.trans (len_of hp hsigM)) hstack hdg
  exact ⟨vm₁, mk, _, X₁, X₁.named hnamed, hdg, fun target h => hstep₁ _ fun acts => by rw [doInvoke_state]; exact h⟩
end XPrv
theorem VW.prv {g : xG} {I I' : xI} {K : xR → xH → Prop} {d pc idx n : Nat} {ls : List (Option Value)} {rest av : List Value} {σ : xH} {a ci : Nat} {fs : List Value} {q : vw_C}
    (hd : xd I pc = some (.invokevirtual idx, 3)) (hm : xMk I' n) (hl : Cond.methodLink (ocN (iO I)) idx (iY I') ∈ lw_all) (hsm : Cond.sameMethod (iY I').cls (iY I').cls (iY I').name (iY I').desc ∈ lw_all) (hpv : Cond.privateMethod (iY I') ∈ lw_tbl) (hin : Cond.instanceMethod (iY I') ∈ lw_all)
    (hn : av.length = n) (ha : σ.1 a = some (ob ci fs)) (hc : CL[ci]? = some q) (hd1 : 1 ≤ d) (hr : rest.length ≤ 16)
    (hC : Ctr g (d - 1) I' (.ref a :: av) σ (xcont g I K d pc 3 ls rest (VW g I K d))) : VW g I K d pc ls (av.reverse ++ .ref a :: rest) σ := by
  refine xcall (fun _ _ _ _ h => h) hm hd1 hr hC ?_
  intro hg p e s m args below meth c hX H arr hS T9 locs cells slots hT9 X9
  obtain ⟨m1, m2, m3, m4, m5, m6⟩ := hm
  obtain ⟨cell, q1, q3, q2, -⟩ := hS.recv hg ha (xwarm hX) hc
  obtain ⟨b9, hb9⟩ := hg.tbl hpv
  exact inv_pv X9 hX.1 (xown hX) (hg.word hl (xwarm hX) _) (hg.word hsm (xwarm hX) _) (hg.word hin (xwarm hX) _) (Cond.privateMethod_warm (xwarm hX) hb9) (hg.word m1 (xwarm hX) _) m3 m4 (by rw [hT9]; exact q1) q3 rfl hn rfl (by rw [hX.2.1]; exact xd_to hd)
