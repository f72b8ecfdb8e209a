/-! ===== Unsafe.getLong out of a byte array of the run's own ===== -/
def gLn : MethodName := ⟨"jdk/internal/misc/Unsafe", "getLong", "(Ljava/lang/Object;J)J"⟩
abbrev gLr : NativeRow := Native.jdk_internal_misc_Unsafe.memory.getRow "Long" "J" .long "" .plain
theorem gL_or {α : Type 1} {x y r : Option α} (h : x.isNone = true) (k : y = r) : x.or y = r := by
  cases x with
  | none => exact k
  | some a => cases h
set_option maxRecDepth 1000000 in
set_option maxHeartbeats 8000000 in
theorem gL_find : NativeRow.find? Jvm.natives "jdk/internal/misc/Unsafe" "getLong" "(Ljava/lang/Object;J)J" = some gLr := by
  unfold NativeRow.find? Jvm.natives
  simp only [List.find?_append, Option.or_assoc]
  iterate 102 (refine gL_or ?_ ?_; · decide +kernel)
  rfl
theorem gL_row (p : Program) : NativeRow.find? p.tables.natives "jdk/internal/misc/Unsafe" "getLong" "(Ljava/lang/Object;J)J" = some gLr := by
  cases p <;> exact gL_find
/-- a byte as a number below 256; eight of them as one number, the first the lowest -/
def uB (x : Int32) : Nat := x.toUInt32.toNat % 256
def pk8 (f : Nat → Int32) : Nat := uB (f 0) + 256 * (uB (f 1) + 256 * (uB (f 2) + 256 * (uB (f 3) + 256 * (uB (f 4) + 256 * (uB (f 5) + 256 * (uB (f 6) + 256 * uB (f 7)))))))
theorem gL_lin (x y k : Nat) : x * 2 ^ (8 * k) + y * 2 ^ (8 * k + 8) = (x + 256 * y) * 2 ^ (8 * k) := by
  rw [Nat.pow_add, Nat.add_mul, Nat.mul_comm 256 y, Nat.mul_assoc, Nat.mul_comm 256]
/-- numbers of 256 each, from the k-th place on -/
def gLs : List Nat → Nat
  | [] => 0
  | a :: l => a + 256 * gLs l
theorem gL_all : ∀ (l : List Nat) (k : Nat), (List.map (fun x : Nat × Nat => x.fst * 2 ^ (8 * x.snd)) (l.zipIdx k)).sum = gLs l * 2 ^ (8 * k)
  | [], k => by simp [gLs]
  | a :: l, k => by
    rw [List.zipIdx_cons, List.map_cons, List.sum_cons, gL_all l (k + 1), gLs, ← gL_lin, Nat.mul_add]
theorem gL_sum (a b c d e f g h : Nat) : (List.map (fun x : Nat × Nat => x.fst * 2 ^ (8 * x.snd)) ([h, g, f, e, d, c, b, a].reverse).zipIdx).sum = a + 256 * (b + 256 * (c + 256 * (d + 256 * (e + 256 * (f + 256 * (g + 256 * h)))))) := by
  rw [gL_all]
  rw [Nat.mul_zero, Nat.pow_zero, Nat.mul_one]
  rfl
theorem gL_wp {E : CtlPost} {e : Env} {d : Bool} {acts : List Action} {s : State} {a : Addr} {A : Cell} {k : Class} {comp : ClassId} {f : Nat → Int32} (hA : s.heap[a]? = some A) (hvm : A.vm = .none) (hk : s.vm.classes[A.cls]? = some k) (hkind : k.kind = .array comp .byte) (hf : ∀ i, i < 8 → A.slots[i]? = some (.int (f i)))
    {Q : Value → Jvm.Pre} (hQ : ∀ d' acts', Q (.long (pk8 f).toUInt64.toInt64) d' acts' s) : wp (UnsafeMem.get .long (.ref a) 16 .plain) Q E e d acts s := by
  have h16 : (16 : Int64).toNatClampNeg = 16 := by decide
  have hr : List.range (UnsafeMem.scaleOf .long) = [0, 1, 2, 3, 4, 5, 6, 7] := rfl
  have rb : ∀ (i : Nat) (x : Int32) (d : Bool) (acts : List Action) (Q : Nat → Jvm.Pre), A.slots[i]? = some (.int x) → (∀ acts', Q (uB x) d acts' s) → wp (UnsafeMem.readByte a .byte i .plain) Q E e d acts s := by
    intro i x d acts Q h hq
    simp [UnsafeMem.readByte, UnsafeMem.scaleOf, UnsafeMem.bitsOf, hA, hvm, h, Nat.mod_one]
    exact hq _
  have lo : ∀ (d : Bool) (acts : List Action) (Q : UnsafeMem.Target → Jvm.Pre), Q (UnsafeMem.Target.bytes a .byte 0) d acts s → wp (UnsafeMem.locate (.ref a) 16 .long) Q E e d acts s := by
    intro d acts Q hq
    simp [UnsafeMem.locate, h16, hA, Cell.info, hvm, hk, hkind, UnsafeMem.arrayBase, UnsafeMem.scaleOf, UnsafeMem.isRefType]
    exact hq
  unfold UnsafeMem.get
  simp only [wp_bind']
  refine lo _ _ _ ?_
  simp only [hr, List.mapM, List.mapM.loop, wp_bind', wp_pure']
  refine rb _ _ _ _ _ (hf 0 (by decide)) (fun _ => ?_)
  simp only [wp_bind', wp_pure']
  refine rb _ _ _ _ _ (hf 1 (by decide)) (fun _ => ?_)
  simp only [wp_bind', wp_pure']
  refine rb _ _ _ _ _ (hf 2 (by decide)) (fun _ => ?_)
  simp only [wp_bind', wp_pure']
  refine rb _ _ _ _ _ (hf 3 (by decide)) (fun _ => ?_)
  simp only [wp_bind', wp_pure']
  refine rb _ _ _ _ _ (hf 4 (by decide)) (fun _ => ?_)
  simp only [wp_bind', wp_pure']
  refine rb _ _ _ _ _ (hf 5 (by decide)) (fun _ => ?_)
  simp only [wp_bind', wp_pure']
  refine rb _ _ _ _ _ (hf 6 (by decide)) (fun _ => ?_)
  simp only [wp_bind', wp_pure']
  refine rb _ _ _ _ _ (hf 7 (by decide)) (fun _ => ?_)
  rw [wp_pure', wp_pure']
  have fin : ∀ X : Nat, X = pk8 f → ∀ acts' : List Action, Q (UnsafeMem.ofBits .long X) d acts' s := fun X hX acts' => by rw [hX]; exact hQ _ _
  refine fin _ ?_ _
  exact gL_sum _ _ _ _ _ _ _ _
theorem gL_steps (p : Program) {e : Env} {below : List Frame} {s target : State} {g : JFrame} {c : Code} {m : MethodId} {meth : Method} {k : Class} {ig : Instr} {len : Nat} (h : At s g.method c below) (acts : List Action)
    (N : NativeOf s.vm m k meth "jdk/internal/misc/Unsafe" "getLong" "(Ljava/lang/Object;J)J" false [.object "java/lang/Object", .long])
    {u a : Addr} {A : Cell} {kA : Class} {comp : ClassId} {f : Nat → Int32}
    (hroom : e.platform.stackFull (((s.setTop g).threads[(s.setTop g).cur]?).getD { frames := [] }) (s.setTop g).frames (nativeFrameWords "jdk/internal/misc/Unsafe" "getLong" 4) = false)
    (hA : s.heap[a]? = some A) (hvm : A.vm = .none) (hk : s.vm.classes[A.cls]? = some kA) (hkind : kA.kind = .array comp .byte) (hf : ∀ i, i < 8 → A.slots[i]? = some (.int (f i)))
    (hdg : decode c.code g.pc = .ok (ig, len))
    (hrest : Steps p.tables e below (s.setTop { g with pc := g.pc + len, stack := .long (pk8 f).toUInt64.toInt64 :: g.stack }) target) :
    Steps p.tables e below (doInvoke e (s.setTop g) acts m #[.ref u, .ref a, .long 16]).1 target := by
  have hseen : seenByNative meth #[.ref u, .ref a, .long 16] = #[.ref u, .ref a, .long 16] := by simp [seenByNative, N.static, N.sig, narrow]
  refine Steps.nativeEnds (row := gLr) (v := some (.long (pk8 f).toUInt64.toInt64)) (T := id) h acts N.cls N.meth N.boot N.native N.noCode N.noLock
    (by rw [N.className, N.name, N.desc]; exact gL_row p) (by rw [N.className, N.name]; exact hroom) (fun _ => rfl) rfl (fun _ => h.code) ?_ hdg hrest
  intro Q hq
  rw [hseen] at hq ⊢
  show wp (do let v ← UnsafeMem.get .long (.ref a) 16 .plain; mark "nat.jdk_internal_misc_Unsafe.get"; Pure.pure (some v)) Q _ e false [] _
  simp only [wp_bind']
  refine gL_wp (s := (s.setTop g).pushFrame (.native { method := m, args := #[.ref u, .ref a, .long 16], locked := none })) (A := A) (k := kA) (comp := comp) (f := f) hA hvm hk hkind hf (fun d' acts' => ?_)
  simp
  exact hq _ _
theorem VW.getL {g : xG} {I : xI} {K : xR → xH → Prop} {d pc idx : Nat} {ls : List (Option Value)} {rest : List Value} {σ : xH} {u a n : Nat} {f : Nat → Int32}
    (hd : xd I pc = some (.invokevirtual idx, 3)) (hl : Cond.methodLink (ocN (iO I)) idx gLn ∈ lw_all) (hd1 : 1 ≤ d) (hr : rest.length ≤ 10) (hu : σ.1 u = some (ob 50 [])) (ha0 : g0 g ≤ a) (h1 : σ.1 a = some (ai 1 n f)) (hn : 8 ≤ n)
    (next : VW g I K d (pc + 3) ls (.long (pk8 f).toUInt64.toInt64 :: rest) σ) : VW g I K d pc ls (.long 16 :: .ref a :: .ref u :: rest) σ := by
  intro hg p e s m args below meth c hX H locs arr cells slots hS hL hA
  intro T hT X
  obtain ⟨cell, q1, q3, q2, -⟩ := hS.recv hg hu (xwarm hX) (q := ("jdk/internal/misc/Unsafe", TX24e, 0)) rfl
  have hinst : (Cond.instanceMethod gLn).before args s = true := hg.word q1356 (xwarm hX) _
  have hsel : (Cond.selects "jdk/internal/misc/Unsafe" gLn gLn).before args s = true := hg.word q1357 (xwarm hX) _
  have hnat : (Cond.native gLn).before args s = true := hg.word q1358 (xwarm hX) _
  have hlink : (Cond.methodLink (ocN (iO I)) idx gLn).before args s = true := hg.word hl (xwarm hX) _
  obtain ⟨r, kO, methO, hnO, hmO, hkO, N⟩ := NativeOf.of_instance hnat hinst (ps := [.object "java/lang/Object", .long]) (ret := some .long) (by decide +kernel)
  obtain ⟨r', methO', hnO', hmO', hstM, habM⟩ := Cond.instanceMethod_spec hinst
  cases hnO.symm.trans hnO'
  cases hmO.symm.trans hmO'
  obtain ⟨c2, r2, m2, p1, p2, p3, p4, kP, hkP, hkPi⟩ := Cond.selects_spec hsel
  cases q2.symm.trans p1
  have hy : gLn.cls ≠ "java/lang/invoke/MethodHandle" ∧ gLn.cls ≠ "java/lang/invoke/VarHandle" := ⟨by decide +kernel, by decide +kernel⟩
  cases (State.methodFound?_of_named hnO hy).symm.trans p2
  cases hnO.symm.trans p3
  have hselP : selectMethod e.platform s.vm cell.cls r = .method r := by rw [Launch.admits_selectMethod X.admits]; exact p4
  obtain ⟨vm₁, X₁, hstep₁⟩ := X.invokevirtual hX.1 (xown hX) hlink hnO hmO hstM hkP hkPi hy (a := u) (cell := cell) (by rw [hT]; exact q1) (fun z h => by rw [h] at q3; cases q3) hselP hmO habM hkP hkPi
    (g := F0 m pc arr (.long 16 :: .ref a :: .ref u :: rest)) rfl (argsL := [.ref a, .long 16]) (rest := rest) (by rw [N.sig]; rfl) rfl (by rw [hX.2.1]; exact xd_to hd)
  obtain ⟨kO', N'⟩ := N.alike X₁.warmed.alike
  have hc := xarr hS h1 ha0
  obtain ⟨-, k0, hk0, cm0, hkk0⟩ := (hg.ar (k := 1) rfl (xwarm hX)).1 0 (fun _ => .null)
  obtain ⟨kA', hkA', hke⟩ := X₁.warmed.alike.2.2 _ _ hk0
  have hkind : kA'.kind = .array cm0 .byte := by rw [hke]; exact hkk0
  obtain ⟨t, a1, b1⟩ := next hg p e s m args below meth c hX H locs arr cells slots hS hL hA (T.setVm vm₁) hT X₁
  refine ⟨t, hstep₁ t (fun acts => ?_), b1⟩
  exact gL_steps (g := F0 m pc arr rest) (ig := .invokevirtual idx) (len := 3) p X₁.here acts N' (A := vp_cell (gA g 1) (n, .inl f)) (kA := kA') (comp := cm0)
    (X₁.notFull (g := F0 m pc arr rest) (by show arr.size = _; rw [hX.2.2.2.1]; exact lh_size hA) (vars := nativeFrameWords "jdk/internal/misc/Unsafe" "getLong" 4) hd1 (by show 2 * 0 + (rest.map fun v => v.category).sum + (nativeFrameWords "jdk/internal/misc/Unsafe" "getLong" 4 + 11) ≤ 64 * d; have hw : nativeFrameWords "jdk/internal/misc/Unsafe" "getLong" 4 = 6 := (by decide +kernel); have := cat_sum rest; omega))
    (show T.heap[a]? = _ by rw [hT]; exact hc) (vp_vm _ _) (by rw [vp_cls]; exact hkA') hkind (fun i hi => by show (arrV _ _ _).slots[_]? = _; rw [arrV_read _ _ (by omega)]) (by rw [hX.2.1]; exact xd_to hd) a1
/-- an int out of the pool, by a wide index -/
theorem VW.ldwI {g : xG} {I : xI} {K : xR → xH → Prop} {d pc idx : Nat} {ls : List (Option Value)} {st : List Value} {σ : xH} {v : Int32} (hd : xd I pc = some (.ldc_w idx, 3)) (hc : Cond.constant (ocN (iO I)) idx v ∈ lw_all) (next : VW g I K d (pc + 3) ls (.int v :: st) σ) : VW g I K d pc ls st σ := by
  intro hg p e s m args below meth c hX H locs arr cells slots hS hL hA
  exact lv_ldcw hX.1 hX.2.1 (xown hX) (hg.word hc (xwarm hX) _) (xd_to hd) (next hg p e s m args below meth c hX H locs arr cells slots hS hL hA)
