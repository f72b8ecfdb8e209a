/-! ===== native methods: arraycopy, getClass ===== -/
theorem nnI {z : Int32} (hz : ¬ z < 0) : z.toInt = (z.toNatClampNeg : Int) := by
  have hz0 : (0 : Int) ≤ z.toInt := by
    have := Int32.not_lt.mp hz
    simpa using Int32.le_iff_toInt_le.mp this
  show z.toInt = ((z.toInt.toNat : Nat) : Int)
  omega
theorem acw : nativeFrameWords "java/lang/System" "arraycopy" 5 ≤ 20 := by decide
/-- System.arraycopy of ints or bytes -/
theorem VW.cpyI {g : xG} {I : xI} {K : xR → xH → Prop} {d pc idx : Nat} {ls : List (Option Value)} {rest : List Value} {σ : xH} {src dst kk n0 n1 : Nat} {f f' : Nat → Int32} {ty : FieldType} {sp dp n : Int32}
    (hd : xd I pc = some (.invokestatic idx, 3)) (hl : Cond.methodLink (ocN (iO I)) idx arraycopyName ∈ lw_all) (hd1 : 1 ≤ d) (hr : rest.length ≤ 10) (hkk : kty kk = some ty) (hprim : refKind ty = false)
    (h1 : σ.1 src = some (ai kk n0 f)) (h2 : σ.1 dst = some (ai kk n1 f')) (hown0 : g0 g ≤ dst) (p1 : ¬ sp < 0) (p2 : ¬ dp < 0) (p3 : ¬ n < 0) (p4 : sp.toNatClampNeg + n.toNatClampNeg ≤ n0) (p5 : dp.toNatClampNeg + n.toNatClampNeg ≤ n1)
    (hfit : ∀ i, i < n.toNatClampNeg → fits ty (.int (f (sp.toNatClampNeg + i))) = true)
    (next : VW g I K d (pc + 3) ls rest (xu σ.1 dst (ai kk n1 (va_cpy f f' sp.toNatClampNeg dp.toNatClampNeg n.toNatClampNeg)), σ.2)) : VW g I K d pc ls (.int n :: .int dp :: .ref dst :: .int sp :: .ref src :: rest) σ := by
  intro hg p e s m args below meth c hX H locs arr cells slots hS hL hA
  intro T hT X
  obtain ⟨cs, hc0, hsA, hsu, hsz, -, hsv, -⟩ := xarw hg hS h1 (xwarm hX)
  have hc1 : H[dst]? = some (vp_cell (gA g kk) (n1, .inl f')) := xarr hS h2 hown0
  obtain ⟨hs0, k0, hk0, cm0, hkk0⟩ := hsA _ hkk
  have hsz' : n0 ≤ cs.slots.size := hsz
  have hsv' : ∀ j, j < n0 → cs.slots[j]? = some (.int (f j)) := fun j hj => by rw [hsv j hj]; show (arrV _ _ _).slots[_]? = _; rw [arrV_read _ _ hj]
  obtain ⟨-, k1, hk1, cm1, hkk1⟩ := (hg.ar hkk (xwarm hX)).1 n1 (fun j => .int (f' j))
  obtain ⟨vm', X', step⟩ := X.arraycopy hX.1 (xown hX) (hg.word hl (xwarm hX) _) (hg.word q447 (xwarm hX) _) (hg.word q446 (xwarm hX) _) (hg.word q138 (xwarm hX) _) (src := src) (dst := dst) (cs := cs) (cd := vp_cell (gA g kk) (n1, .inl f')) (srcPos := sp) (destPos := dp) (n := n) (by rw [hT]; exact hc0) (by rw [hT]; exact hc1)
    hs0 (fun _ h => by cases h) hsu (fun h => by cases h) hk0 hk1 hkk0 hkk1 (by simp [hprim]) p1 p2 p3
    (by rw [nnI p1, nnI p3]; omega)
    (by rw [nnI p2, nnI p3]; show ¬ _ > ((arrV (gA g kk) n1 (fun j => .int (f' j))).slots.size : Int); rw [arrV_size]; omega)
    (fun vm₁ _ i hi => by
      have e : cs.slots.getD (sp.toNatClampNeg + i) .null = .int (f (sp.toNatClampNeg + i)) := by
        rw [Array.getD_eq_getD_getElem?, hsv' _ (by omega)]
        rfl
      refine ⟨?_, ?_⟩
      · rw [e]
        exact hfit i hi
      · rw [e]
        exact trivial)
    (g := F0 m pc arr (.int n :: .int dp :: .ref dst :: .int sp :: .ref src :: rest)) rfl (by rw [hX.2.2.2.1]; exact lh_size hA) (rest := rest) rfl (by rw [hX.2.1]; exact xd_to hd) hd1 (by show 2 * 0 + _ + _ ≤ 64 * d; have := cat_sum rest; have := acw; omega)
  have e1 : copied cs (vp_cell (gA g kk) (n1, .inl f')) sp dp n = vp_cell (gA g kk) (n1, .inl (va_cpy f f' sp.toNatClampNeg dp.toNatClampNeg n.toNatClampNeg)) := va_copiedX (fun z => .int z) cs (gA g kk) f f' hsv' p4
  rw [e1] at X' step
  have hl9 : dst < H.size := (Array.getElem?_eq_some_iff.mp hc1).1
  have hheap : ((T.setVm vm').setCell dst (vp_cell (gA g kk) (n1, .inl (va_cpy f f' sp.toNatClampNeg dp.toNatClampNeg n.toNatClampNeg)))).heap = H.setIfInBounds dst (vp_cell (gA g kk) (n1, .inl (va_cpy f f' sp.toNatClampNeg dp.toNatClampNeg n.toNatClampNeg))) := by rw [← hT]; rfl
  have key : xSt g (xu σ.1 dst (ai kk n1 (va_cpy f f' sp.toNatClampNeg dp.toNatClampNeg n.toNatClampNeg)), σ.2) (H.setIfInBounds dst (vp_cell (gA g kk) (n1, .inl (va_cpy f f' sp.toNatClampNeg dp.toNatClampNeg n.toNatClampNeg)))) :=
    hS.put hown0 hc1 (x' := vp_cell (gA g kk) (n1, .inl (va_cpy f f' sp.toNatClampNeg dp.toNatClampNeg n.toNatClampNeg))) (by simp [Array.getElem?_setIfInBounds, hl9]) (by rw [vp_cell_i, vp_cell_i, arrV_size, arrV_size]) (vp_mon _ _ _ _) (by simp) (fun z hz9 => by simp [Array.getElem?_setIfInBounds, Ne.symm hz9]) (show (H.setIfInBounds dst _)[dst]? = some _ by simp [Array.getElem?_setIfInBounds, hl9])
  obtain ⟨t, a1, b1⟩ := next hg p e s m args below meth c hX _ _ arr cells slots key (fun q hq => by
      rcases List.mem_append.mp hq with h | h
      · exact hL q h
      · obtain ⟨z, -, hz⟩ := List.mem_map.mp h
        rw [← hz]
        exact hown0) hA _ hheap X'
  exact ⟨t, step t a1, b1⟩
/-- System.arraycopy of references, in arrays of Object -/
theorem VW.cpyQ {g : xG} {I : xI} {K : xR → xH → Prop} {d pc idx : Nat} {ls : List (Option Value)} {rest : List Value} {σ : xH} {src dst n0 n1 : Nat} {f f' : Nat → Option Nat} {sp dp n : Int32}
    (hd : xd I pc = some (.invokestatic idx, 3)) (hl : Cond.methodLink (ocN (iO I)) idx arraycopyName ∈ lw_all) (hd1 : 1 ≤ d) (hr : rest.length ≤ 10)
    (h1 : σ.1 src = some (aq 3 n0 f)) (h2 : σ.1 dst = some (aq 3 n1 f')) (hown0 : g0 g ≤ dst) (p1 : ¬ sp < 0) (p2 : ¬ dp < 0) (p3 : ¬ n < 0) (p4 : sp.toNatClampNeg + n.toNatClampNeg ≤ n0) (p5 : dp.toNatClampNeg + n.toNatClampNeg ≤ n1)
    (hsto : ∀ i, i < n.toNatClampNeg → sto σ 3 (va_rf (f (sp.toNatClampNeg + i))))
    (next : VW g I K d (pc + 3) ls rest (xu σ.1 dst (aq 3 n1 (va_cpy f f' sp.toNatClampNeg dp.toNatClampNeg n.toNatClampNeg)), σ.2)) : VW g I K d pc ls (.int n :: .int dp :: .ref dst :: .int sp :: .ref src :: rest) σ := by
  intro hg p e s m args below meth c hX H locs arr cells slots hS hL hA
  intro T hT X
  have hkk : kty 3 = some (.object "java/lang/Object") := rfl
  obtain ⟨cs, hc0, hsA, hsu, hsz, -, hsv, -⟩ := xarw hg hS h1 (xwarm hX)
  have hc1 : H[dst]? = some (vp_cell (gA g 3) (n1, .inr (.inr (.inr (.inr f'))))) := xarr hS h2 hown0
  obtain ⟨hs0, k0, hk0, cm0, hkk0⟩ := hsA _ hkk
  have hsz' : n0 ≤ cs.slots.size := hsz
  have hsv' : ∀ j, j < n0 → cs.slots[j]? = some (va_rf (f j)) := fun j hj => by rw [hsv j hj]; show (arrV _ _ _).slots[_]? = _; rw [arrV_read _ _ hj]
  obtain ⟨-, k1, hk1, cm1, hkk1⟩ := (hg.ar hkk (xwarm hX)).1 n1 (fun j => va_rf (f' j))
  obtain ⟨kA, comp, r1, r2, r3, -⟩ := (hg.ar hkk (xwarm hX)).2 (by decide)
  obtain ⟨vm', X', step⟩ := X.arraycopy hX.1 (xown hX) (hg.word hl (xwarm hX) _) (hg.word q447 (xwarm hX) _) (hg.word q446 (xwarm hX) _) (hg.word q138 (xwarm hX) _) (src := src) (dst := dst) (cs := cs) (cd := vp_cell (gA g 3) (n1, .inr (.inr (.inr (.inr f'))))) (srcPos := sp) (destPos := dp) (n := n) (by rw [hT]; exact hc0) (by rw [hT]; exact hc1)
    hs0 (fun _ h => by cases h) hsu (fun h => by cases h) hk0 hk1 hkk0 hkk1 rfl p1 p2 p3
    (by rw [nnI p1, nnI p3]; omega)
    (by rw [nnI p2, nnI p3]; show ¬ _ > ((arrV (gA g 3) n1 (fun j => va_rf (f' j))).slots.size : Int); rw [arrV_size]; omega)
    (fun vm₁ hal i hi => by
      have e : cs.slots.getD (sp.toNatClampNeg + i) .null = va_rf (f (sp.toNatClampNeg + i)) := by
        rw [Array.getD_eq_getD_getElem?, hsv' _ (by omega)]
        rfl
      rw [e]
      have hs9 := hsto i hi
      cases hy : f (sp.toNatClampNeg + i) with
      | none => exact ⟨rfl, trivial⟩
      | some y =>
        rw [hy] at hs9
        obtain ⟨cellV, g1, g2, kC, hkC, g3⟩ : ∃ cellV : Cell, H[y]? = some cellV ∧ cellV.vm.isStatics = false ∧ ∃ kC, s.vm.classes[cellV.cls]? = some kC ∧ s.vm.assignable cellV.cls comp = true := by
          unfold sto at hs9
          have hs8 : (match σ.1 y with
            | some (.inr q) => ac 3 q.1 = true
            | some (.inl q) => (3 : Nat) = 3 ∧ q.1 = 0
            | none => False) := hs9
          split at hs8
          · next q hq =>
            obtain ⟨E, C9, T9, N9, z1, z2, z3⟩ := ac_ok hs8
            obtain ⟨cell, q1, q3, q2, -⟩ := hS.recv hg hq (xwarm hX) z2
            obtain ⟨kV, hkV, -⟩ := Vm.findClass_spec q2
            cases z1
            refine ⟨cell, q1, q3, kV, hkV, ?_⟩
            rcases z3 with z3 | z3
            · have hq2 : s.vm.findClass C9 = some cell.cls := q2
              rw [z3] at hq2
              cases hq2.symm.trans r3
              exact va_asg _ _
            · obtain ⟨c0, t1, f1, f2, f3⟩ := Cond.castable_spec (va_Nw.use (A := args) rfl (va_Nw.warmC (xwarm hX) (hg.nw z3 rfl)))
              have hq2 : s.vm.findClass C9 = some cell.cls := q2
              cases hq2.symm.trans f1
              cases r3.symm.trans f2
              exact f3
          · next q hq =>
            obtain ⟨-, hk0'⟩ := hs8
            obtain ⟨qk, qx⟩ := q
            have hk0'' : qk = 0 := hk0'
            subst hk0''
            obtain ⟨cv, hcv, hvm9, -, -, -, -, hcl⟩ := xarw hg hS hq (xwarm hX)
            have hcl0 := hcl
            have hvm0 : cv.vm.isStatics = false := by
              have z := (hvm9 .int rfl).1
              cases hv : cv.vm with
              | statics w => exact absurd hv (z w)
              | _ => rfl
            have hra : s.vm.findClass "[I" = some (gA g 0) := (hg.ar (k := 0) rfl (xwarm hX)).2 (by decide)
            obtain ⟨kV, hkV, -⟩ := Vm.findClass_spec hra
            obtain ⟨c0, t1, f1, f2, f3⟩ := Cond.castable_spec (va_Nw.use (A := args) rfl (va_Nw.warmC (xwarm hX) (hg.nw q3385 rfl)))
            cases hra.symm.trans f1
            cases r3.symm.trans f2
            exact ⟨_, hcv, hvm0, kV, by rw [hcl0]; exact hkV, by rw [hcl0]; exact f3⟩
          · exact hs8.elim
        cases hk1.symm.trans r1
        cases hkk1.symm.trans r2
        obtain ⟨kE, hkE, -⟩ := Vm.findClass_spec r3
        obtain ⟨kC', hkC', -⟩ := hal.2.2 _ _ hkC
        obtain ⟨kE', hkE', -⟩ := hal.2.2 _ _ hkE
        refine ⟨rfl, cellV, (show T.heap[y]? = some cellV by rw [hT]; exact g1), (fun q h => by rw [h] at g2; cases g2), ⟨kC', hkC'⟩, ?_, ?_⟩
        · exact ⟨kE', hkE'⟩
        · show vm₁.assignable _ _ = true
          rw [hal.assignable]
          exact g3)
    (g := F0 m pc arr (.int n :: .int dp :: .ref dst :: .int sp :: .ref src :: rest)) rfl (by rw [hX.2.2.2.1]; exact lh_size hA) (rest := rest) rfl (by rw [hX.2.1]; exact xd_to hd) hd1 (by show 2 * 0 + _ + _ ≤ 64 * d; have := cat_sum rest; have := acw; omega)
  have e1 : copied cs (vp_cell (gA g 3) (n1, .inr (.inr (.inr (.inr f'))))) sp dp n = vp_cell (gA g 3) (n1, .inr (.inr (.inr (.inr (va_cpy f f' sp.toNatClampNeg dp.toNatClampNeg n.toNatClampNeg))))) := va_copiedX va_rf cs (gA g 3) f f' hsv' p4
  rw [e1] at X' step
  have hl9 : dst < H.size := (Array.getElem?_eq_some_iff.mp hc1).1
  have hheap : ((T.setVm vm').setCell dst (vp_cell (gA g 3) (n1, .inr (.inr (.inr (.inr (va_cpy f f' sp.toNatClampNeg dp.toNatClampNeg n.toNatClampNeg))))))).heap = H.setIfInBounds dst (vp_cell (gA g 3) (n1, .inr (.inr (.inr (.inr (va_cpy f f' sp.toNatClampNeg dp.toNatClampNeg n.toNatClampNeg)))))) := by rw [← hT]; rfl
  have key : xSt g (xu σ.1 dst (aq 3 n1 (va_cpy f f' sp.toNatClampNeg dp.toNatClampNeg n.toNatClampNeg)), σ.2) (H.setIfInBounds dst (vp_cell (gA g 3) (n1, .inr (.inr (.inr (.inr (va_cpy f f' sp.toNatClampNeg dp.toNatClampNeg n.toNatClampNeg))))))) :=
    hS.put hown0 hc1 (x' := vp_cell (gA g 3) (n1, .inr (.inr (.inr (.inr (va_cpy f f' sp.toNatClampNeg dp.toNatClampNeg n.toNatClampNeg)))))) (by simp [Array.getElem?_setIfInBounds, hl9]) (by rw [vp_cell_q, vp_cell_q, arrV_size, arrV_size]) (vp_mon _ _ _ _) (by simp) (fun z hz9 => by simp [Array.getElem?_setIfInBounds, Ne.symm hz9]) (show (H.setIfInBounds dst _)[dst]? = some _ by simp [Array.getElem?_setIfInBounds, hl9])
  obtain ⟨t, a1, b1⟩ := next hg p e s m args below meth c hX _ _ arr cells slots key (fun q hq => by
      rcases List.mem_append.mp hq with h | h
      · exact hL q h
      · obtain ⟨z, -, hz⟩ := List.mem_map.mp h
        rw [← hz]
        exact hown0) hA _ hheap X'
  exact ⟨t, step t a1, b1⟩
/-- getClass() of a String -/
theorem VW.getCS {g : xG} {I : xI} {K : xR → xH → Prop} {d pc idx : Nat} {ls : List (Option Value)} {rest : List Value} {σ : xH} {a : Nat} {fs : List Value}
    (hd : xd I pc = some (.invokevirtual idx, 3)) (hl : Cond.methodLink (ocN (iO I)) idx ⟨"java/lang/Object", "getClass", "()Ljava/lang/Class;"⟩ ∈ lw_all) (hd1 : 1 ≤ d) (hr : rest.length ≤ 10) (h1 : σ.1 a = some (ob 8 fs))
    (next : VW g I K d (pc + 3) ls (.ref (gM g 0) :: rest) σ) : VW g I K d pc ls (.ref a :: rest) σ := by
  intro hg p e s m args below meth c hX H locs arr cells slots hS hL hA
  obtain ⟨cell, q1, q3, q2, -⟩ := hS.recv hg h1 (xwarm hX) (q := (RJ11, TJ11, 4)) rfl
  exact va_getC hX.1 hX.2.1 (by rw [hX.2.2.2.1]; exact (lh_size hA).symm) (xown hX) (hg.word hl (xwarm hX) _) (va_Nw.use rfl (va_Nw.warmD (xwarm hX) (hg.nw q3381 rfl))) (hg.word q844 (xwarm hX) _) (hg.word q801 (xwarm hX) _) (hg.word q854 (xwarm hX) _) ((hg.2.2.2.2.2.2.2.1 0 _ rfl).moved (xwarm hX).alike) ⟨cell, q1, q3, q2⟩ hd1 (by show _ ≤ 64 * d; have := cat_sum rest; omega) (xd_to hd) (next hg p e s m args below meth c hX H locs arr cells slots hS hL hA)
/-- getClass() of an Object[] -/
theorem VW.getCO {g : xG} {I : xI} {K : xR → xH → Prop} {d pc idx : Nat} {ls : List (Option Value)} {rest : List Value} {σ : xH} {a : Nat} {x : vp_A}
    (hd : xd I pc = some (.invokevirtual idx, 3)) (hl : Cond.methodLink (ocN (iO I)) idx ⟨"java/lang/Object", "getClass", "()Ljava/lang/Class;"⟩ ∈ lw_all) (hd1 : 1 ≤ d) (hr : rest.length ≤ 10) (h1 : σ.1 a = some (.inl (3, x)))
    (next : VW g I K d (pc + 3) ls (.ref (gM g 1) :: rest) σ) : VW g I K d pc ls (.ref a :: rest) σ := by
  intro hg p e s m args below meth c hX H locs arr cells slots hS hL hA
  obtain ⟨cv, hc, hvm9, -, -, -, -, hcl⟩ := xarw hg hS h1 (xwarm hX)
  have hcl0 := hcl
  have hvm0 : cv.vm.isStatics = false := by
    have z := (hvm9 _ rfl).1
    cases hv : cv.vm with
    | statics w => exact absurd hv (z w)
    | _ => rfl
  have hra : s.vm.findClass "[Ljava/lang/Object;" = some (gA g 3) := va_RA.name ((hg.ar (k := 3) rfl (xwarm hX)).2 (by decide))
  exact va_getC hX.1 hX.2.1 (by rw [hX.2.2.2.1]; exact (lh_size hA).symm) (xown hX) (hg.word hl (xwarm hX) _) (va_Nw.use rfl (va_Nw.warmD (xwarm hX) (hg.nw q3381 rfl))) (hg.word q3380 (xwarm hX) _) (hg.word q801 (xwarm hX) _) (hg.word q854 (xwarm hX) _) ((hg.2.2.2.2.2.2.2.1 1 _ rfl).moved (xwarm hX).alike) ⟨_, hc, hvm0, by rw [hcl0]; exact hra⟩ hd1 (by show _ ≤ 64 * d; have := cat_sum rest; omega) (xd_to hd) (next hg p e s m args below meth c hX H locs arr cells slots hS hL hA)
/-- Object's constructor -/
theorem VW.obji {g : xG} {I : xI} {K : xR → xH → Prop} {d pc idx : Nat} {ls : List (Option Value)} {rest : List Value} {σ : xH} {a : Nat}
    (hd : xd I pc = some (.invokespecial idx, 3)) (hl : Cond.methodLink (ocN (iO I)) idx Lib.objectInit ∈ lw_all) (hd1 : 1 ≤ d) (hr : rest.length ≤ 10)
    (next : VW g I K d (pc + 3) ls rest σ) : VW g I K d pc ls (.ref a :: rest) σ := by
  intro hg p e s m args below meth c hX H locs arr cells slots hS hL hA
  exact W.objInit hX.1 hX.2.1 (xown hX) (hg.word hl (xwarm hX) _) (hg.word q183 (xwarm hX) _) (hg.word q184 (xwarm hX) _) rfl (by rw [hX.2.2.2.1]; exact lh_size hA) rfl (xd_to hd) hd1 (by show 2 * 0 + _ + _ ≤ 64 * d; have := cat_sum rest; omega) (next hg p e s m args below meth c hX H locs arr cells slots hS hL hA)
/-- clone() of a byte[] -/
theorem VW.cloneB {g : xG} {I : xI} {K : xR → xH → Prop} {d pc idx : Nat} {ls : List (Option Value)} {rest : List Value} {σ : xH} {a n : Nat} {f : Nat → Int32}
    (hd : xd I pc = some (.invokevirtual idx, 3)) (hl : Cond.methodLink (ocN (iO I)) idx ⟨"[B", "clone", "()Ljava/lang/Object;"⟩ ∈ lw_all) (hcl : Cond.castable "[B" "java/lang/Cloneable" ∈ lw_tbl) (hd1 : 1 ≤ d) (hr : rest.length ≤ 10) (ha0 : g0 g ≤ a) (h1 : σ.1 a = some (ai 1 n f)) (hfit : ∀ i, i < n → fits .byte (.int (f i)) = true)
    (r1 : σ.2.1 + 1 ≤ gN g) (r2 : σ.2.2 + n ≤ gW g)
    (next : VW g I K d (pc + 3) ls (.ref σ.2.1 :: rest) (xu σ.1 σ.2.1 (ai 1 n f), σ.2.1 + 1, σ.2.2 + n)) : VW g I K d pc ls (.ref a :: rest) σ := by
  intro hg p e s m args below meth c hX H locs arr cells slots hS hL hA
  refine W.exact ?_
  intro T hT X
  have hc := xarr hS h1 ha0
  obtain ⟨har, hra⟩ := hg.ar (k := 1) rfl (xwarm hX)
  have hnm : s.vm.findClass "[B" = some (gA g 1) := va_RA.name (hra (by decide))
  have hw : (Cond.castable "[B" "java/lang/Cloneable").before args s = true := va_Nw.use rfl (va_Nw.warmC (xwarm hX) (hg.nw hcl rfl))
  obtain ⟨c0, t0', f1, f2, f3⟩ := Cond.castable_spec hw
  cases hnm.symm.trans f1
  have hcellT : T.heap[a]? = some (vp_cell (gA g 1) (n, .inl f)) := by rw [hT]; exact hc
  have hsz : (vp_cell (gA g 1) (n, .inl f)).slots.size = n := arrV_size _ _ _
  have q1 := hS.1
  have q2 := hS.2.1
  obtain ⟨u1, u2⟩ := xroomC (d := d) hS hT X r1 r2
  obtain ⟨-, kA, hkA, comp, hkind⟩ := State.isArrayOf_alike X.warmed.alike (har 0 (fun _ => .null))
  obtain ⟨-, kS, hkS, compS, hkindS⟩ := har 0 (fun _ => .null)
  obtain ⟨vm', X', st⟩ := X.cloneArray hX.1 (xown hX) (hg.word hl (xwarm hX) _) (hg.word q436 (xwarm hX) _) (hg.word q437 (xwarm hX) _) (hg.word q438 (xwarm hX) _) (hg.word q439 (xwarm hX) _) (a := a) (cell := vp_cell (gA g 1) (n, .inl f)) hcellT (fun k h => by cases h) (fun h => by cases h) hnm f2 f3
    (fun i v hv => by
      have hk' : T.vm.classes[gA g 1]? = some kA := hkA
      have hi : i < n := by have := (Array.getElem?_eq_some_iff.mp hv).1; rw [hsz] at this; exact this
      have hv' : v = .int (f i) := by
        rw [vp_cell_i] at hv
        simp only [arrV, Array.getElem?_ofFn, hi, dite_true] at hv
        exact (Option.some.inj hv).symm
      subst hv'
      show T.fitsSlot (gA g 1) .none i _ = true
      simpa [State.fitsSlot, State.slotType?, hk', hkind] using hfit i hi)
    (g := F0 m pc arr (.ref a :: rest)) rfl (by rw [hX.2.2.2.1]; exact lh_size hA) rfl (by rw [hX.2.1]; exact xd_to hd) hd1 (by show 2 * 0 + _ + 14 ≤ 64 * d; have := cat_sum rest; omega) u1 (by rw [hsz]; exact u2) (hloader := Vm.clonesLoader_of_array hkS hkindS)
  rw [hsz] at X'
  have key := hS.new (e' := ai 1 n f) (n := n) (H' := H.push (vp_cell (gA g 1) (n, .inl f))) r1 r2 (x := vp_cell (gA g 1) (n, .inl f)) (by simp) hsz ⟨rfl, rfl⟩ (by simp) (fun q hq => by rw [Array.getElem?_push, if_neg (Nat.ne_of_lt hq)]) (by
    show (H.push _)[H.size]? = some _
    simp)
  have nx := next hg p e s m args below meth c hX _ locs arr (H.size - s.heap.size + 1) (hz H - hz s.heap + n) key hL hA
  obtain ⟨t, a1, b1⟩ := nx _ (by show T.heap.push _ = _; rw [hT]; rfl) X'
  refine ⟨t, st t ?_, b1⟩
  have e9 : T.heap.size = σ.2.1 := by rw [hT]; exact q1
  rw [e9]
  exact a1
