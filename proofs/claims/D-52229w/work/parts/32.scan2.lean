set_option maxRecDepth 40000
set_option maxHeartbeats 2000000
/-! ===== Token, Scanner.next, Scanner.all ===== -/
/-- a String of the run's own, with a row of the run's own, of ten signs at most -/
def oS (g : xG) (M : xM) (a : Nat) : Prop := g0 g ≤ a ∧ ∃ (v : Nat) (fs : List Value) (n : Nat) (f : Nat → Int32), M a = some (ob 8 (.ref v :: fs)) ∧ g0 g ≤ v ∧ M v = some (ai 1 n f) ∧ n ≤ 10
theorem oS.mono {g : xG} {F F' : xM} {a : Nat} (h : oS g F a) (hle : fle F F') : oS g F' a := by
  obtain ⟨h1, v, fs, n, f, h2, h3, h4, h5⟩ := h
  exact ⟨h1, v, fs, n, f, hle _ _ h2, h3, hle _ _ h4, h5⟩
/-- the token at a: kind k, text w, from p -/
def isTok (g : xG) (F : xM) (a k : Nat) (w : List Nat) (p : Nat) : Prop := (∃ s, F a = some (ob 6 [.ref (soA g (stK k)), .ref s, .int (nI p)]) ∧ isS F s w ∧ (k = 20 → oS g F s)) ∧ (kT k = true → w = wtx k) ∧ p < 100000 ∧ (k ≤ 36 ∨ k = 60 ∨ k = 61)
theorem isTok_mono {g : xG} {F F' : xM} {a k p : Nat} {w : List Nat} (h : isTok g F a k w p) (hle : fle F F') : isTok g F' a k w p := by
  obtain ⟨⟨s, h1, h2, h4⟩, h3⟩ := h
  exact ⟨⟨s, hle _ _ h1, isS_mono h2 hle, fun z => (h4 z).mono hle⟩, h3⟩
theorem ct_X9_init {g : xG} {d : Nat} {σ : xH} {K : xR → xH → Prop} (hd : 1 ≤ d) {a so s : Nat} {p : Int32} (ha : g0 g ≤ a) (h1 : σ.1 a = some (ob 6 [.null, .null, .int 0])) (hK : K (.inl none) (xu σ.1 a (ob 6 [.ref so, .ref s, .int p]), σ.2)) : Ctr g d iX9_init [.ref a, .ref so, .ref s, .int p] σ K := by
  refine Ctr.of (by decide +kernel) rfl (by simp only [lent_0, lent_i, lent_r, lent_n, lent_l, lent_f, List.length_cons, List.length_nil, bX9_init]; decide) ?_
  simp only [lpad, lent_0, lent_i, lent_r, lent_n, lent_l, lent_f, List.length_cons, List.length_nil, bX9_init, Nat.reduceAdd, Nat.reduceSub, List.replicate_succ, List.replicate_zero, List.cons_append, List.nil_append]
  refine VW.go [1] 400 ?_
  simp only [↓vcp, ↓vc_s, vch, vcn, Option.toList_some, Option.toList_none, List.cons_append, List.nil_append, Bool.false_eq_true, Bool.or_false, Bool.or_true, Bool.false_or, Bool.true_or, Nat.reduceAdd, Nat.reduceBEq, Nat.reduceLeDiff, Nat.zero_le, Nat.reduceLT, Nat.le_refl, ↓reduceIte, decide_true, decide_false, true_and, and_true, false_imp_iff, true_imp_iff, not_false_eq_true, not_true_eq_false, implies_true, and_self, eq_self, i10, List.length_cons, List.length_nil, vcv, xur, ↓pX9_init, bX9_init, hd]
  refine VW.obji (xd_of (I := iX9_init) dX9_init_1) q348 (by omega) (by simp) ?_
  refine VW.go [] 400 ?_
  simp only [↓vcp, ↓vc_s, vch, vcn, Option.toList_some, Option.toList_none, List.cons_append, List.nil_append, Bool.false_eq_true, Bool.or_false, Bool.or_true, Bool.false_or, Bool.true_or, Nat.reduceAdd, Nat.reduceBEq, Nat.reduceLeDiff, Nat.zero_le, Nat.reduceLT, Nat.le_refl, ↓reduceIte, decide_true, decide_false, true_and, and_true, false_imp_iff, true_imp_iff, not_false_eq_true, not_true_eq_false, implies_true, and_self, eq_self, i10, List.length_cons, List.length_nil, vcv, xur, ↓pX9_init, bX9_init, h1, ha]
  exact hK
theorem ct_X9_is {g : xG} {d : Nat} {σ : xH} {K : xR → xH → Prop} (hg : gwS g) (hk : gwK g) {F : xM} (hd : 2 ≤ d) {a k p b j : Nat} {w : List Nat} (hF : fz F σ) (h : isTok g F a k w p) (hj : kT j = true) (hb : isS σ.1 b (wtx j)) (hK : K (.inl (some (.int (b2i (decide (k = j)))))) σ) : Ctr g d iX9_is [.ref a, .ref b] σ K := by
  obtain ⟨⟨s, h1, h2, -⟩, h3, h4, h5⟩ := h
  have d1 : 1 ≤ d := by omega
  have t1 := hF.o8 h1 (by decide)
  have t2 := hF.str h2
  have t3 := t2
  obtain ⟨v, h0, z, f, t4, -⟩ := t3
  have s1 := hk.1 12 (by decide)
  have s2 := hk.1 15 (by decide)
  have e1 := hk.ne (k := k) (j := 12) (by decide)
  have e2 := hk.ne (k := k) (j := 15) (by decide)
  have key : kT k = true → VW g iX9_is K d 20 [some (.ref a), some (.ref b)] [] σ := by
    intro q
    refine VW.go [] 400 ?_
    simp only [↓vcp, ↓vc_s, vch, vcn, Option.toList_some, Option.toList_none, List.cons_append, List.nil_append, Bool.false_eq_true, Bool.or_false, Bool.or_true, Bool.false_or, Bool.true_or, Nat.reduceAdd, Nat.reduceBEq, Nat.reduceLeDiff, Nat.zero_le, Nat.reduceLT, Nat.le_refl, ↓reduceIte, decide_true, decide_false, true_and, and_true, false_imp_iff, true_imp_iff, not_false_eq_true, not_true_eq_false, implies_true, and_self, eq_self, i10, List.length_cons, List.length_nil, vcv, xur, ↓pX9_is, bX9_is, t1, t4, d1]
    refine ct_J11_equals hg (by omega) t2 hb ?_
    have e3 : decide (w = wtx j) = decide (k = j) := by
      rw [h3 q]
      exact decide_eq_decide.mpr (wtx_eq q hj)
    rw [e3]
    simp only [↓vcp, ↓vc_s, vch, vcn, Option.toList_some, Option.toList_none, List.cons_append, List.nil_append, Bool.false_eq_true, Bool.or_false, Bool.or_true, Bool.false_or, Bool.true_or, Nat.reduceAdd, Nat.reduceBEq, Nat.reduceLeDiff, Nat.zero_le, Nat.reduceLT, Nat.le_refl, ↓reduceIte, decide_true, decide_false, true_and, and_true, false_imp_iff, true_imp_iff, not_false_eq_true, not_true_eq_false, implies_true, and_self, eq_self, i10, List.length_cons, List.length_nil, vcv, xur, ↓pX9_is, bX9_is, b2i_n]
    refine ⟨fun z => ?_, fun z => ?_⟩
    · rw [z] at hK; exact hK
    · rw [bnf z] at hK; exact hK
  refine Ctr.of (by decide +kernel) rfl (by simp only [lent_0, lent_i, lent_r, lent_n, lent_l, lent_f, List.length_cons, List.length_nil, bX9_is]; decide) ?_
  simp only [lpad, lent_0, lent_i, lent_r, lent_n, lent_l, lent_f, List.length_cons, List.length_nil, bX9_is, Nat.reduceAdd, Nat.reduceSub, List.replicate_succ, List.replicate_zero, List.cons_append, List.nil_append]
  refine VW.go [20] 400 ?_
  simp only [↓vcp, ↓vc_s, vch, vcn, Option.toList_some, Option.toList_none, List.cons_append, List.nil_append, Bool.false_eq_true, Bool.or_false, Bool.or_true, Bool.false_or, Bool.true_or, Nat.reduceAdd, Nat.reduceBEq, Nat.reduceLeDiff, Nat.zero_le, Nat.reduceLT, Nat.le_refl, ↓reduceIte, decide_true, decide_false, true_and, and_true, false_imp_iff, true_imp_iff, not_false_eq_true, not_true_eq_false, implies_true, and_self, eq_self, i10, List.length_cons, List.length_nil, vcv, xur, ↓pX9_is, bX9_is, t1, s1, s2, Option.some.injEq, e1, e2]
  refine ⟨fun q => key ?_, fun q => ⟨fun q2 => ?_, fun q2 => key ?_⟩⟩
  · unfold stK at q
    have : k < 20 := by
      split at q
      · assumption
      · exfalso; revert q; split <;> (try split) <;> (try split) <;> (try split) <;> decide
    simp [kT, this]
  · have : k ≠ j := by
      intro z
      subst z
      unfold stK at q q2
      simp only [kT, Bool.or_eq_true, Bool.and_eq_true, decide_eq_true_eq] at hj
      rcases hj with z | z
      · rw [if_pos z] at q; exact q rfl
      · rw [if_neg (by omega), if_neg (by omega), if_neg (by omega), if_neg (by omega), if_neg (by omega)] at q2
        exact q2 rfl
    rw [decide_eq_false this] at hK
    exact hK
  · unfold stK at q2
    split at q2
    · next z => exact absurd q2 (by decide)
    · split at q2
      · exact absurd q2 (by decide)
      · split at q2
        · exact absurd q2 (by decide)
        · split at q2
          · exact absurd q2 (by decide)
          · split at q2
            · exact absurd q2 (by decide)
            · simp only [kT, Bool.or_eq_true, Bool.and_eq_true, decide_eq_true_eq]
              omega
theorem ct_X9_number {g : xG} {d : Nat} {σ : xH} {K : xR → xH → Prop} (hg : gwS g) {F : xM} (hd : 4 ≤ d) {a k p : Nat} {w : List Nat} (hF : fz F σ) (h : isTok g F a k w p) (hK : K (.inl (some (.int (numW w)))) σ) : Ctr g d iX9_number [.ref a] σ K := by
  obtain ⟨⟨s, h1, h2, -⟩, h3, h4, h5⟩ := h
  have d1 : 1 ≤ d := by omega
  have t1 := hF.o8 h1 (by decide)
  have t2 := hF.str h2
  have t3 := t2
  obtain ⟨v, h0, z, f, t4, -, -, ok, -⟩ := t3
  have l1 := ok.2
  refine Ctr.of (by decide +kernel) rfl (by simp only [lent_0, lent_i, lent_r, lent_n, lent_l, lent_f, List.length_cons, List.length_nil, bX9_number]; decide) ?_
  simp only [lpad, lent_0, lent_i, lent_r, lent_n, lent_l, lent_f, List.length_cons, List.length_nil, bX9_number, Nat.reduceAdd, Nat.reduceSub, List.replicate_succ, List.replicate_zero, List.cons_append, List.nil_append]
  refine VW.go [4] 400 ?_
  simp only [↓vcp, ↓vc_s, vch, vcn, Option.toList_some, Option.toList_none, List.cons_append, List.nil_append, Bool.false_eq_true, Bool.or_false, Bool.or_true, Bool.false_or, Bool.true_or, Nat.reduceAdd, Nat.reduceBEq, Nat.reduceLeDiff, Nat.zero_le, Nat.reduceLT, Nat.le_refl, ↓reduceIte, decide_true, decide_false, true_and, and_true, false_imp_iff, true_imp_iff, not_false_eq_true, not_true_eq_false, implies_true, and_self, eq_self, i10, List.length_cons, List.length_nil, vcv, xur, ↓pX9_number, bX9_number]
  have L : ∀ j, j ≤ w.length → VW g iX9_number K d 4 [some (.ref a), some (.int (nuF (tq w) j)), some (.int (nI j))] [] σ := by
    refine down ?_ ?_
    · refine VW.go [4] 400 ?_
      simp only [↓vcp, ↓vc_s, vch, vcn, Option.toList_some, Option.toList_none, List.cons_append, List.nil_append, Bool.false_eq_true, Bool.or_false, Bool.or_true, Bool.false_or, Bool.true_or, Nat.reduceAdd, Nat.reduceBEq, Nat.reduceLeDiff, Nat.zero_le, Nat.reduceLT, Nat.le_refl, ↓reduceIte, decide_true, decide_false, true_and, and_true, false_imp_iff, true_imp_iff, not_false_eq_true, not_true_eq_false, implies_true, and_self, eq_self, i10, List.length_cons, List.length_nil, vcv, xur, ↓pX9_number, bX9_number, t1, t4, d1]
      refine ct_J11_length hg (by omega) t2 ?_
      simp only [↓vcp, ↓vc_s, vch, vcn, Option.toList_some, Option.toList_none, List.cons_append, List.nil_append, Bool.false_eq_true, Bool.or_false, Bool.or_true, Bool.false_or, Bool.true_or, Nat.reduceAdd, Nat.reduceBEq, Nat.reduceLeDiff, Nat.zero_le, Nat.reduceLT, Nat.le_refl, ↓reduceIte, decide_true, decide_false, true_and, and_true, false_imp_iff, true_imp_iff, not_false_eq_true, not_true_eq_false, implies_true, and_self, eq_self, i10, List.length_cons, List.length_nil, vcv, xur, ↓pX9_number, bX9_number, ge_y]
      exact hK
    · intro j hj ih
      have g1 := ge_n hj (by omega)
      refine VW.go [4] 400 ?_
      simp only [↓vcp, ↓vc_s, vch, vcn, Option.toList_some, Option.toList_none, List.cons_append, List.nil_append, Bool.false_eq_true, Bool.or_false, Bool.or_true, Bool.false_or, Bool.true_or, Nat.reduceAdd, Nat.reduceBEq, Nat.reduceLeDiff, Nat.zero_le, Nat.reduceLT, Nat.le_refl, ↓reduceIte, decide_true, decide_false, true_and, and_true, false_imp_iff, true_imp_iff, not_false_eq_true, not_true_eq_false, implies_true, and_self, eq_self, i10, List.length_cons, List.length_nil, vcv, xur, ↓pX9_number, bX9_number, t1, t4, d1]
      refine ct_J11_length hg (by omega) t2 ?_
      simp only [↓vcp, ↓vc_s, vch, vcn, Option.toList_some, Option.toList_none, List.cons_append, List.nil_append, Bool.false_eq_true, Bool.or_false, Bool.or_true, Bool.false_or, Bool.true_or, Nat.reduceAdd, Nat.reduceBEq, Nat.reduceLeDiff, Nat.zero_le, Nat.reduceLT, Nat.le_refl, ↓reduceIte, decide_true, decide_false, true_and, and_true, false_imp_iff, true_imp_iff, not_false_eq_true, not_true_eq_false, implies_true, and_self, eq_self, i10, List.length_cons, List.length_nil, vcv, xur, ↓pX9_number, bX9_number, g1, t1, t4, d1]
      refine ct_J11_charAt hg (by omega) t2 hj ?_
      simp only [↓vcp, ↓vc_s, vch, vcn, Option.toList_some, Option.toList_none, List.cons_append, List.nil_append, Bool.false_eq_true, Bool.or_false, Bool.or_true, Bool.false_or, Bool.true_or, Nat.reduceAdd, Nat.reduceBEq, Nat.reduceLeDiff, Nat.zero_le, Nat.reduceLT, Nat.le_refl, ↓reduceIte, decide_true, decide_false, true_and, and_true, false_imp_iff, true_imp_iff, not_false_eq_true, not_true_eq_false, implies_true, and_self, eq_self, i10, List.length_cons, List.length_nil, vcv, xur, ↓pX9_number, bX9_number, nI_1]
      exact ih
  exact L 0 (Nat.zero_le _)
/-- the scanner at sc: its tape, its tokens -/
theorem kd_of {N : Nat} {tp : Nat → Nat} {i p : Nat} (hi : frT N tp i = p) (hp : p < N) : kdT N tp i = if i = 400 then 61 else tkd N tp p := by
  unfold kdT
  rw [hi, if_neg (by omega)]
theorem sgK_20 (c : Nat) : sgK c ≠ 20 := fun h => by
  have := sgK_spec (c := c) (by omega)
  omega
theorem tkd_20 {N p : Nat} {tp : Nat → Nat} (h : tkd N tp p = 20) : enT N tp p - p ≤ 10 := by
  unfold tkd at h
  split at h
  · split at h
    · cases h
    · omega
  · split at h
    · split at h <;> cases h
    · split at h
      · split at h <;> cases h
      · exact absurd h (sgK_20 _)
/-- a new token, frozen with its text -/
theorem tok_new {g : xG} {F : xM} {σ : xH} {n a s v k p : Nat} {w : List Nat} (hw : xWF g σ) (hF : fz F σ) (h1 : σ.1 a = some (ob 6 [.ref (soA g (stK k)), .ref s, .int (nI p)])) (h2 : nwS σ.1 s v w) (ha : n ≤ a) (hs : n ≤ s) (hv : n ≤ v) (hn : ∀ z, n ≤ z → F z = none) (h0 : g0 g ≤ n) (h20 : k = 20 → w.length ≤ 10) (hk : kT k = true → w = wtx k) (hp : p < 100000) (hk2 : k ≤ 36 ∨ k = 60 ∨ k = 61) :
    ∃ F', fz F' σ ∧ fex F F' n ∧ isTok g F' a k w p := by
  obtain ⟨f, q1, q2, q3, q4⟩ := h2
  have nsv : s ≠ v := ne_oi q1 q2
  have nas : a ≠ s := ne_oo h1 q1 (by decide)
  have nav : a ≠ v := ne_oi h1 q2
  refine ⟨xu (xu (xu F v (ai 1 w.length f)) s (ob 8 [.ref v, .int 0, .int 0, .int 0])) a (ob 6 [.ref (soA g (stK k)), .ref s, .int (nI p)]), ((hF.add q2).add q1).add h1, ?_, ?_⟩
  · refine ((fex_add (hn v hv) hv).trans (fex_add ?_ hs) (Nat.le_refl _)).trans (fex_add ?_ ha) (Nat.le_refl _)
    · rw [xu_ne _ _ nsv]; exact hn s hs
    · rw [xu_ne _ _ nas, xu_ne _ _ nav]; exact hn a ha
  · refine ⟨⟨s, xu_same _ _ _, ⟨v, 0, 0, f, ?_, ?_, q3, q4, Or.inl rfl, Or.inl rfl⟩, fun z => ⟨Nat.le_trans h0 hs, v, [.int 0, .int 0, .int 0], w.length, f, ?_, Nat.le_trans h0 hv, ?_, h20 z⟩⟩, hk, hp, hk2⟩
    · rw [xu_ne _ _ nas.symm]; exact xu_same _ _ _
    · rw [xu_ne _ _ nav.symm, xu_ne _ _ nsv.symm]; exact xu_same _ _ _
    · rw [xu_ne _ _ nas.symm]; exact xu_same _ _ _
    · rw [xu_ne _ _ nav.symm, xu_ne _ _ nsv.symm]; exact xu_same _ _ _
theorem ix27 : ∀ c : Fin 256, (sgF c.val (txI 27) 0).isSome = (sgF c.val sgL 0).isSome := by decide +kernel
/-- String.indexOf of a letter -/
def ixI (c : Nat) (w : List Nat) : Int32 := match sgF c w 0 with
  | some j => nI j
  | none => -1
theorem ct_J16_indexOfChar {g : xG} {d : Nat} {σ : xH} {K : xR → xH → Prop} {a c : Nat} {w : List Nat} {f : Nat → Int32} (h1 : σ.1 a = some (ai 1 w.length f)) (r1 : rowW w f) (o1 : okW w) (hc : c < 256) (hK : K (.inl (some (.int (ixI c w)))) σ) : Ctr g d iJ16_indexOfChar [.ref a, .int (nI c), .int 0, .int (nI w.length)] σ K := by
  have l1 := o1.2
  have L : ∀ j, j ≤ w.length → K (.inl (some (.int (match sgF c (w.drop j) j with
    | some j => nI j
    | none => -1)))) σ → VW g iJ16_indexOfChar K d 7 [some (.ref a), some (.int (nI c)), some (.int 0), some (.int (nI w.length)), some (.int (sb c)), some (.int (nI j))] [] σ := by
    refine down ?_ ?_
    · intro hk
      rw [List.drop_length] at hk
      refine VW.go [7] 400 ?_
      simp only [↓vcp, ↓vc_s, vch, vcn, Option.toList_some, Option.toList_none, List.cons_append, List.nil_append, Bool.false_eq_true, Bool.or_false, Bool.or_true, Bool.false_or, Bool.true_or, Nat.reduceAdd, Nat.reduceBEq, Nat.reduceLeDiff, Nat.zero_le, Nat.reduceLT, Nat.le_refl, ↓reduceIte, decide_true, decide_false, true_and, and_true, false_imp_iff, true_imp_iff, not_false_eq_true, not_true_eq_false, implies_true, and_self, eq_self, i10, List.length_cons, List.length_nil, vcv, xur, ↓pJ16_indexOfChar, bJ16_indexOfChar, ge_y]
      exact hk
    · intro j hj ih hk
      have g1 := ge_n hj (by omega)
      have i1 : vp_in (nI j) w.length = True := in_y hj (by omega)
      have k1 : (nI j).toNatClampNeg = j := cl_y (by omega)
      have k2 := r1 j hj
      have k3 := sb_eq (o1.1 j) hc
      have e1 : w[j] = tq w j := by unfold tq; rw [List.getD_eq_getElem?_getD, List.getElem?_eq_getElem hj]; rfl
      rw [List.drop_eq_getElem_cons hj, e1] at hk
      unfold sgF at hk
      refine VW.go [7] 400 ?_
      simp only [↓vcp, ↓vc_s, vch, vcn, Option.toList_some, Option.toList_none, List.cons_append, List.nil_append, Bool.false_eq_true, Bool.or_false, Bool.or_true, Bool.false_or, Bool.true_or, Nat.reduceAdd, Nat.reduceBEq, Nat.reduceLeDiff, Nat.zero_le, Nat.reduceLT, Nat.le_refl, ↓reduceIte, decide_true, decide_false, true_and, and_true, false_imp_iff, true_imp_iff, not_false_eq_true, not_true_eq_false, implies_true, and_self, eq_self, i10, List.length_cons, List.length_nil, vcv, xur, ↓pJ16_indexOfChar, bJ16_indexOfChar, h1, g1, i1, k1, k2, k3, nI_1]
      refine ⟨fun q => ?_, fun q => ?_⟩
      · rw [if_neg q] at hk
        exact ih hk
      · rw [if_pos q] at hk
        exact hk
  refine Ctr.of (by decide +kernel) rfl (by simp only [lent_0, lent_i, lent_r, lent_n, lent_l, lent_f, List.length_cons, List.length_nil, bJ16_indexOfChar]; decide) ?_
  simp only [lpad, lent_0, lent_i, lent_r, lent_n, lent_l, lent_f, List.length_cons, List.length_nil, bJ16_indexOfChar, Nat.reduceAdd, Nat.reduceSub, List.replicate_succ, List.replicate_zero, List.cons_append, List.nil_append]
  refine VW.go [7] 400 ?_
  simp only [↓vcp, ↓vc_s, vch, vcn, Option.toList_some, Option.toList_none, List.cons_append, List.nil_append, Bool.false_eq_true, Bool.or_false, Bool.or_true, Bool.false_or, Bool.true_or, Nat.reduceAdd, Nat.reduceBEq, Nat.reduceLeDiff, Nat.zero_le, Nat.reduceLT, Nat.le_refl, ↓reduceIte, decide_true, decide_false, true_and, and_true, false_imp_iff, true_imp_iff, not_false_eq_true, not_true_eq_false, implies_true, and_self, eq_self, i10, List.length_cons, List.length_nil, vcv, xur, ↓pJ16_indexOfChar, bJ16_indexOfChar, sbe]
  exact L 0 (Nat.zero_le _) hK
theorem ct_J16_canEncode_2 {g : xG} {d : Nat} {σ : xH} {K : xR → xH → Prop} {c : Nat} (hc : c < 256) (hK : K (.inl (some (.int 1))) σ) : Ctr g d iJ16_canEncode_2 [.int (nI c)] σ K := by
  have c1 : (255 < nI c) = False := eq_false (nI_nlt (a := 255) (by omega) (by omega))
  have c0 : (nI c < 0) = False := eq_false (nI_pos (by omega))
  refine Ctr.of (by decide +kernel) rfl (by simp only [lent_0, lent_i, lent_r, lent_n, lent_l, lent_f, List.length_cons, List.length_nil, bJ16_canEncode_2]; decide) ?_
  simp only [lpad, lent_0, lent_i, lent_r, lent_n, lent_l, lent_f, List.length_cons, List.length_nil, bJ16_canEncode_2, Nat.reduceAdd, Nat.reduceSub, List.replicate_succ, List.replicate_zero, List.cons_append, List.nil_append]
  refine VW.go [] 400 ?_
  simp only [↓vcp, ↓vc_s, vch, vcn, Option.toList_some, Option.toList_none, List.cons_append, List.nil_append, Bool.false_eq_true, Bool.or_false, Bool.or_true, Bool.false_or, Bool.true_or, Nat.reduceAdd, Nat.reduceBEq, Nat.reduceLeDiff, Nat.zero_le, Nat.reduceLT, Nat.le_refl, ↓reduceIte, decide_true, decide_false, true_and, and_true, false_imp_iff, true_imp_iff, not_false_eq_true, not_true_eq_false, implies_true, and_self, eq_self, i10, List.length_cons, List.length_nil, vcv, xur, ↓pJ16_canEncode_2, bJ16_canEncode_2, c1, c0]
  exact hK
theorem ct_J16_indexOf {g : xG} {d : Nat} {σ : xH} {K : xR → xH → Prop} (hd : 1 ≤ d) {a c : Nat} {w : List Nat} {f : Nat → Int32} (h1 : σ.1 a = some (ai 1 w.length f)) (r1 : rowW w f) (o1 : okW w) (hc : c < 256) (hK : K (.inl (some (.int (ixI c w)))) σ) : Ctr g d iJ16_indexOf [.ref a, .int (nI c), .int 0, .int (nI w.length)] σ K := by
  have l1 := o1.2
  refine Ctr.of (by decide +kernel) rfl (by simp only [lent_0, lent_i, lent_r, lent_n, lent_l, lent_f, List.length_cons, List.length_nil, bJ16_indexOf]; decide) ?_
  simp only [lpad, lent_0, lent_i, lent_r, lent_n, lent_l, lent_f, List.length_cons, List.length_nil, bJ16_indexOf, Nat.reduceAdd, Nat.reduceSub, List.replicate_succ, List.replicate_zero, List.cons_append, List.nil_append]
  refine VW.go [] 400 ?_
  simp only [↓vcp, ↓vc_s, vch, vcn, Option.toList_some, Option.toList_none, List.cons_append, List.nil_append, Bool.false_eq_true, Bool.or_false, Bool.or_true, Bool.false_or, Bool.true_or, Nat.reduceAdd, Nat.reduceBEq, Nat.reduceLeDiff, Nat.zero_le, Nat.reduceLT, Nat.le_refl, ↓reduceIte, decide_true, decide_false, true_and, and_true, false_imp_iff, true_imp_iff, not_false_eq_true, not_true_eq_false, implies_true, and_self, eq_self, i10, List.length_cons, List.length_nil, vcv, xur, ↓pJ16_indexOf, bJ16_indexOf, hd]
  refine ct_J16_canEncode_2 hc ?_
  simp only [↓vcp, ↓vc_s, vch, vcn, Option.toList_some, Option.toList_none, List.cons_append, List.nil_append, Bool.false_eq_true, Bool.or_false, Bool.or_true, Bool.false_or, Bool.true_or, Nat.reduceAdd, Nat.reduceBEq, Nat.reduceLeDiff, Nat.zero_le, Nat.reduceLT, Nat.le_refl, ↓reduceIte, decide_true, decide_false, true_and, and_true, false_imp_iff, true_imp_iff, not_false_eq_true, not_true_eq_false, implies_true, and_self, eq_self, i10, List.length_cons, List.length_nil, vcv, xur, ↓pJ16_indexOf, bJ16_indexOf, hd]
  refine ct_J14_max _ _ ?_
  have m0 : mx (0 : Int32) 0 = 0 := rfl
  rw [m0]
  simp only [↓vcp, ↓vc_s, vch, vcn, Option.toList_some, Option.toList_none, List.cons_append, List.nil_append, Bool.false_eq_true, Bool.or_false, Bool.or_true, Bool.false_or, Bool.true_or, Nat.reduceAdd, Nat.reduceBEq, Nat.reduceLeDiff, Nat.zero_le, Nat.reduceLT, Nat.le_refl, ↓reduceIte, decide_true, decide_false, true_and, and_true, false_imp_iff, true_imp_iff, not_false_eq_true, not_true_eq_false, implies_true, and_self, eq_self, i10, List.length_cons, List.length_nil, vcv, xur, ↓pJ16_indexOf, bJ16_indexOf, h1, hd, nIe]
  refine ct_J14_min _ _ ?_
  have m1 : mn (nI w.length) (nI w.length) = nI w.length := by unfold mn; split <;> rfl
  rw [m1]
  by_cases hw0 : w.length = 0
  · have l2 : ((0 : Int32) < nI w.length) = False := eq_false (by rw [hw0]; decide)
    have e : ixI c w = -1 := by
      unfold ixI
      rw [List.length_eq_zero_iff.mp hw0]
      rfl
    rw [e] at hK
    simp only [↓vcp, ↓vc_s, vch, vcn, Option.toList_some, Option.toList_none, List.cons_append, List.nil_append, Bool.false_eq_true, Bool.or_false, Bool.or_true, Bool.false_or, Bool.true_or, Nat.reduceAdd, Nat.reduceBEq, Nat.reduceLeDiff, Nat.zero_le, Nat.reduceLT, Nat.le_refl, ↓reduceIte, decide_true, decide_false, true_and, and_true, false_imp_iff, true_imp_iff, not_false_eq_true, not_true_eq_false, implies_true, and_self, eq_self, i10, List.length_cons, List.length_nil, vcv, xur, ↓pJ16_indexOf, bJ16_indexOf, l2]
    exact hK
  · have l2 : ((0 : Int32) < nI w.length) = True := eq_true (nI_lt (a := 0) (by omega) (by omega))
    simp only [↓vcp, ↓vc_s, vch, vcn, Option.toList_some, Option.toList_none, List.cons_append, List.nil_append, Bool.false_eq_true, Bool.or_false, Bool.or_true, Bool.false_or, Bool.true_or, Nat.reduceAdd, Nat.reduceBEq, Nat.reduceLeDiff, Nat.zero_le, Nat.reduceLT, Nat.le_refl, ↓reduceIte, decide_true, decide_false, true_and, and_true, false_imp_iff, true_imp_iff, not_false_eq_true, not_true_eq_false, implies_true, and_self, eq_self, i10, List.length_cons, List.length_nil, vcv, xur, ↓pJ16_indexOf, bJ16_indexOf, l2, hd]
    refine ct_J16_indexOfChar h1 r1 o1 hc ?_
    simp only [↓vcp, ↓vc_s, vch, vcn, Option.toList_some, Option.toList_none, List.cons_append, List.nil_append, Bool.false_eq_true, Bool.or_false, Bool.or_true, Bool.false_or, Bool.true_or, Nat.reduceAdd, Nat.reduceBEq, Nat.reduceLeDiff, Nat.zero_le, Nat.reduceLT, Nat.le_refl, ↓reduceIte, decide_true, decide_false, true_and, and_true, false_imp_iff, true_imp_iff, not_false_eq_true, not_true_eq_false, implies_true, and_self, eq_self, i10, List.length_cons, List.length_nil, vcv, xur, ↓pJ16_indexOf, bJ16_indexOf]
    exact hK
theorem ct_J11_indexOf_2 {g : xG} {d : Nat} {σ : xH} {K : xR → xH → Prop} (hg : gwS g) (hd : 2 ≤ d) {a c : Nat} {w : List Nat} (h : isS σ.1 a w) (hc : c < 256) (hK : K (.inl (some (.int (ixI c w)))) σ) : Ctr g d iJ11_indexOf_2 [.ref a, .int (nI c), .int 0] σ K := by
  have hs := h
  obtain ⟨v, h0, z, f, h1, h2, h3, h4, h5⟩ := h
  have d1 : 1 ≤ d := by omega
  refine Ctr.of (by decide +kernel) rfl (by simp only [lent_0, lent_i, lent_r, lent_n, lent_l, lent_f, List.length_cons, List.length_nil, bJ11_indexOf_2]; decide) ?_
  simp only [lpad, lent_0, lent_i, lent_r, lent_n, lent_l, lent_f, List.length_cons, List.length_nil, bJ11_indexOf_2, Nat.reduceAdd, Nat.reduceSub, List.replicate_succ, List.replicate_zero, List.cons_append, List.nil_append]
  refine VW.go [] 400 ?_
  simp only [↓vcp, ↓vc_s, vch, vcn, Option.toList_some, Option.toList_none, List.cons_append, List.nil_append, Bool.false_eq_true, Bool.or_false, Bool.or_true, Bool.false_or, Bool.true_or, Nat.reduceAdd, Nat.reduceBEq, Nat.reduceLeDiff, Nat.zero_le, Nat.reduceLT, Nat.le_refl, ↓reduceIte, decide_true, decide_false, true_and, and_true, false_imp_iff, true_imp_iff, not_false_eq_true, not_true_eq_false, implies_true, and_self, eq_self, i10, List.length_cons, List.length_nil, vcv, xur, ↓pJ11_indexOf_2, bJ11_indexOf_2, h1, d1]
  refine ct_J11_isLatin1 hg.1 h1 ?_
  simp only [↓vcp, ↓vc_s, vch, vcn, Option.toList_some, Option.toList_none, List.cons_append, List.nil_append, Bool.false_eq_true, Bool.or_false, Bool.or_true, Bool.false_or, Bool.true_or, Nat.reduceAdd, Nat.reduceBEq, Nat.reduceLeDiff, Nat.zero_le, Nat.reduceLT, Nat.le_refl, ↓reduceIte, decide_true, decide_false, true_and, and_true, false_imp_iff, true_imp_iff, not_false_eq_true, not_true_eq_false, implies_true, and_self, eq_self, i10, List.length_cons, List.length_nil, vcv, xur, ↓pJ11_indexOf_2, bJ11_indexOf_2, h1, d1]
  refine ct_J11_length hg (by omega) hs ?_
  simp only [↓vcp, ↓vc_s, vch, vcn, Option.toList_some, Option.toList_none, List.cons_append, List.nil_append, Bool.false_eq_true, Bool.or_false, Bool.or_true, Bool.false_or, Bool.true_or, Nat.reduceAdd, Nat.reduceBEq, Nat.reduceLeDiff, Nat.zero_le, Nat.reduceLT, Nat.le_refl, ↓reduceIte, decide_true, decide_false, true_and, and_true, false_imp_iff, true_imp_iff, not_false_eq_true, not_true_eq_false, implies_true, and_self, eq_self, i10, List.length_cons, List.length_nil, vcv, xur, ↓pJ11_indexOf_2, bJ11_indexOf_2, d1]
  refine ct_J16_indexOf (by omega) h2 h3 h4 hc ?_
  simp only [↓vcp, ↓vc_s, vch, vcn, Option.toList_some, Option.toList_none, List.cons_append, List.nil_append, Bool.false_eq_true, Bool.or_false, Bool.or_true, Bool.false_or, Bool.true_or, Nat.reduceAdd, Nat.reduceBEq, Nat.reduceLeDiff, Nat.zero_le, Nat.reduceLT, Nat.le_refl, ↓reduceIte, decide_true, decide_false, true_and, and_true, false_imp_iff, true_imp_iff, not_false_eq_true, not_true_eq_false, implies_true, and_self, eq_self, i10, List.length_cons, List.length_nil, vcv, xur, ↓pJ11_indexOf_2, bJ11_indexOf_2]
  exact hK
theorem ct_J11_indexOf {g : xG} {d : Nat} {σ : xH} {K : xR → xH → Prop} (hg : gwS g) (hd : 3 ≤ d) {a c : Nat} {w : List Nat} (h : isS σ.1 a w) (hc : c < 256) (hK : K (.inl (some (.int (ixI c w)))) σ) : Ctr g d iJ11_indexOf [.ref a, .int (nI c)] σ K := by
  have hs := h
  obtain ⟨v, h0, z, f, h1, -⟩ := h
  have d1 : 1 ≤ d := by omega
  refine Ctr.of (by decide +kernel) rfl (by simp only [lent_0, lent_i, lent_r, lent_n, lent_l, lent_f, List.length_cons, List.length_nil, bJ11_indexOf]; decide) ?_
  simp only [lpad, lent_0, lent_i, lent_r, lent_n, lent_l, lent_f, List.length_cons, List.length_nil, bJ11_indexOf, Nat.reduceAdd, Nat.reduceSub, List.replicate_succ, List.replicate_zero, List.cons_append, List.nil_append]
  refine VW.go [] 400 ?_
  simp only [↓vcp, ↓vc_s, vch, vcn, Option.toList_some, Option.toList_none, List.cons_append, List.nil_append, Bool.false_eq_true, Bool.or_false, Bool.or_true, Bool.false_or, Bool.true_or, Nat.reduceAdd, Nat.reduceBEq, Nat.reduceLeDiff, Nat.zero_le, Nat.reduceLT, Nat.le_refl, ↓reduceIte, decide_true, decide_false, true_and, and_true, false_imp_iff, true_imp_iff, not_false_eq_true, not_true_eq_false, implies_true, and_self, eq_self, i10, List.length_cons, List.length_nil, vcv, xur, ↓pJ11_indexOf, bJ11_indexOf, h1, d1]
  refine ct_J11_indexOf_2 hg (by omega) hs hc ?_
  simp only [↓vcp, ↓vc_s, vch, vcn, Option.toList_some, Option.toList_none, List.cons_append, List.nil_append, Bool.false_eq_true, Bool.or_false, Bool.or_true, Bool.false_or, Bool.true_or, Nat.reduceAdd, Nat.reduceBEq, Nat.reduceLeDiff, Nat.zero_le, Nat.reduceLT, Nat.le_refl, ↓reduceIte, decide_true, decide_false, true_and, and_true, false_imp_iff, true_imp_iff, not_false_eq_true, not_true_eq_false, implies_true, and_self, eq_self, i10, List.length_cons, List.length_nil, vcv, xur, ↓pJ11_indexOf, bJ11_indexOf]
  exact hK
theorem ct_X8_next {g : xG} {d : Nat} {σ : xH} {K : xR → xH → Prop} (hg : gwS g) (hT : gwT g) (hk : gwK g) (hY : gwY g) {F : xM} (hd : 9 ≤ d) {sc x tl n N p : Nat} {tp : Nat → Nat} {v w0 : Value} (hsc : σ.1 sc = some (ob 5 [.ref x, .ref tl])) (htl : σ.1 tl = some (ob 3 [v, w0, .int (nI n)])) (hn : n ≤ 400) (h : isTp σ x N tp) (hN2 : N ≤ 1280) (hp : p < N) (hF : fz F σ) (hgc : fle (gC g) F)
    (r1 : σ.2.1 + 2006 ≤ gN g) (r2 : σ.2.2 + (2565 * (enT N tp p - p) + 30) ≤ gW g)
    (hK : ∀ (σ' : xH) (F' : xM) (a : Nat) (w : List Nat), fz F' σ' → fex F F' σ.2.1 → σ.2.1 ≤ a → isTok g F' a (if n = 400 then 61 else tkd N tp p) w p → (n ≠ 400 → w = txt N tp p (enT N tp p)) → xg σ σ' (enT N tp p - p + 5) (2565 * (enT N tp p - p) + 30) (fun _ => False) → xWF g σ' → K (.inl (some (.ref a))) σ') : Ctr g d iX8_next [.ref sc, .int (nI p)] σ K := by
  have d1 : 1 ≤ d := by omega
  have hlt := h.lt
  have hN := hlt.2
  have h9 := h
  obtain ⟨tb, tf, t1, -⟩ := h9
  have c1 := hlt.1 p
  have r3 : (σ.2.1 + 1 ≤ gN g) = True := eq_true (by omega)
  have r4 : (σ.2.2 + 3 ≤ gW g) = True := eq_true (by omega)
  have sB := hk.1 1 (by decide)
  have sN := hk.1 13 (by decide)
  have sU := hk.1 14 (by decide)
  have sY := hk.1 15 (by decide)
  have sK := hk.1 12 (by decide)
  have e4 : nI n = 400 ↔ n = 400 := nI_eq (b := 400) (by omega) (by omega)
  refine Ctr.ok fun hok => ?_
  refine Ctr.of (by decide +kernel) rfl (by simp only [lent_0, lent_i, lent_r, lent_n, lent_l, lent_f, List.length_cons, List.length_nil, bX8_next]; decide) ?_
  simp only [lpad, lent_0, lent_i, lent_r, lent_n, lent_l, lent_f, List.length_cons, List.length_nil, bX8_next, Nat.reduceAdd, Nat.reduceSub, List.replicate_succ, List.replicate_zero, List.cons_append, List.nil_append]
  refine VW.wf fun hw => ?_
  have hFn : ∀ z, σ.2.1 ≤ z → F z = none := fun z hz => hF.nn hw hz
  have gl : ∀ z, σ.2.1 ≤ z → g0 g ≤ z := fun z hz => Nat.le_trans hw.1 hz
  by_cases hn4 : n = 400
  · subst hn4
    have z26 : isS F (gT g 26) [] := isS_mono (hT 26 (by decide)) hgc
    refine VW.go [] 400 ?_
    simp only [↓vcp, ↓vc_s, vch, vcn, Option.toList_some, Option.toList_none, List.cons_append, List.nil_append, Bool.false_eq_true, Bool.or_false, Bool.or_true, Bool.false_or, Bool.true_or, Nat.reduceAdd, Nat.reduceBEq, Nat.reduceLeDiff, Nat.zero_le, Nat.reduceLT, Nat.le_refl, ↓reduceIte, decide_true, decide_false, true_and, and_true, false_imp_iff, true_imp_iff, not_false_eq_true, not_true_eq_false, implies_true, and_self, eq_self, i10, List.length_cons, List.length_nil, vcv, xur, ↓pX8_next, bX8_next, hsc, htl, d1]
    refine ct_J2_size htl ?_
    have e5 : (nI 400 = 400) = True := eq_true rfl
    simp only [↓vcp, ↓vc_s, vch, vcn, Option.toList_some, Option.toList_none, List.cons_append, List.nil_append, Bool.false_eq_true, Bool.or_false, Bool.or_true, Bool.false_or, Bool.true_or, Nat.reduceAdd, Nat.reduceBEq, Nat.reduceLeDiff, Nat.zero_le, Nat.reduceLT, Nat.le_refl, ↓reduceIte, decide_true, decide_false, true_and, and_true, false_imp_iff, true_imp_iff, not_false_eq_true, not_true_eq_false, implies_true, and_self, eq_self, i10, List.length_cons, List.length_nil, vcv, xur, ↓pX8_next, bX8_next, e5, r3, r4, sB, d1]
    refine Ctr.wf (ct_X9_init (by omega) (gl _ (Nat.le_refl _)) (by show xu _ _ _ _ = _; exact xu_same _ _ _) (fun hw' => ?_))
    simp only [↓vcp, ↓vc_s, vch, vcn, Option.toList_some, Option.toList_none, List.cons_append, List.nil_append, Bool.false_eq_true, Bool.or_false, Bool.or_true, Bool.false_or, Bool.true_or, Nat.reduceAdd, Nat.reduceBEq, Nat.reduceLeDiff, Nat.zero_le, Nat.reduceLT, Nat.le_refl, ↓reduceIte, decide_true, decide_false, true_and, and_true, false_imp_iff, true_imp_iff, not_false_eq_true, not_true_eq_false, implies_true, and_self, eq_self, i10, List.length_cons, List.length_nil, vcv, xur, ↓pX8_next, bX8_next]
    have hF' : fz F (xu (xu σ.1 σ.2.1 (ob 6 [.null, .null, .int 0])) σ.2.1 (ob 6 [.ref (soA g 1), .ref (gT g 26), .int (nI p)]), σ.2.1 + 1, σ.2.2 + 3) := hF.up (fun z e q => by
      have := hF.lt hw q
      show xu (xu _ _ _) _ _ z = _
      rw [xu_ne _ _ (by omega), xu_ne _ _ (by omega)])
    have h6 : (xu (xu σ.1 σ.2.1 (ob 6 [.null, .null, .int 0])) σ.2.1 (ob 6 [.ref (soA g 1), .ref (gT g 26), .int (nI p)])) σ.2.1 = some (ob 6 [.ref (soA g 1), .ref (gT g 26), .int (nI p)]) := xu_same _ _ _
    rw [xu_xu] at hF' h6 hw'
    refine hK _ (xu F σ.2.1 (ob 6 [.ref (soA g 1), .ref (gT g 26), .int (nI p)])) σ.2.1 [] (hF'.add h6) (fex_add (hFn _ (Nat.le_refl _)) (Nat.le_refl _)) (Nat.le_refl _) ⟨⟨gT g 26, xu_same _ _ _, isS_mono z26 (fle_xu (hFn _ (Nat.le_refl _))), fun q => absurd q (by rw [if_pos rfl]; decide)⟩, fun q => absurd q (by rw [if_pos rfl]; decide), by omega, Or.inr (Or.inr rfl)⟩ (fun q => (q rfl).elim) ⟨by show σ.2.1 ≤ σ.2.1 + 1; omega, by show σ.2.1 + 1 ≤ _; omega, by show σ.2.2 + 3 ≤ _; omega, fun z hz _ => ?_⟩ hw'
    show xu _ _ _ z = _
    rw [xu_ne _ _ (by omega)]
  · rw [if_neg hn4] at hK
    have e5 : (nI n = 400) = False := eq_false (fun z => hn4 (e4.mp z))
    -- a text behind which the token is made
    have T1 : ∀ (k m : Nat), enT N tp p = p + m → tkd N tp p = k → (kT k = true → txt N tp p (p + m) = wtx k) → ∀ σ1 s v, nwS σ1.1 s v (txt N tp p (p + m)) → σ.2.1 ≤ s → σ.2.1 ≤ v → ∀ a, σ.2.1 ≤ a → xWF g σ1 → σ1.1 a = some (ob 6 [.ref (soA g (stK k)), .ref s, .int (nI p)]) → xg σ σ1 (m + 5) (m * (2 * m + 2) + m + 27) (fun _ => False) → K (.inl (some (.ref a))) σ1 := by
      intro k m he hkd hkw σ1 s v hs ls lv a la hw1 ha hx
      have hF1 : fz F σ1 := hF.kx hw hx (fun _ _ _ q => q)
      obtain ⟨F', f1, f2, f3⟩ := tok_new (p := p) (k := k) hw1 hF1 ha hs la ls lv hFn hw.1 (fun z => by have := tkd_20 (hkd.trans z); rw [txt_len]; omega) hkw (by omega) (by have := tkd_le N tp p; omega)
      have hen := enT_le (tp := tp) hp
      have hm : m ≤ 1280 := by omega
      have hmm : m * (2 * m + 2) ≤ m * 2562 := Nat.mul_le_mul_left m (by omega)
      refine hK σ1 F' a (txt N tp p (p + m)) f1 f2 la (by rw [hkd]; exact f3) (fun _ => by rw [he]) (hx.mono (by omega) (by omega) (fun _ _ q => q)) hw1
    have hen := enT_le (tp := tp) hp
    have hgt := enT_gt N tp p
    have nI1 : nI p + 1 = nI (p + 1) := nI_1 p
    -- the text first, then the token (words)
    have A : isLt (cA N tp p) = true → VW g iX8_next K d 81 [some (.ref sc), some (.int (nI p)), some (.int (nI (cA N tp p))), some (.int (nI (enT N tp p))), none] [] σ := by
      intro hl
      obtain ⟨m, hm⟩ : ∃ m, enT N tp p = p + m := ⟨enT N tp p - p, by omega⟩
      have hmm : m * (2 * m + 2) ≤ m * 2562 := Nat.mul_le_mul_left m (by omega)
      rw [hm]
      rw [hm, Nat.add_sub_cancel_left] at r2
      have hk0 : tkd N tp p = if 10 < m then 61 else wk (txt N tp p (p + m)) := by
        unfold tkd
        rw [if_pos hl, hm, Nat.add_sub_cancel_left]
      refine VW.go [] 400 ?_
      simp only [↓vcp, ↓vc_s, vch, vcn, Option.toList_some, Option.toList_none, List.cons_append, List.nil_append, Bool.false_eq_true, Bool.or_false, Bool.or_true, Bool.false_or, Bool.true_or, Nat.reduceAdd, Nat.reduceBEq, Nat.reduceLeDiff, Nat.zero_le, Nat.reduceLT, Nat.le_refl, ↓reduceIte, decide_true, decide_false, true_and, and_true, false_imp_iff, true_imp_iff, not_false_eq_true, not_true_eq_false, implies_true, and_self, eq_self, i10, List.length_cons, List.length_nil, vcv, xur, ↓pX8_next, bX8_next, hsc, t1, d1]
      refine Ctr.wf (ct_X2_text hg (by omega) h (by omega) (by omega) (by omega) (fun σ1 s v s1 s2 s3 s4 hw1 => ?_))
      have s5 := s1.iS
      have s6 := s5
      obtain ⟨v9, h09, z9, f9, s7, -⟩ := s6
      have e1 := s4.2.1
      have e2 := s4.2.2.1
      have e3 := s4.1
      have r5 : (σ1.2.1 + 1 ≤ gN g) = True := eq_true (by omega)
      have r6 : (σ1.2.2 + 3 ≤ gW g) = True := eq_true (by omega)
      have ns : ¬ s = σ1.2.1 := hw1.nl s7
      have s8 : isS (xu σ1.1 σ1.2.1 (ob 6 [.null, .null, .int 0])) s (txt N tp p (p + m)) := isS_mono s5 (fun b e q => by rw [xu_ne _ _ (hw1.nl q)]; exact q)
      have s9 : (xu σ1.1 σ1.2.1 (ob 6 [.null, .null, .int 0])) s = some (ob 8 [.ref v9, .int 0, .int h09, .int z9]) := by rw [xu_ne _ _ ns]; exact s7
      have fin : ∀ k, tkd N tp p = k → ∀ hw2 : xWF g (xu σ1.1 σ1.2.1 (ob 6 [.ref (soA g (stK k)), .ref s, .int (nI p)]), σ1.2.1 + 1, σ1.2.2 + 3), K (.inl (some (.ref σ1.2.1))) (xu σ1.1 σ1.2.1 (ob 6 [.ref (soA g (stK k)), .ref s, .int (nI p)]), σ1.2.1 + 1, σ1.2.2 + 3) := by
        intro k hk9 hw2
        refine T1 k m hm hk9 (fun q => by have := tkd_txt (N := N) (tp := tp) (p := p) (by rw [hk9]; exact q); rw [hk9, hm] at this; exact this) _ s v ?_ s2 s3 σ1.2.1 e3 hw2 (by show xu _ _ _ _ = _; exact xu_same _ _ _) ⟨by show σ.2.1 ≤ σ1.2.1 + 1; omega, by show σ1.2.1 + 1 ≤ _; omega, by show σ1.2.2 + 3 ≤ _; omega, fun z hz _ => ?_⟩
        · obtain ⟨f, q1, q2, q3⟩ := s1
          exact ⟨f, by show xu _ _ _ _ = _; rw [xu_ne _ _ (hw1.nl q1)]; exact q1, by show xu _ _ _ _ = _; rw [xu_ne _ _ (hw1.nl q2)]; exact q2, q3⟩
        · show xu _ _ _ z = _
          rw [xu_ne _ _ (by omega)]
          exact s4.2.2.2 z hz (fun q => q)
      simp only [↓vcp, ↓vc_s, vch, vcn, Option.toList_some, Option.toList_none, List.cons_append, List.nil_append, Bool.false_eq_true, Bool.or_false, Bool.or_true, Bool.false_or, Bool.true_or, Nat.reduceAdd, Nat.reduceBEq, Nat.reduceLeDiff, Nat.zero_le, Nat.reduceLT, Nat.le_refl, ↓reduceIte, decide_true, decide_false, true_and, and_true, false_imp_iff, true_imp_iff, not_false_eq_true, not_true_eq_false, implies_true, and_self, eq_self, i10, List.length_cons, List.length_nil, vcv, xur, ↓pX8_next, bX8_next, r5, r6, d1, s9]
      refine ct_J11_length hg (by omega) s8 ?_
      rw [txt_len, Nat.add_sub_cancel_left]
      have l1 : (nI m ≤ 10) ↔ m ≤ 10 := nI_leI (b := 10) (by omega) (by omega)
      by_cases hm10 : m ≤ 10
      · have l2 : (nI m ≤ 10) = True := eq_true (l1.mpr hm10)
        rw [if_neg (by omega)] at hk0
        simp only [↓vcp, ↓vc_s, vch, vcn, Option.toList_some, Option.toList_none, List.cons_append, List.nil_append, Bool.false_eq_true, Bool.or_false, Bool.or_true, Bool.false_or, Bool.true_or, Nat.reduceAdd, Nat.reduceBEq, Nat.reduceLeDiff, Nat.zero_le, Nat.reduceLT, Nat.le_refl, ↓reduceIte, decide_true, decide_false, true_and, and_true, false_imp_iff, true_imp_iff, not_false_eq_true, not_true_eq_false, implies_true, and_self, eq_self, i10, List.length_cons, List.length_nil, vcv, xur, ↓pX8_next, bX8_next, l2, d1]
        refine ct_X8_isKey hg hT hY (by omega) s8 ?_
        by_cases hw20 : wk (txt N tp p (p + m)) < 20
        · rw [decide_eq_true hw20]
          have e9 : soA g (stK (wk (txt N tp p (p + m)))) = soA g 12 := by unfold stK; rw [if_pos hw20]
          have fin2 := fin _ hk0
          rw [e9] at fin2
          simp only [↓vcp, ↓vc_s, vch, vcn, Option.toList_some, Option.toList_none, List.cons_append, List.nil_append, Bool.false_eq_true, Bool.or_false, Bool.or_true, Bool.false_or, Bool.true_or, Nat.reduceAdd, Nat.reduceBEq, Nat.reduceLeDiff, Nat.zero_le, Nat.reduceLT, Nat.le_refl, ↓reduceIte, decide_true, decide_false, true_and, and_true, false_imp_iff, true_imp_iff, not_false_eq_true, not_true_eq_false, implies_true, and_self, eq_self, i10, List.length_cons, List.length_nil, vcv, xur, ↓pX8_next, bX8_next, b2i_t, sK, d1]
          refine Ctr.wf (ct_X9_init (by omega) (gl _ (by omega)) (by show xu _ _ _ _ = _; exact xu_same _ _ _) (fun hw2 => ?_))
          simp only [xu_xu] at hw2
          simp only [↓vcp, ↓vc_s, vch, vcn, Option.toList_some, Option.toList_none, List.cons_append, List.nil_append, Bool.false_eq_true, Bool.or_false, Bool.or_true, Bool.false_or, Bool.true_or, Nat.reduceAdd, Nat.reduceBEq, Nat.reduceLeDiff, Nat.zero_le, Nat.reduceLT, Nat.le_refl, ↓reduceIte, decide_true, decide_false, true_and, and_true, false_imp_iff, true_imp_iff, not_false_eq_true, not_true_eq_false, implies_true, and_self, eq_self, i10, List.length_cons, List.length_nil, vcv, xur, ↓pX8_next, bX8_next]
          exact fin2 hw2
        · rw [decide_eq_false hw20]
          have e8 : wk (txt N tp p (p + m)) = 20 := by have := wk_le (txt N tp p (p + m)); omega
          rw [e8] at hk0
          have fin2 := fin _ hk0
          simp only [↓vcp, ↓vc_s, vch, vcn, Option.toList_some, Option.toList_none, List.cons_append, List.nil_append, Bool.false_eq_true, Bool.or_false, Bool.or_true, Bool.false_or, Bool.true_or, Nat.reduceAdd, Nat.reduceBEq, Nat.reduceLeDiff, Nat.zero_le, Nat.reduceLT, Nat.le_refl, ↓reduceIte, decide_true, decide_false, true_and, and_true, false_imp_iff, true_imp_iff, not_false_eq_true, not_true_eq_false, implies_true, and_self, eq_self, i10, List.length_cons, List.length_nil, vcv, xur, ↓pX8_next, bX8_next, b2i_f, sN, d1]
          refine Ctr.wf (ct_X9_init (by omega) (gl _ (by omega)) (by show xu _ _ _ _ = _; exact xu_same _ _ _) (fun hw2 => ?_))
          simp only [xu_xu] at hw2
          simp only [↓vcp, ↓vc_s, vch, vcn, Option.toList_some, Option.toList_none, List.cons_append, List.nil_append, Bool.false_eq_true, Bool.or_false, Bool.or_true, Bool.false_or, Bool.true_or, Nat.reduceAdd, Nat.reduceBEq, Nat.reduceLeDiff, Nat.zero_le, Nat.reduceLT, Nat.le_refl, ↓reduceIte, decide_true, decide_false, true_and, and_true, false_imp_iff, true_imp_iff, not_false_eq_true, not_true_eq_false, implies_true, and_self, eq_self, i10, List.length_cons, List.length_nil, vcv, xur, ↓pX8_next, bX8_next]
          exact fin2 hw2
      · have l2 : (nI m ≤ 10) = False := eq_false (fun z => hm10 (l1.mp z))
        rw [if_pos (by omega)] at hk0
        have fin2 := fin _ hk0
        simp only [↓vcp, ↓vc_s, vch, vcn, Option.toList_some, Option.toList_none, List.cons_append, List.nil_append, Bool.false_eq_true, Bool.or_false, Bool.or_true, Bool.false_or, Bool.true_or, Nat.reduceAdd, Nat.reduceBEq, Nat.reduceLeDiff, Nat.zero_le, Nat.reduceLT, Nat.le_refl, ↓reduceIte, decide_true, decide_false, true_and, and_true, false_imp_iff, true_imp_iff, not_false_eq_true, not_true_eq_false, implies_true, and_self, eq_self, i10, List.length_cons, List.length_nil, vcv, xur, ↓pX8_next, bX8_next, l2, sB, d1]
        refine Ctr.wf (ct_X9_init (by omega) (gl _ (by omega)) (by show xu _ _ _ _ = _; exact xu_same _ _ _) (fun hw2 => ?_))
        simp only [xu_xu] at hw2
        simp only [↓vcp, ↓vc_s, vch, vcn, Option.toList_some, Option.toList_none, List.cons_append, List.nil_append, Bool.false_eq_true, Bool.or_false, Bool.or_true, Bool.false_or, Bool.true_or, Nat.reduceAdd, Nat.reduceBEq, Nat.reduceLeDiff, Nat.zero_le, Nat.reduceLT, Nat.le_refl, ↓reduceIte, decide_true, decide_false, true_and, and_true, false_imp_iff, true_imp_iff, not_false_eq_true, not_true_eq_false, implies_true, and_self, eq_self, i10, List.length_cons, List.length_nil, vcv, xur, ↓pX8_next, bX8_next]
        exact fin2 hw2
    -- the token first, then its text (numbers, signs)
    have fin : ∀ (k m pc : Nat), enT N tp p = p + m → tkd N tp p = k → ∀ σ1 s v, nwS σ1.1 s v (txt N tp p (p + m)) → σ.2.1 + 1 ≤ s → σ.2.1 + 1 ≤ v → xg (xu σ.1 σ.2.1 (ob 6 [.null, .null, .int 0]), σ.2.1 + 1, σ.2.2 + 3) σ1 (m + 4) (m * (2 * m + 2) + m + 24) (fun _ => False) → xWF g (xu σ1.1 σ.2.1 (ob 6 [.ref (soA g (stK k)), .ref s, .int (nI p)]), σ1.2) → K (.inl (some (.ref σ.2.1))) (xu σ1.1 σ.2.1 (ob 6 [.ref (soA g (stK k)), .ref s, .int (nI p)]), σ1.2) := by
      intro k m pc hm hk9 σ1 s v s1 s2 s3 s4 hw2
      have e1 := s4.2.1
      have e2 := s4.2.2.1
      have e3 := s4.1
      simp only at e1 e2 e3
      refine T1 k m hm hk9 (fun q => by have := tkd_txt (N := N) (tp := tp) (p := p) (by rw [hk9]; exact q); rw [hk9, hm] at this; exact this) _ s v ?_ (by omega) (by omega) σ.2.1 (Nat.le_refl _) hw2 (by show xu _ _ _ _ = _; exact xu_same _ _ _) ⟨by show σ.2.1 ≤ σ1.2.1; omega, by show σ1.2.1 ≤ _; omega, by show σ1.2.2 ≤ _; omega, fun z hz _ => ?_⟩
      · obtain ⟨f, q1, q2, q3⟩ := s1
        exact ⟨f, by show xu _ _ _ _ = _; rw [xu_ne _ _ (by omega)]; exact q1, by show xu _ _ _ _ = _; rw [xu_ne _ _ (by omega)]; exact q2, q3⟩
      · show xu _ _ _ z = _
        rw [xu_ne _ _ (by omega), s4.2.2.2 z (by show z < σ.2.1 + 1; omega) (fun q => q)]
        show xu _ _ _ z = _
        rw [xu_ne _ _ (by omega)]
    have T2 : isTp (xu σ.1 σ.2.1 (ob 6 [.null, .null, .int 0]), σ.2.1 + 1, σ.2.2 + 3) x N tp := by
      obtain ⟨b, f, q1, q2, q3⟩ := h
      exact ⟨b, f, by show xu _ _ _ _ = _; rw [xu_ne _ _ (hw.nl q1)]; exact q1, by show xu _ _ _ _ = _; rw [xu_ne _ _ (hw.nl q2)]; exact q2, q3⟩
    have sc1 : (xu σ.1 σ.2.1 (ob 6 [.null, .null, .int 0])) sc = some (ob 5 [.ref x, .ref tl]) := by rw [xu_ne _ _ (hw.nl hsc)]; exact hsc
    have t1n : (xu σ.1 σ.2.1 (ob 6 [.null, .null, .int 0])) x = some (ob 1 [.ref tb, .int (nI N)]) := by rw [xu_ne _ _ (hw.nl t1)]; exact t1
    have B : isLt (cA N tp p) = false → isDg (cA N tp p) = true → VW g iX8_next K d 163 [some (.ref sc), some (.int (nI p)), some (.int (nI (cA N tp p))), some (.int (nI (enT N tp p))), none] [] σ := by
      intro hl hdg
      obtain ⟨m, hm⟩ : ∃ m, enT N tp p = p + m := ⟨enT N tp p - p, by omega⟩
      have hmm : m * (2 * m + 2) ≤ m * 2562 := Nat.mul_le_mul_left m (by omega)
      rw [hm]
      rw [hm, Nat.add_sub_cancel_left] at r2
      have hk0 : tkd N tp p = if 6 < m then 61 else 21 := by
        unfold tkd
        rw [if_neg (by rw [hl]; decide), if_pos hdg, hm, Nat.add_sub_cancel_left]
      have l0 : nI (p + m) - nI p = nI m := by rw [nI_sub (by omega), Nat.add_sub_cancel_left]
      have l1 : (nI m ≤ 6) ↔ m ≤ 6 := nI_leI (b := 6) (by omega) (by omega)
      by_cases hm6 : m ≤ 6
      · have l2 : (nI m ≤ 6) = True := eq_true (l1.mpr hm6)
        rw [if_neg (by omega)] at hk0
        have fin2 := fin 21 m 0 hm hk0
        refine VW.go [] 400 ?_
        simp only [↓vcp, ↓vc_s, vch, vcn, Option.toList_some, Option.toList_none, List.cons_append, List.nil_append, Bool.false_eq_true, Bool.or_false, Bool.or_true, Bool.false_or, Bool.true_or, Nat.reduceAdd, Nat.reduceBEq, Nat.reduceLeDiff, Nat.zero_le, Nat.reduceLT, Nat.le_refl, ↓reduceIte, decide_true, decide_false, true_and, and_true, false_imp_iff, true_imp_iff, not_false_eq_true, not_true_eq_false, implies_true, and_self, eq_self, i10, List.length_cons, List.length_nil, vcv, xur, ↓pX8_next, bX8_next, r3, r4, l0, l2, sU, sc1, t1n, d1]
        refine ct_X2_text hg (by omega) T2 (by omega) (by show σ.2.1 + 1 + _ ≤ _; omega) (by show σ.2.2 + 3 + _ ≤ _; omega) (fun σ1 s v s1 s2 s3 s4 => ?_)
        simp only [↓vcp, ↓vc_s, vch, vcn, Option.toList_some, Option.toList_none, List.cons_append, List.nil_append, Bool.false_eq_true, Bool.or_false, Bool.or_true, Bool.false_or, Bool.true_or, Nat.reduceAdd, Nat.reduceBEq, Nat.reduceLeDiff, Nat.zero_le, Nat.reduceLT, Nat.le_refl, ↓reduceIte, decide_true, decide_false, true_and, and_true, false_imp_iff, true_imp_iff, not_false_eq_true, not_true_eq_false, implies_true, and_self, eq_self, i10, List.length_cons, List.length_nil, vcv, xur, ↓pX8_next, bX8_next, d1]
        refine Ctr.wf (ct_X9_init (by omega) (gl _ (Nat.le_refl _)) (by rw [s4.2.2.2 σ.2.1 (by show σ.2.1 < σ.2.1 + 1; omega) (fun q => q)]; exact xu_same _ _ _) (fun hw2 => ?_))
        simp only [↓vcp, ↓vc_s, vch, vcn, Option.toList_some, Option.toList_none, List.cons_append, List.nil_append, Bool.false_eq_true, Bool.or_false, Bool.or_true, Bool.false_or, Bool.true_or, Nat.reduceAdd, Nat.reduceBEq, Nat.reduceLeDiff, Nat.zero_le, Nat.reduceLT, Nat.le_refl, ↓reduceIte, decide_true, decide_false, true_and, and_true, false_imp_iff, true_imp_iff, not_false_eq_true, not_true_eq_false, implies_true, and_self, eq_self, i10, List.length_cons, List.length_nil, vcv, xur, ↓pX8_next, bX8_next]
        exact fin2 σ1 s v s1 s2 s3 s4 hw2
      · have l2 : (nI m ≤ 6) = False := eq_false (fun z => hm6 (l1.mp z))
        rw [if_pos (by omega)] at hk0
        have fin2 := fin 61 m 0 hm hk0
        refine VW.go [] 400 ?_
        simp only [↓vcp, ↓vc_s, vch, vcn, Option.toList_some, Option.toList_none, List.cons_append, List.nil_append, Bool.false_eq_true, Bool.or_false, Bool.or_true, Bool.false_or, Bool.true_or, Nat.reduceAdd, Nat.reduceBEq, Nat.reduceLeDiff, Nat.zero_le, Nat.reduceLT, Nat.le_refl, ↓reduceIte, decide_true, decide_false, true_and, and_true, false_imp_iff, true_imp_iff, not_false_eq_true, not_true_eq_false, implies_true, and_self, eq_self, i10, List.length_cons, List.length_nil, vcv, xur, ↓pX8_next, bX8_next, r3, r4, l0, l2, sB, sc1, t1n, d1]
        refine ct_X2_text hg (by omega) T2 (by omega) (by show σ.2.1 + 1 + _ ≤ _; omega) (by show σ.2.2 + 3 + _ ≤ _; omega) (fun σ1 s v s1 s2 s3 s4 => ?_)
        simp only [↓vcp, ↓vc_s, vch, vcn, Option.toList_some, Option.toList_none, List.cons_append, List.nil_append, Bool.false_eq_true, Bool.or_false, Bool.or_true, Bool.false_or, Bool.true_or, Nat.reduceAdd, Nat.reduceBEq, Nat.reduceLeDiff, Nat.zero_le, Nat.reduceLT, Nat.le_refl, ↓reduceIte, decide_true, decide_false, true_and, and_true, false_imp_iff, true_imp_iff, not_false_eq_true, not_true_eq_false, implies_true, and_self, eq_self, i10, List.length_cons, List.length_nil, vcv, xur, ↓pX8_next, bX8_next, d1]
        refine Ctr.wf (ct_X9_init (by omega) (gl _ (Nat.le_refl _)) (by rw [s4.2.2.2 σ.2.1 (by show σ.2.1 < σ.2.1 + 1; omega) (fun q => q)]; exact xu_same _ _ _) (fun hw2 => ?_))
        simp only [↓vcp, ↓vc_s, vch, vcn, Option.toList_some, Option.toList_none, List.cons_append, List.nil_append, Bool.false_eq_true, Bool.or_false, Bool.or_true, Bool.false_or, Bool.true_or, Nat.reduceAdd, Nat.reduceBEq, Nat.reduceLeDiff, Nat.zero_le, Nat.reduceLT, Nat.le_refl, ↓reduceIte, decide_true, decide_false, true_and, and_true, false_imp_iff, true_imp_iff, not_false_eq_true, not_true_eq_false, implies_true, and_self, eq_self, i10, List.length_cons, List.length_nil, vcv, xur, ↓pX8_next, bX8_next]
        exact fin2 σ1 s v s1 s2 s3 s4 hw2
    have C : isLt (cA N tp p) = false → isDg (cA N tp p) = false → VW g iX8_next K d 226 [some (.ref sc), some (.int (nI p)), some (.int (nI (cA N tp p))), some (.int (nI (enT N tp p))), none] [] σ := by
      intro hl hdg
      obtain ⟨m, hm⟩ : ∃ m, enT N tp p = p + m := ⟨enT N tp p - p, by omega⟩
      have hmm : m * (2 * m + 2) ≤ m * 2562 := Nat.mul_le_mul_left m (by omega)
      have hsy : (enT N tp p = p + 2 → cA N tp p = 60 ∨ cA N tp p = 62) := by
        intro z
        unfold enT at z
        rw [if_neg (by rw [hl]; decide), if_neg (by rw [hdg]; decide)] at z
        split at z
        · next y => exact y.1
        · omega
      have hk0 : stK (tkd N tp p) = if (sgF (cA N tp p) sgL 0).isSome then 15 else 1 := by
        unfold tkd
        rw [if_neg (by rw [hl]; decide), if_neg (by rw [hdg]; decide)]
        by_cases z : enT N tp p = p + 2
        · rw [if_pos z]
          rcases hsy z with y | y
          · rw [y]; decide
          · rw [y]; decide
        · rw [if_neg z]
          unfold sgK
          cases e : sgF (cA N tp p) sgL 0 with
          | none => rfl
          | some j =>
            obtain ⟨-, b, -⟩ := sgF_spec (cA N tp p) sgL 0 j e
            have b' : j < 13 := by simpa [sgL] using b
            show stK (22 + j) = 15
            unfold stK
            rw [if_neg (by omega), if_neg (by omega), if_neg (by omega), if_neg (by omega), if_neg (by omega)]
      have hix := ix27 ⟨cA N tp p, c1⟩
      simp only at hix
      rw [hm]
      rw [hm, Nat.add_sub_cancel_left] at r2
      have fin2 := fin _ m 0 hm rfl
      rw [hk0] at fin2
      have z27 : isS (xu σ.1 σ.2.1 (ob 6 [.null, .null, .int 0])) (gT g 27) (txI 27) := isS_mono (isS_gC hok hw (hT 27 (by decide))) (fun b e q => by rw [xu_ne _ _ (hw.nl q)]; exact q)
      have z28 := z27
      obtain ⟨v9, h9, y9, f9, z29, -⟩ := z28
      have key : ∀ so : Nat, so = (if (sgF (cA N tp p) sgL 0).isSome then 15 else 1) → VW g iX8_next K d 252 [some (.ref sc), some (.int (nI p)), some (.int (nI (cA N tp p))), some (.int (nI (p + m))), none] [.ref (soA g so), .ref σ.2.1, .ref σ.2.1] (xu σ.1 σ.2.1 (ob 6 [.null, .null, .int 0]), σ.2.1 + 1, σ.2.2 + 3) := by
        intro so hso
        rw [← hso] at fin2
        refine VW.go [] 400 ?_
        simp only [↓vcp, ↓vc_s, vch, vcn, Option.toList_some, Option.toList_none, List.cons_append, List.nil_append, Bool.false_eq_true, Bool.or_false, Bool.or_true, Bool.false_or, Bool.true_or, Nat.reduceAdd, Nat.reduceBEq, Nat.reduceLeDiff, Nat.zero_le, Nat.reduceLT, Nat.le_refl, ↓reduceIte, decide_true, decide_false, true_and, and_true, false_imp_iff, true_imp_iff, not_false_eq_true, not_true_eq_false, implies_true, and_self, eq_self, i10, List.length_cons, List.length_nil, vcv, xur, ↓pX8_next, bX8_next, sc1, t1n, d1]
        refine ct_X2_text hg (by omega) T2 (by omega) (by show σ.2.1 + 1 + _ ≤ _; omega) (by show σ.2.2 + 3 + _ ≤ _; omega) (fun σ1 s v s1 s2 s3 s4 => ?_)
        simp only [↓vcp, ↓vc_s, vch, vcn, Option.toList_some, Option.toList_none, List.cons_append, List.nil_append, Bool.false_eq_true, Bool.or_false, Bool.or_true, Bool.false_or, Bool.true_or, Nat.reduceAdd, Nat.reduceBEq, Nat.reduceLeDiff, Nat.zero_le, Nat.reduceLT, Nat.le_refl, ↓reduceIte, decide_true, decide_false, true_and, and_true, false_imp_iff, true_imp_iff, not_false_eq_true, not_true_eq_false, implies_true, and_self, eq_self, i10, List.length_cons, List.length_nil, vcv, xur, ↓pX8_next, bX8_next, d1]
        refine Ctr.wf (ct_X9_init (by omega) (gl _ (Nat.le_refl _)) (by rw [s4.2.2.2 σ.2.1 (by show σ.2.1 < σ.2.1 + 1; omega) (fun q => q)]; exact xu_same _ _ _) (fun hw2 => ?_))
        simp only [↓vcp, ↓vc_s, vch, vcn, Option.toList_some, Option.toList_none, List.cons_append, List.nil_append, Bool.false_eq_true, Bool.or_false, Bool.or_true, Bool.false_or, Bool.true_or, Nat.reduceAdd, Nat.reduceBEq, Nat.reduceLeDiff, Nat.zero_le, Nat.reduceLT, Nat.le_refl, ↓reduceIte, decide_true, decide_false, true_and, and_true, false_imp_iff, true_imp_iff, not_false_eq_true, not_true_eq_false, implies_true, and_self, eq_self, i10, List.length_cons, List.length_nil, vcv, xur, ↓pX8_next, bX8_next]
        exact fin2 σ1 s v s1 s2 s3 s4 hw2
      by_cases c0 : cA N tp p = 0
      · have k1 := key 1 (by rw [c0]; decide)
        have l1 : (nI (cA N tp p) ≤ 0) = True := eq_true (by rw [c0]; decide)
        refine VW.go [252] 400 ?_
        simp only [↓vcp, ↓vc_s, vch, vcn, Option.toList_some, Option.toList_none, List.cons_append, List.nil_append, Bool.false_eq_true, Bool.or_false, Bool.or_true, Bool.false_or, Bool.true_or, Nat.reduceAdd, Nat.reduceBEq, Nat.reduceLeDiff, Nat.zero_le, Nat.reduceLT, Nat.le_refl, ↓reduceIte, decide_true, decide_false, true_and, and_true, false_imp_iff, true_imp_iff, not_false_eq_true, not_true_eq_false, implies_true, and_self, eq_self, i10, List.length_cons, List.length_nil, vcv, xur, ↓pX8_next, bX8_next, r3, r4, l1, sB]
        exact k1
      · have l1 : (nI (cA N tp p) ≤ 0) = False := eq_false (nI_nle (by omega) (by omega))
        refine VW.go [252] 400 ?_
        simp only [↓vcp, ↓vc_s, vch, vcn, Option.toList_some, Option.toList_none, List.cons_append, List.nil_append, Bool.false_eq_true, Bool.or_false, Bool.or_true, Bool.false_or, Bool.true_or, Nat.reduceAdd, Nat.reduceBEq, Nat.reduceLeDiff, Nat.zero_le, Nat.reduceLT, Nat.le_refl, ↓reduceIte, decide_true, decide_false, true_and, and_true, false_imp_iff, true_imp_iff, not_false_eq_true, not_true_eq_false, implies_true, and_self, eq_self, i10, List.length_cons, List.length_nil, vcv, xur, ↓pX8_next, bX8_next, r3, r4, l1, sB, sY, z29, d1]
        refine ct_J11_indexOf hg (by omega) z27 c1 ?_
        cases e : sgF (cA N tp p) (txI 27) 0 with
        | none =>
          have k1 := key 1 (by rw [← hix, e]; rfl)
          have l2 : ((-1 : Int32) < 0) = True := eq_true (by decide)
          unfold ixI
          rw [e]
          simp only [↓vcp, ↓vc_s, vch, vcn, Option.toList_some, Option.toList_none, List.cons_append, List.nil_append, Bool.false_eq_true, Bool.or_false, Bool.or_true, Bool.false_or, Bool.true_or, Nat.reduceAdd, Nat.reduceBEq, Nat.reduceLeDiff, Nat.zero_le, Nat.reduceLT, Nat.le_refl, ↓reduceIte, decide_true, decide_false, true_and, and_true, false_imp_iff, true_imp_iff, not_false_eq_true, not_true_eq_false, implies_true, and_self, eq_self, i10, List.length_cons, List.length_nil, vcv, xur, ↓pX8_next, bX8_next, l2, sB]
          exact k1
        | some j =>
          have k1 := key 15 (by rw [← hix, e]; rfl)
          obtain ⟨-, b, -⟩ := sgF_spec (cA N tp p) (txI 27) 0 j e
          have b' : j < 13 := by
            have e13 : (txI 27).length = 13 := by decide +kernel
            omega
          have l2 : (nI j < 0) = False := eq_false (nI_pos (by omega))
          unfold ixI
          rw [e]
          simp only [↓vcp, ↓vc_s, vch, vcn, Option.toList_some, Option.toList_none, List.cons_append, List.nil_append, Bool.false_eq_true, Bool.or_false, Bool.or_true, Bool.false_or, Bool.true_or, Nat.reduceAdd, Nat.reduceBEq, Nat.reduceLeDiff, Nat.zero_le, Nat.reduceLT, Nat.le_refl, ↓reduceIte, decide_true, decide_false, true_and, and_true, false_imp_iff, true_imp_iff, not_false_eq_true, not_true_eq_false, implies_true, and_self, eq_self, i10, List.length_cons, List.length_nil, vcv, xur, ↓pX8_next, bX8_next, l2, sY]
          exact k1
    have L1 : isLt (cA N tp p) = true → ∀ n q, N ≤ q + n → q ≤ 2001 → ext isAn (cA N tp) n q = enT N tp p → VW g iX8_next K d 47 [some (.ref sc), some (.int (nI p)), some (.int (nI (cA N tp p))), some (.int (nI q)), none] [] σ := by
      intro hl n
      induction n with
      | zero =>
        intro q h1 h2 h3
        unfold ext at h3
        subst h3
        have z0 : cA N tp (enT N tp p) = 0 := cA_out (by omega)
        refine VW.go [47,81] 400 ?_
        simp only [↓vcp, ↓vc_s, vch, vcn, Option.toList_some, Option.toList_none, List.cons_append, List.nil_append, Bool.false_eq_true, Bool.or_false, Bool.or_true, Bool.false_or, Bool.true_or, Nat.reduceAdd, Nat.reduceBEq, Nat.reduceLeDiff, Nat.zero_le, Nat.reduceLT, Nat.le_refl, ↓reduceIte, decide_true, decide_false, true_and, and_true, false_imp_iff, true_imp_iff, not_false_eq_true, not_true_eq_false, implies_true, and_self, eq_self, i10, List.length_cons, List.length_nil, vcv, xur, ↓pX8_next, bX8_next, hsc, t1, d1]
        refine ct_X2_at h (by omega) ?_
        rw [z0]
        simp only [↓vcp, ↓vc_s, vch, vcn, Option.toList_some, Option.toList_none, List.cons_append, List.nil_append, Bool.false_eq_true, Bool.or_false, Bool.or_true, Bool.false_or, Bool.true_or, Nat.reduceAdd, Nat.reduceBEq, Nat.reduceLeDiff, Nat.zero_le, Nat.reduceLT, Nat.le_refl, ↓reduceIte, decide_true, decide_false, true_and, and_true, false_imp_iff, true_imp_iff, not_false_eq_true, not_true_eq_false, implies_true, and_self, eq_self, i10, List.length_cons, List.length_nil, vcv, xur, ↓pX8_next, bX8_next, d1]
        refine ct_X8_isLetter (c := 0) (by decide) ?_
        have y0 : isLt 0 = false := rfl
        simp only [↓vcp, ↓vc_s, vch, vcn, Option.toList_some, Option.toList_none, List.cons_append, List.nil_append, Bool.false_eq_true, Bool.or_false, Bool.or_true, Bool.false_or, Bool.true_or, Nat.reduceAdd, Nat.reduceBEq, Nat.reduceLeDiff, Nat.zero_le, Nat.reduceLT, Nat.le_refl, ↓reduceIte, decide_true, decide_false, true_and, and_true, false_imp_iff, true_imp_iff, not_false_eq_true, not_true_eq_false, implies_true, and_self, eq_self, i10, List.length_cons, List.length_nil, vcv, xur, ↓pX8_next, bX8_next, y0, b2i_f, hsc, t1, d1]
        refine ct_X2_at h (by omega) ?_
        rw [z0]
        simp only [↓vcp, ↓vc_s, vch, vcn, Option.toList_some, Option.toList_none, List.cons_append, List.nil_append, Bool.false_eq_true, Bool.or_false, Bool.or_true, Bool.false_or, Bool.true_or, Nat.reduceAdd, Nat.reduceBEq, Nat.reduceLeDiff, Nat.zero_le, Nat.reduceLT, Nat.le_refl, ↓reduceIte, decide_true, decide_false, true_and, and_true, false_imp_iff, true_imp_iff, not_false_eq_true, not_true_eq_false, implies_true, and_self, eq_self, i10, List.length_cons, List.length_nil, vcv, xur, ↓pX8_next, bX8_next, d1]
        refine ct_X8_isDigit (c := 0) (by decide) ?_
        have y1 : isDg 0 = false := rfl
        simp only [↓vcp, ↓vc_s, vch, vcn, Option.toList_some, Option.toList_none, List.cons_append, List.nil_append, Bool.false_eq_true, Bool.or_false, Bool.or_true, Bool.false_or, Bool.true_or, Nat.reduceAdd, Nat.reduceBEq, Nat.reduceLeDiff, Nat.zero_le, Nat.reduceLT, Nat.le_refl, ↓reduceIte, decide_true, decide_false, true_and, and_true, false_imp_iff, true_imp_iff, not_false_eq_true, not_true_eq_false, implies_true, and_self, eq_self, i10, List.length_cons, List.length_nil, vcv, xur, ↓pX8_next, bX8_next, y1, b2i_f]
        exact A hl
      | succ n ih =>
        intro q h1 h2 h3
        unfold ext at h3
        refine VW.go [47,81] 400 ?_
        simp only [↓vcp, ↓vc_s, vch, vcn, Option.toList_some, Option.toList_none, List.cons_append, List.nil_append, Bool.false_eq_true, Bool.or_false, Bool.or_true, Bool.false_or, Bool.true_or, Nat.reduceAdd, Nat.reduceBEq, Nat.reduceLeDiff, Nat.zero_le, Nat.reduceLT, Nat.le_refl, ↓reduceIte, decide_true, decide_false, true_and, and_true, false_imp_iff, true_imp_iff, not_false_eq_true, not_true_eq_false, implies_true, and_self, eq_self, i10, List.length_cons, List.length_nil, vcv, xur, ↓pX8_next, bX8_next, hsc, t1, d1]
        refine ct_X2_at h (by omega) ?_
        simp only [↓vcp, ↓vc_s, vch, vcn, Option.toList_some, Option.toList_none, List.cons_append, List.nil_append, Bool.false_eq_true, Bool.or_false, Bool.or_true, Bool.false_or, Bool.true_or, Nat.reduceAdd, Nat.reduceBEq, Nat.reduceLeDiff, Nat.zero_le, Nat.reduceLT, Nat.le_refl, ↓reduceIte, decide_true, decide_false, true_and, and_true, false_imp_iff, true_imp_iff, not_false_eq_true, not_true_eq_false, implies_true, and_self, eq_self, i10, List.length_cons, List.length_nil, vcv, xur, ↓pX8_next, bX8_next, d1]
        refine ct_X8_isLetter (hlt.1 q) ?_
        have hqN : isAn (cA N tp q) = true → q ≤ 2000 := fun z => by
          rcases Nat.lt_or_ge q N with y | y
          · omega
          · rw [out_An q y] at z; cases z
        cases e1 : isLt (cA N tp q) with
        | true =>
          have ea : isAn (cA N tp q) = true := by unfold isAn; rw [e1]; rfl
          rw [if_pos ea] at h3
          have := hqN ea
          simp only [↓vcp, ↓vc_s, vch, vcn, Option.toList_some, Option.toList_none, List.cons_append, List.nil_append, Bool.false_eq_true, Bool.or_false, Bool.or_true, Bool.false_or, Bool.true_or, Nat.reduceAdd, Nat.reduceBEq, Nat.reduceLeDiff, Nat.zero_le, Nat.reduceLT, Nat.le_refl, ↓reduceIte, decide_true, decide_false, true_and, and_true, false_imp_iff, true_imp_iff, not_false_eq_true, not_true_eq_false, implies_true, and_self, eq_self, i10, List.length_cons, List.length_nil, vcv, xur, ↓pX8_next, bX8_next, b2i_t, nI_1]
          exact ih (q + 1) (by omega) (by omega) h3
        | false =>
          simp only [↓vcp, ↓vc_s, vch, vcn, Option.toList_some, Option.toList_none, List.cons_append, List.nil_append, Bool.false_eq_true, Bool.or_false, Bool.or_true, Bool.false_or, Bool.true_or, Nat.reduceAdd, Nat.reduceBEq, Nat.reduceLeDiff, Nat.zero_le, Nat.reduceLT, Nat.le_refl, ↓reduceIte, decide_true, decide_false, true_and, and_true, false_imp_iff, true_imp_iff, not_false_eq_true, not_true_eq_false, implies_true, and_self, eq_self, i10, List.length_cons, List.length_nil, vcv, xur, ↓pX8_next, bX8_next, b2i_f, hsc, t1, d1]
          refine ct_X2_at h (by omega) ?_
          simp only [↓vcp, ↓vc_s, vch, vcn, Option.toList_some, Option.toList_none, List.cons_append, List.nil_append, Bool.false_eq_true, Bool.or_false, Bool.or_true, Bool.false_or, Bool.true_or, Nat.reduceAdd, Nat.reduceBEq, Nat.reduceLeDiff, Nat.zero_le, Nat.reduceLT, Nat.le_refl, ↓reduceIte, decide_true, decide_false, true_and, and_true, false_imp_iff, true_imp_iff, not_false_eq_true, not_true_eq_false, implies_true, and_self, eq_self, i10, List.length_cons, List.length_nil, vcv, xur, ↓pX8_next, bX8_next, d1]
          refine ct_X8_isDigit (hlt.1 q) ?_
          cases e2 : isDg (cA N tp q) with
          | true =>
            have ea : isAn (cA N tp q) = true := by unfold isAn; rw [e1, e2]; rfl
            rw [if_pos ea] at h3
            have := hqN ea
            simp only [↓vcp, ↓vc_s, vch, vcn, Option.toList_some, Option.toList_none, List.cons_append, List.nil_append, Bool.false_eq_true, Bool.or_false, Bool.or_true, Bool.false_or, Bool.true_or, Nat.reduceAdd, Nat.reduceBEq, Nat.reduceLeDiff, Nat.zero_le, Nat.reduceLT, Nat.le_refl, ↓reduceIte, decide_true, decide_false, true_and, and_true, false_imp_iff, true_imp_iff, not_false_eq_true, not_true_eq_false, implies_true, and_self, eq_self, i10, List.length_cons, List.length_nil, vcv, xur, ↓pX8_next, bX8_next, b2i_t, nI_1]
            exact ih (q + 1) (by omega) (by omega) h3
          | false =>
            have ea : ¬ isAn (cA N tp q) = true := by unfold isAn; rw [e1, e2]; decide
            rw [if_neg ea] at h3
            subst h3
            simp only [↓vcp, ↓vc_s, vch, vcn, Option.toList_some, Option.toList_none, List.cons_append, List.nil_append, Bool.false_eq_true, Bool.or_false, Bool.or_true, Bool.false_or, Bool.true_or, Nat.reduceAdd, Nat.reduceBEq, Nat.reduceLeDiff, Nat.zero_le, Nat.reduceLT, Nat.le_refl, ↓reduceIte, decide_true, decide_false, true_and, and_true, false_imp_iff, true_imp_iff, not_false_eq_true, not_true_eq_false, implies_true, and_self, eq_self, i10, List.length_cons, List.length_nil, vcv, xur, ↓pX8_next, bX8_next, b2i_f]
            exact A hl
    have L2 : isLt (cA N tp p) = false → isDg (cA N tp p) = true → ∀ n q, N ≤ q + n → q ≤ 2001 → ext isDg (cA N tp) n q = enT N tp p → VW g iX8_next K d 143 [some (.ref sc), some (.int (nI p)), some (.int (nI (cA N tp p))), some (.int (nI q)), none] [] σ := by
      intro hl hdg n
      induction n with
      | zero =>
        intro q h1 h2 h3
        unfold ext at h3
        subst h3
        have z0 : cA N tp (enT N tp p) = 0 := cA_out (by omega)
        refine VW.go [143,163] 400 ?_
        simp only [↓vcp, ↓vc_s, vch, vcn, Option.toList_some, Option.toList_none, List.cons_append, List.nil_append, Bool.false_eq_true, Bool.or_false, Bool.or_true, Bool.false_or, Bool.true_or, Nat.reduceAdd, Nat.reduceBEq, Nat.reduceLeDiff, Nat.zero_le, Nat.reduceLT, Nat.le_refl, ↓reduceIte, decide_true, decide_false, true_and, and_true, false_imp_iff, true_imp_iff, not_false_eq_true, not_true_eq_false, implies_true, and_self, eq_self, i10, List.length_cons, List.length_nil, vcv, xur, ↓pX8_next, bX8_next, hsc, t1, d1]
        refine ct_X2_at h (by omega) ?_
        rw [z0]
        simp only [↓vcp, ↓vc_s, vch, vcn, Option.toList_some, Option.toList_none, List.cons_append, List.nil_append, Bool.false_eq_true, Bool.or_false, Bool.or_true, Bool.false_or, Bool.true_or, Nat.reduceAdd, Nat.reduceBEq, Nat.reduceLeDiff, Nat.zero_le, Nat.reduceLT, Nat.le_refl, ↓reduceIte, decide_true, decide_false, true_and, and_true, false_imp_iff, true_imp_iff, not_false_eq_true, not_true_eq_false, implies_true, and_self, eq_self, i10, List.length_cons, List.length_nil, vcv, xur, ↓pX8_next, bX8_next, d1]
        refine ct_X8_isDigit (c := 0) (by decide) ?_
        have y1 : isDg 0 = false := rfl
        simp only [↓vcp, ↓vc_s, vch, vcn, Option.toList_some, Option.toList_none, List.cons_append, List.nil_append, Bool.false_eq_true, Bool.or_false, Bool.or_true, Bool.false_or, Bool.true_or, Nat.reduceAdd, Nat.reduceBEq, Nat.reduceLeDiff, Nat.zero_le, Nat.reduceLT, Nat.le_refl, ↓reduceIte, decide_true, decide_false, true_and, and_true, false_imp_iff, true_imp_iff, not_false_eq_true, not_true_eq_false, implies_true, and_self, eq_self, i10, List.length_cons, List.length_nil, vcv, xur, ↓pX8_next, bX8_next, y1, b2i_f]
        exact B hl hdg
      | succ n ih =>
        intro q h1 h2 h3
        unfold ext at h3
        refine VW.go [143,163] 400 ?_
        simp only [↓vcp, ↓vc_s, vch, vcn, Option.toList_some, Option.toList_none, List.cons_append, List.nil_append, Bool.false_eq_true, Bool.or_false, Bool.or_true, Bool.false_or, Bool.true_or, Nat.reduceAdd, Nat.reduceBEq, Nat.reduceLeDiff, Nat.zero_le, Nat.reduceLT, Nat.le_refl, ↓reduceIte, decide_true, decide_false, true_and, and_true, false_imp_iff, true_imp_iff, not_false_eq_true, not_true_eq_false, implies_true, and_self, eq_self, i10, List.length_cons, List.length_nil, vcv, xur, ↓pX8_next, bX8_next, hsc, t1, d1]
        refine ct_X2_at h (by omega) ?_
        simp only [↓vcp, ↓vc_s, vch, vcn, Option.toList_some, Option.toList_none, List.cons_append, List.nil_append, Bool.false_eq_true, Bool.or_false, Bool.or_true, Bool.false_or, Bool.true_or, Nat.reduceAdd, Nat.reduceBEq, Nat.reduceLeDiff, Nat.zero_le, Nat.reduceLT, Nat.le_refl, ↓reduceIte, decide_true, decide_false, true_and, and_true, false_imp_iff, true_imp_iff, not_false_eq_true, not_true_eq_false, implies_true, and_self, eq_self, i10, List.length_cons, List.length_nil, vcv, xur, ↓pX8_next, bX8_next, d1]
        refine ct_X8_isDigit (hlt.1 q) ?_
        cases e2 : isDg (cA N tp q) with
        | true =>
          rw [if_pos e2] at h3
          have : q ≤ 2000 := by
            rcases Nat.lt_or_ge q N with y | y
            · omega
            · rw [out_Dg q y] at e2; cases e2
          simp only [↓vcp, ↓vc_s, vch, vcn, Option.toList_some, Option.toList_none, List.cons_append, List.nil_append, Bool.false_eq_true, Bool.or_false, Bool.or_true, Bool.false_or, Bool.true_or, Nat.reduceAdd, Nat.reduceBEq, Nat.reduceLeDiff, Nat.zero_le, Nat.reduceLT, Nat.le_refl, ↓reduceIte, decide_true, decide_false, true_and, and_true, false_imp_iff, true_imp_iff, not_false_eq_true, not_true_eq_false, implies_true, and_self, eq_self, i10, List.length_cons, List.length_nil, vcv, xur, ↓pX8_next, bX8_next, b2i_t, nI_1]
          exact ih (q + 1) (by omega) (by omega) h3
        | false =>
          rw [if_neg (by rw [e2]; decide)] at h3
          subst h3
          simp only [↓vcp, ↓vc_s, vch, vcn, Option.toList_some, Option.toList_none, List.cons_append, List.nil_append, Bool.false_eq_true, Bool.or_false, Bool.or_true, Bool.false_or, Bool.true_or, Nat.reduceAdd, Nat.reduceBEq, Nat.reduceLeDiff, Nat.zero_le, Nat.reduceLT, Nat.le_refl, ↓reduceIte, decide_true, decide_false, true_and, and_true, false_imp_iff, true_imp_iff, not_false_eq_true, not_true_eq_false, implies_true, and_self, eq_self, i10, List.length_cons, List.length_nil, vcv, xur, ↓pX8_next, bX8_next, b2i_f]
          exact B hl hdg
    refine VW.go [47,143,198] 400 ?_
    simp only [↓vcp, ↓vc_s, vch, vcn, Option.toList_some, Option.toList_none, List.cons_append, List.nil_append, Bool.false_eq_true, Bool.or_false, Bool.or_true, Bool.false_or, Bool.true_or, Nat.reduceAdd, Nat.reduceBEq, Nat.reduceLeDiff, Nat.zero_le, Nat.reduceLT, Nat.le_refl, ↓reduceIte, decide_true, decide_false, true_and, and_true, false_imp_iff, true_imp_iff, not_false_eq_true, not_true_eq_false, implies_true, and_self, eq_self, i10, List.length_cons, List.length_nil, vcv, xur, ↓pX8_next, bX8_next, hsc, htl, d1]
    refine ct_J2_size htl ?_
    simp only [↓vcp, ↓vc_s, vch, vcn, Option.toList_some, Option.toList_none, List.cons_append, List.nil_append, Bool.false_eq_true, Bool.or_false, Bool.or_true, Bool.false_or, Bool.true_or, Nat.reduceAdd, Nat.reduceBEq, Nat.reduceLeDiff, Nat.zero_le, Nat.reduceLT, Nat.le_refl, ↓reduceIte, decide_true, decide_false, true_and, and_true, false_imp_iff, true_imp_iff, not_false_eq_true, not_true_eq_false, implies_true, and_self, eq_self, i10, List.length_cons, List.length_nil, vcv, xur, ↓pX8_next, bX8_next, e5, hsc, t1, d1]
    refine ct_X2_at h (by omega) ?_
    simp only [↓vcp, ↓vc_s, vch, vcn, Option.toList_some, Option.toList_none, List.cons_append, List.nil_append, Bool.false_eq_true, Bool.or_false, Bool.or_true, Bool.false_or, Bool.true_or, Nat.reduceAdd, Nat.reduceBEq, Nat.reduceLeDiff, Nat.zero_le, Nat.reduceLT, Nat.le_refl, ↓reduceIte, decide_true, decide_false, true_and, and_true, false_imp_iff, true_imp_iff, not_false_eq_true, not_true_eq_false, implies_true, and_self, eq_self, i10, List.length_cons, List.length_nil, vcv, xur, ↓pX8_next, bX8_next, nI_1, d1]
    refine ct_X8_isLetter c1 ?_
    cases e1 : isLt (cA N tp p) with
    | true =>
      simp only [↓vcp, ↓vc_s, vch, vcn, Option.toList_some, Option.toList_none, List.cons_append, List.nil_append, Bool.false_eq_true, Bool.or_false, Bool.or_true, Bool.false_or, Bool.true_or, Nat.reduceAdd, Nat.reduceBEq, Nat.reduceLeDiff, Nat.zero_le, Nat.reduceLT, Nat.le_refl, ↓reduceIte, decide_true, decide_false, true_and, and_true, false_imp_iff, true_imp_iff, not_false_eq_true, not_true_eq_false, implies_true, and_self, eq_self, i10, List.length_cons, List.length_nil, vcv, xur, ↓pX8_next, bX8_next, b2i_t]
      refine L1 e1 (2000 - p) (p + 1) (by omega) (by omega) ?_
      conv => rhs; unfold enT
      rw [if_pos e1]
    | false =>
      simp only [↓vcp, ↓vc_s, vch, vcn, Option.toList_some, Option.toList_none, List.cons_append, List.nil_append, Bool.false_eq_true, Bool.or_false, Bool.or_true, Bool.false_or, Bool.true_or, Nat.reduceAdd, Nat.reduceBEq, Nat.reduceLeDiff, Nat.zero_le, Nat.reduceLT, Nat.le_refl, ↓reduceIte, decide_true, decide_false, true_and, and_true, false_imp_iff, true_imp_iff, not_false_eq_true, not_true_eq_false, implies_true, and_self, eq_self, i10, List.length_cons, List.length_nil, vcv, xur, ↓pX8_next, bX8_next, b2i_f, d1]
      refine ct_X8_isDigit c1 ?_
      cases e2 : isDg (cA N tp p) with
      | true =>
        simp only [↓vcp, ↓vc_s, vch, vcn, Option.toList_some, Option.toList_none, List.cons_append, List.nil_append, Bool.false_eq_true, Bool.or_false, Bool.or_true, Bool.false_or, Bool.true_or, Nat.reduceAdd, Nat.reduceBEq, Nat.reduceLeDiff, Nat.zero_le, Nat.reduceLT, Nat.le_refl, ↓reduceIte, decide_true, decide_false, true_and, and_true, false_imp_iff, true_imp_iff, not_false_eq_true, not_true_eq_false, implies_true, and_self, eq_self, i10, List.length_cons, List.length_nil, vcv, xur, ↓pX8_next, bX8_next, b2i_t]
        refine L2 e1 e2 (2000 - p) (p + 1) (by omega) (by omega) ?_
        conv => rhs; unfold enT
        rw [if_neg (by rw [e1]; decide), if_pos e2]
      | false =>
        have cc := C e1 e2
        have he : enT N tp p = if (cA N tp p = 60 ∨ cA N tp p = 62) ∧ cA N tp (p + 1) = 61 then p + 2 else p + 1 := by
          conv => lhs; unfold enT
          rw [if_neg (by rw [e1]; decide), if_neg (by rw [e2]; decide)]
        have f1 : nI (cA N tp p) = 60 ↔ cA N tp p = 60 := nI_eq (b := 60) (by omega) (by omega)
        have f2 : nI (cA N tp p) = 62 ↔ cA N tp p = 62 := nI_eq (b := 62) (by omega) (by omega)
        have c2 := hlt.1 (p + 1)
        have f3 : nI (cA N tp (p + 1)) = 61 ↔ cA N tp (p + 1) = 61 := nI_eq (b := 61) (by omega) (by omega)
        have E : (cA N tp p = 60 ∨ cA N tp p = 62) → VW g iX8_next K d 210 [some (.ref sc), some (.int (nI p)), some (.int (nI (cA N tp p))), some (.int (nI (p + 1))), none] [] σ := by
          intro z
          refine VW.go [226] 400 ?_
          simp only [↓vcp, ↓vc_s, vch, vcn, Option.toList_some, Option.toList_none, List.cons_append, List.nil_append, Bool.false_eq_true, Bool.or_false, Bool.or_true, Bool.false_or, Bool.true_or, Nat.reduceAdd, Nat.reduceBEq, Nat.reduceLeDiff, Nat.zero_le, Nat.reduceLT, Nat.le_refl, ↓reduceIte, decide_true, decide_false, true_and, and_true, false_imp_iff, true_imp_iff, not_false_eq_true, not_true_eq_false, implies_true, and_self, eq_self, i10, List.length_cons, List.length_nil, vcv, xur, ↓pX8_next, bX8_next, hsc, t1, d1]
          refine ct_X2_at h (by omega) ?_
          simp only [↓vcp, ↓vc_s, vch, vcn, Option.toList_some, Option.toList_none, List.cons_append, List.nil_append, Bool.false_eq_true, Bool.or_false, Bool.or_true, Bool.false_or, Bool.true_or, Nat.reduceAdd, Nat.reduceBEq, Nat.reduceLeDiff, Nat.zero_le, Nat.reduceLT, Nat.le_refl, ↓reduceIte, decide_true, decide_false, true_and, and_true, false_imp_iff, true_imp_iff, not_false_eq_true, not_true_eq_false, implies_true, and_self, eq_self, i10, List.length_cons, List.length_nil, vcv, xur, ↓pX8_next, bX8_next, f3, nI_1]
          refine ⟨fun q => ?_, fun q => ?_⟩
          · rw [if_neg (fun y => q y.2)] at he
            rw [he] at cc
            exact cc
          · rw [if_pos ⟨z, q⟩] at he
            rw [he] at cc
            exact cc
        have g226 : ¬ (cA N tp p = 60 ∨ cA N tp p = 62) → VW g iX8_next K d 226 [some (.ref sc), some (.int (nI p)), some (.int (nI (cA N tp p))), some (.int (nI (p + 1))), none] [] σ := by
          intro z
          rw [if_neg (fun y => z y.1)] at he
          rw [he] at cc
          exact cc
        have h198 : VW g iX8_next K d 198 [some (.ref sc), some (.int (nI p)), some (.int (nI (cA N tp p))), some (.int (nI (p + 1))), none] [] σ := by
          refine VW.go [210,226] 400 ?_
          simp only [↓vcp, ↓vc_s, vch, vcn, Option.toList_some, Option.toList_none, List.cons_append, List.nil_append, Bool.false_eq_true, Bool.or_false, Bool.or_true, Bool.false_or, Bool.true_or, Nat.reduceAdd, Nat.reduceBEq, Nat.reduceLeDiff, Nat.zero_le, Nat.reduceLT, Nat.le_refl, ↓reduceIte, decide_true, decide_false, true_and, and_true, false_imp_iff, true_imp_iff, not_false_eq_true, not_true_eq_false, implies_true, and_self, eq_self, i10, List.length_cons, List.length_nil, vcv, xur, ↓pX8_next, bX8_next, f1, f2]
          exact ⟨fun q => E (Or.inl q), fun q => ⟨fun q2 => g226 (fun y => y.elim q q2), fun q2 => E (Or.inr q2)⟩⟩
        simp only [↓vcp, ↓vc_s, vch, vcn, Option.toList_some, Option.toList_none, List.cons_append, List.nil_append, Bool.false_eq_true, Bool.or_false, Bool.or_true, Bool.false_or, Bool.true_or, Nat.reduceAdd, Nat.reduceBEq, Nat.reduceLeDiff, Nat.zero_le, Nat.reduceLT, Nat.le_refl, ↓reduceIte, decide_true, decide_false, true_and, and_true, false_imp_iff, true_imp_iff, not_false_eq_true, not_true_eq_false, implies_true, and_self, eq_self, i10, List.length_cons, List.length_nil, vcv, xur, ↓pX8_next, bX8_next, b2i_f]
        exact h198
/-! Scanner.all -/
theorem skp_step {N : Nat} {tp : Nat → Nat} {q : Nat} (hq : q < 2000) (h : isBl (cA N tp q) = true) : skp N tp q = skp N tp (q + 1) := by
  unfold skp
  obtain ⟨n, hn⟩ : ∃ n, 2000 - q = n + 1 := ⟨2000 - q - 1, by omega⟩
  rw [hn, show 2000 - (q + 1) = n by omega]
  conv => lhs; unfold ext
  rw [if_pos h]
theorem skp_here {N : Nat} {tp : Nat → Nat} {q : Nat} (h : isBl (cA N tp q) = false) : skp N tp q = q := by
  unfold skp
  cases 2000 - q with
  | zero => rfl
  | succ n =>
    unfold ext
    rw [if_neg (by rw [h]; decide)]
theorem lsT_eq {N : Nat} {tp : Nat → Nat} {i : Nat} (hi : i ≤ 400) (h : 60 ≤ kdT N tp i) (hj : ∀ j, j < i → kdT N tp j < 60) : lsT N tp = i := by
  obtain ⟨a, b, c⟩ := lsT_spec N tp
  rcases Nat.lt_trichotomy (lsT N tp) i with z | z | z
  · have := hj _ z; omega
  · exact z
  · have := c _ z; omega
/-- the tokens ahead of the i-th, in the list tl -/
def toksIn (g : xG) (F : xM) (N : Nat) (tp : Nat → Nat) (f : Nat → Option Nat) (i : Nat) : Prop := ∀ j, j < i → ∃ a w, f j = some a ∧ isTok g F a (kdT N tp j) w (frT N tp j) ∧ (kdT N tp j < 60 → w = txt N tp (frT N tp j) (enT N tp (frT N tp j)))
theorem toksIn_mono {g : xG} {F F' : xM} {N i : Nat} {tp : Nat → Nat} {f : Nat → Option Nat} (h : toksIn g F N tp f i) (hle : fle F F') : toksIn g F' N tp f i := fun j hj => by
  obtain ⟨a, w, h1, h2, h3⟩ := h j hj
  exact ⟨a, w, h1, isTok_mono h2 hle, h3⟩
theorem toksIn_add {g : xG} {F : xM} {N i a : Nat} {tp : Nat → Nat} {f : Nat → Option Nat} {w : List Nat} (h : toksIn g F N tp f i) (ha : isTok g F a (kdT N tp i) w (frT N tp i)) (hw : kdT N tp i < 60 → w = txt N tp (frT N tp i) (enT N tp (frT N tp i))) : toksIn g F N tp (va_up f i (some a)) (i + 1) := fun j hj => by
  by_cases hji : j = i
  · subst hji
    exact ⟨a, w, va_up_self _ _ _, ha, hw⟩
  · obtain ⟨a', w', h1, h2, h3⟩ := h j (by omega)
    exact ⟨a', w', by rw [va_up_ne _ _ hji]; exact h1, h2, h3⟩
theorem toks_ok {g : xG} {F : xM} {σ : xH} {N i : Nat} {tp : Nat → Nat} {f : Nat → Option Nat} (hF : fz F σ) (h : toksIn g F N tp f i) : ∀ k, k < i → okE σ (f k) := fun k hk => by
  obtain ⟨a, w, h1, ⟨⟨s, h2, -⟩, -⟩, -⟩ := h k hk
  exact ⟨a, h1, Or.inl ⟨6, _, hF.o8 h2 (by decide), by decide⟩⟩
theorem ct_X8_all {g : xG} {d : Nat} {σ : xH} {K : xR → xH → Prop} (hg : gwS g) (hTx : gwT g) (hk : gwK g) (hY : gwY g) {F : xM} {T : Nat → Nat} {t : Nat} (hd : 10 ≤ d) {sc x tl N : Nat} {tp : Nat → Nat} {f0 : Nat → Option Nat} (hsc : σ.1 sc = some (ob 5 [.ref x, .ref tl])) (htl : isLT g σ T t tl 0 f0) (ht : t ≠ 0) (h : isTp σ x N tp) (hN2 : N ≤ 1280) (hTx2 : ∀ b fs, σ.1 x = some (ob 1 (.ref b :: fs)) → T x ≠ t ∧ T b ≠ t) (hTs : T sc ≠ t) (hF : fz F σ) (hFT : fT F T) (hgc : fle (gC g) F)
    (r1 : σ.2.1 + 8 * N + 2020 ≤ gN g) (r2 : σ.2.2 + 3410 * N + 850 ≤ gW g)
    (hK : ∀ (σ' : xH) (F' : xM) (T' : Nat → Nat) (f : Nat → Option Nat), fz F' σ' → fT F' T' → fex F F' σ.2.1 → tex T T' σ.2.1 → isLT g σ' T' t tl (lsT N tp + 1) f → toksIn g F' N tp f (lsT N tp + 1) → xg σ σ' (8 * N + 8) (3410 * N + 850) (fun z => T z = t) → xWF g σ' → K (.inl (some (.ref tl))) σ') : Ctr g d iX8_all [.ref sc] σ K := by
  have d1 : 1 ≤ d := by omega
  have hlt := h.lt
  have hN := hlt.2
  refine Ctr.ok fun hok => ?_
  refine Ctr.of (by decide +kernel) rfl (by simp only [lent_0, lent_i, lent_r, lent_n, lent_l, lent_f, List.length_cons, List.length_nil, bX8_all]; decide) ?_
  simp only [lpad, lent_0, lent_i, lent_r, lent_n, lent_l, lent_f, List.length_cons, List.length_nil, bX8_all, Nat.reduceAdd, Nat.reduceSub, List.replicate_succ, List.replicate_zero, List.cons_append, List.nil_append]
  refine VW.wf fun hw => ?_
  have Tn : ∀ k, k < 20000 → (nI N ≤ nI k ↔ N ≤ k) := fun k hk => nI_leI (by omega) (by omega)
  have h9 := h
  obtain ⟨tb, tf, h91, h92, h93⟩ := h9
  obtain ⟨tx1, tx2⟩ := hTx2 _ _ h91
  have tpx : ∀ (σ' : xH) (c s : Nat), xg σ σ' c s (fun z => T z = t) → isTp σ' x N tp := fun σ' c s z => ⟨tb, tf, z.at hw h91 tx1, z.at hw h92 tx2, h93⟩
  have scx : ∀ (σ' : xH) (c s : Nat), xg σ σ' c s (fun z => T z = t) → σ'.1 sc = some (ob 5 [.ref x, .ref tl]) := fun σ' c s z => z.at hw hsc hTs
  have gl : ∀ z, σ.2.1 ≤ z → g0 g ≤ z := fun z hz => Nat.le_trans hw.1 hz
  have sE := hk.1 16 (by decide)
  have sB := hk.1 1 (by decide)
  have z26 : isS F (gT g 26) [] := isS_mono (hTx 26 (by decide)) hgc
  have E : ∀ (i : Nat), i ≤ N → i ≤ 400 → frT N tp i = N → (∀ j, j < i → kdT N tp j < 60) → ∀ (σ' : xH) (F' : xM) (T' : Nat → Nat) (f : Nat → Option Nat) (o : Option Value), fz F' σ' → fT F' T' → fex F F' σ.2.1 → tex T T' σ.2.1 → isLT g σ' T' t tl i f → toksIn g F' N tp f i → xg σ σ' (i * 7 + N) (2565 * N + i * 845) (fun z => T z = t) → xWF g σ' → VW g iX8_all K d 2 [some (.ref sc), some (.int (nI N)), o] [] σ' := by
    intro i hiN hi hs hj σ' F' T' f o z1 z2 z3 z4 z5 z6 z7 z8
    have e1 := z7.1
    have e2 := z7.2.1
    have e3 := z7.2.2.1
    have sc' := scx _ _ _ z7
    have tp' := tpx _ _ _ z7
    obtain ⟨tb', tf', t1', -⟩ := tp'
    have r3 : (σ'.2.1 + 1 ≤ gN g) = True := eq_true (by omega)
    have r4 : (σ'.2.2 + 3 ≤ gW g) = True := eq_true (by omega)
    have ns : ¬ sc = σ'.2.1 := z8.nl sc'
    have nx9 : ¬ x = σ'.2.1 := z8.nl t1'
    have kE : kdT N tp i = 60 := by unfold kdT; rw [if_pos (by omega)]
    obtain ⟨lv, lw0, l1⟩ := z5.o3
    have ntl : ¬ tl = σ'.2.1 := z8.nl l1
    refine VW.go [2] 400 ?_
    simp only [↓vcp, ↓vc_s, vch, vcn, Option.toList_some, Option.toList_none, List.cons_append, List.nil_append, Bool.false_eq_true, Bool.or_false, Bool.or_true, Bool.false_or, Bool.true_or, Nat.reduceAdd, Nat.reduceBEq, Nat.reduceLeDiff, Nat.zero_le, Nat.reduceLT, Nat.le_refl, ↓reduceIte, decide_true, decide_false, true_and, and_true, false_imp_iff, true_imp_iff, not_false_eq_true, not_true_eq_false, implies_true, and_self, eq_self, i10, List.length_cons, List.length_nil, vcv, xur, ↓pX8_all, bX8_all, sc', t1', ge_y, r3, r4, sE, ns, nx9, d1]
    refine Ctr.wf (ct_X9_init (by omega) (gl _ e1) (by show xu _ _ _ _ = _; exact xu_same _ _ _) (fun hw2 => ?_))
    simp only [xu_xu] at hw2 ⊢
    have l2 : (xu σ'.1 σ'.2.1 (ob 6 [.ref (soA g 16), .ref (gT g 26), .int (nI N)])) tl = some (ob 3 [lv, lw0, .int (nI i)]) := by rw [xu_ne _ _ ntl]; exact l1
    have x2 : xg σ' (xu σ'.1 σ'.2.1 (ob 6 [.ref (soA g 16), .ref (gT g 26), .int (nI N)]), σ'.2.1 + 1, σ'.2.2 + 3) 1 3 (fun _ => False) := ⟨by show σ'.2.1 ≤ σ'.2.1 + 1; omega, Nat.le_refl _, Nat.le_refl _, fun z hz _ => by show xu _ _ _ z = _; rw [xu_ne _ _ (by omega)]⟩
    have f1 : fz (xu F' σ'.2.1 (ob 6 [.ref (soA g 16), .ref (gT g 26), .int (nI N)])) (xu σ'.1 σ'.2.1 (ob 6 [.ref (soA g 16), .ref (gT g 26), .int (nI N)]), σ'.2.1 + 1, σ'.2.2 + 3) := (z1.kx z8 x2 (fun _ _ _ q => q)).add (xu_same _ _ _)
    have f2 : fex F' (xu F' σ'.2.1 (ob 6 [.ref (soA g 16), .ref (gT g 26), .int (nI N)])) σ'.2.1 := fex_add (z1.nn z8 (Nat.le_refl _)) (Nat.le_refl _)
    have l3 : isLT g (xu σ'.1 σ'.2.1 (ob 6 [.ref (soA g 16), .ref (gT g 26), .int (nI N)]), σ'.2.1 + 1, σ'.2.2 + 3) (tcut T' σ'.2.1) t tl i f := z5.tagx (S := fun _ => False) z8 hw2 x2 (fun q => q) (tcut_tex _ _)
    have tk9 : isTok g (xu F' σ'.2.1 (ob 6 [.ref (soA g 16), .ref (gT g 26), .int (nI N)])) σ'.2.1 (kdT N tp i) [] (frT N tp i) := by
      rw [kE, hs]
      exact ⟨⟨_, xu_same _ _ _, isS_mono z26 (z3.1.trans f2.1), fun q => absurd q (by decide)⟩, fun q => absurd q (by decide), by omega, Or.inr (Or.inl rfl)⟩
    have tk8 := toksIn_add (toksIn_mono z6 f2.1) tk9 (fun q => by omega)
    simp only [↓vcp, ↓vc_s, vch, vcn, Option.toList_some, Option.toList_none, List.cons_append, List.nil_append, Bool.false_eq_true, Bool.or_false, Bool.or_true, Bool.false_or, Bool.true_or, Nat.reduceAdd, Nat.reduceBEq, Nat.reduceLeDiff, Nat.zero_le, Nat.reduceLT, Nat.le_refl, ↓reduceIte, decide_true, decide_false, true_and, and_true, false_imp_iff, true_imp_iff, not_false_eq_true, not_true_eq_false, implies_true, and_self, eq_self, i10, List.length_cons, List.length_nil, vcv, xur, ↓pX8_all, bX8_all, l2, d1]
    refine ct_addT (F := xu F' σ'.2.1 (ob 6 [.ref (soA g 16), .ref (gT g 26), .int (nI N)])) (by omega) l3 ht f1 (z2.cut f2) (by omega) (toks_ok f1 (toksIn_mono z6 f2.1)) ⟨_, rfl, Or.inl ⟨6, _, xu_same _ _ _, by decide⟩⟩ (by show σ'.2.1 + 1 + 1 ≤ _; omega) (by show σ'.2.2 + 3 + _ ≤ _; omega) (fun σ2 T2 a1 a2 a3 a4 a5 a6 a7 => ?_)
    have x3 : xg σ' σ2 (1 + 1) (3 + (2 * i + 11)) (fun z => T' z = t) := xg.tx (S := fun k => k = t) (x2.mono (Nat.le_refl _) (Nat.le_refl _) (fun _ _ q => q.elim)) a5 (tcut_tex _ _)
    have x4 := xg.tx (S := fun k => k = t) z7 x3 z4
    have sc2 := scx _ _ _ x4
    have hls : lsT N tp = i := lsT_eq hi (by omega) hj
    simp only [↓vcp, ↓vc_s, vch, vcn, Option.toList_some, Option.toList_none, List.cons_append, List.nil_append, Bool.false_eq_true, Bool.or_false, Bool.or_true, Bool.false_or, Bool.true_or, Nat.reduceAdd, Nat.reduceBEq, Nat.reduceLeDiff, Nat.zero_le, Nat.reduceLT, Nat.le_refl, ↓reduceIte, decide_true, decide_false, true_and, and_true, false_imp_iff, true_imp_iff, not_false_eq_true, not_true_eq_false, implies_true, and_self, eq_self, i10, List.length_cons, List.length_nil, vcv, xur, ↓pX8_all, bX8_all, sc2]
    refine hK σ2 _ T2 _ a3 a4 (z3.trans f2 e1) ((z4.trans (tcut_tex _ _) e1).trans a1 (by show σ.2.1 ≤ σ'.2.1 + 1; omega)) (by rw [hls]; exact a2) (by rw [hls]; exact tk8) (x4.mono (by omega) (by omega) (fun _ _ q => q)) a7
  have L : ∀ (m q i : Nat), N - q ≤ m → q ≤ N → i ≤ q → i ≤ 400 → skp N tp q = frT N tp i → (∀ j, j < i → kdT N tp j < 60) → ∀ (σ' : xH) (F' : xM) (T' : Nat → Nat) (f : Nat → Option Nat) (o : Option Value), fz F' σ' → fT F' T' → fex F F' σ.2.1 → tex T T' σ.2.1 → isLT g σ' T' t tl i f → toksIn g F' N tp f i → xg σ σ' (i * 7 + q) (2565 * q + i * 845) (fun z => T z = t) → xWF g σ' → VW g iX8_all K d 2 [some (.ref sc), some (.int (nI q)), o] [] σ' := by
    intro m
    induction m with
    | zero =>
      intro q i hm hq hiq hi hs hj σ' F' T' f o z1 z2 z3 z4 z5 z6 z7 z8
      have hqN : q = N := by omega
      subst hqN
      exact E i (by omega) hi (by rw [← hs]; exact skp_here (out_Bl _ (Nat.le_refl _))) hj σ' F' T' f o z1 z2 z3 z4 z5 z6 z7 z8
    | succ m ih =>
      intro q i hm hq hiq hi hs hj σ' F' T' f o z1 z2 z3 z4 z5 z6 z7 z8
      by_cases hqN : q = N
      · subst hqN
        exact E i (by omega) hi (by rw [← hs]; exact skp_here (out_Bl _ (Nat.le_refl _))) hj σ' F' T' f o z1 z2 z3 z4 z5 z6 z7 z8
      · have hq2 : q < N := by omega
        have e1 := z7.1
        have e2 := z7.2.1
        have e3 := z7.2.2.1
        have sc' := scx _ _ _ z7
        have tp' := tpx _ _ _ z7
        have tp9 := tp'
        obtain ⟨tb', tf', t1', -⟩ := tp9
        have g1 := ge_n hq2 (by omega)
        obtain ⟨lv, lw0, l1⟩ := z5.o3
        refine VW.go [2] 400 ?_
        simp only [↓vcp, ↓vc_s, vch, vcn, Option.toList_some, Option.toList_none, List.cons_append, List.nil_append, Bool.false_eq_true, Bool.or_false, Bool.or_true, Bool.false_or, Bool.true_or, Nat.reduceAdd, Nat.reduceBEq, Nat.reduceLeDiff, Nat.zero_le, Nat.reduceLT, Nat.le_refl, ↓reduceIte, decide_true, decide_false, true_and, and_true, false_imp_iff, true_imp_iff, not_false_eq_true, not_true_eq_false, implies_true, and_self, eq_self, i10, List.length_cons, List.length_nil, vcv, xur, ↓pX8_all, bX8_all, sc', t1', g1, d1]
        refine ct_X2_at tp' (by omega) ?_
        simp only [↓vcp, ↓vc_s, vch, vcn, Option.toList_some, Option.toList_none, List.cons_append, List.nil_append, Bool.false_eq_true, Bool.or_false, Bool.or_true, Bool.false_or, Bool.true_or, Nat.reduceAdd, Nat.reduceBEq, Nat.reduceLeDiff, Nat.zero_le, Nat.reduceLT, Nat.le_refl, ↓reduceIte, decide_true, decide_false, true_and, and_true, false_imp_iff, true_imp_iff, not_false_eq_true, not_true_eq_false, implies_true, and_self, eq_self, i10, List.length_cons, List.length_nil, vcv, xur, ↓pX8_all, bX8_all, d1]
        refine ct_X8_isBlank (hlt.1 q) ?_
        cases eb : isBl (cA N tp q) with
        | true =>
          simp only [↓vcp, ↓vc_s, vch, vcn, Option.toList_some, Option.toList_none, List.cons_append, List.nil_append, Bool.false_eq_true, Bool.or_false, Bool.or_true, Bool.false_or, Bool.true_or, Nat.reduceAdd, Nat.reduceBEq, Nat.reduceLeDiff, Nat.zero_le, Nat.reduceLT, Nat.le_refl, ↓reduceIte, decide_true, decide_false, true_and, and_true, false_imp_iff, true_imp_iff, not_false_eq_true, not_true_eq_false, implies_true, and_self, eq_self, i10, List.length_cons, List.length_nil, vcv, xur, ↓pX8_all, bX8_all, b2i_t, nI_1]
          refine ih (q + 1) i (by omega) (by omega) (by omega) hi (by rw [← skp_step (by omega) eb]; exact hs) hj σ' F' T' f o z1 z2 z3 z4 z5 z6 (z7.mono (by omega) (by omega) (fun _ _ q => q)) z8
        | false =>
          have hfr : frT N tp i = q := by rw [← hs]; exact skp_here eb
          have hen := enT_le (tp := tp) hq2
          have hgt := enT_gt N tp q
          have hkd := kd_of hfr hq2
          simp only [↓vcp, ↓vc_s, vch, vcn, Option.toList_some, Option.toList_none, List.cons_append, List.nil_append, Bool.false_eq_true, Bool.or_false, Bool.or_true, Bool.false_or, Bool.true_or, Nat.reduceAdd, Nat.reduceBEq, Nat.reduceLeDiff, Nat.zero_le, Nat.reduceLT, Nat.le_refl, ↓reduceIte, decide_true, decide_false, true_and, and_true, false_imp_iff, true_imp_iff, not_false_eq_true, not_true_eq_false, implies_true, and_self, eq_self, i10, List.length_cons, List.length_nil, vcv, xur, ↓pX8_all, bX8_all, b2i_f, sc', d1]
          refine ct_X8_next hg hTx hk hY (F := F') (by omega) sc' l1 hi tp' hN2 hq2 z1 (hgc.trans z3.1) (by omega) (by omega) (fun σ1 F1 a w a1 a2 a3 a4 a5 a6 a7 => ?_)
          rw [← hkd] at a4
          rw [← hfr] at a4
          have x1 : xg σ' σ1 (enT N tp q - q + 5) (2565 * (enT N tp q - q) + 30) (fun z => T' z = t) := a6.mono (Nat.le_refl _) (Nat.le_refl _) (fun _ _ q => q.elim)
          have x2 := xg.tx (S := fun k => k = t) z7 x1 z4
          have sc1 := scx _ _ _ x2
          have l3 : isLT g σ1 (tcut T' σ'.2.1) t tl i f := z5.tagx (S := fun _ => False) z8 a7 a6 (fun q => q) (tcut_tex _ _)
          have l4 : σ1.1 tl = some (ob 3 [lv, lw0, .int (nI i)]) := a6.at z8 l1 (fun q => q)
          have a49 := a4
          obtain ⟨⟨s9, b1, b2, -⟩, -⟩ := a49
          have tk8 := toksIn_add (toksIn_mono z6 a2.1) a4 (fun z => by
            rw [hfr]
            refine a5 (fun y => ?_)
            rw [hkd, if_pos y] at z
            omega)
          have e6 := x2.2.1
          have e7 := x2.2.2.1
          simp only [↓vcp, ↓vc_s, vch, vcn, Option.toList_some, Option.toList_none, List.cons_append, List.nil_append, Bool.false_eq_true, Bool.or_false, Bool.or_true, Bool.false_or, Bool.true_or, Nat.reduceAdd, Nat.reduceBEq, Nat.reduceLeDiff, Nat.zero_le, Nat.reduceLT, Nat.le_refl, ↓reduceIte, decide_true, decide_false, true_and, and_true, false_imp_iff, true_imp_iff, not_false_eq_true, not_true_eq_false, implies_true, and_self, eq_self, i10, List.length_cons, List.length_nil, vcv, xur, ↓pX8_all, bX8_all, sc1, l4, d1]
          refine ct_addT (F := F1) (by omega) l3 ht a1 (z2.cut a2) (by omega) (toks_ok a1 (toksIn_mono z6 a2.1)) ⟨_, rfl, Or.inl ⟨6, _, a1.o8 b1 (by decide), by decide⟩⟩ (by omega) (by omega) (fun σ2 T2 c1 c2 c3 c4 c5 c6 c7 => ?_)
          have x3 := xg.tx (S := fun k => k = t) x1 c5 (tcut_tex _ _)
          have x4 := xg.tx (S := fun k => k = t) z7 x3 z4
          have sc2 := scx _ _ _ x4
          have b3 := c3.o8 b1 (by decide)
          have tt : tex T T2 σ.2.1 := (z4.trans (tcut_tex T' σ'.2.1) e1).trans c1 (by have := a6.1; omega)
          have ff : fex F F1 σ.2.1 := z3.trans a2 e1
          have e9 := hk.ne (k := kdT N tp i) (j := 1) (by decide)
          by_cases hb : kdT N tp i = 61
          · have e8 : (soA g (stK (kdT N tp i)) = soA g 1) = True := eq_true (by rw [hb]; rfl)
            have hls : lsT N tp = i := lsT_eq hi (by omega) hj
            simp only [↓vcp, ↓vc_s, vch, vcn, Option.toList_some, Option.toList_none, List.cons_append, List.nil_append, Bool.false_eq_true, Bool.or_false, Bool.or_true, Bool.false_or, Bool.true_or, Nat.reduceAdd, Nat.reduceBEq, Nat.reduceLeDiff, Nat.zero_le, Nat.reduceLT, Nat.le_refl, ↓reduceIte, decide_true, decide_false, true_and, and_true, false_imp_iff, true_imp_iff, not_false_eq_true, not_true_eq_false, implies_true, and_self, eq_self, i10, List.length_cons, List.length_nil, vcv, xur, ↓pX8_all, bX8_all, b3, sB, Option.some.injEq, e8, sc2]
            refine hK σ2 F1 T2 _ c3 c4 ff tt (by rw [hls]; exact c2) (by rw [hls]; exact tk8) (x4.mono (by omega) (by omega) (fun _ _ q => q)) c7
          · have hi4 : i ≠ 400 := fun y => hb (by rw [hkd, if_pos y])
            have k36 : kdT N tp i ≤ 36 := by
              rw [hkd, if_neg hi4] at hb ⊢
              have := tkd_le N tp q
              omega
            have e8 : (soA g (stK (kdT N tp i)) = soA g 1) = False := eq_false (fun z => by
              have := e9.mp z
              unfold stK at this
              split at this
              · omega
              · split at this
                · omega
                · split at this
                  · omega
                  · split at this
                    · omega
                    · omega)
            have s1 := c3.str b2
            have s2 := s1
            obtain ⟨v9, h09, y9, f9, s3, -⟩ := s2
            have hw5 := a5 hi4
            simp only [↓vcp, ↓vc_s, vch, vcn, Option.toList_some, Option.toList_none, List.cons_append, List.nil_append, Bool.false_eq_true, Bool.or_false, Bool.or_true, Bool.false_or, Bool.true_or, Nat.reduceAdd, Nat.reduceBEq, Nat.reduceLeDiff, Nat.zero_le, Nat.reduceLT, Nat.le_refl, ↓reduceIte, decide_true, decide_false, true_and, and_true, false_imp_iff, true_imp_iff, not_false_eq_true, not_true_eq_false, implies_true, and_self, eq_self, i10, List.length_cons, List.length_nil, vcv, xur, ↓pX8_all, bX8_all, b3, sB, Option.some.injEq, e8, s3, d1]
            refine ct_J11_length hg (by omega) s1 ?_
            rw [hw5, txt_len]
            have e10 : nI q + nI (enT N tp q - q) = nI (enT N tp q) := by rw [nI_add, show q + (enT N tp q - q) = enT N tp q by omega]
            simp only [↓vcp, ↓vc_s, vch, vcn, Option.toList_some, Option.toList_none, List.cons_append, List.nil_append, Bool.false_eq_true, Bool.or_false, Bool.or_true, Bool.false_or, Bool.true_or, Nat.reduceAdd, Nat.reduceBEq, Nat.reduceLeDiff, Nat.zero_le, Nat.reduceLT, Nat.le_refl, ↓reduceIte, decide_true, decide_false, true_and, and_true, false_imp_iff, true_imp_iff, not_false_eq_true, not_true_eq_false, implies_true, and_self, eq_self, i10, List.length_cons, List.length_nil, vcv, xur, ↓pX8_all, bX8_all, e10]
            refine ih (enT N tp q) (i + 1) (by omega) hen (by omega) (by omega) ?_ (fun j hj2 => ?_) σ2 F1 T2 _ _ c3 c4 ff tt c2 tk8 (x4.mono (by omega) (by omega) (fun _ _ q => q)) c7
            · show _ = skp N tp (enT N tp (frT N tp i))
              rw [hfr]
            · by_cases hji : j = i
              · subst hji; omega
              · exact hj j (by omega)
  refine VW.go [2] 400 ?_
  simp only [↓vcp, ↓vc_s, vch, vcn, Option.toList_some, Option.toList_none, List.cons_append, List.nil_append, Bool.false_eq_true, Bool.or_false, Bool.or_true, Bool.false_or, Bool.true_or, Nat.reduceAdd, Nat.reduceBEq, Nat.reduceLeDiff, Nat.zero_le, Nat.reduceLT, Nat.le_refl, ↓reduceIte, decide_true, decide_false, true_and, and_true, false_imp_iff, true_imp_iff, not_false_eq_true, not_true_eq_false, implies_true, and_self, eq_self, i10, List.length_cons, List.length_nil, vcv, xur, ↓pX8_all, bX8_all]
  have := L N 0 0 (by omega) (by omega) (by omega) (by omega) rfl (fun j hj => by omega) σ F T f0 none hF hFT (fex.refl _ _) (tex.refl _ _) htl (fun j hj => by omega) ((xg.refl σ _).mono (by omega) (by omega) (fun _ _ q => q)) hw
  exact this
