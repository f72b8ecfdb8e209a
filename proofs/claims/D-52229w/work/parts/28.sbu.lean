set_option maxRecDepth 40000
set_option maxHeartbeats 2000000
/-! ===== StringBuilder ===== -/
/-- the builder at a holds w; its cells lie from lo on -/
def isSBc (g : xG) (σ : xH) (lo a : Nat) (w : List Nat) (cap : Nat) : Prop := g0 g ≤ lo ∧ lo ≤ a ∧ okW w ∧ ∃ (b : Nat) (f : Nat → Int32) (ml : Int32), σ.1 a = some (ob 7 [.ref b, .int 0, .int ml, .int (nI w.length)]) ∧ lo ≤ b ∧ σ.1 b = some (ai 1 cap f) ∧ w.length ≤ cap ∧ cap ≤ 50000 ∧ rowW w f ∧ ∀ i, fits .byte (.int (f i)) = true
def isSB (g : xG) (σ : xH) (lo a : Nat) (w : List Nat) : Prop := ∃ cap, isSBc g σ lo a w cap
/-- a new String at s with its row at v -/
def nwS (M : xM) (s v : Nat) (w : List Nat) : Prop := ∃ f : Nat → Int32, M s = some (ob 8 [.ref v, .int 0, .int 0, .int 0]) ∧ M v = some (ai 1 w.length f) ∧ rowW w f ∧ okW w
theorem nwS.iS {M : xM} {s v : Nat} {w : List Nat} (h : nwS M s v w) : isS M s w := by
  obtain ⟨f, h1, h2, h3, h4⟩ := h
  exact ⟨v, 0, 0, f, h1, h2, h3, h4, Or.inl rfl, Or.inl rfl⟩
theorem sbe (n : Nat) : (nI n).toInt8.toInt32 = sb n := rfl
theorem vsb (n : Nat) : vp_nar .byte (sb n) = sb n := pk_vb _
theorem ct_J9_init {g : xG} {d : Nat} {σ : xH} {K : xR → xH → Prop} (hg : gwS g) (hd : 1 ≤ d) {a : Nat} {v0 : Value} {c0 ml ct : Int32} (ha : g0 g ≤ a) (h1 : σ.1 a = some (ob 7 [v0, .int c0, .int ml, .int ct])) (r1 : σ.2.1 + 1 ≤ gN g) (r2 : σ.2.2 + 16 ≤ gW g)
    (hK : K (.inl none) (xu (xu σ.1 σ.2.1 (ai 1 16 (fun _ => 0))) a (ob 7 [.ref σ.2.1, .int 0, .int ml, .int ct]), σ.2.1 + 1, σ.2.2 + 16)) : Ctr g d iJ9_init [.ref a, .int 16] σ K := by
  obtain ⟨hc, -⟩ := hg
  have n0 : ((16 : Int32) < 0) = False := by decide
  have k0 : (16 : Int32).toNatClampNeg = 16 := by decide
  have k9 : (16 * 8 ≤ 536870912) = True := by decide
  refine Ctr.of (by decide +kernel) rfl (by simp only [lent_0, lent_i, lent_r, lent_n, lent_l, lent_f, List.length_cons, List.length_nil, bJ9_init]; decide) ?_
  simp only [lpad, lent_0, lent_i, lent_r, lent_n, lent_l, lent_f, List.length_cons, List.length_nil, bJ9_init, Nat.reduceAdd, Nat.reduceSub, List.replicate_succ, List.replicate_zero, List.cons_append, List.nil_append]
  refine VW.wf fun hw => ?_
  have n3 : ¬ a = σ.2.1 := hw.nl h1
  refine VW.go [1] 400 ?_
  simp only [↓vcp, ↓vc_s, vch, vcn, Option.toList_some, Option.toList_none, List.cons_append, List.nil_append, Bool.false_eq_true, Bool.or_false, Bool.or_true, Bool.false_or, Bool.true_or, Nat.reduceAdd, Nat.reduceBEq, Nat.reduceLeDiff, Nat.zero_le, Nat.reduceLT, Nat.le_refl, ↓reduceIte, decide_true, decide_false, true_and, and_true, false_imp_iff, true_imp_iff, not_false_eq_true, not_true_eq_false, implies_true, and_self, eq_self, i10, List.length_cons, List.length_nil, vcv, xur, ↓pJ9_init, bJ9_init, hd]
  refine VW.obji (xd_of (I := iJ9_init) dJ9_init_1) q382 (by omega) (by simp) ?_
  refine VW.go [] 400 ?_
  simp only [↓vcp, ↓vc_s, vch, vcn, Option.toList_some, Option.toList_none, List.cons_append, List.nil_append, Bool.false_eq_true, Bool.or_false, Bool.or_true, Bool.false_or, Bool.true_or, Nat.reduceAdd, Nat.reduceBEq, Nat.reduceLeDiff, Nat.zero_le, Nat.reduceLT, Nat.le_refl, ↓reduceIte, decide_true, decide_false, true_and, and_true, false_imp_iff, true_imp_iff, not_false_eq_true, not_true_eq_false, implies_true, and_self, eq_self, i10, List.length_cons, List.length_nil, vcv, xur, ↓pJ9_init, bJ9_init, hc, h1, ha, n3, r1, r2, n0, k0, k9]
  exact hK
theorem ct_J10_init {g : xG} {d : Nat} {σ : xH} {K : xR → xH → Prop} (hg : gwS g) (hd : 2 ≤ d) {lo a : Nat} (hl : g0 g ≤ lo) (ha : lo ≤ a) (h1 : σ.1 a = some (ob 7 [.null, .int 0, .int 0, .int 0])) (r1 : σ.2.1 + 1 ≤ gN g) (r2 : σ.2.2 + 16 ≤ gW g)
    (hK : ∀ σ', isSB g σ' lo a [] → xg σ σ' 1 16 (fun z => z = a) → K (.inl none) σ') : Ctr g d iJ10_init [.ref a] σ K := by
  have d1 : 1 ≤ d := by omega
  refine Ctr.of (by decide +kernel) rfl (by simp only [lent_0, lent_i, lent_r, lent_n, lent_l, lent_f, List.length_cons, List.length_nil, bJ10_init]; decide) ?_
  simp only [lpad, lent_0, lent_i, lent_r, lent_n, lent_l, lent_f, List.length_cons, List.length_nil, bJ10_init, Nat.reduceAdd, Nat.reduceSub, List.replicate_succ, List.replicate_zero, List.cons_append, List.nil_append]
  refine VW.wf fun hw => ?_
  have n3 : ¬ a = σ.2.1 := hw.nl h1
  have n3' : ¬ σ.2.1 = a := fun q => n3 q.symm
  have la := hw.2.1 _ _ h1
  refine VW.go [] 400 ?_
  simp only [↓vcp, ↓vc_s, vch, vcn, Option.toList_some, Option.toList_none, List.cons_append, List.nil_append, Bool.false_eq_true, Bool.or_false, Bool.or_true, Bool.false_or, Bool.true_or, Nat.reduceAdd, Nat.reduceBEq, Nat.reduceLeDiff, Nat.zero_le, Nat.reduceLT, Nat.le_refl, ↓reduceIte, decide_true, decide_false, true_and, and_true, false_imp_iff, true_imp_iff, not_false_eq_true, not_true_eq_false, implies_true, and_self, eq_self, i10, List.length_cons, List.length_nil, vcv, xur, ↓pJ10_init, bJ10_init, d1]
  refine ct_J9_init hg (by omega) (by omega) h1 r1 r2 ?_
  simp only [↓vcp, ↓vc_s, vch, vcn, Option.toList_some, Option.toList_none, List.cons_append, List.nil_append, Bool.false_eq_true, Bool.or_false, Bool.or_true, Bool.false_or, Bool.true_or, Nat.reduceAdd, Nat.reduceBEq, Nat.reduceLeDiff, Nat.zero_le, Nat.reduceLT, Nat.le_refl, ↓reduceIte, decide_true, decide_false, true_and, and_true, false_imp_iff, true_imp_iff, not_false_eq_true, not_true_eq_false, implies_true, and_self, eq_self, i10, List.length_cons, List.length_nil, vcv, xur, ↓pJ10_init, bJ10_init]
  refine hK _ ⟨16, hl, ha, okW_nil, σ.2.1, fun _ => 0, 0, by show xu _ _ _ _ = _; exact xu_same _ _ _, by omega, by show xu _ _ _ _ = _; rw [xu_ne _ _ n3']; exact xu_same _ _ _, by simp, by omega, fun i hi => by simp at hi, fun _ => rfl⟩ ⟨by show σ.2.1 ≤ σ.2.1 + 1; omega, Nat.le_refl _, Nat.le_refl _, fun z hz hp => ?_⟩
  show xu _ _ _ z = _
  rw [xu_ne _ _ hp, xu_ne _ _ (by omega)]
theorem ct_J9_isLatin1 {g : xG} {d : Nat} {σ : xH} {K : xR → xH → Prop} (hg : gwS g) {a : Nat} {v m c : Value} (h1 : σ.1 a = some (ob 7 [v, .int 0, m, c])) (hK : K (.inl (some (.int 1))) σ) : Ctr g d iJ9_isLatin1 [.ref a] σ K := by
  obtain ⟨hc, -⟩ := hg
  refine Ctr.of (by decide +kernel) rfl (by simp only [lent_0, lent_i, lent_r, lent_n, lent_l, lent_f, List.length_cons, List.length_nil, bJ9_isLatin1]; decide) ?_
  simp only [lpad, lent_0, lent_i, lent_r, lent_n, lent_l, lent_f, List.length_cons, List.length_nil, bJ9_isLatin1, Nat.reduceAdd, Nat.reduceSub, List.replicate_succ, List.replicate_zero, List.cons_append, List.nil_append]
  refine VW.go [] 400 ?_
  simp only [↓vcp, ↓vc_s, vch, vcn, Option.toList_some, Option.toList_none, List.cons_append, List.nil_append, Bool.false_eq_true, Bool.or_false, Bool.or_true, Bool.false_or, Bool.true_or, Nat.reduceAdd, Nat.reduceBEq, Nat.reduceLeDiff, Nat.zero_le, Nat.reduceLT, Nat.le_refl, ↓reduceIte, decide_true, decide_false, true_and, and_true, false_imp_iff, true_imp_iff, not_false_eq_true, not_true_eq_false, implies_true, and_self, eq_self, i10, List.length_cons, List.length_nil, vcv, xur, ↓pJ9_isLatin1, bJ9_isLatin1, hc, h1]
  exact hK
theorem ct_J9_getValue {g : xG} {d : Nat} {σ : xH} {K : xR → xH → Prop} {a b : Nat} {v m c : Value} (h1 : σ.1 a = some (ob 7 [.ref b, v, m, c])) (hK : K (.inl (some (.ref b))) σ) : Ctr g d iJ9_getValue [.ref a] σ K := by
  refine Ctr.of (by decide +kernel) rfl (by simp only [lent_0, lent_i, lent_r, lent_n, lent_l, lent_f, List.length_cons, List.length_nil, bJ9_getValue]; decide) ?_
  simp only [lpad, lent_0, lent_i, lent_r, lent_n, lent_l, lent_f, List.length_cons, List.length_nil, bJ9_getValue, Nat.reduceAdd, Nat.reduceSub, List.replicate_succ, List.replicate_zero, List.cons_append, List.nil_append]
  refine VW.go [] 400 ?_
  simp only [↓vcp, ↓vc_s, vch, vcn, Option.toList_some, Option.toList_none, List.cons_append, List.nil_append, Bool.false_eq_true, Bool.or_false, Bool.or_true, Bool.false_or, Bool.true_or, Nat.reduceAdd, Nat.reduceBEq, Nat.reduceLeDiff, Nat.zero_le, Nat.reduceLT, Nat.le_refl, ↓reduceIte, decide_true, decide_false, true_and, and_true, false_imp_iff, true_imp_iff, not_false_eq_true, not_true_eq_false, implies_true, and_self, eq_self, i10, List.length_cons, List.length_nil, vcv, xur, ↓pJ9_getValue, bJ9_getValue, h1]
  exact hK
theorem ct_J9_length {g : xG} {d : Nat} {σ : xH} {K : xR → xH → Prop} {a : Nat} {n : Int32} {b v m : Value} (h1 : σ.1 a = some (ob 7 [b, v, m, .int n])) (hK : K (.inl (some (.int n))) σ) : Ctr g d iJ9_length [.ref a] σ K := by
  refine Ctr.of (by decide +kernel) rfl (by simp only [lent_0, lent_i, lent_r, lent_n, lent_l, lent_f, List.length_cons, List.length_nil, bJ9_length]; decide) ?_
  simp only [lpad, lent_0, lent_i, lent_r, lent_n, lent_l, lent_f, List.length_cons, List.length_nil, bJ9_length, Nat.reduceAdd, Nat.reduceSub, List.replicate_succ, List.replicate_zero, List.cons_append, List.nil_append]
  refine VW.go [] 400 ?_
  simp only [↓vcp, ↓vc_s, vch, vcn, Option.toList_some, Option.toList_none, List.cons_append, List.nil_append, Bool.false_eq_true, Bool.or_false, Bool.or_true, Bool.false_or, Bool.true_or, Nat.reduceAdd, Nat.reduceBEq, Nat.reduceLeDiff, Nat.zero_le, Nat.reduceLT, Nat.le_refl, ↓reduceIte, decide_true, decide_false, true_and, and_true, false_imp_iff, true_imp_iff, not_false_eq_true, not_true_eq_false, implies_true, and_self, eq_self, i10, List.length_cons, List.length_nil, vcv, xur, ↓pJ9_length, bJ9_length, h1]
  exact hK
theorem ct_J10_length {g : xG} {d : Nat} {σ : xH} {K : xR → xH → Prop} (hd : 1 ≤ d) {a : Nat} {n : Int32} {b v m : Value} (h1 : σ.1 a = some (ob 7 [b, v, m, .int n])) (hK : K (.inl (some (.int n))) σ) : Ctr g d iJ10_length [.ref a] σ K := by
  refine Ctr.of (by decide +kernel) rfl (by simp only [lent_0, lent_i, lent_r, lent_n, lent_l, lent_f, List.length_cons, List.length_nil, bJ10_length]; decide) ?_
  simp only [lpad, lent_0, lent_i, lent_r, lent_n, lent_l, lent_f, List.length_cons, List.length_nil, bJ10_length, Nat.reduceAdd, Nat.reduceSub, List.replicate_succ, List.replicate_zero, List.cons_append, List.nil_append]
  refine VW.go [1] 400 ?_
  simp only [↓vcp, ↓vc_s, vch, vcn, Option.toList_some, Option.toList_none, List.cons_append, List.nil_append, Bool.false_eq_true, Bool.or_false, Bool.or_true, Bool.false_or, Bool.true_or, Nat.reduceAdd, Nat.reduceBEq, Nat.reduceLeDiff, Nat.zero_le, Nat.reduceLT, Nat.le_refl, ↓reduceIte, decide_true, decide_false, true_and, and_true, false_imp_iff, true_imp_iff, not_false_eq_true, not_true_eq_false, implies_true, and_self, eq_self, i10, List.length_cons, List.length_nil, vcv, xur, ↓pJ10_length, bJ10_length]
  refine VW.sup (xd_of (I := iJ10_length) dJ10_length_1) (I' := iJ9_length) kJ9_length q525 q521 q404 q520 (by decide +kernel) (av := []) (rest := []) rfl h1 rfl hd (by simp) ?_
  refine ct_J9_length h1 ?_
  rw [xcont_l]
  refine VW.go [] 400 ?_
  simp only [↓vcp, ↓vc_s, vch, vcn, Option.toList_some, Option.toList_none, List.cons_append, List.nil_append, Bool.false_eq_true, Bool.or_false, Bool.or_true, Bool.false_or, Bool.true_or, Nat.reduceAdd, Nat.reduceBEq, Nat.reduceLeDiff, Nat.zero_le, Nat.reduceLT, Nat.le_refl, ↓reduceIte, decide_true, decide_false, true_and, and_true, false_imp_iff, true_imp_iff, not_false_eq_true, not_true_eq_false, implies_true, and_self, eq_self, i10, List.length_cons, List.length_nil, vcv, xur, ↓pJ10_length, bJ10_length]
  exact hK
theorem ct_J9_newCapacity {g : xG} {d : Nat} {σ : xH} {K : xR → xH → Prop} (hd : 2 ≤ d) {a b cap m : Nat} {f : Nat → Int32} {v c : Value} (h1 : σ.1 a = some (ob 7 [.ref b, .int 0, v, c])) (h2 : σ.1 b = some (ai 1 cap f)) (hm : cap ≤ m) (hm2 : m < 90000)
    (hK : K (.inl (some (.int (nI (cap + max (m - cap) (cap + 2)))))) σ) : Ctr g d iJ9_newCapacity [.ref a, .int (nI m)] σ K := by
  have d1 : 1 ≤ d := by omega
  have s1 : nI m - nI cap = nI (m - cap) := nI_sub hm
  have s2 : nI cap + 2 = nI (cap + 2) := nI_add cap 2
  have s3 : (nI (cap + max (m - cap) (cap + 2)) = 2147483647) = False := eq_false (fun q => by
    have := (nI_eq (a := cap + max (m - cap) (cap + 2)) (b := 2147483647) (by omega) (by omega)).mp q
    omega)
  refine Ctr.of (by decide +kernel) rfl (by simp only [lent_0, lent_i, lent_r, lent_n, lent_l, lent_f, List.length_cons, List.length_nil, bJ9_newCapacity]; decide) ?_
  simp only [lpad, lent_0, lent_i, lent_r, lent_n, lent_l, lent_f, List.length_cons, List.length_nil, bJ9_newCapacity, Nat.reduceAdd, Nat.reduceSub, List.replicate_succ, List.replicate_zero, List.cons_append, List.nil_append]
  refine VW.go [] 400 ?_
  simp only [↓vcp, ↓vc_s, vch, vcn, Option.toList_some, Option.toList_none, List.cons_append, List.nil_append, Bool.false_eq_true, Bool.or_false, Bool.or_true, Bool.false_or, Bool.true_or, Nat.reduceAdd, Nat.reduceBEq, Nat.reduceLeDiff, Nat.zero_le, Nat.reduceLT, Nat.le_refl, ↓reduceIte, decide_true, decide_false, true_and, and_true, false_imp_iff, true_imp_iff, not_false_eq_true, not_true_eq_false, implies_true, and_self, eq_self, i10, List.length_cons, List.length_nil, vcv, xur, ↓pJ9_newCapacity, bJ9_newCapacity, h1, h2, nIe, shl0, shr0, s1, s2, d1]
  refine ct_J13_newLength (by omega) (by omega) (by omega) (by omega) (by omega) ?_
  simp only [↓vcp, ↓vc_s, vch, vcn, Option.toList_some, Option.toList_none, List.cons_append, List.nil_append, Bool.false_eq_true, Bool.or_false, Bool.or_true, Bool.false_or, Bool.true_or, Nat.reduceAdd, Nat.reduceBEq, Nat.reduceLeDiff, Nat.zero_le, Nat.reduceLT, Nat.le_refl, ↓reduceIte, decide_true, decide_false, true_and, and_true, false_imp_iff, true_imp_iff, not_false_eq_true, not_true_eq_false, implies_true, and_self, eq_self, i10, List.length_cons, List.length_nil, vcv, xur, ↓pJ9_newCapacity, bJ9_newCapacity, h1, shr0, s3]
  exact hK
theorem ct_J15_copyOf {g : xG} {d : Nat} {σ : xH} {K : xR → xH → Prop} (hd : 1 ≤ d) {b cap q : Nat} {f : Nat → Int32} (h : σ.1 b = some (ai 1 cap f)) (hq : cap < q) (hq2 : q ≤ 200000) (hf : ∀ i, fits .byte (.int (f i)) = true) (r1 : σ.2.1 + 1 ≤ gN g) (r2 : σ.2.2 + q ≤ gW g)
    (hK : K (.inl (some (.ref σ.2.1))) (xu σ.1 σ.2.1 (ai 1 q (va_cpy f (fun _ => 0) 0 0 cap)), σ.2.1 + 1, σ.2.2 + q)) : Ctr g d iJ15_copyOf [.ref b, .int (nI q)] σ K := by
  have e1 : (nI q = nI cap) = False := eq_false (fun z => by have := (nI_eq (a := q) (b := cap) (by omega) (by omega)).mp z; omega)
  have n0 : (nI q < 0) = False := eq_false (nI_pos (by omega))
  have n1 : (nI q).toNatClampNeg = q := cl_y (by omega)
  have n2 : (q * 8 ≤ 536870912) = True := eq_true (by omega)
  refine Ctr.of (by decide +kernel) rfl (by simp only [lent_0, lent_i, lent_r, lent_n, lent_l, lent_f, List.length_cons, List.length_nil, bJ15_copyOf]; decide) ?_
  simp only [lpad, lent_0, lent_i, lent_r, lent_n, lent_l, lent_f, List.length_cons, List.length_nil, bJ15_copyOf, Nat.reduceAdd, Nat.reduceSub, List.replicate_succ, List.replicate_zero, List.cons_append, List.nil_append]
  refine VW.wf fun hw => ?_
  have n3 : ¬ b = σ.2.1 := hw.nl h
  refine VW.go [28] 400 ?_
  simp only [↓vcp, ↓vc_s, vch, vcn, Option.toList_some, Option.toList_none, List.cons_append, List.nil_append, Bool.false_eq_true, Bool.or_false, Bool.or_true, Bool.false_or, Bool.true_or, Nat.reduceAdd, Nat.reduceBEq, Nat.reduceLeDiff, Nat.zero_le, Nat.reduceLT, Nat.le_refl, ↓reduceIte, decide_true, decide_false, true_and, and_true, false_imp_iff, true_imp_iff, not_false_eq_true, not_true_eq_false, implies_true, and_self, eq_self, i10, List.length_cons, List.length_nil, vcv, xur, ↓pJ15_copyOf, bJ15_copyOf, e1, n0, n1, n2, r1, r2, h, hd, n3, nIe]
  refine ct_J14_min _ _ ?_
  rw [mn_nI (by omega) (by omega), Nat.min_eq_left (by omega)]
  simp only [↓vcp, ↓vc_s, vch, vcn, Option.toList_some, Option.toList_none, List.cons_append, List.nil_append, Bool.false_eq_true, Bool.or_false, Bool.or_true, Bool.false_or, Bool.true_or, Nat.reduceAdd, Nat.reduceBEq, Nat.reduceLeDiff, Nat.zero_le, Nat.reduceLT, Nat.le_refl, ↓reduceIte, decide_true, decide_false, true_and, and_true, false_imp_iff, true_imp_iff, not_false_eq_true, not_true_eq_false, implies_true, and_self, eq_self, i10, List.length_cons, List.length_nil, vcv, xur, ↓pJ15_copyOf, bJ15_copyOf]
  have k1 : (nI cap).toNatClampNeg = cap := cl_y (by omega)
  have k2 : (0 : Int32).toNatClampNeg = 0 := by decide
  refine VW.cpyI (xd_of (I := iJ15_copyOf) dJ15_copyOf_28) q445 (by omega) (by simp) (kk := 1) (ty := .byte) rfl rfl (f := f) (f' := fun _ => 0) (n0 := cap) (n1 := q) ?_ ?_ hw.1 (by decide) (by decide) (nI_pos (by omega)) (by rw [k1, k2]; omega) (by rw [k1, k2]; omega) (fun i hi => hf _) ?_
  · show xu _ _ _ _ = _
    rw [xu_ne _ _ n3]; exact h
  · show xu _ _ _ _ = _
    rw [xu_same]
  · rw [k1, k2]
    simp only [xu_xu]
    refine VW.go [] 400 ?_
    simp only [↓vcp, ↓vc_s, vch, vcn, Option.toList_some, Option.toList_none, List.cons_append, List.nil_append, Bool.false_eq_true, Bool.or_false, Bool.or_true, Bool.false_or, Bool.true_or, Nat.reduceAdd, Nat.reduceBEq, Nat.reduceLeDiff, Nat.zero_le, Nat.reduceLT, Nat.le_refl, ↓reduceIte, decide_true, decide_false, true_and, and_true, false_imp_iff, true_imp_iff, not_false_eq_true, not_true_eq_false, implies_true, and_self, eq_self, i10, List.length_cons, List.length_nil, vcv, xur, ↓pJ15_copyOf, bJ15_copyOf]
    exact hK
theorem ct_J9_ensure {g : xG} {d : Nat} {σ : xH} {K : xR → xH → Prop} (hd : 3 ≤ d) {lo a cap : Nat} {w : List Nat} (h : isSBc g σ lo a w cap) (r1 : σ.2.1 + 1 ≤ gN g) (r2 : σ.2.2 + (2 * w.length + 2) ≤ gW g)
    (hK : ∀ (σ' : xH) (cap' : Nat), w.length + 1 ≤ cap' → isSBc g σ' lo a w cap' → xg σ σ' 1 (2 * w.length + 2) (fun z => lo ≤ z) → K (.inl none) σ') : Ctr g d iJ9_ensureCapacityInternal [.ref a, .int (nI (w.length + 1))] σ K := by
  have hs := h
  obtain ⟨q1, q2, q3, b, f, ml, h1, h2, h3, h4, h5, h6, h7⟩ := h
  have l1 := q3.2
  have d1 : 1 ≤ d := by omega
  have ga : g0 g ≤ a := by omega
  have e1 : (nI (w.length + 1) - nI cap).toInt = ((w.length + 1 : Nat) : Int) - cap := pk_sub_toInt (by omega) (by omega)
  have z0 : (0 : Int32).toInt = 0 := rfl
  refine Ctr.of (by decide +kernel) rfl (by simp only [lent_0, lent_i, lent_r, lent_n, lent_l, lent_f, List.length_cons, List.length_nil, bJ9_ensureCapacityInternal]; decide) ?_
  simp only [lpad, lent_0, lent_i, lent_r, lent_n, lent_l, lent_f, List.length_cons, List.length_nil, bJ9_ensureCapacityInternal, Nat.reduceAdd, Nat.reduceSub, List.replicate_succ, List.replicate_zero, List.cons_append, List.nil_append]
  refine VW.wf fun hw => ?_
  have n3 : ¬ a = σ.2.1 := hw.nl h1
  have n3' : ¬ σ.2.1 = a := fun q => n3 q.symm
  have la := hw.2.1 _ _ h1
  by_cases hc : w.length + 1 ≤ cap
  · have c1 : (nI (w.length + 1) - nI cap ≤ 0) = True := eq_true (by rw [Int32.le_iff_toInt_le, e1, z0]; omega)
    refine VW.go [] 400 ?_
    simp only [↓vcp, ↓vc_s, vch, vcn, Option.toList_some, Option.toList_none, List.cons_append, List.nil_append, Bool.false_eq_true, Bool.or_false, Bool.or_true, Bool.false_or, Bool.true_or, Nat.reduceAdd, Nat.reduceBEq, Nat.reduceLeDiff, Nat.zero_le, Nat.reduceLT, Nat.le_refl, ↓reduceIte, decide_true, decide_false, true_and, and_true, false_imp_iff, true_imp_iff, not_false_eq_true, not_true_eq_false, implies_true, and_self, eq_self, i10, List.length_cons, List.length_nil, vcv, xur, ↓pJ9_ensureCapacityInternal, bJ9_ensureCapacityInternal, h1, h3, nIe, shr0, c1]
    exact hK σ cap hc hs ((xg.refl σ _).mono (by omega) (by omega) (fun _ _ h => h))
  · have hcap : cap = w.length := by omega
    have c1 : (nI (w.length + 1) - nI cap ≤ 0) = False := eq_false (by rw [Int32.le_iff_toInt_le, e1, z0]; omega)
    have e2 : cap + max (w.length + 1 - cap) (cap + 2) = 2 * w.length + 2 := by omega
    refine VW.go [24] 400 ?_
    simp only [↓vcp, ↓vc_s, vch, vcn, Option.toList_some, Option.toList_none, List.cons_append, List.nil_append, Bool.false_eq_true, Bool.or_false, Bool.or_true, Bool.false_or, Bool.true_or, Nat.reduceAdd, Nat.reduceBEq, Nat.reduceLeDiff, Nat.zero_le, Nat.reduceLT, Nat.le_refl, ↓reduceIte, decide_true, decide_false, true_and, and_true, false_imp_iff, true_imp_iff, not_false_eq_true, not_true_eq_false, implies_true, and_self, eq_self, i10, List.length_cons, List.length_nil, vcv, xur, ↓pJ9_ensureCapacityInternal, bJ9_ensureCapacityInternal, h1, h3, nIe, shr0, c1, d1]
    refine VW.prv (xd_of (I := iJ9_ensureCapacityInternal) dJ9_ensureCapacityInternal_24) (I' := iJ9_newCapacity) kJ9_newCapacity q417 q3294 q418 q419 (av := [.int (nI (w.length + 1))]) (rest := [.ref b, .ref a]) rfl h1 rfl d1 (by simp) ?_
    refine ct_J9_newCapacity (by omega) h1 h3 (by omega) (by omega) ?_
    rw [e2, xcont_l]
    refine VW.go [] 400 ?_
    simp only [↓vcp, ↓vc_s, vch, vcn, Option.toList_some, Option.toList_none, List.cons_append, List.nil_append, Bool.false_eq_true, Bool.or_false, Bool.or_true, Bool.false_or, Bool.true_or, Nat.reduceAdd, Nat.reduceBEq, Nat.reduceLeDiff, Nat.zero_le, Nat.reduceLT, Nat.le_refl, ↓reduceIte, decide_true, decide_false, true_and, and_true, false_imp_iff, true_imp_iff, not_false_eq_true, not_true_eq_false, implies_true, and_self, eq_self, i10, List.length_cons, List.length_nil, vcv, xur, ↓pJ9_ensureCapacityInternal, bJ9_ensureCapacityInternal, h1, shl0, d1]
    refine ct_J15_copyOf (by omega) h3 (by omega) (by omega) h7 r1 r2 ?_
    simp only [↓vcp, ↓vc_s, vch, vcn, Option.toList_some, Option.toList_none, List.cons_append, List.nil_append, Bool.false_eq_true, Bool.or_false, Bool.or_true, Bool.false_or, Bool.true_or, Nat.reduceAdd, Nat.reduceBEq, Nat.reduceLeDiff, Nat.zero_le, Nat.reduceLT, Nat.le_refl, ↓reduceIte, decide_true, decide_false, true_and, and_true, false_imp_iff, true_imp_iff, not_false_eq_true, not_true_eq_false, implies_true, and_self, eq_self, i10, List.length_cons, List.length_nil, vcv, xur, ↓pJ9_ensureCapacityInternal, bJ9_ensureCapacityInternal, h1, n3, ga]
    refine hK _ (2 * w.length + 2) (by omega) ⟨q1, q2, q3, σ.2.1, va_cpy f (fun _ => 0) 0 0 cap, ml, by show xu _ _ _ _ = _; exact xu_same _ _ _, by omega, by show xu _ _ _ _ = _; rw [xu_ne _ _ n3']; exact xu_same _ _ _, by omega, by omega, fun i hi => ?_, fun i => ?_⟩ ⟨by show σ.2.1 ≤ σ.2.1 + 1; omega, Nat.le_refl _, Nat.le_refl _, fun z hz hp => ?_⟩
    · rw [pk_cpy_in (by omega) (by omega), Nat.zero_add, Nat.sub_zero]
      exact h6 i hi
    · unfold va_cpy
      split
      · exact h7 _
      · rfl
    · show xu _ _ _ z = _
      rw [xu_ne _ _ (fun q => hp (by omega)), xu_ne _ _ (by omega)]
theorem ct_J16_canEncode {g : xG} {d : Nat} {σ : xH} {K : xR → xH → Prop} {c : Nat} (hc : c < 256) (hK : K (.inl (some (.int 1))) σ) : Ctr g d iJ16_canEncode [.int (nI c)] σ K := by
  have c1 : (255 < nI c) = False := eq_false (nI_nlt (a := 255) (by omega) (by omega))
  refine Ctr.of (by decide +kernel) rfl (by simp only [lent_0, lent_i, lent_r, lent_n, lent_l, lent_f, List.length_cons, List.length_nil, bJ16_canEncode]; decide) ?_
  simp only [lpad, lent_0, lent_i, lent_r, lent_n, lent_l, lent_f, List.length_cons, List.length_nil, bJ16_canEncode, Nat.reduceAdd, Nat.reduceSub, List.replicate_succ, List.replicate_zero, List.cons_append, List.nil_append]
  refine VW.go [] 400 ?_
  simp only [↓vcp, ↓vc_s, vch, vcn, Option.toList_some, Option.toList_none, List.cons_append, List.nil_append, Bool.false_eq_true, Bool.or_false, Bool.or_true, Bool.false_or, Bool.true_or, Nat.reduceAdd, Nat.reduceBEq, Nat.reduceLeDiff, Nat.zero_le, Nat.reduceLT, Nat.le_refl, ↓reduceIte, decide_true, decide_false, true_and, and_true, false_imp_iff, true_imp_iff, not_false_eq_true, not_true_eq_false, implies_true, and_self, eq_self, i10, List.length_cons, List.length_nil, vcv, xur, ↓pJ16_canEncode, bJ16_canEncode, c1]
  exact hK
theorem ct_J9_append {g : xG} {d : Nat} {σ : xH} {K : xR → xH → Prop} (hg : gwS g) (hd : 4 ≤ d) {lo a c : Nat} {w : List Nat} (h : isSB g σ lo a w) (hc : c < 256) (hl : w.length + 1 < 20000) (r1 : σ.2.1 + 1 ≤ gN g) (r2 : σ.2.2 + (2 * w.length + 2) ≤ gW g)
    (hK : ∀ (σ' : xH), isSB g σ' lo a (w ++ [c]) → xg σ σ' 1 (2 * w.length + 2) (fun z => lo ≤ z) → K (.inl (some (.ref a))) σ') : Ctr g d iJ9_append [.ref a, .int (nI c)] σ K := by
  obtain ⟨cap0, hs⟩ := h
  have hs0 := hs
  obtain ⟨-, -, -, b0, f0, ml0, h0, -⟩ := hs0
  have d1 : 1 ≤ d := by omega
  refine Ctr.of (by decide +kernel) rfl (by simp only [lent_0, lent_i, lent_r, lent_n, lent_l, lent_f, List.length_cons, List.length_nil, bJ9_append]; decide) ?_
  simp only [lpad, lent_0, lent_i, lent_r, lent_n, lent_l, lent_f, List.length_cons, List.length_nil, bJ9_append, Nat.reduceAdd, Nat.reduceSub, List.replicate_succ, List.replicate_zero, List.cons_append, List.nil_append]
  refine VW.go [7] 400 ?_
  simp only [↓vcp, ↓vc_s, vch, vcn, Option.toList_some, Option.toList_none, List.cons_append, List.nil_append, Bool.false_eq_true, Bool.or_false, Bool.or_true, Bool.false_or, Bool.true_or, Nat.reduceAdd, Nat.reduceBEq, Nat.reduceLeDiff, Nat.zero_le, Nat.reduceLT, Nat.le_refl, ↓reduceIte, decide_true, decide_false, true_and, and_true, false_imp_iff, true_imp_iff, not_false_eq_true, not_true_eq_false, implies_true, and_self, eq_self, i10, List.length_cons, List.length_nil, vcv, xur, ↓pJ9_append, bJ9_append, h0, d1, nI_1]
  refine VW.prv (xd_of (I := iJ9_append) dJ9_append_7) (I' := iJ9_ensureCapacityInternal) kJ9_ensureCapacityInternal q413 q3293 q414 q415 (av := [.int (nI (w.length + 1))]) (rest := []) rfl h0 rfl d1 (by simp) ?_
  refine ct_J9_ensure (by omega) hs r1 r2 ?_
  intro σ' cap' hcap hs' hx
  obtain ⟨q1, q2, q3, b, f, ml, h1, h2, h3, h4, h5, h6, h7⟩ := hs'
  have ga : g0 g ≤ a := by omega
  have gb : g0 g ≤ b := by omega
  have dn : ¬ a = b := ne_oi h1 h3
  have dn' : ¬ b = a := fun q => dn q.symm
  have i1 : vp_in (nI w.length) cap' = True := in_y (by omega) (by omega)
  have k1 : (nI w.length).toNatClampNeg = w.length := cl_y (by omega)
  rw [xcont_l]
  refine VW.go [] 400 ?_
  simp only [↓vcp, ↓vc_s, vch, vcn, Option.toList_some, Option.toList_none, List.cons_append, List.nil_append, Bool.false_eq_true, Bool.or_false, Bool.or_true, Bool.false_or, Bool.true_or, Nat.reduceAdd, Nat.reduceBEq, Nat.reduceLeDiff, Nat.zero_le, Nat.reduceLT, Nat.le_refl, ↓reduceIte, decide_true, decide_false, true_and, and_true, false_imp_iff, true_imp_iff, not_false_eq_true, not_true_eq_false, implies_true, and_self, eq_self, i10, List.length_cons, List.length_nil, vcv, xur, ↓pJ9_append, bJ9_append, h1, d1]
  refine ct_J9_isLatin1 hg h1 ?_
  simp only [↓vcp, ↓vc_s, vch, vcn, Option.toList_some, Option.toList_none, List.cons_append, List.nil_append, Bool.false_eq_true, Bool.or_false, Bool.or_true, Bool.false_or, Bool.true_or, Nat.reduceAdd, Nat.reduceBEq, Nat.reduceLeDiff, Nat.zero_le, Nat.reduceLT, Nat.le_refl, ↓reduceIte, decide_true, decide_false, true_and, and_true, false_imp_iff, true_imp_iff, not_false_eq_true, not_true_eq_false, implies_true, and_self, eq_self, i10, List.length_cons, List.length_nil, vcv, xur, ↓pJ9_append, bJ9_append, d1]
  refine ct_J16_canEncode hc ?_
  simp only [↓vcp, ↓vc_s, vch, vcn, Option.toList_some, Option.toList_none, List.cons_append, List.nil_append, Bool.false_eq_true, Bool.or_false, Bool.or_true, Bool.false_or, Bool.true_or, Nat.reduceAdd, Nat.reduceBEq, Nat.reduceLeDiff, Nat.zero_le, Nat.reduceLT, Nat.le_refl, ↓reduceIte, decide_true, decide_false, true_and, and_true, false_imp_iff, true_imp_iff, not_false_eq_true, not_true_eq_false, implies_true, and_self, eq_self, i10, List.length_cons, List.length_nil, vcv, xur, ↓pJ9_append, bJ9_append, h1, ga, gb, dn, dn', h3, i1, k1, nI_1, sbe, vsb]
  refine hK _ ⟨cap', q1, q2, okW_app q3 hc hl, b, upd f w.length (sb c), ml, ?_, h2, ?_, by simp; omega, h5, fun i hi => ?_, fun i => ?_⟩ ⟨hx.1, hx.2.1, hx.2.2.1, fun z hz hp => ?_⟩
  · show xu _ _ _ _ = _
    rw [xu_ne _ _ dn, xu_same, List.length_append]
    rfl
  · show xu _ _ _ _ = _
    rw [xu_same]
  · rw [tq_app]
    simp at hi
    by_cases hi2 : i = w.length
    · subst hi2
      rw [pk_us, if_neg (by omega), if_pos rfl]
    · rw [pk_un hi2, if_pos (by omega)]
      exact h6 i (by omega)
  · unfold upd
    split
    · exact sb_fit c
    · exact h7 i
  · show xu _ _ _ z = _
    rw [xu_ne _ _ (fun q => hp (by omega)), xu_ne _ _ (fun q => hp (by omega))]
    exact hx.2.2.2 z hz hp
theorem ct_J10_append {g : xG} {d : Nat} {σ : xH} {K : xR → xH → Prop} (hg : gwS g) (hd : 5 ≤ d) {lo a c : Nat} {w : List Nat} (h : isSB g σ lo a w) (hc : c < 256) (hl : w.length + 1 < 20000) (r1 : σ.2.1 + 1 ≤ gN g) (r2 : σ.2.2 + (2 * w.length + 2) ≤ gW g)
    (hK : ∀ (σ' : xH), isSB g σ' lo a (w ++ [c]) → xg σ σ' 1 (2 * w.length + 2) (fun z => lo ≤ z) → K (.inl (some (.ref a))) σ') : Ctr g d iJ10_append [.ref a, .int (nI c)] σ K := by
  have hs := h
  obtain ⟨cap0, -, -, -, b0, f0, ml0, h0, -⟩ := hs
  refine Ctr.of (by decide +kernel) rfl (by simp only [lent_0, lent_i, lent_r, lent_n, lent_l, lent_f, List.length_cons, List.length_nil, bJ10_append]; decide) ?_
  simp only [lpad, lent_0, lent_i, lent_r, lent_n, lent_l, lent_f, List.length_cons, List.length_nil, bJ10_append, Nat.reduceAdd, Nat.reduceSub, List.replicate_succ, List.replicate_zero, List.cons_append, List.nil_append]
  refine VW.go [2] 400 ?_
  simp only [↓vcp, ↓vc_s, vch, vcn, Option.toList_some, Option.toList_none, List.cons_append, List.nil_append, Bool.false_eq_true, Bool.or_false, Bool.or_true, Bool.false_or, Bool.true_or, Nat.reduceAdd, Nat.reduceBEq, Nat.reduceLeDiff, Nat.zero_le, Nat.reduceLT, Nat.le_refl, ↓reduceIte, decide_true, decide_false, true_and, and_true, false_imp_iff, true_imp_iff, not_false_eq_true, not_true_eq_false, implies_true, and_self, eq_self, i10, List.length_cons, List.length_nil, vcv, xur, ↓pJ10_append, bJ10_append]
  refine VW.sup (xd_of (I := iJ10_append) dJ10_append_2) (I' := iJ9_append) kJ9_append q410 q3292 q404 q411 (by decide +kernel) (av := [.int (nI c)]) (rest := []) rfl h0 rfl (by omega) (by simp) ?_
  refine ct_J9_append hg (by omega) h hc hl r1 r2 (fun σ' p1 p2 => ?_)
  rw [xcont_l]
  refine VW.go [] 400 ?_
  simp only [↓vcp, ↓vc_s, vch, vcn, Option.toList_some, Option.toList_none, List.cons_append, List.nil_append, Bool.false_eq_true, Bool.or_false, Bool.or_true, Bool.false_or, Bool.true_or, Nat.reduceAdd, Nat.reduceBEq, Nat.reduceLeDiff, Nat.zero_le, Nat.reduceLT, Nat.le_refl, ↓reduceIte, decide_true, decide_false, true_and, and_true, false_imp_iff, true_imp_iff, not_false_eq_true, not_true_eq_false, implies_true, and_self, eq_self, i10, List.length_cons, List.length_nil, vcv, xur, ↓pJ10_append, bJ10_append]
  exact hK σ' p1 p2
theorem ct_J15_checkLength {g : xG} {d : Nat} {σ : xH} {K : xR → xH → Prop} {n : Nat} (hn : n < 100000) (hK : K (.inl none) σ) : Ctr g d iJ15_checkLength [.int 0, .int (nI n)] σ K := by
  have c1 : (0 ≤ nI n) = True := eq_true (nI_pos' (by omega))
  refine Ctr.of (by decide +kernel) rfl (by simp only [lent_0, lent_i, lent_r, lent_n, lent_l, lent_f, List.length_cons, List.length_nil, bJ15_checkLength]; decide) ?_
  simp only [lpad, lent_0, lent_i, lent_r, lent_n, lent_l, lent_f, List.length_cons, List.length_nil, bJ15_checkLength, Nat.reduceAdd, Nat.reduceSub, List.replicate_succ, List.replicate_zero, List.cons_append, List.nil_append]
  refine VW.go [] 400 ?_
  simp only [↓vcp, ↓vc_s, vch, vcn, Option.toList_some, Option.toList_none, List.cons_append, List.nil_append, Bool.false_eq_true, Bool.or_false, Bool.or_true, Bool.false_or, Bool.true_or, Nat.reduceAdd, Nat.reduceBEq, Nat.reduceLeDiff, Nat.zero_le, Nat.reduceLT, Nat.le_refl, ↓reduceIte, decide_true, decide_false, true_and, and_true, false_imp_iff, true_imp_iff, not_false_eq_true, not_true_eq_false, implies_true, and_self, eq_self, i10, List.length_cons, List.length_nil, vcv, xur, ↓pJ15_checkLength, bJ15_checkLength, c1]
  exact hK
theorem ct_J15_copyOfRangeByte {g : xG} {d : Nat} {σ : xH} {K : xR → xH → Prop} (hd : 1 ≤ d) {b cap n : Nat} {f : Nat → Int32} (h : σ.1 b = some (ai 1 cap f)) (hn : n ≤ cap) (hc : cap ≤ 50000) (hf : ∀ i, fits .byte (.int (f i)) = true) (r1 : σ.2.1 + 1 ≤ gN g) (r2 : σ.2.2 + n ≤ gW g)
    (hK : ∀ f', (∀ i, i < n → f' i = f i) → K (.inl (some (.ref σ.2.1))) (xu σ.1 σ.2.1 (ai 1 n f'), σ.2.1 + 1, σ.2.2 + n)) : Ctr g d iJ15_copyOfRangeByte [.ref b, .int 0, .int (nI n)] σ K := by
  have n0 : (nI n < 0) = False := eq_false (nI_pos (by omega))
  have n1 : (nI n).toNatClampNeg = n := cl_y (by omega)
  have n2 : (n * 8 ≤ 536870912) = True := eq_true (by omega)
  refine Ctr.of (by decide +kernel) rfl (by simp only [lent_0, lent_i, lent_r, lent_n, lent_l, lent_f, List.length_cons, List.length_nil, bJ15_copyOfRangeByte]; decide) ?_
  simp only [lpad, lent_0, lent_i, lent_r, lent_n, lent_l, lent_f, List.length_cons, List.length_nil, bJ15_copyOfRangeByte, Nat.reduceAdd, Nat.reduceSub, List.replicate_succ, List.replicate_zero, List.cons_append, List.nil_append]
  refine VW.wf fun hw => ?_
  have n3 : ¬ b = σ.2.1 := hw.nl h
  refine VW.go [27] 400 ?_
  simp only [↓vcp, ↓vc_s, vch, vcn, Option.toList_some, Option.toList_none, List.cons_append, List.nil_append, Bool.false_eq_true, Bool.or_false, Bool.or_true, Bool.false_or, Bool.true_or, Nat.reduceAdd, Nat.reduceBEq, Nat.reduceLeDiff, Nat.zero_le, Nat.reduceLT, Nat.le_refl, ↓reduceIte, decide_true, decide_false, true_and, and_true, false_imp_iff, true_imp_iff, not_false_eq_true, not_true_eq_false, implies_true, and_self, eq_self, i10, List.length_cons, List.length_nil, vcv, xur, ↓pJ15_copyOfRangeByte, bJ15_copyOfRangeByte, hd]
  refine ct_J15_checkLength (by omega) ?_
  simp only [↓vcp, ↓vc_s, vch, vcn, Option.toList_some, Option.toList_none, List.cons_append, List.nil_append, Bool.false_eq_true, Bool.or_false, Bool.or_true, Bool.false_or, Bool.true_or, Nat.reduceAdd, Nat.reduceBEq, Nat.reduceLeDiff, Nat.zero_le, Nat.reduceLT, Nat.le_refl, ↓reduceIte, decide_true, decide_false, true_and, and_true, false_imp_iff, true_imp_iff, not_false_eq_true, not_true_eq_false, implies_true, and_self, eq_self, i10, List.length_cons, List.length_nil, vcv, xur, ↓pJ15_copyOfRangeByte, bJ15_copyOfRangeByte, n0, n1, n2, r1, r2, h, hd, n3, nIe, Int32.sub_zero]
  refine ct_J14_min _ _ ?_
  rw [mn_nI (by omega) (by omega), Nat.min_eq_right (by omega)]
  simp only [↓vcp, ↓vc_s, vch, vcn, Option.toList_some, Option.toList_none, List.cons_append, List.nil_append, Bool.false_eq_true, Bool.or_false, Bool.or_true, Bool.false_or, Bool.true_or, Nat.reduceAdd, Nat.reduceBEq, Nat.reduceLeDiff, Nat.zero_le, Nat.reduceLT, Nat.le_refl, ↓reduceIte, decide_true, decide_false, true_and, and_true, false_imp_iff, true_imp_iff, not_false_eq_true, not_true_eq_false, implies_true, and_self, eq_self, i10, List.length_cons, List.length_nil, vcv, xur, ↓pJ15_copyOfRangeByte, bJ15_copyOfRangeByte]
  have k2 : (0 : Int32).toNatClampNeg = 0 := by decide
  refine VW.cpyI (xd_of (I := iJ15_copyOfRangeByte) dJ15_copyOfRangeByte_27) q445 (by omega) (by simp) (kk := 1) (ty := .byte) rfl rfl (f := f) (f' := fun _ => 0) (n0 := cap) (n1 := n) ?_ ?_ hw.1 (by decide) (by decide) (nI_pos (by omega)) (by rw [n1, k2]; omega) (by rw [n1, k2]; omega) (fun i hi => hf _) ?_
  · show xu _ _ _ _ = _
    rw [xu_ne _ _ n3]; exact h
  · show xu _ _ _ _ = _
    rw [xu_same]
  · rw [n1, k2]
    simp only [xu_xu]
    refine VW.go [] 400 ?_
    simp only [↓vcp, ↓vc_s, vch, vcn, Option.toList_some, Option.toList_none, List.cons_append, List.nil_append, Bool.false_eq_true, Bool.or_false, Bool.or_true, Bool.false_or, Bool.true_or, Nat.reduceAdd, Nat.reduceBEq, Nat.reduceLeDiff, Nat.zero_le, Nat.reduceLT, Nat.le_refl, ↓reduceIte, decide_true, decide_false, true_and, and_true, false_imp_iff, true_imp_iff, not_false_eq_true, not_true_eq_false, implies_true, and_self, eq_self, i10, List.length_cons, List.length_nil, vcv, xur, ↓pJ15_copyOfRangeByte, bJ15_copyOfRangeByte]
    exact hK _ (fun i hi => by rw [pk_cpy_in (by omega) (by omega), Nat.zero_add, Nat.sub_zero])
theorem ct_J15_copyOfRange {g : xG} {d : Nat} {σ : xH} {K : xR → xH → Prop} (hd : 2 ≤ d) {b cap n : Nat} {f : Nat → Int32} (hb0 : g0 g ≤ b) (h : σ.1 b = some (ai 1 cap f)) (hn : n ≤ cap) (hc : cap ≤ 50000) (hf : ∀ i, fits .byte (.int (f i)) = true) (r1 : σ.2.1 + 1 ≤ gN g) (r2 : σ.2.2 + n ≤ gW g)
    (hK : ∀ f', (∀ i, i < n → f' i = f i) → K (.inl (some (.ref σ.2.1))) (xu σ.1 σ.2.1 (ai 1 n f'), σ.2.1 + 1, σ.2.2 + n)) : Ctr g d iJ15_copyOfRange [.ref b, .int 0, .int (nI n)] σ K := by
  have d1 : 1 ≤ d := by omega
  refine Ctr.of (by decide +kernel) rfl (by simp only [lent_0, lent_i, lent_r, lent_n, lent_l, lent_f, List.length_cons, List.length_nil, bJ15_copyOfRange]; decide) ?_
  simp only [lpad, lent_0, lent_i, lent_r, lent_n, lent_l, lent_f, List.length_cons, List.length_nil, bJ15_copyOfRange, Nat.reduceAdd, Nat.reduceSub, List.replicate_succ, List.replicate_zero, List.cons_append, List.nil_append]
  by_cases e : n = cap
  · subst e
    refine VW.go [18] 400 ?_
    simp only [↓vcp, ↓vc_s, vch, vcn, Option.toList_some, Option.toList_none, List.cons_append, List.nil_append, Bool.false_eq_true, Bool.or_false, Bool.or_true, Bool.false_or, Bool.true_or, Nat.reduceAdd, Nat.reduceBEq, Nat.reduceLeDiff, Nat.zero_le, Nat.reduceLT, Nat.le_refl, ↓reduceIte, decide_true, decide_false, true_and, and_true, false_imp_iff, true_imp_iff, not_false_eq_true, not_true_eq_false, implies_true, and_self, eq_self, i10, List.length_cons, List.length_nil, vcv, xur, ↓pJ15_copyOfRange, bJ15_copyOfRange, h, nIe]
    refine VW.cloneB (xd_of (I := iJ15_copyOfRange) dJ15_copyOfRange_18) q435 q440 (by omega) (by simp) hb0 h (fun i _ => hf i) r1 r2 ?_
    have c1 := fun oc idx => cst_a oc idx (xu σ.1 σ.2.1 (ai 1 n f), σ.2.1 + 1, σ.2.2 + n) σ.2.1 1 _ (xu_same _ _ _)
    refine VW.go [] 400 ?_
    simp only [↓vcp, ↓vc_s, vch, vcn, Option.toList_some, Option.toList_none, List.cons_append, List.nil_append, Bool.false_eq_true, Bool.or_false, Bool.or_true, Bool.false_or, Bool.true_or, Nat.reduceAdd, Nat.reduceBEq, Nat.reduceLeDiff, Nat.zero_le, Nat.reduceLT, Nat.le_refl, ↓reduceIte, decide_true, decide_false, true_and, and_true, false_imp_iff, true_imp_iff, not_false_eq_true, not_true_eq_false, implies_true, and_self, eq_self, i10, List.length_cons, List.length_nil, vcv, xur, ↓pJ15_copyOfRange, bJ15_copyOfRange, c1]
    exact hK f (fun _ _ => rfl)
  · have e1 : (nI n = nI cap) = False := eq_false (fun z => by have := (nI_eq (a := n) (b := cap) (by omega) (by omega)).mp z; omega)
    refine VW.go [18] 400 ?_
    simp only [↓vcp, ↓vc_s, vch, vcn, Option.toList_some, Option.toList_none, List.cons_append, List.nil_append, Bool.false_eq_true, Bool.or_false, Bool.or_true, Bool.false_or, Bool.true_or, Nat.reduceAdd, Nat.reduceBEq, Nat.reduceLeDiff, Nat.zero_le, Nat.reduceLT, Nat.le_refl, ↓reduceIte, decide_true, decide_false, true_and, and_true, false_imp_iff, true_imp_iff, not_false_eq_true, not_true_eq_false, implies_true, and_self, eq_self, i10, List.length_cons, List.length_nil, vcv, xur, ↓pJ15_copyOfRange, bJ15_copyOfRange, h, nIe, e1, d1]
    refine ct_J15_copyOfRangeByte (by omega) h hn hc hf r1 r2 (fun f' hf' => ?_)
    simp only [↓vcp, ↓vc_s, vch, vcn, Option.toList_some, Option.toList_none, List.cons_append, List.nil_append, Bool.false_eq_true, Bool.or_false, Bool.or_true, Bool.false_or, Bool.true_or, Nat.reduceAdd, Nat.reduceBEq, Nat.reduceLeDiff, Nat.zero_le, Nat.reduceLT, Nat.le_refl, ↓reduceIte, decide_true, decide_false, true_and, and_true, false_imp_iff, true_imp_iff, not_false_eq_true, not_true_eq_false, implies_true, and_self, eq_self, i10, List.length_cons, List.length_nil, vcv, xur, ↓pJ15_copyOfRange, bJ15_copyOfRange]
    exact hK f' hf'
theorem ct_J11_init_2 {g : xG} {d : Nat} {σ : xH} {K : xR → xH → Prop} (hg : gwS g) (hd : 4 ≤ d) {lo a s : Nat} {w : List Nat} (h : isSB g σ lo a w) (hs : g0 g ≤ s) (h9 : σ.1 s = some (ob 8 [.null, .int 0, .int 0, .int 0])) (r1 : σ.2.1 + 1 ≤ gN g) (r2 : σ.2.2 + w.length ≤ gW g)
    (hK : ∀ σ' : xH, nwS σ'.1 s σ.2.1 w → xg σ σ' 1 w.length (fun z => z = s) → K (.inl none) σ') : Ctr g d iJ11_init_2 [.ref s, .ref a, .null] σ K := by
  obtain ⟨cap, q1, q2, q3, b, f, ml, h1, h2, h3, h4, h5, h6, h7⟩ := h
  have d1 : 1 ≤ d := by omega
  have as : ¬ a = s := ne_oo h1 h9 (by decide)
  refine Ctr.of (by decide +kernel) rfl (by simp only [lent_0, lent_i, lent_r, lent_n, lent_l, lent_f, List.length_cons, List.length_nil, bJ11_init_2]; decide) ?_
  simp only [lpad, lent_0, lent_i, lent_r, lent_n, lent_l, lent_f, List.length_cons, List.length_nil, bJ11_init_2, Nat.reduceAdd, Nat.reduceSub, List.replicate_succ, List.replicate_zero, List.cons_append, List.nil_append]
  refine VW.wf fun hw => ?_
  have n3 : ¬ s = σ.2.1 := hw.nl h9
  have n3' : ¬ σ.2.1 = s := fun q => n3 q.symm
  have bs : ¬ b = s := fun q => ne_oi h9 h3 q.symm
  have ls := hw.2.1 _ _ h9
  refine VW.go [1] 400 ?_
  simp only [↓vcp, ↓vc_s, vch, vcn, Option.toList_some, Option.toList_none, List.cons_append, List.nil_append, Bool.false_eq_true, Bool.or_false, Bool.or_true, Bool.false_or, Bool.true_or, Nat.reduceAdd, Nat.reduceBEq, Nat.reduceLeDiff, Nat.zero_le, Nat.reduceLT, Nat.le_refl, ↓reduceIte, decide_true, decide_false, true_and, and_true, false_imp_iff, true_imp_iff, not_false_eq_true, not_true_eq_false, implies_true, and_self, eq_self, i10, List.length_cons, List.length_nil, vcv, xur, ↓pJ11_init_2, bJ11_init_2, d1]
  refine VW.obji (xd_of (I := iJ11_init_2) dJ11_init_2_1) q513 (by omega) (by simp) ?_
  refine VW.go [] 400 ?_
  simp only [↓vcp, ↓vc_s, vch, vcn, Option.toList_some, Option.toList_none, List.cons_append, List.nil_append, Bool.false_eq_true, Bool.or_false, Bool.or_true, Bool.false_or, Bool.true_or, Nat.reduceAdd, Nat.reduceBEq, Nat.reduceLeDiff, Nat.zero_le, Nat.reduceLT, Nat.le_refl, ↓reduceIte, decide_true, decide_false, true_and, and_true, false_imp_iff, true_imp_iff, not_false_eq_true, not_true_eq_false, implies_true, and_self, eq_self, i10, List.length_cons, List.length_nil, vcv, xur, ↓pJ11_init_2, bJ11_init_2, h1, d1]
  refine ct_J9_getValue h1 ?_
  simp only [↓vcp, ↓vc_s, vch, vcn, Option.toList_some, Option.toList_none, List.cons_append, List.nil_append, Bool.false_eq_true, Bool.or_false, Bool.or_true, Bool.false_or, Bool.true_or, Nat.reduceAdd, Nat.reduceBEq, Nat.reduceLeDiff, Nat.zero_le, Nat.reduceLT, Nat.le_refl, ↓reduceIte, decide_true, decide_false, true_and, and_true, false_imp_iff, true_imp_iff, not_false_eq_true, not_true_eq_false, implies_true, and_self, eq_self, i10, List.length_cons, List.length_nil, vcv, xur, ↓pJ11_init_2, bJ11_init_2, h1, d1]
  refine ct_J10_length (by omega) h1 ?_
  simp only [↓vcp, ↓vc_s, vch, vcn, Option.toList_some, Option.toList_none, List.cons_append, List.nil_append, Bool.false_eq_true, Bool.or_false, Bool.or_true, Bool.false_or, Bool.true_or, Nat.reduceAdd, Nat.reduceBEq, Nat.reduceLeDiff, Nat.zero_le, Nat.reduceLT, Nat.le_refl, ↓reduceIte, decide_true, decide_false, true_and, and_true, false_imp_iff, true_imp_iff, not_false_eq_true, not_true_eq_false, implies_true, and_self, eq_self, i10, List.length_cons, List.length_nil, vcv, xur, ↓pJ11_init_2, bJ11_init_2, h1, d1]
  refine ct_J9_isLatin1 hg h1 ?_
  simp only [↓vcp, ↓vc_s, vch, vcn, Option.toList_some, Option.toList_none, List.cons_append, List.nil_append, Bool.false_eq_true, Bool.or_false, Bool.or_true, Bool.false_or, Bool.true_or, Nat.reduceAdd, Nat.reduceBEq, Nat.reduceLeDiff, Nat.zero_le, Nat.reduceLT, Nat.le_refl, ↓reduceIte, decide_true, decide_false, true_and, and_true, false_imp_iff, true_imp_iff, not_false_eq_true, not_true_eq_false, implies_true, and_self, eq_self, i10, List.length_cons, List.length_nil, vcv, xur, ↓pJ11_init_2, bJ11_init_2, h9, hs, d1]
  refine ct_J15_copyOfRange (by omega) (by omega) (by show xu _ _ _ _ = _; rw [xu_ne _ _ bs]; exact h3) h4 h5 h7 r1 r2 (fun f' hf' => ?_)
  simp only [↓vcp, ↓vc_s, vch, vcn, Option.toList_some, Option.toList_none, List.cons_append, List.nil_append, Bool.false_eq_true, Bool.or_false, Bool.or_true, Bool.false_or, Bool.true_or, Nat.reduceAdd, Nat.reduceBEq, Nat.reduceLeDiff, Nat.zero_le, Nat.reduceLT, Nat.le_refl, ↓reduceIte, decide_true, decide_false, true_and, and_true, false_imp_iff, true_imp_iff, not_false_eq_true, not_true_eq_false, implies_true, and_self, eq_self, i10, List.length_cons, List.length_nil, vcv, xur, ↓pJ11_init_2, bJ11_init_2, hs, n3]
  refine hK _ ⟨f', by show xu _ _ _ _ = _; exact xu_same _ _ _, by show xu _ _ _ _ = _; rw [xu_ne _ _ n3']; exact xu_same _ _ _, fun i hi => by rw [hf' i hi]; exact h6 i hi, q3⟩ ⟨by show σ.2.1 ≤ σ.2.1 + 1; omega, Nat.le_refl _, Nat.le_refl _, fun z hz hp => ?_⟩
  show xu _ _ _ z = _
  simp only [xu_ne _ _ hp, xu_ne _ _ (Nat.ne_of_lt hz)]
theorem ct_J11_init {g : xG} {d : Nat} {σ : xH} {K : xR → xH → Prop} (hg : gwS g) (hd : 5 ≤ d) {lo a s : Nat} {w : List Nat} (h : isSB g σ lo a w) (hs : g0 g ≤ s) (h9 : σ.1 s = some (ob 8 [.null, .int 0, .int 0, .int 0])) (r1 : σ.2.1 + 1 ≤ gN g) (r2 : σ.2.2 + w.length ≤ gW g)
    (hK : ∀ σ' : xH, nwS σ'.1 s σ.2.1 w → xg σ σ' 1 w.length (fun z => z = s) → K (.inl none) σ') : Ctr g d iJ11_init [.ref s, .ref a] σ K := by
  have d1 : 1 ≤ d := by omega
  refine Ctr.of (by decide +kernel) rfl (by simp only [lent_0, lent_i, lent_r, lent_n, lent_l, lent_f, List.length_cons, List.length_nil, bJ11_init]; decide) ?_
  simp only [lpad, lent_0, lent_i, lent_r, lent_n, lent_l, lent_f, List.length_cons, List.length_nil, bJ11_init, Nat.reduceAdd, Nat.reduceSub, List.replicate_succ, List.replicate_zero, List.cons_append, List.nil_append]
  refine VW.go [] 400 ?_
  simp only [↓vcp, ↓vc_s, vch, vcn, Option.toList_some, Option.toList_none, List.cons_append, List.nil_append, Bool.false_eq_true, Bool.or_false, Bool.or_true, Bool.false_or, Bool.true_or, Nat.reduceAdd, Nat.reduceBEq, Nat.reduceLeDiff, Nat.zero_le, Nat.reduceLT, Nat.le_refl, ↓reduceIte, decide_true, decide_false, true_and, and_true, false_imp_iff, true_imp_iff, not_false_eq_true, not_true_eq_false, implies_true, and_self, eq_self, i10, List.length_cons, List.length_nil, vcv, xur, ↓pJ11_init, bJ11_init, d1]
  refine ct_J11_init_2 hg (by omega) h hs h9 r1 r2 (fun σ' p1 p2 => ?_)
  simp only [↓vcp, ↓vc_s, vch, vcn, Option.toList_some, Option.toList_none, List.cons_append, List.nil_append, Bool.false_eq_true, Bool.or_false, Bool.or_true, Bool.false_or, Bool.true_or, Nat.reduceAdd, Nat.reduceBEq, Nat.reduceLeDiff, Nat.zero_le, Nat.reduceLT, Nat.le_refl, ↓reduceIte, decide_true, decide_false, true_and, and_true, false_imp_iff, true_imp_iff, not_false_eq_true, not_true_eq_false, implies_true, and_self, eq_self, i10, List.length_cons, List.length_nil, vcv, xur, ↓pJ11_init, bJ11_init]
  exact hK σ' p1 p2
theorem isSB_new {g : xG} {σ : xH} {lo a : Nat} {w : List Nat} {e : xE} {r : Nat × Nat} (hw : xWF g σ) (h : isSB g σ lo a w) : isSB g (xu σ.1 σ.2.1 e, r) lo a w := by
  obtain ⟨cap, q1, q2, q3, b, f, ml, h1, h2, h3, h4⟩ := h
  exact ⟨cap, q1, q2, q3, b, f, ml, by show xu _ _ _ _ = _; rw [xu_ne _ _ (hw.nl h1)]; exact h1, h2, by show xu _ _ _ _ = _; rw [xu_ne _ _ (hw.nl h3)]; exact h3, h4⟩
theorem ct_J10_toString {g : xG} {d : Nat} {σ : xH} {K : xR → xH → Prop} (hg : gwS g) (hd : 6 ≤ d) {lo a : Nat} {w : List Nat} (h : isSB g σ lo a w) (r1 : σ.2.1 + 2 ≤ gN g) (r2 : σ.2.2 + (w.length + 4) ≤ gW g)
    (hK : ∀ σ' : xH, nwS σ'.1 σ.2.1 (σ.2.1 + 1) w → xg σ σ' 2 (w.length + 4) (fun _ => False) → K (.inl (some (.ref σ.2.1))) σ') : Ctr g d iJ10_toString [.ref a] σ K := by
  have d1 : 1 ≤ d := by omega
  have r3 : (σ.2.1 + 1 ≤ gN g) = True := eq_true (by omega)
  have r4 : (σ.2.2 + 4 ≤ gW g) = True := eq_true (by omega)
  refine Ctr.of (by decide +kernel) rfl (by simp only [lent_0, lent_i, lent_r, lent_n, lent_l, lent_f, List.length_cons, List.length_nil, bJ10_toString]; decide) ?_
  simp only [lpad, lent_0, lent_i, lent_r, lent_n, lent_l, lent_f, List.length_cons, List.length_nil, bJ10_toString, Nat.reduceAdd, Nat.reduceSub, List.replicate_succ, List.replicate_zero, List.cons_append, List.nil_append]
  refine VW.wf fun hw => ?_
  refine VW.go [] 400 ?_
  simp only [↓vcp, ↓vc_s, vch, vcn, Option.toList_some, Option.toList_none, List.cons_append, List.nil_append, Bool.false_eq_true, Bool.or_false, Bool.or_true, Bool.false_or, Bool.true_or, Nat.reduceAdd, Nat.reduceBEq, Nat.reduceLeDiff, Nat.zero_le, Nat.reduceLT, Nat.le_refl, ↓reduceIte, decide_true, decide_false, true_and, and_true, false_imp_iff, true_imp_iff, not_false_eq_true, not_true_eq_false, implies_true, and_self, eq_self, i10, List.length_cons, List.length_nil, vcv, xur, ↓pJ10_toString, bJ10_toString, d1, r3, r4]
  refine ct_J11_init hg (by omega) (isSB_new hw h) hw.1 (by show xu _ _ _ _ = _; exact xu_same _ _ _) (by show σ.2.1 + 1 + 1 ≤ _; omega) (by show σ.2.2 + 4 + _ ≤ _; omega) (fun σ' p1 p2 => ?_)
  simp only [↓vcp, ↓vc_s, vch, vcn, Option.toList_some, Option.toList_none, List.cons_append, List.nil_append, Bool.false_eq_true, Bool.or_false, Bool.or_true, Bool.false_or, Bool.true_or, Nat.reduceAdd, Nat.reduceBEq, Nat.reduceLeDiff, Nat.zero_le, Nat.reduceLT, Nat.le_refl, ↓reduceIte, decide_true, decide_false, true_and, and_true, false_imp_iff, true_imp_iff, not_false_eq_true, not_true_eq_false, implies_true, and_self, eq_self, i10, List.length_cons, List.length_nil, vcv, xur, ↓pJ10_toString, bJ10_toString]
  have e1 := p2.1
  have e2 := p2.2.1
  have e3 := p2.2.2.1
  simp only at e1 e2 e3
  refine hK σ' p1 ⟨by omega, by omega, by omega, fun z hz _ => ?_⟩
  rw [p2.2.2.2 z (by show z < σ.2.1 + 1; omega) (by omega)]
  show xu _ _ _ z = _
  rw [xu_ne _ _ (by omega)]
