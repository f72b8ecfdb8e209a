set_option maxRecDepth 40000
set_option maxHeartbeats 2000000
/-! ===== HashMap.getNode, containsKey, get ===== -/
theorem ct_J22_hash {g : xG} {d : Nat} {σ : xH} {K : xR → xH → Prop} (hg : gwS g) (hd : 4 ≤ d) {a : Nat} {w : List Nat} (ha : g0 g ≤ a) (h : isS σ.1 a w) (hK : ∀ σ', hup σ σ' a w → K (.inl (some (.int (hsN w)))) σ') : Ctr g d iJ22_hash [.ref a] σ K := by
  have d1 : 1 ≤ d := by omega
  have h9 := h
  obtain ⟨v, h0, z, f, h1, -⟩ := h9
  refine Ctr.of (by decide +kernel) rfl (by simp only [lent_0, lent_i, lent_r, lent_n, lent_l, lent_f, List.length_cons, List.length_nil, bJ22_hash]; decide) ?_
  simp only [lpad, lent_0, lent_i, lent_r, lent_n, lent_l, lent_f, List.length_cons, List.length_nil, bJ22_hash, Nat.reduceAdd, Nat.reduceSub, List.replicate_succ, List.replicate_zero, List.cons_append, List.nil_append]
  refine VW.go [] 400 ?_
  simp only [↓vcp, ↓vc_s, vch, vcn, Option.toList_some, Option.toList_none, List.cons_append, List.nil_append, Bool.false_eq_true, Bool.or_false, Bool.or_true, Bool.false_or, Bool.true_or, Nat.reduceAdd, Nat.reduceBEq, Nat.reduceLeDiff, Nat.zero_le, Nat.reduceLT, Nat.le_refl, ↓reduceIte, decide_true, decide_false, true_and, and_true, false_imp_iff, true_imp_iff, not_false_eq_true, not_true_eq_false, implies_true, and_self, eq_self, i10, List.length_cons, List.length_nil, vcv, xur, ↓pJ22_hash, bJ22_hash, h1, d1, Option.some.injEq, reduceCtorEq, forall_eq']
  refine ct_J11_hashCode hg (by omega) ha h (fun σ' hh => ?_)
  have hk := hK σ' hh
  simp only [↓vcp, ↓vc_s, vch, vcn, Option.toList_some, Option.toList_none, List.cons_append, List.nil_append, Bool.false_eq_true, Bool.or_false, Bool.or_true, Bool.false_or, Bool.true_or, Nat.reduceAdd, Nat.reduceBEq, Nat.reduceLeDiff, Nat.zero_le, Nat.reduceLT, Nat.le_refl, ↓reduceIte, decide_true, decide_false, true_and, and_true, false_imp_iff, true_imp_iff, not_false_eq_true, not_true_eq_false, implies_true, and_self, eq_self, i10, List.length_cons, List.length_nil, vcv, xur, ↓pJ22_hash, bJ22_hash, Option.some.injEq, reduceCtorEq, forall_eq']
  exact hk
theorem bix_and {cap : Nat} (h : cap = 16 ∨ cap = 32 ∨ cap = 64) (x : Int32) : (nI cap - 1) &&& x = nI (bix cap x) := by
  apply Int32.toBitVec_inj.mp
  apply BitVec.eq_of_toNat_eq
  have e : ((nI cap - 1) &&& x).toBitVec.toNat = (nI cap - 1).toBitVec.toNat &&& x.toBitVec.toNat := by
    show ((nI cap - 1).toBitVec &&& x.toBitVec).toNat = _
    exact BitVec.toNat_and _ _
  have e2 : (nI (bix cap x)).toBitVec.toNat = bix cap x := by
    show (BitVec.ofNat 32 (bix cap x)).toNat = _
    rw [BitVec.toNat_ofNat, Nat.mod_eq_of_lt (by have := bix_lt h x; omega)]
  rw [e, e2]
  unfold bix
  rcases h with rfl | rfl | rfl
  · rw [show (nI 16 - 1).toBitVec.toNat = 2 ^ 4 - 1 by decide, Nat.and_comm, Nat.and_two_pow_sub_one_eq_mod]
  · rw [show (nI 32 - 1).toBitVec.toNat = 2 ^ 5 - 1 by decide, Nat.and_comm, Nat.and_two_pow_sub_one_eq_mod]
  · rw [show (nI 64 - 1).toBitVec.toNat = 2 ^ 6 - 1 by decide, Nat.and_comm, Nat.and_two_pow_sub_one_eq_mod]
theorem hup.xg {σ σ' : xH} {a : Nat} {w : List Nat} {P : Nat → Prop} (h : hup σ σ' a w) (hP : P a) : xg σ σ' 0 0 P := by
  obtain ⟨v, h0, z, h1, z1, e1, e2, e3, e4, e5⟩ := h
  refine ⟨by rw [e4]; exact Nat.le_refl _, by rw [e4]; exact Nat.le_refl _, by rw [e4]; exact Nat.le_refl _, fun b hb hp => e5 b (fun q => hp (by rw [q]; exact hP))⟩
theorem lkN_of {nm : Nat → List Nat} {w : List Nat} {cnt i : Nat} (hi : i < cnt) (hw : nm i = w) (hinj : ∀ i j, i < cnt → j < cnt → nm i = nm j → i = j) : lkN nm w cnt = some i := by
  cases e : lkN nm w cnt with
  | none => exact absurd hw (lkN_none e i hi)
  | some j =>
    obtain ⟨h1, h2⟩ := lkN_some e
    rw [hinj i j hi h1 (hw.trans h2.symm)]
theorem binL_mem {cap cnt i : Nat} {nm : Nat → List Nat} {w : List Nat} (hi : i < cnt) (hw : nm i = w) : i ∈ binL cap cnt nm (bix cap (hsN w)) :=
  List.mem_filter.mpr ⟨List.mem_range.mpr hi, decide_eq_true (by rw [hw])⟩
theorem binL_n {cap cnt j : Nat} {nm : Nat → List Nat} {w : List Nat} (h : ∀ i ∈ binL cap cnt nm (bix cap (hsN w)), nm i ≠ w) : lkN nm w cnt = none := by
  cases e : lkN nm w cnt with
  | none => rfl
  | some i =>
    obtain ⟨h1, h2⟩ := lkN_some e
    exact absurd h2 (h i (binL_mem h1 h2))
/-- what a node holds as its value -/
def ndV (σ : xH) (n v : Nat) : Prop := (∃ x y z : Value, σ.1 n = some (ob 21 [x, y, .ref v, z])) ∨ ∃ p q x y z z1 z2 z3 z4 z5 : Value, σ.1 n = some (ob 22 [p, q, x, y, .ref v, z, z1, z2, z3, z4, z5])
/-- the chain behind the first node -/
theorem ch_find {g : xG} {d : Nat} {σ : xH} {K : xR → xH → Prop} (hg : gwS g) (hd : 2 ≤ d) {F : xM} {a th : Nat} {w : List Nat} {nd ka vb : Nat → Nat} {nm : Nat → List Nat} (hF : fz F σ) (ha : isS F a w) {v2 v5 : Option Value} {v3 : Nat} :
    ∀ (l : List Nat) (o : Option Nat), chn σ.1 nd ka vb nm o l → (∀ i ∈ l, isS F (ka i) (nm i)) → (∀ i ∈ l, nm i = w → K (.inl (some (.ref (nd i)))) σ) → ((∀ i ∈ l, nm i ≠ w) → K (.inl (some .null)) σ) →
    ∀ v7, VW g iJ22_getNode K d 145 [some (.ref th), some (.ref a), v2, some (.ref v3), some (va_rf o), v5, some (.int (hsN w)), v7] [va_rf o] σ ∧ ∀ x, o = some x → VW g iJ22_getNode K d 99 [some (.ref th), some (.ref a), v2, some (.ref v3), some (.ref x), v5, some (.int (hsN w)), v7] [] σ := by
  have d1 : 1 ≤ d := by omega
  have ha9 := hF.str ha
  obtain ⟨av, ah, az, af, a1, -⟩ := ha9
  intro l
  induction l with
  | nil =>
    intro o h hk hR hN v7
    have h' : o = none := h
    subst h'
    have hn := hN (fun i hi => by cases hi)
    refine ⟨?_, fun x hx => by cases hx⟩
    rw [show va_rf (none : Option Nat) = .null from rfl]
    refine VW.go [] 400 ?_
    simp only [↓vcp, ↓vc_s, vch, vcn, Option.toList_some, Option.toList_none, List.cons_append, List.nil_append, Bool.false_eq_true, Bool.or_false, Bool.or_true, Bool.false_or, Bool.true_or, Nat.reduceAdd, Nat.reduceBEq, Nat.reduceLeDiff, Nat.zero_le, Nat.reduceLT, Nat.le_refl, ↓reduceIte, decide_true, decide_false, true_and, and_true, false_imp_iff, true_imp_iff, not_false_eq_true, not_true_eq_false, implies_true, and_self, eq_self, i10, List.length_cons, List.length_nil, vcv, xur, ↓pJ22_getNode, bJ22_getNode, Option.some.injEq, reduceCtorEq, forall_eq']
    exact hn
  | cons i l ih =>
    intro o h hk hR hN v7
    obtain ⟨h1, nx, h2, h3⟩ := h
    subst h1
    suffices A : VW g iJ22_getNode K d 99 [some (.ref th), some (.ref a), v2, some (.ref v3), some (.ref (nd i)), v5, some (.int (hsN w)), v7] [] σ by
      refine ⟨?_, fun x hx => by cases hx; exact A⟩
      rw [show va_rf (some (nd i)) = .ref (nd i) from rfl]
      refine VW.go [99] 400 ?_
      simp only [↓vcp, ↓vc_s, vch, vcn, Option.toList_some, Option.toList_none, List.cons_append, List.nil_append, Bool.false_eq_true, Bool.or_false, Bool.or_true, Bool.false_or, Bool.true_or, Nat.reduceAdd, Nat.reduceBEq, Nat.reduceLeDiff, Nat.zero_le, Nat.reduceLT, Nat.le_refl, ↓reduceIte, decide_true, decide_false, true_and, and_true, false_imp_iff, true_imp_iff, not_false_eq_true, not_true_eq_false, implies_true, and_self, eq_self, i10, List.length_cons, List.length_nil, vcv, xur, ↓pJ22_getNode, bJ22_getNode, Option.some.injEq, reduceCtorEq, forall_eq']
      exact A
    have k1 := hk i List.mem_cons_self
    have go := fun v7 (hi : nm i ≠ w) => (ih nx h3 (fun j hj => hk j (List.mem_cons_of_mem _ hj)) (fun j hj => hR j (List.mem_cons_of_mem _ hj)) (fun q => hN (fun j hj => by
      rcases List.mem_cons.mp hj with e | e
      · rw [e]; exact hi
      · exact q j e)) v7).1
    by_cases hh : hsN (nm i) = hsN w
    · have e0 : (hsN (nm i) = hsN w) = True := eq_true hh
      by_cases hka : ka i = a
      · have e1 : (ka i = a) = True := eq_true hka
        have hw : nm i = w := by rw [hka] at k1; exact isS_fun k1 ha
        have hr := hR i List.mem_cons_self hw
        refine VW.go [145] 400 ?_
        simp only [↓vcp, ↓vc_s, vch, vcn, Option.toList_some, Option.toList_none, List.cons_append, List.nil_append, Bool.false_eq_true, Bool.or_false, Bool.or_true, Bool.false_or, Bool.true_or, Nat.reduceAdd, Nat.reduceBEq, Nat.reduceLeDiff, Nat.zero_le, Nat.reduceLT, Nat.le_refl, ↓reduceIte, decide_true, decide_false, true_and, and_true, false_imp_iff, true_imp_iff, not_false_eq_true, not_true_eq_false, implies_true, and_self, eq_self, i10, List.length_cons, List.length_nil, vcv, xur, ↓pJ22_getNode, bJ22_getNode, h2, e0, e1, Option.some.injEq, reduceCtorEq, forall_eq']
        exact hr
      · have e1 : (ka i = a) = False := eq_false hka
        by_cases hw : w = nm i
        · have hr := hR i List.mem_cons_self hw.symm
          refine VW.go [145] 400 ?_
          simp only [↓vcp, ↓vc_s, vch, vcn, Option.toList_some, Option.toList_none, List.cons_append, List.nil_append, Bool.false_eq_true, Bool.or_false, Bool.or_true, Bool.false_or, Bool.true_or, Nat.reduceAdd, Nat.reduceBEq, Nat.reduceLeDiff, Nat.zero_le, Nat.reduceLT, Nat.le_refl, ↓reduceIte, decide_true, decide_false, true_and, and_true, false_imp_iff, true_imp_iff, not_false_eq_true, not_true_eq_false, implies_true, and_self, eq_self, i10, List.length_cons, List.length_nil, vcv, xur, ↓pJ22_getNode, bJ22_getNode, h2, e0, e1, a1, d1, Option.some.injEq, reduceCtorEq, forall_eq']
          refine ct_J11_equals hg (by omega) (hF.str ha) (hF.str k1) ?_
          rw [decide_eq_true hw]
          simp only [↓vcp, ↓vc_s, vch, vcn, Option.toList_some, Option.toList_none, List.cons_append, List.nil_append, Bool.false_eq_true, Bool.or_false, Bool.or_true, Bool.false_or, Bool.true_or, Nat.reduceAdd, Nat.reduceBEq, Nat.reduceLeDiff, Nat.zero_le, Nat.reduceLT, Nat.le_refl, ↓reduceIte, decide_true, decide_false, true_and, and_true, false_imp_iff, true_imp_iff, not_false_eq_true, not_true_eq_false, implies_true, and_self, eq_self, i10, List.length_cons, List.length_nil, vcv, xur, ↓pJ22_getNode, bJ22_getNode, b2i_t, Option.some.injEq, reduceCtorEq, forall_eq']
          exact hr
        · have G := go (some (.ref (ka i))) (fun q => hw q.symm)
          refine VW.go [145] 400 ?_
          simp only [↓vcp, ↓vc_s, vch, vcn, Option.toList_some, Option.toList_none, List.cons_append, List.nil_append, Bool.false_eq_true, Bool.or_false, Bool.or_true, Bool.false_or, Bool.true_or, Nat.reduceAdd, Nat.reduceBEq, Nat.reduceLeDiff, Nat.zero_le, Nat.reduceLT, Nat.le_refl, ↓reduceIte, decide_true, decide_false, true_and, and_true, false_imp_iff, true_imp_iff, not_false_eq_true, not_true_eq_false, implies_true, and_self, eq_self, i10, List.length_cons, List.length_nil, vcv, xur, ↓pJ22_getNode, bJ22_getNode, h2, e0, e1, a1, d1, Option.some.injEq, reduceCtorEq, forall_eq']
          refine ct_J11_equals hg (by omega) (hF.str ha) (hF.str k1) ?_
          rw [decide_eq_false hw]
          simp only [↓vcp, ↓vc_s, vch, vcn, Option.toList_some, Option.toList_none, List.cons_append, List.nil_append, Bool.false_eq_true, Bool.or_false, Bool.or_true, Bool.false_or, Bool.true_or, Nat.reduceAdd, Nat.reduceBEq, Nat.reduceLeDiff, Nat.zero_le, Nat.reduceLT, Nat.le_refl, ↓reduceIte, decide_true, decide_false, true_and, and_true, false_imp_iff, true_imp_iff, not_false_eq_true, not_true_eq_false, implies_true, and_self, eq_self, i10, List.length_cons, List.length_nil, vcv, xur, ↓pJ22_getNode, bJ22_getNode, b2i_f, h2, Option.some.injEq, reduceCtorEq, forall_eq']
          exact G
    · have e0 : (hsN (nm i) = hsN w) = False := eq_false hh
      have G := go v7 (fun q => hh (by rw [q]))
      refine VW.go [145] 400 ?_
      simp only [↓vcp, ↓vc_s, vch, vcn, Option.toList_some, Option.toList_none, List.cons_append, List.nil_append, Bool.false_eq_true, Bool.or_false, Bool.or_true, Bool.false_or, Bool.true_or, Nat.reduceAdd, Nat.reduceBEq, Nat.reduceLeDiff, Nat.zero_le, Nat.reduceLT, Nat.le_refl, ↓reduceIte, decide_true, decide_false, true_and, and_true, false_imp_iff, true_imp_iff, not_false_eq_true, not_true_eq_false, implies_true, and_self, eq_self, i10, List.length_cons, List.length_nil, vcv, xur, ↓pJ22_getNode, bJ22_getNode, h2, e0, Option.some.injEq, reduceCtorEq, forall_eq']
      exact G
theorem chn_at {M : xM} {nd ka vb : Nat → Nat} {nm : Nat → List Nat} : ∀ {l : List Nat} {o : Option Nat}, chn M nd ka vb nm o l → ∀ i ∈ l, ∃ nx : Option Nat, M (nd i) = some (ob 21 [.int (hsN (nm i)), .ref (ka i), .ref (vb i), va_rf nx])
  | [], o, h, i, hi => by cases hi
  | j :: l, o, h, i, hi => by
    obtain ⟨h1, nx, h2, h3⟩ := h
    rcases List.mem_cons.mp hi with e | e
    · rw [e]; exact ⟨nx, h2⟩
    · exact chn_at h3 i e
/-- the first node of a bin -/
theorem gn_first {g : xG} {d : Nat} {σ : xH} {K : xR → xH → Prop} (hg : gwS g) (hd : 2 ≤ d) {F : xM} {a n0 k0 : Nat} {w wi : List Nat} (hF : fz F σ) (ha : isS F a w) (hk : isS F k0 wi) {v0 v2 v4 v5 v7 : Option Value}
    (hc : (∃ y z : Value, σ.1 n0 = some (ob 21 [.int (hsN wi), .ref k0, y, z])) ∨ ∃ p q y z z1 z2 z3 z4 z5 : Value, σ.1 n0 = some (ob 22 [p, q, .int (hsN wi), .ref k0, y, z, z1, z2, z3, z4, z5])) (hR : wi = w → K (.inl (some (.ref n0))) σ)
    (hN : wi ≠ w → ∀ v7, VW g iJ22_getNode K d 71 [v0, some (.ref a), v2, some (.ref n0), v4, v5, some (.int (hsN w)), v7] [] σ) : VW g iJ22_getNode K d 36 [v0, some (.ref a), v2, some (.ref n0), v4, v5, some (.int (hsN w)), v7] [] σ := by
  have d1 : 1 ≤ d := by omega
  have ha9 := hF.str ha
  obtain ⟨av, ah, az, af, a1, -⟩ := ha9
  by_cases hh : hsN wi = hsN w
  · have e0 : (hsN wi = hsN w) = True := eq_true hh
    by_cases hka : k0 = a
    · have e1 : (k0 = a) = True := eq_true hka
      have hr := hR (by rw [hka] at hk; exact isS_fun hk ha)
      rcases hc with ⟨y, z, hc⟩ | ⟨p, q, y, z, z1, z2, z3, z4, z5, hc⟩
      · refine VW.go [71] 400 ?_
        simp only [↓vcp, ↓vc_s, vch, vcn, Option.toList_some, Option.toList_none, List.cons_append, List.nil_append, Bool.false_eq_true, Bool.or_false, Bool.or_true, Bool.false_or, Bool.true_or, Nat.reduceAdd, Nat.reduceBEq, Nat.reduceLeDiff, Nat.zero_le, Nat.reduceLT, Nat.le_refl, ↓reduceIte, decide_true, decide_false, true_and, and_true, false_imp_iff, true_imp_iff, not_false_eq_true, not_true_eq_false, implies_true, and_self, eq_self, i10, List.length_cons, List.length_nil, vcv, xur, ↓pJ22_getNode, bJ22_getNode, hc, e0, e1, Option.some.injEq, reduceCtorEq, forall_eq']
        exact hr
      · refine VW.go [71] 400 ?_
        simp only [↓vcp, ↓vc_s, vch, vcn, Option.toList_some, Option.toList_none, List.cons_append, List.nil_append, Bool.false_eq_true, Bool.or_false, Bool.or_true, Bool.false_or, Bool.true_or, Nat.reduceAdd, Nat.reduceBEq, Nat.reduceLeDiff, Nat.zero_le, Nat.reduceLT, Nat.le_refl, ↓reduceIte, decide_true, decide_false, true_and, and_true, false_imp_iff, true_imp_iff, not_false_eq_true, not_true_eq_false, implies_true, and_self, eq_self, i10, List.length_cons, List.length_nil, vcv, xur, ↓pJ22_getNode, bJ22_getNode, hc, e0, e1, Option.some.injEq, reduceCtorEq, forall_eq']
        exact hr
    · have e1 : (k0 = a) = False := eq_false hka
      by_cases hw : w = wi
      · have hr := hR hw.symm
        rcases hc with ⟨y, z, hc⟩ | ⟨p, q, y, z, z1, z2, z3, z4, z5, hc⟩
        · refine VW.go [71] 400 ?_
          simp only [↓vcp, ↓vc_s, vch, vcn, Option.toList_some, Option.toList_none, List.cons_append, List.nil_append, Bool.false_eq_true, Bool.or_false, Bool.or_true, Bool.false_or, Bool.true_or, Nat.reduceAdd, Nat.reduceBEq, Nat.reduceLeDiff, Nat.zero_le, Nat.reduceLT, Nat.le_refl, ↓reduceIte, decide_true, decide_false, true_and, and_true, false_imp_iff, true_imp_iff, not_false_eq_true, not_true_eq_false, implies_true, and_self, eq_self, i10, List.length_cons, List.length_nil, vcv, xur, ↓pJ22_getNode, bJ22_getNode, hc, e0, e1, a1, d1, Option.some.injEq, reduceCtorEq, forall_eq']
          refine ct_J11_equals hg (by omega) (hF.str ha) (hF.str hk) ?_
          rw [decide_eq_true hw]
          simp only [↓vcp, ↓vc_s, vch, vcn, Option.toList_some, Option.toList_none, List.cons_append, List.nil_append, Bool.false_eq_true, Bool.or_false, Bool.or_true, Bool.false_or, Bool.true_or, Nat.reduceAdd, Nat.reduceBEq, Nat.reduceLeDiff, Nat.zero_le, Nat.reduceLT, Nat.le_refl, ↓reduceIte, decide_true, decide_false, true_and, and_true, false_imp_iff, true_imp_iff, not_false_eq_true, not_true_eq_false, implies_true, and_self, eq_self, i10, List.length_cons, List.length_nil, vcv, xur, ↓pJ22_getNode, bJ22_getNode, b2i_t, Option.some.injEq, reduceCtorEq, forall_eq']
          exact hr
        · refine VW.go [71] 400 ?_
          simp only [↓vcp, ↓vc_s, vch, vcn, Option.toList_some, Option.toList_none, List.cons_append, List.nil_append, Bool.false_eq_true, Bool.or_false, Bool.or_true, Bool.false_or, Bool.true_or, Nat.reduceAdd, Nat.reduceBEq, Nat.reduceLeDiff, Nat.zero_le, Nat.reduceLT, Nat.le_refl, ↓reduceIte, decide_true, decide_false, true_and, and_true, false_imp_iff, true_imp_iff, not_false_eq_true, not_true_eq_false, implies_true, and_self, eq_self, i10, List.length_cons, List.length_nil, vcv, xur, ↓pJ22_getNode, bJ22_getNode, hc, e0, e1, a1, d1, Option.some.injEq, reduceCtorEq, forall_eq']
          refine ct_J11_equals hg (by omega) (hF.str ha) (hF.str hk) ?_
          rw [decide_eq_true hw]
          simp only [↓vcp, ↓vc_s, vch, vcn, Option.toList_some, Option.toList_none, List.cons_append, List.nil_append, Bool.false_eq_true, Bool.or_false, Bool.or_true, Bool.false_or, Bool.true_or, Nat.reduceAdd, Nat.reduceBEq, Nat.reduceLeDiff, Nat.zero_le, Nat.reduceLT, Nat.le_refl, ↓reduceIte, decide_true, decide_false, true_and, and_true, false_imp_iff, true_imp_iff, not_false_eq_true, not_true_eq_false, implies_true, and_self, eq_self, i10, List.length_cons, List.length_nil, vcv, xur, ↓pJ22_getNode, bJ22_getNode, b2i_t, Option.some.injEq, reduceCtorEq, forall_eq']
          exact hr
      · have hn := hN (fun q => hw q.symm) (some (.ref k0))
        rcases hc with ⟨y, z, hc⟩ | ⟨p, q, y, z, z1, z2, z3, z4, z5, hc⟩
        · refine VW.go [71] 400 ?_
          simp only [↓vcp, ↓vc_s, vch, vcn, Option.toList_some, Option.toList_none, List.cons_append, List.nil_append, Bool.false_eq_true, Bool.or_false, Bool.or_true, Bool.false_or, Bool.true_or, Nat.reduceAdd, Nat.reduceBEq, Nat.reduceLeDiff, Nat.zero_le, Nat.reduceLT, Nat.le_refl, ↓reduceIte, decide_true, decide_false, true_and, and_true, false_imp_iff, true_imp_iff, not_false_eq_true, not_true_eq_false, implies_true, and_self, eq_self, i10, List.length_cons, List.length_nil, vcv, xur, ↓pJ22_getNode, bJ22_getNode, hc, e0, e1, a1, d1, Option.some.injEq, reduceCtorEq, forall_eq']
          refine ct_J11_equals hg (by omega) (hF.str ha) (hF.str hk) ?_
          rw [decide_eq_false hw]
          simp only [↓vcp, ↓vc_s, vch, vcn, Option.toList_some, Option.toList_none, List.cons_append, List.nil_append, Bool.false_eq_true, Bool.or_false, Bool.or_true, Bool.false_or, Bool.true_or, Nat.reduceAdd, Nat.reduceBEq, Nat.reduceLeDiff, Nat.zero_le, Nat.reduceLT, Nat.le_refl, ↓reduceIte, decide_true, decide_false, true_and, and_true, false_imp_iff, true_imp_iff, not_false_eq_true, not_true_eq_false, implies_true, and_self, eq_self, i10, List.length_cons, List.length_nil, vcv, xur, ↓pJ22_getNode, bJ22_getNode, b2i_f, Option.some.injEq, reduceCtorEq, forall_eq']
          exact hn
        · refine VW.go [71] 400 ?_
          simp only [↓vcp, ↓vc_s, vch, vcn, Option.toList_some, Option.toList_none, List.cons_append, List.nil_append, Bool.false_eq_true, Bool.or_false, Bool.or_true, Bool.false_or, Bool.true_or, Nat.reduceAdd, Nat.reduceBEq, Nat.reduceLeDiff, Nat.zero_le, Nat.reduceLT, Nat.le_refl, ↓reduceIte, decide_true, decide_false, true_and, and_true, false_imp_iff, true_imp_iff, not_false_eq_true, not_true_eq_false, implies_true, and_self, eq_self, i10, List.length_cons, List.length_nil, vcv, xur, ↓pJ22_getNode, bJ22_getNode, hc, e0, e1, a1, d1, Option.some.injEq, reduceCtorEq, forall_eq']
          refine ct_J11_equals hg (by omega) (hF.str ha) (hF.str hk) ?_
          rw [decide_eq_false hw]
          simp only [↓vcp, ↓vc_s, vch, vcn, Option.toList_some, Option.toList_none, List.cons_append, List.nil_append, Bool.false_eq_true, Bool.or_false, Bool.or_true, Bool.false_or, Bool.true_or, Nat.reduceAdd, Nat.reduceBEq, Nat.reduceLeDiff, Nat.zero_le, Nat.reduceLT, Nat.le_refl, ↓reduceIte, decide_true, decide_false, true_and, and_true, false_imp_iff, true_imp_iff, not_false_eq_true, not_true_eq_false, implies_true, and_self, eq_self, i10, List.length_cons, List.length_nil, vcv, xur, ↓pJ22_getNode, bJ22_getNode, b2i_f, Option.some.injEq, reduceCtorEq, forall_eq']
          exact hn
  · have e0 : (hsN wi = hsN w) = False := eq_false hh
    have hn := hN (fun q => hh (by rw [q])) v7
    rcases hc with ⟨y, z, hc⟩ | ⟨p, q, y, z, z1, z2, z3, z4, z5, hc⟩
    · refine VW.go [71] 400 ?_
      simp only [↓vcp, ↓vc_s, vch, vcn, Option.toList_some, Option.toList_none, List.cons_append, List.nil_append, Bool.false_eq_true, Bool.or_false, Bool.or_true, Bool.false_or, Bool.true_or, Nat.reduceAdd, Nat.reduceBEq, Nat.reduceLeDiff, Nat.zero_le, Nat.reduceLT, Nat.le_refl, ↓reduceIte, decide_true, decide_false, true_and, and_true, false_imp_iff, true_imp_iff, not_false_eq_true, not_true_eq_false, implies_true, and_self, eq_self, i10, List.length_cons, List.length_nil, vcv, xur, ↓pJ22_getNode, bJ22_getNode, hc, e0, Option.some.injEq, reduceCtorEq, forall_eq']
      exact hn
    · refine VW.go [71] 400 ?_
      simp only [↓vcp, ↓vc_s, vch, vcn, Option.toList_some, Option.toList_none, List.cons_append, List.nil_append, Bool.false_eq_true, Bool.or_false, Bool.or_true, Bool.false_or, Bool.true_or, Nat.reduceAdd, Nat.reduceBEq, Nat.reduceLeDiff, Nat.zero_le, Nat.reduceLT, Nat.le_refl, ↓reduceIte, decide_true, decide_false, true_and, and_true, false_imp_iff, true_imp_iff, not_false_eq_true, not_true_eq_false, implies_true, and_self, eq_self, i10, List.length_cons, List.length_nil, vcv, xur, ↓pJ22_getNode, bJ22_getNode, hc, e0, Option.some.injEq, reduceCtorEq, forall_eq']
      exact hn
theorem ct_J22_getNode {g : xG} {d : Nat} {σ : xH} {K : xR → xH → Prop} (hg : gwM g) (hd : 11 ≤ d) {F : xM} {T : Nat → Nat} {t m cnt a : Nat} {nm : Nat → List Nat} {w : List Nat} (hm : isMap g σ F T t m cnt nm) (ht : t ≠ 0) (hF : fz F σ) (hFT : fT F T) (oa : oS g F a) (ha : isS F a w)
    (hK1 : ∀ σ' : xH, isMap g σ' F T t m cnt nm → fz F σ' → xg σ σ' 0 0 (fun z => T z = 0) → xWF g σ' → lkN nm w cnt = none → K (.inl (some .null)) σ')
    (hK2 : ∀ (σ' : xH) (i n v : Nat), isMap g σ' F T t m cnt nm → fz F σ' → xg σ σ' 0 0 (fun z => T z = 0) → xWF g σ' → lkN nm w cnt = some i → gC g v = some (ob 15 [.int (nI i)]) → ndV σ' n v → K (.inl (some (.ref n))) σ') : Ctr g d iJ22_getNode [.ref m, .ref a] σ K := by
  have d1 : 1 ≤ d := by omega
  refine Ctr.wf0 (fun hw => ?_)
  have hm9 := hm
  obtain ⟨h1, h2, h3, h4, tbv, mc, th, lf, h5, h6⟩ := hm9
  rcases h6 with ⟨c0, tn, -⟩ | ⟨tb, cap, row, nd, ka, vb, q1, q2, q3, q4, q5, q6, q7, q8⟩
  · subst c0 tn
    have hk := hK1 σ hm hF (xg.refl _ _) hw rfl
    refine Ctr.of (by decide +kernel) rfl (by simp only [lent_0, lent_i, lent_r, lent_n, lent_l, lent_f, List.length_cons, List.length_nil, bJ22_getNode]; decide) ?_
    simp only [lpad, lent_0, lent_i, lent_r, lent_n, lent_l, lent_f, List.length_cons, List.length_nil, bJ22_getNode, Nat.reduceAdd, Nat.reduceSub, List.replicate_succ, List.replicate_zero, List.cons_append, List.nil_append]
    refine VW.go [] 400 ?_
    simp only [↓vcp, ↓vc_s, vch, vcn, Option.toList_some, Option.toList_none, List.cons_append, List.nil_append, Bool.false_eq_true, Bool.or_false, Bool.or_true, Bool.false_or, Bool.true_or, Nat.reduceAdd, Nat.reduceBEq, Nat.reduceLeDiff, Nat.zero_le, Nat.reduceLT, Nat.le_refl, ↓reduceIte, decide_true, decide_false, true_and, and_true, false_imp_iff, true_imp_iff, not_false_eq_true, not_true_eq_false, implies_true, and_self, eq_self, i10, List.length_cons, List.length_nil, vcv, xur, ↓pJ22_getNode, bJ22_getNode, h5, Option.some.injEq, reduceCtorEq, forall_eq']
    exact hk
  · subst q1
    have c1 : (nI cap ≤ 0) = False := eq_false (nI_nle (by omega) (by omega))
    refine Ctr.of (by decide +kernel) rfl (by simp only [lent_0, lent_i, lent_r, lent_n, lent_l, lent_f, List.length_cons, List.length_nil, bJ22_getNode]; decide) ?_
    simp only [lpad, lent_0, lent_i, lent_r, lent_n, lent_l, lent_f, List.length_cons, List.length_nil, bJ22_getNode, Nat.reduceAdd, Nat.reduceSub, List.replicate_succ, List.replicate_zero, List.cons_append, List.nil_append]
    refine VW.go [36] 400 ?_
    simp only [↓vcp, ↓vc_s, vch, vcn, Option.toList_some, Option.toList_none, List.cons_append, List.nil_append, Bool.false_eq_true, Bool.or_false, Bool.or_true, Bool.false_or, Bool.true_or, Nat.reduceAdd, Nat.reduceBEq, Nat.reduceLeDiff, Nat.zero_le, Nat.reduceLT, Nat.le_refl, ↓reduceIte, decide_true, decide_false, true_and, and_true, false_imp_iff, true_imp_iff, not_false_eq_true, not_true_eq_false, implies_true, and_self, eq_self, i10, List.length_cons, List.length_nil, vcv, xur, ↓pJ22_getNode, bJ22_getNode, h5, q4, nIe, c1, d1, Option.some.injEq, reduceCtorEq, forall_eq']
    refine Ctr.wf (ct_J22_hash hg.1 (by omega) oa.1 (hF.str ha) (fun σ1 hh hw1 => ?_))
    have Ta : T a = 0 := by
      obtain ⟨v, h0, z, f, z1, -⟩ := ha
      exact hFT _ _ z1
    have hx : xg σ σ1 0 0 (fun z => T z = 0) := hh.xg Ta
    have hF1 : fz F σ1 := hF.hash ha hh
    have hm1 : isMap g σ1 F T t m cnt nm := hm.tagx (S := fun k => k = 0) hw hx ht (fle.refl _) (tex.refl _ _)
    have lt := mBin_lt hw q5 q8
    have q4' : σ1.1 tb = some (aq 6 cap row) := hx.at hw q4 (by show ¬ T tb = 0; rw [q3]; exact ht)
    have q8' : mBin σ1.1 cap cnt nm nd ka vb row := mBin_keep q8 (fun i hi => hx.2.2.2 _ (lt i hi) (by show ¬ T (nd i) = 0; rw [(q7.1 i hi).2.1]; exact ht))
    have bl := bix_lt q5 (hsN w)
    have ix := bix_and q5 (hsN w)
    have i1 : vp_in (nI (bix cap (hsN w))) cap = True := in_y bl (by omega)
    have k1 : (nI (bix cap (hsN w))).toNatClampNeg = bix cap (hsN w) := cl_y (by omega)
    have hb := q8' _ bl
    have key : ∀ i, i ∈ binL cap cnt nm (bix cap (hsN w)) → i < cnt ∧ isS F (ka i) (nm i) ∧ oS g F (ka i) ∧ gC g (vb i) = some (ob 15 [.int (nI i)]) := fun i hi => by
      have := (binL_lt hi).1
      obtain ⟨z1, z2, z3, z4, z5⟩ := q7.1 i this
      exact ⟨this, z3, z4, z5⟩
    have KN := fun hn => hK1 σ1 hm1 hF1 hx hw1 (binL_n (cap := cap) (j := 0) hn)
    have KY := fun i hi (hw9 : nm i = w) v => hK2 σ1 i (nd i) (vb i) hm1 hF1 hx hw1 (lkN_of (key i hi).1 hw9 h4) (key i hi).2.2.2 v
    have ha9 := hF1.str ha
    obtain ⟨av, ah, az, af, a1, -⟩ := ha9
    rcases hb with hb | ⟨hcap, hn9, lf', rt, pa, nx, pv, rd, r, tt, b1, b2, b3, b4, b5, b6, b7⟩
    · cases hl : binL cap cnt nm (bix cap (hsN w)) with
      | nil =>
        rw [hl] at hb
        have hb' : row (bix cap (hsN w)) = none := hb
        have rn : va_rf (none : Option Nat) = .null := rfl
        have fin := KN (fun i hi => by rw [hl] at hi; cases hi)
        simp only [↓vcp, ↓vc_s, vch, vcn, Option.toList_some, Option.toList_none, List.cons_append, List.nil_append, Bool.false_eq_true, Bool.or_false, Bool.or_true, Bool.false_or, Bool.true_or, Nat.reduceAdd, Nat.reduceBEq, Nat.reduceLeDiff, Nat.zero_le, Nat.reduceLT, Nat.le_refl, ↓reduceIte, decide_true, decide_false, true_and, and_true, false_imp_iff, true_imp_iff, not_false_eq_true, not_true_eq_false, implies_true, and_self, eq_self, i10, List.length_cons, List.length_nil, vcv, xur, ↓pJ22_getNode, bJ22_getNode, ix, q4', i1, k1, hb', rn, Option.some.injEq, reduceCtorEq, forall_eq']
        exact fin
      | cons i l =>
        rw [hl] at hb
        obtain ⟨b1, nx, b2, b3⟩ := hb
        have rs : va_rf (some (nd i)) = .ref (nd i) := rfl
        have im : i ∈ binL cap cnt nm (bix cap (hsN w)) := by rw [hl]; exact List.mem_cons_self
        obtain ⟨i0, i2, i3, i4⟩ := key i im
        simp only [↓vcp, ↓vc_s, vch, vcn, Option.toList_some, Option.toList_none, List.cons_append, List.nil_append, Bool.false_eq_true, Bool.or_false, Bool.or_true, Bool.false_or, Bool.true_or, Nat.reduceAdd, Nat.reduceBEq, Nat.reduceLeDiff, Nat.zero_le, Nat.reduceLT, Nat.le_refl, ↓reduceIte, decide_true, decide_false, true_and, and_true, false_imp_iff, true_imp_iff, not_false_eq_true, not_true_eq_false, implies_true, and_self, eq_self, i10, List.length_cons, List.length_nil, vcv, xur, ↓pJ22_getNode, bJ22_getNode, ix, q4', i1, k1, b1, rs, Option.some.injEq, reduceCtorEq, forall_eq']
        refine gn_first hg.1 (by omega) hF1 ha i2 (Or.inl ⟨_, _, b2⟩) (fun q => KY i im q (Or.inl ⟨_, _, _, b2⟩)) (fun hi v7 => ?_)
        cases hnx : nx with
        | none =>
          rw [hnx] at b2 b3
          have l0 : l = [] := by
            cases l with
            | nil => rfl
            | cons j l' => obtain ⟨z, -⟩ := b3; cases z
          have rn : va_rf (none : Option Nat) = .null := rfl
          have fin := KN (fun j hj => by
            rw [hl, l0] at hj
            rcases List.mem_cons.mp hj with e | e
            · rw [e]; exact hi
            · cases e)
          refine VW.go [] 400 ?_
          simp only [↓vcp, ↓vc_s, vch, vcn, Option.toList_some, Option.toList_none, List.cons_append, List.nil_append, Bool.false_eq_true, Bool.or_false, Bool.or_true, Bool.false_or, Bool.true_or, Nat.reduceAdd, Nat.reduceBEq, Nat.reduceLeDiff, Nat.zero_le, Nat.reduceLT, Nat.le_refl, ↓reduceIte, decide_true, decide_false, true_and, and_true, false_imp_iff, true_imp_iff, not_false_eq_true, not_true_eq_false, implies_true, and_self, eq_self, i10, List.length_cons, List.length_nil, vcv, xur, ↓pJ22_getNode, bJ22_getNode, b2, rn, Option.some.injEq, reduceCtorEq, forall_eq']
          exact fin
        | some x =>
          rw [hnx] at b2 b3
          have rx : va_rf (some x) = .ref x := rfl
          have L := fun v7 => (ch_find (g := g) (K := K) (d := d) (v2 := some (.ref tb)) (v3 := nd i) (v5 := some (.int (nI cap))) (th := m) hg.1 (by omega) hF1 ha l (some x) b3 (fun j hj => (key j (by rw [hl]; exact List.mem_cons_of_mem _ hj)).2.1) (fun j hj q => by
            have jm : j ∈ binL cap cnt nm (bix cap (hsN w)) := by rw [hl]; exact List.mem_cons_of_mem _ hj
            refine KY j jm q (Or.inl ?_)
            obtain ⟨nx', z⟩ := chn_at b3 j hj
            exact ⟨_, _, _, z⟩) (fun q => KN (fun j hj => by
            rw [hl] at hj
            rcases List.mem_cons.mp hj with e | e
            · rw [e]; exact hi
            · exact q j e)) v7).2 x rfl
          refine VW.go [99] 400 ?_
          simp only [↓vcp, ↓vc_s, vch, vcn, Option.toList_some, Option.toList_none, List.cons_append, List.nil_append, Bool.false_eq_true, Bool.or_false, Bool.or_true, Bool.false_or, Bool.true_or, Nat.reduceAdd, Nat.reduceBEq, Nat.reduceLeDiff, Nat.zero_le, Nat.reduceLT, Nat.le_refl, ↓reduceIte, decide_true, decide_false, true_and, and_true, false_imp_iff, true_imp_iff, not_false_eq_true, not_true_eq_false, implies_true, and_self, eq_self, i10, List.length_cons, List.length_nil, vcv, xur, ↓pJ22_getNode, bJ22_getNode, b2, rx, Option.some.injEq, reduceCtorEq, forall_eq']
          exact L v7
    · have rm : r ∈ binL cap cnt nm (bix cap (hsN w)) := b3.mem_iff.mp (tRt_in b2)
      obtain ⟨c21, -⟩ := b7 r rm
      obtain ⟨i0, i2, i3, i4⟩ := key r rm
      have rs : va_rf (some (nd r)) = .ref (nd r) := rfl
      have nv : ∀ i, i ∈ binL cap cnt nm (bix cap (hsN w)) → ndV σ1 (nd i) (vb i) := fun i hi => Or.inr ⟨_, _, _, _, _, _, _, _, _, _, (b7 i hi).1⟩
      obtain ⟨x, hx9⟩ := Option.ne_none_iff_exists'.mp b6
      have cc : σ1.1 (nd r) = some (ob 22 [.null, .null, .int (hsN (nm r)), .ref (ka r), .ref (vb r), .ref (nd x), oN nd (pa r), oN nd (lf' r), oN nd (rt r), oN nd (pv r), .int (rd r)]) := by
        have := c21
        unfold tnE at this
        rw [hx9] at this
        exact this
      have c1 := fun oc idx => cst_o oc idx σ1 (nd r) 22 _ cc
      simp only [↓vcp, ↓vc_s, vch, vcn, Option.toList_some, Option.toList_none, List.cons_append, List.nil_append, Bool.false_eq_true, Bool.or_false, Bool.or_true, Bool.false_or, Bool.true_or, Nat.reduceAdd, Nat.reduceBEq, Nat.reduceLeDiff, Nat.zero_le, Nat.reduceLT, Nat.le_refl, ↓reduceIte, decide_true, decide_false, true_and, and_true, false_imp_iff, true_imp_iff, not_false_eq_true, not_true_eq_false, implies_true, and_self, eq_self, i10, List.length_cons, List.length_nil, vcv, xur, ↓pJ22_getNode, bJ22_getNode, ix, q4', i1, k1, b1, rs, Option.some.injEq, reduceCtorEq, forall_eq']
      refine gn_first hg.1 (by omega) hF1 ha i2 (Or.inr ⟨_, _, _, _, _, _, _, _, _, c21⟩) (fun q => KY r rm q (nv r rm)) (fun hi v7 => ?_)
      refine VW.go [] 400 ?_
      simp only [↓vcp, ↓vc_s, vch, vcn, Option.toList_some, Option.toList_none, List.cons_append, List.nil_append, Bool.false_eq_true, Bool.or_false, Bool.or_true, Bool.false_or, Bool.true_or, Nat.reduceAdd, Nat.reduceBEq, Nat.reduceLeDiff, Nat.zero_le, Nat.reduceLT, Nat.le_refl, ↓reduceIte, decide_true, decide_false, true_and, and_true, false_imp_iff, true_imp_iff, not_false_eq_true, not_true_eq_false, implies_true, and_self, eq_self, i10, List.length_cons, List.length_nil, vcv, xur, ↓pJ22_getNode, bJ22_getNode, cc, c1, d1, Option.some.injEq, reduceCtorEq, forall_eq']
      refine ct_J29_getT hg (by omega) hF1 oa ha b5 b2 (fun i hi => ⟨(b7 i (b3.mem_iff.mp hi)).1, (key i (b3.mem_iff.mp hi)).2.1, (key i (b3.mem_iff.mp hi)).2.2.1⟩) b4 (fun o z1 z2 => ?_)
      cases o with
      | none =>
        have fin := KN (fun i hi e => by have := z1 i (b3.mem_iff.mpr hi) e; cases this)
        rw [oN_n]
        simp only [↓vcp, ↓vc_s, vch, vcn, Option.toList_some, Option.toList_none, List.cons_append, List.nil_append, Bool.false_eq_true, Bool.or_false, Bool.or_true, Bool.false_or, Bool.true_or, Nat.reduceAdd, Nat.reduceBEq, Nat.reduceLeDiff, Nat.zero_le, Nat.reduceLT, Nat.le_refl, ↓reduceIte, decide_true, decide_false, true_and, and_true, false_imp_iff, true_imp_iff, not_false_eq_true, not_true_eq_false, implies_true, and_self, eq_self, i10, List.length_cons, List.length_nil, vcv, xur, ↓pJ22_getNode, bJ22_getNode, Option.some.injEq, reduceCtorEq, forall_eq']
        exact fin
      | some i =>
        obtain ⟨y1, y2⟩ := z2 i rfl
        have im := b3.mem_iff.mp y1
        have fin := KY i im y2 (nv i im)
        rw [oN_s]
        simp only [↓vcp, ↓vc_s, vch, vcn, Option.toList_some, Option.toList_none, List.cons_append, List.nil_append, Bool.false_eq_true, Bool.or_false, Bool.or_true, Bool.false_or, Bool.true_or, Nat.reduceAdd, Nat.reduceBEq, Nat.reduceLeDiff, Nat.zero_le, Nat.reduceLT, Nat.le_refl, ↓reduceIte, decide_true, decide_false, true_and, and_true, false_imp_iff, true_imp_iff, not_false_eq_true, not_true_eq_false, implies_true, and_self, eq_self, i10, List.length_cons, List.length_nil, vcv, xur, ↓pJ22_getNode, bJ22_getNode, Option.some.injEq, reduceCtorEq, forall_eq']
        exact fin
theorem mapHas {g : xG} {d : Nat} {σ : xH} {K : xR → xH → Prop} (hg : gwM g) (hd : 30 ≤ d) {F : xM} {T : Nat → Nat} {t m cnt a : Nat} {nm : Nat → List Nat} {w : List Nat} (hm : isMap g σ F T t m cnt nm) (ht : t ≠ 0) (hF : fz F σ) (hFT : fT F T) (ha : oS g F a) (hs : isS F a w)
    (hK : ∀ σ' : xH, isMap g σ' F T t m cnt nm → fz F σ' → xg σ σ' 0 0 (fun z => T z = 0) → xWF g σ → xWF g σ' → K (.inl (some (.int (b2i (lkN nm w cnt).isSome)))) σ') : Ctr g d iJ22_containsKey [.ref m, .ref a] σ K := by
  have d1 : 1 ≤ d := by omega
  refine Ctr.wf0 (fun hw => ?_)
  obtain ⟨v1, v2, v3, v4, m6⟩ := hm.o11
  refine Ctr.of (by decide +kernel) rfl (by simp only [lent_0, lent_i, lent_r, lent_n, lent_l, lent_f, List.length_cons, List.length_nil, bJ22_containsKey]; decide) ?_
  simp only [lpad, lent_0, lent_i, lent_r, lent_n, lent_l, lent_f, List.length_cons, List.length_nil, bJ22_containsKey, Nat.reduceAdd, Nat.reduceSub, List.replicate_succ, List.replicate_zero, List.cons_append, List.nil_append]
  refine VW.go [] 400 ?_
  simp only [↓vcp, ↓vc_s, vch, vcn, Option.toList_some, Option.toList_none, List.cons_append, List.nil_append, Bool.false_eq_true, Bool.or_false, Bool.or_true, Bool.false_or, Bool.true_or, Nat.reduceAdd, Nat.reduceBEq, Nat.reduceLeDiff, Nat.zero_le, Nat.reduceLT, Nat.le_refl, ↓reduceIte, decide_true, decide_false, true_and, and_true, false_imp_iff, true_imp_iff, not_false_eq_true, not_true_eq_false, implies_true, and_self, eq_self, i10, List.length_cons, List.length_nil, vcv, xur, ↓pJ22_containsKey, bJ22_containsKey, m6, d1, Option.some.injEq, reduceCtorEq, forall_eq']
  refine ct_J22_getNode hg (by omega) hm ht hF hFT ha hs (fun σ' p1 p2 p3 p4 p5 => ?_) (fun σ' i n v p1 p2 p3 p4 p5 p6 p7 => ?_)
  · have fin := hK σ' p1 p2 p3 hw p4
    rw [p5] at fin
    simp only [↓vcp, ↓vc_s, vch, vcn, Option.toList_some, Option.toList_none, List.cons_append, List.nil_append, Bool.false_eq_true, Bool.or_false, Bool.or_true, Bool.false_or, Bool.true_or, Nat.reduceAdd, Nat.reduceBEq, Nat.reduceLeDiff, Nat.zero_le, Nat.reduceLT, Nat.le_refl, ↓reduceIte, decide_true, decide_false, true_and, and_true, false_imp_iff, true_imp_iff, not_false_eq_true, not_true_eq_false, implies_true, and_self, eq_self, i10, List.length_cons, List.length_nil, vcv, xur, ↓pJ22_containsKey, bJ22_containsKey, Option.some.injEq, reduceCtorEq, forall_eq']
    exact fin
  · have fin := hK σ' p1 p2 p3 hw p4
    rw [p5] at fin
    simp only [↓vcp, ↓vc_s, vch, vcn, Option.toList_some, Option.toList_none, List.cons_append, List.nil_append, Bool.false_eq_true, Bool.or_false, Bool.or_true, Bool.false_or, Bool.true_or, Nat.reduceAdd, Nat.reduceBEq, Nat.reduceLeDiff, Nat.zero_le, Nat.reduceLT, Nat.le_refl, ↓reduceIte, decide_true, decide_false, true_and, and_true, false_imp_iff, true_imp_iff, not_false_eq_true, not_true_eq_false, implies_true, and_self, eq_self, i10, List.length_cons, List.length_nil, vcv, xur, ↓pJ22_containsKey, bJ22_containsKey, Option.some.injEq, reduceCtorEq, forall_eq']
    exact fin
theorem mapGet {g : xG} {d : Nat} {σ : xH} {K : xR → xH → Prop} (hg : gwM g) (hd : 30 ≤ d) {F : xM} {T : Nat → Nat} {t m cnt a : Nat} {nm : Nat → List Nat} {w : List Nat} (hm : isMap g σ F T t m cnt nm) (ht : t ≠ 0) (hF : fz F σ) (hFT : fT F T) (ha : oS g F a) (hs : isS F a w)
    (hK : ∀ (σ' : xH) (o : Option Nat), isMap g σ' F T t m cnt nm → fz F σ' → xg σ σ' 0 0 (fun z => T z = 0) → xWF g σ → xWF g σ' → (∀ i, lkN nm w cnt = some i → ∃ x, o = some x ∧ gC g x = some (ob 15 [.int (nI i)])) → (lkN nm w cnt = none → o = none) → K (.inl (some (va_rf o))) σ') : Ctr g d iJ22_get [.ref m, .ref a] σ K := by
  have d1 : 1 ≤ d := by omega
  refine Ctr.wf0 (fun hw => ?_)
  obtain ⟨v1, v2, v3, v4, m6⟩ := hm.o11
  refine Ctr.of (by decide +kernel) rfl (by simp only [lent_0, lent_i, lent_r, lent_n, lent_l, lent_f, List.length_cons, List.length_nil, bJ22_get]; decide) ?_
  simp only [lpad, lent_0, lent_i, lent_r, lent_n, lent_l, lent_f, List.length_cons, List.length_nil, bJ22_get, Nat.reduceAdd, Nat.reduceSub, List.replicate_succ, List.replicate_zero, List.cons_append, List.nil_append]
  refine VW.go [] 400 ?_
  simp only [↓vcp, ↓vc_s, vch, vcn, Option.toList_some, Option.toList_none, List.cons_append, List.nil_append, Bool.false_eq_true, Bool.or_false, Bool.or_true, Bool.false_or, Bool.true_or, Nat.reduceAdd, Nat.reduceBEq, Nat.reduceLeDiff, Nat.zero_le, Nat.reduceLT, Nat.le_refl, ↓reduceIte, decide_true, decide_false, true_and, and_true, false_imp_iff, true_imp_iff, not_false_eq_true, not_true_eq_false, implies_true, and_self, eq_self, i10, List.length_cons, List.length_nil, vcv, xur, ↓pJ22_get, bJ22_get, m6, d1, Option.some.injEq, reduceCtorEq, forall_eq']
  refine ct_J22_getNode hg (by omega) hm ht hF hFT ha hs (fun σ' p1 p2 p3 p4 p5 => ?_) (fun σ' i n v p1 p2 p3 p4 p5 p6 p7 => ?_)
  · have fin := hK σ' none p1 p2 p3 hw p4 (fun i hi => by rw [p5] at hi; cases hi) (fun _ => rfl)
    simp only [↓vcp, ↓vc_s, vch, vcn, Option.toList_some, Option.toList_none, List.cons_append, List.nil_append, Bool.false_eq_true, Bool.or_false, Bool.or_true, Bool.false_or, Bool.true_or, Nat.reduceAdd, Nat.reduceBEq, Nat.reduceLeDiff, Nat.zero_le, Nat.reduceLT, Nat.le_refl, ↓reduceIte, decide_true, decide_false, true_and, and_true, false_imp_iff, true_imp_iff, not_false_eq_true, not_true_eq_false, implies_true, and_self, eq_self, i10, List.length_cons, List.length_nil, vcv, xur, ↓pJ22_get, bJ22_get, Option.some.injEq, reduceCtorEq, forall_eq']
    exact fin
  · have fin := hK σ' (some v) p1 p2 p3 hw p4 (fun j hj => by rw [p5] at hj; cases hj; exact ⟨v, rfl, p6⟩) (fun hj => by rw [p5] at hj; cases hj)
    rcases p7 with ⟨x, y, z, p7⟩ | ⟨p, q, x, y, z, z1, z2, z3, z4, z5, p7⟩
    · simp only [↓vcp, ↓vc_s, vch, vcn, Option.toList_some, Option.toList_none, List.cons_append, List.nil_append, Bool.false_eq_true, Bool.or_false, Bool.or_true, Bool.false_or, Bool.true_or, Nat.reduceAdd, Nat.reduceBEq, Nat.reduceLeDiff, Nat.zero_le, Nat.reduceLT, Nat.le_refl, ↓reduceIte, decide_true, decide_false, true_and, and_true, false_imp_iff, true_imp_iff, not_false_eq_true, not_true_eq_false, implies_true, and_self, eq_self, i10, List.length_cons, List.length_nil, vcv, xur, ↓pJ22_get, bJ22_get, p7, Option.some.injEq, reduceCtorEq, forall_eq']
      exact fin
    · simp only [↓vcp, ↓vc_s, vch, vcn, Option.toList_some, Option.toList_none, List.cons_append, List.nil_append, Bool.false_eq_true, Bool.or_false, Bool.or_true, Bool.false_or, Bool.true_or, Nat.reduceAdd, Nat.reduceBEq, Nat.reduceLeDiff, Nat.zero_le, Nat.reduceLT, Nat.le_refl, ↓reduceIte, decide_true, decide_false, true_and, and_true, false_imp_iff, true_imp_iff, not_false_eq_true, not_true_eq_false, implies_true, and_self, eq_self, i10, List.length_cons, List.length_nil, vcv, xur, ↓pJ22_get, bJ22_get, p7, Option.some.injEq, reduceCtorEq, forall_eq']
      exact fin
