set_option maxRecDepth 40000
set_option maxHeartbeats 2000000
/-! ===== HashMap.resize ===== -/
theorem rs_loop {g : xG} {d : Nat} {σ : xH} {K : xR → xH → Prop} {bl : Nat → List Nat} {nd ka vb : Nat → Nat} {nm : Nat → List Nat} {cap m tb nb : Nat} {a3 a5 : Int32} {row : Nat → Option Nat} (hcap : cap = 16 ∨ cap = 32) (htn : tb ≠ nb) (gt : g0 g ≤ tb) (gn : g0 g ≤ nb) (lt1 : tb < σ.2.1) (lt2 : nb < σ.2.1)
    (hbl : ∀ k, k < cap → (bl k).Nodup ∧ ∀ i ∈ bl k, g0 g ≤ nd i ∧ bix cap (hsN (nm i)) = k ∧ nd i ≠ tb ∧ nd i ≠ nb ∧ nd i < σ.2.1) (hinj : ∀ k k', k < cap → k' < cap → ∀ i ∈ bl k, ∀ i' ∈ bl k', nd i = nd i' → i = i')
    (hK : ∀ (σ' : xH) (r2 : Nat → Option Nat), (∀ k, k < cap → chn σ'.1 nd ka vb nm (r2 k) ((bl k).filter (lo0 cap nm)) ∧ chn σ'.1 nd ka vb nm (r2 (k + cap)) ((bl k).filter (hi0 cap nm))) → σ'.1 nb = some (aq 6 (2 * cap) r2) → xg σ σ' 0 0 (fun z => z = tb ∨ z = nb ∨ ∃ k, k < cap ∧ inL (bl k) nd z) → ∀ v7 v8 v9 v10 v11 v12 v13, VW g iJ22_resize K d 353 [some (.ref m), some (.ref tb), some (.int (nI cap)), some (.int a3), some (.int (nI (2 * cap))), some (.int a5), some (.ref nb), v7, v8, v9, v10, v11, v12, v13] [] σ') :
    ∀ (n j : Nat), cap = j + n → ∀ (σ1 : xH) (rj r2 : Nat → Option Nat), σ1.1 tb = some (aq 6 cap rj) → (∀ k, j ≤ k → rj k = row k) → σ1.1 nb = some (aq 6 (2 * cap) r2) → (∀ k, j ≤ k → k < cap → r2 k = none ∧ r2 (k + cap) = none) → (∀ k, k < j → chn σ1.1 nd ka vb nm (r2 k) ((bl k).filter (lo0 cap nm)) ∧ chn σ1.1 nd ka vb nm (r2 (k + cap)) ((bl k).filter (hi0 cap nm))) → (∀ k, j ≤ k → k < cap → chn σ1.1 nd ka vb nm (row k) (bl k)) → xg σ σ1 0 0 (fun z => z = tb ∨ z = nb ∨ ∃ k, k < cap ∧ inL (bl k) nd z) →
    ∀ v8 v9 v10 v11 v12 v13, VW g iJ22_resize K d 151 [some (.ref m), some (.ref tb), some (.int (nI cap)), some (.int a3), some (.int (nI (2 * cap))), some (.int a5), some (.ref nb), some (.int (nI j)), v8, v9, v10, v11, v12, v13] [] σ1 := by
  intro n
  induction n with
  | zero =>
    intro j e σ1 rj r2 w1 w2 w3 w4 w5 w6 w7 v8 v9 v10 v11 v12 v13
    have ej : j = cap := by omega
    subst ej
    have fin := hK σ1 r2 (fun k hk => w5 k hk) w3 w7
    have q : (nI j ≤ nI j) = True := eq_true (Int32.le_refl _)
    refine VW.go [353] 400 ?_
    simp only [↓vcp, ↓vc_s, vch, vcn, Option.toList_some, Option.toList_none, List.cons_append, List.nil_append, Bool.false_eq_true, Bool.or_false, Bool.or_true, Bool.false_or, Bool.true_or, Nat.reduceAdd, Nat.reduceBEq, Nat.reduceLeDiff, Nat.zero_le, Nat.reduceLT, Nat.le_refl, ↓reduceIte, decide_true, decide_false, true_and, and_true, false_imp_iff, true_imp_iff, not_false_eq_true, not_true_eq_false, implies_true, and_self, eq_self, i10, List.length_cons, List.length_nil, vcv, xur, ↓pJ22_resize, bJ22_resize, q]
    exact fin _ _ _ _ _ _ _
  | succ n ih =>
    intro j e σ1 rj r2 w1 w2 w3 w4 w5 w6 w7 v8 v9 v10 v11 v12 v13
    have hj : j < cap := by omega
    have q : (nI cap ≤ nI j) = False := eq_false (Int32.not_le.mpr (nI_lt hj (by omega)))
    have e1 : nI j + 1 = nI (j + 1) := nI_1 j
    obtain ⟨b1, b2⟩ := hbl j hj
    have l2 : σ1.2.1 = σ.2.1 ∨ σ.2.1 ≤ σ1.2.1 := Or.inr w7.1
    have w71 := w7.1
    have B := rs_bin (g := g) (d := d) (K := K) (m := m) (a3 := a3) (a5 := a5) b1 (fun i hi => (b2 i hi).1) (fun i hi i' hi' => hinj j j hj hj i hi i' hi') (by rw [w2 j (Nat.le_refl _)]; exact w6 j (Nat.le_refl _) hj) w1 w3 htn gt gn (by omega) (by omega) hcap hj (fun i hi => (b2 i hi).2.1) (w4 j (Nat.le_refl _) hj).1 (w4 j (Nat.le_refl _) hj).2 (fun σ2 k1 k2 k3 k4 k5 v8 v9 v10 v11 v12 v13 => ?_)
    · refine VW.go [157] 400 ?_
      simp only [↓vcp, ↓vc_s, vch, vcn, Option.toList_some, Option.toList_none, List.cons_append, List.nil_append, Bool.false_eq_true, Bool.or_false, Bool.or_true, Bool.false_or, Bool.true_or, Nat.reduceAdd, Nat.reduceBEq, Nat.reduceLeDiff, Nat.zero_le, Nat.reduceLT, Nat.le_refl, ↓reduceIte, decide_true, decide_false, true_and, and_true, false_imp_iff, true_imp_iff, not_false_eq_true, not_true_eq_false, implies_true, and_self, eq_self, i10, List.length_cons, List.length_nil, vcv, xur, ↓pJ22_resize, bJ22_resize, q]
      exact B _ _ _ _ _ _
    · -- the other bins keep their chains
      have kp : ∀ k, k < cap → k ≠ j → ∀ i ∈ bl k, σ2.1 (nd i) = σ1.1 (nd i) := fun k hk nk i hi => by
        obtain ⟨z1, z2, z3, z4, z5⟩ := (hbl k hk).2 i hi
        refine k5.2.2.2 _ (by omega) (fun z => ?_)
        rcases z with ⟨i', hi', q⟩ | q | q
        · have := hinj k j hk hj i hi i' hi' q
          subst this
          have := (b2 i hi').2.1
          omega
        · exact z3 q
        · exact z4 q
      have fin := fun v8 v9 v10 v11 v12 v13 => ih (j + 1) (by omega) σ2 (va_up rj j none) _ k3 (fun k hk => by rw [va_up_ne _ _ (by omega)]; exact w2 k (by omega)) k4 (fun k hk hk2 => ⟨by rw [va_up_ne _ _ (by omega), va_up_ne _ _ (by omega)]; exact (w4 k (by omega) hk2).1, by rw [va_up_ne _ _ (by omega), va_up_ne _ _ (by omega)]; exact (w4 k (by omega) hk2).2⟩) (fun k hk => by
        by_cases z : k = j
        · subst z
          rw [va_up_ne _ _ (show k ≠ k + cap by omega), va_up_self, va_up_self]
          exact ⟨k1, k2⟩
        · have hk' : k < j := by omega
          rw [va_up_ne _ _ (show k ≠ j + cap by omega), va_up_ne _ _ z, va_up_ne _ _ (show k + cap ≠ j + cap by omega), va_up_ne _ _ (show k + cap ≠ j by omega)]
          have kp' := kp k (by omega) z
          exact ⟨chn_keep (fun i hi => kp' i (List.mem_filter.mp hi).1) (w5 k hk').1, chn_keep (fun i hi => kp' i (List.mem_filter.mp hi).1) (w5 k hk').2⟩) (fun k hk hk2 => chn_keep (kp k hk2 (by omega)) (w6 k (by omega) hk2)) ((w7.t2 (k5.mono (Nat.le_refl _) (Nat.le_refl _) (fun z _ q => by
          rcases q with q | q | q
          · exact Or.inr (Or.inr ⟨j, hj, q⟩)
          · exact Or.inl q
          · exact Or.inr (Or.inl q)))).mono (Nat.le_refl _) (Nat.le_refl _) (fun _ _ q => q)) v8 v9 v10 v11 v12 v13
      refine VW.go [151] 400 ?_
      simp only [↓vcp, ↓vc_s, vch, vcn, Option.toList_some, Option.toList_none, List.cons_append, List.nil_append, Bool.false_eq_true, Bool.or_false, Bool.or_true, Bool.false_or, Bool.true_or, Nat.reduceAdd, Nat.reduceBEq, Nat.reduceLeDiff, Nat.zero_le, Nat.reduceLT, Nat.le_refl, ↓reduceIte, decide_true, decide_false, true_and, and_true, false_imp_iff, true_imp_iff, not_false_eq_true, not_true_eq_false, implies_true, and_self, eq_self, i10, List.length_cons, List.length_nil, vcv, xur, ↓pJ22_resize, bJ22_resize, e1]
      exact fin _ _ _ _ _ _
/-- the first row -/
theorem ct_J22_resize1 {g : xG} {d : Nat} {σ : xH} {K : xR → xH → Prop} {m : Nat} {sz mc : Int32} {lf : UInt32} (hm : g0 g ≤ m) (h : σ.1 m = some (ob 11 [.null, .null, .null, .null, .int sz, .int mc, .int 0, .float lf])) (r1 : σ.2.1 + 1 ≤ gN g) (r2 : σ.2.2 + 16 ≤ gW g)
    (hK : ∀ σ' : xH, σ'.1 m = some (ob 11 [.null, .null, .ref σ.2.1, .null, .int sz, .int mc, .int 12, .float lf]) → σ'.1 σ.2.1 = some (aq 6 16 (fun _ => none)) → xg σ σ' 1 16 (fun z => z = m) → K (.inl (some (.ref σ.2.1))) σ') : Ctr g d iJ22_resize [.ref m] σ K := by
  refine Ctr.wf0 (fun hw => ?_)
  have lm := hw.2.1 _ _ h
  have d1 : ¬ m = σ.2.1 := by omega
  have d2 : ¬ σ.2.1 = m := by omega
  have h0 := hw.1
  have c16 : (16 : Int32).toNatClampNeg = 16 := by decide
  have q1 : ((16 : Int32) < 0) = False := eq_false (by decide)
  have q2 : ((0 : Int32) ≤ 0) = True := eq_true (by decide)
  have q3 : ((12 : Int32) = 0) = False := eq_false (by decide)
  have q4 : (16 * 4 ≤ 536870912) = True := eq_true (by decide)
  have fin := hK (xu (xu (xu σ.1 m (ob 11 [.null, .null, .null, .null, .int sz, .int mc, .int 12, .float lf])) σ.2.1 (aq 6 16 (fun _ => none))) m (ob 11 [.null, .null, .ref σ.2.1, .null, .int sz, .int mc, .int 12, .float lf]), σ.2.1 + 1, σ.2.2 + 16) (xu_same _ _ _) (by
    show xu (xu _ _ _) _ _ _ = _
    rw [xu_ne _ _ d2, xu_same]) ⟨Nat.le_succ _, Nat.le_refl _, Nat.le_refl _, fun z hz hp => by
    show xu (xu (xu _ _ _) _ _) _ _ z = _
    rw [xu_ne _ _ hp, xu_ne _ _ (by omega), xu_ne _ _ hp]⟩
  refine Ctr.of (by decide +kernel) rfl (by simp only [lent_0, lent_i, lent_r, lent_n, lent_l, lent_f, List.length_cons, List.length_nil, bJ22_resize]; decide) ?_
  simp only [lpad, lent_0, lent_i, lent_r, lent_n, lent_l, lent_f, List.length_cons, List.length_nil, bJ22_resize, Nat.reduceAdd, Nat.reduceSub, List.replicate_succ, List.replicate_zero, List.cons_append, List.nil_append]
  refine VW.go [353, 157] 400 ?_
  simp only [↓vcp, ↓vc_s, vch, vcn, Option.toList_some, Option.toList_none, List.cons_append, List.nil_append, Bool.false_eq_true, Bool.or_false, Bool.or_true, Bool.false_or, Bool.true_or, Nat.reduceAdd, Nat.reduceBEq, Nat.reduceLeDiff, Nat.zero_le, Nat.reduceLT, Nat.le_refl, ↓reduceIte, decide_true, decide_false, true_and, and_true, false_imp_iff, true_imp_iff, not_false_eq_true, not_true_eq_false, implies_true, and_self, eq_self, i10, List.length_cons, List.length_nil, vcv, xur, ↓pJ22_resize, bJ22_resize, h, hm, r1, r2, d1, d2, c16, q1, q2, q3, q4, Option.some.injEq, reduceCtorEq, forall_eq']
  refine VW.go [] 400 ?_
  simp only [↓vcp, ↓vc_s, vch, vcn, Option.toList_some, Option.toList_none, List.cons_append, List.nil_append, Bool.false_eq_true, Bool.or_false, Bool.or_true, Bool.false_or, Bool.true_or, Nat.reduceAdd, Nat.reduceBEq, Nat.reduceLeDiff, Nat.zero_le, Nat.reduceLT, Nat.le_refl, ↓reduceIte, decide_true, decide_false, true_and, and_true, false_imp_iff, true_imp_iff, not_false_eq_true, not_true_eq_false, implies_true, and_self, eq_self, i10, List.length_cons, List.length_nil, vcv, xur, ↓pJ22_resize, bJ22_resize, Option.some.injEq, reduceCtorEq, forall_eq']
  exact fin
/-- twice the row -/
theorem ct_J22_resize2 {g : xG} {d : Nat} {σ : xH} {K : xR → xH → Prop} {m tb cap : Nat} {sz mc : Int32} {lf : UInt32} {row : Nat → Option Nat} {bl : Nat → List Nat} {nd ka vb : Nat → Nat} {nm : Nat → List Nat} (hm : g0 g ≤ m) (gt : g0 g ≤ tb) (hcap : cap = 16 ∨ cap = 32) (h : σ.1 m = some (ob 11 [.null, .null, .ref tb, .null, .int sz, .int mc, .int (nI (cap / 4 * 3)), .float lf])) (ht : σ.1 tb = some (aq 6 cap row)) (r1 : σ.2.1 + 1 ≤ gN g) (r2 : σ.2.2 + 2 * cap ≤ gW g)
    (hbl : ∀ k, k < cap → chn σ.1 nd ka vb nm (row k) (bl k) ∧ (bl k).Nodup ∧ ∀ i ∈ bl k, g0 g ≤ nd i ∧ bix cap (hsN (nm i)) = k) (hinj : ∀ k k', k < cap → k' < cap → ∀ i ∈ bl k, ∀ i' ∈ bl k', nd i = nd i' → i = i')
    (hK : ∀ (σ' : xH) (r2 : Nat → Option Nat), σ'.1 m = some (ob 11 [.null, .null, .ref σ.2.1, .null, .int sz, .int mc, .int (nI (2 * cap / 4 * 3)), .float lf]) → σ'.1 σ.2.1 = some (aq 6 (2 * cap) r2) → (∀ k, k < cap → chn σ'.1 nd ka vb nm (r2 k) ((bl k).filter (lo0 cap nm)) ∧ chn σ'.1 nd ka vb nm (r2 (k + cap)) ((bl k).filter (hi0 cap nm))) → xg σ σ' 1 (2 * cap) (fun z => z = m ∨ z = tb ∨ ∃ k, k < cap ∧ inL (bl k) nd z) → K (.inl (some (.ref σ.2.1))) σ') : Ctr g d iJ22_resize [.ref m] σ K := by
  refine Ctr.wf0 (fun hw => ?_)
  have lm := hw.2.1 _ _ h
  have ltb := hw.2.1 _ _ ht
  have h0 := hw.1
  have d1 : ¬ m = σ.2.1 := by omega
  have d2 : ¬ σ.2.1 = m := by omega
  have d3 : ¬ m = tb := fun e => by rw [e, ht] at h; cases h
  have d4 : ¬ tb = m := fun e => d3 e.symm
  have d5 : ¬ tb = σ.2.1 := by omega
  have c1 : (nI cap ≤ 0) = False := eq_false (nI_nle (by omega) (by omega))
  have c2 : ((1073741824 : Int32) ≤ nI cap) = False := by rcases hcap with rfl | rfl <;> exact eq_false (by decide)
  have c3 : nI cap <<< ((1 : Int32) &&& 31) = nI (2 * cap) := by rcases hcap with rfl | rfl <;> decide
  have c4 : ((1073741824 : Int32) ≤ nI (2 * cap)) = False := by rcases hcap with rfl | rfl <;> exact eq_false (by decide)
  have c5 : ((16 : Int32) ≤ nI cap) = True := by rcases hcap with rfl | rfl <;> exact eq_true (by decide)
  have c6 : nI (cap / 4 * 3) <<< ((1 : Int32) &&& 31) = nI (2 * cap / 4 * 3) := by rcases hcap with rfl | rfl <;> decide
  have c7 : (nI (2 * cap / 4 * 3) = 0) = False := by rcases hcap with rfl | rfl <;> exact eq_false (by decide)
  have c8 : (nI (2 * cap) < 0) = False := by rcases hcap with rfl | rfl <;> exact eq_false (by decide)
  have c9 : (nI (2 * cap)).toNatClampNeg = 2 * cap := cl_y (by omega)
  have c10 : (2 * cap * 4 ≤ 536870912) = True := eq_true (by omega)
  have c11 : (nI cap < 1073741824) = True := by rcases hcap with rfl | rfl <;> exact eq_true (by decide)
  have c12 : (nI cap < 16) = False := by rcases hcap with rfl | rfl <;> exact eq_false (by decide)
  have nq : ∀ k, k < cap → ∀ i ∈ bl k, nd i ≠ m ∧ nd i ≠ tb ∧ nd i < σ.2.1 := fun k hk i hi => by
    obtain ⟨nx, z⟩ := chn_at (hbl k hk).1 i hi
    refine ⟨fun e => ?_, fun e => ?_, hw.2.1 _ _ z⟩
    · rw [e, h] at z; cases z
    · rw [e, ht] at z; cases z
  have kpm : ∀ z, z ≠ m → z ≠ σ.2.1 → xu (xu (xu σ.1 m (ob 11 [.null, .null, .ref tb, .null, .int sz, .int mc, .int (nI (2 * cap / 4 * 3)), .float lf])) σ.2.1 (aq 6 (2 * cap) (fun _ => none))) m (ob 11 [.null, .null, .ref σ.2.1, .null, .int sz, .int mc, .int (nI (2 * cap / 4 * 3)), .float lf]) z = σ.1 z := fun z h1 h2 => by
    rw [xu_ne _ _ h1, xu_ne _ _ h2, xu_ne _ _ h1]
  have L := rs_loop (g := g) (d := d) (σ := (xu (xu (xu σ.1 m (ob 11 [.null, .null, .ref tb, .null, .int sz, .int mc, .int (nI (2 * cap / 4 * 3)), .float lf])) σ.2.1 (aq 6 (2 * cap) (fun _ => none))) m (ob 11 [.null, .null, .ref σ.2.1, .null, .int sz, .int mc, .int (nI (2 * cap / 4 * 3)), .float lf]), σ.2.1 + 1, σ.2.2 + 2 * cap)) (K := K) (bl := bl) (nd := nd) (ka := ka) (vb := vb) (nm := nm) (m := m) (tb := tb) (nb := σ.2.1) (a3 := nI (cap / 4 * 3)) (a5 := nI (2 * cap / 4 * 3)) (row := row) hcap d5 gt h0 (by show tb < σ.2.1 + 1; omega) (by show σ.2.1 < σ.2.1 + 1; omega) (fun k hk => ⟨(hbl k hk).2.1, fun i hi => by
    obtain ⟨z1, z2, z3⟩ := nq k hk i hi
    obtain ⟨z4, z5⟩ := (hbl k hk).2.2 i hi
    exact ⟨z4, z5, z2, by omega, by show nd i < σ.2.1 + 1; omega⟩⟩) hinj (fun σ' r2 k1 k2 k3 v7 v8 v9 v10 v11 v12 v13 => ?_) cap 0 (by omega) _ row (fun _ => none) (by
      show xu _ _ _ tb = _
      rw [kpm tb d4 d5]; exact ht) (fun _ _ => rfl) (by
      show xu (xu _ _ _) _ _ σ.2.1 = _
      rw [xu_ne _ _ d2, xu_same]) (fun _ _ _ => ⟨rfl, rfl⟩) (fun k hk => by omega) (fun k _ hk => chn_keep (fun i hi => by
        obtain ⟨z1, z2, z3⟩ := nq k hk i hi
        exact kpm _ z1 (by omega)) (hbl k hk).1) (xg.refl _ _)
  · refine Ctr.of (by decide +kernel) rfl (by simp only [lent_0, lent_i, lent_r, lent_n, lent_l, lent_f, List.length_cons, List.length_nil, bJ22_resize]; decide) ?_
    simp only [lpad, lent_0, lent_i, lent_r, lent_n, lent_l, lent_f, List.length_cons, List.length_nil, bJ22_resize, Nat.reduceAdd, Nat.reduceSub, List.replicate_succ, List.replicate_zero, List.cons_append, List.nil_append]
    refine VW.go [151, 353] 400 ?_
    simp only [↓vcp, ↓vc_s, vch, vcn, Option.toList_some, Option.toList_none, List.cons_append, List.nil_append, Bool.false_eq_true, Bool.or_false, Bool.or_true, Bool.false_or, Bool.true_or, Nat.reduceAdd, Nat.reduceBEq, Nat.reduceLeDiff, Nat.zero_le, Nat.reduceLT, Nat.le_refl, ↓reduceIte, decide_true, decide_false, true_and, and_true, false_imp_iff, true_imp_iff, not_false_eq_true, not_true_eq_false, implies_true, and_self, eq_self, i10, List.length_cons, List.length_nil, vcv, xur, ↓pJ22_resize, bJ22_resize, h, hm, ht, nIe, r1, r2, d1, d2, d3, d4, d5, c1, c2, c3, c4, c5, c6, c7, c8, c9, c10, c11, c12, Option.some.injEq, reduceCtorEq, forall_eq']
    exact L _ _ _ _ _ _
  · have fin := hK σ' r2 (by
      rw [k3.2.2.2 m (by show m < σ.2.1 + 1; omega) (fun z => by
        rcases z with z | z | ⟨k, hk, i, hi, z⟩
        · exact d3 z
        · exact d1 z
        · exact (nq k hk i hi).1 z.symm)]
      exact xu_same _ _ _) k2 k1 ⟨by have := k3.1; have e : σ.2.1 + 1 ≤ σ'.2.1 := this; omega, by have := k3.2.1; exact this, by have := k3.2.2.1; exact this, fun z hz hp => by
      rw [k3.2.2.2 z (by show z < σ.2.1 + 1; omega) (fun q => by
        rcases q with q | q | q
        · exact hp (Or.inr (Or.inl q))
        · omega
        · exact hp (Or.inr (Or.inr q)))]
      exact kpm z (fun q => hp (Or.inl q)) (by omega)⟩
    refine VW.go [] 400 ?_
    simp only [↓vcp, ↓vc_s, vch, vcn, Option.toList_some, Option.toList_none, List.cons_append, List.nil_append, Bool.false_eq_true, Bool.or_false, Bool.or_true, Bool.false_or, Bool.true_or, Nat.reduceAdd, Nat.reduceBEq, Nat.reduceLeDiff, Nat.zero_le, Nat.reduceLT, Nat.le_refl, ↓reduceIte, decide_true, decide_false, true_and, and_true, false_imp_iff, true_imp_iff, not_false_eq_true, not_true_eq_false, implies_true, and_self, eq_self, i10, List.length_cons, List.length_nil, vcv, xur, ↓pJ22_resize, bJ22_resize]
    exact fin
