set_option maxRecDepth 40000
set_option maxHeartbeats 2000000
/-! ===== GridTableModel: geometry, its loops ===== -/
theorem ct_X4_crossings {g : xG} {d : Nat} {σ : xH} {K : xR → xH → Prop} {m S : Nat} {ns : Nat → Nat} {cs : Nat → Nat → Nat} {xs ys : Nat → Int32} (hd : 3 ≤ d) (s t : Nat) (hG : tG σ m S ns cs xs ys) (hs : s < S) (ht : t < S) (hK : K (.inl (some (.int (crosses (decide (s = t)) xs ys (ns s) (cs s) (ns t) (cs t))))) σ) : Ctr g d iX4_crossings [.ref m, .int (nI s), .int (nI t)] σ K := by
  have hG' := hG
  have hd1 : 1 ≤ d := by omega
  obtain ⟨fs, sf, sn, on, ca, cc, xa, ya, f1, f2, e1, e2, e3, e4, e5, e6, e7, e8, e9, e10, e11, hS, hc⟩ := hG
  obtain ⟨c1, ⟨c2, c3⟩, c4⟩ := hc s hs
  obtain ⟨t1, ⟨t2, t3⟩, t4⟩ := hc t ht
  have i1 := in_y (a := s) (b := 8) (by omega) (by omega)
  have i2 := cl_y (a := s) (by omega)
  have i3 := in_y (a := t) (b := 8) (by omega) (by omega)
  have i4 := cl_y (a := t) (by omega)
  have i5 : (nI s = nI t) = (s = t) := propext (nI_eq (by omega) (by omega))
  have L : ∀ j, j ≤ ns s → ∀ o, VW g iX4_crossings K d 5 [some (.ref m), some (.int (nI s)), some (.int (nI t)), some (.int (sumI (fun k => sumI (crossT (decide (s = t)) xs ys (ns s) (cs s) (ns t) (cs t) k) (ns t)) j)), some (.int (nI j)), o] [] σ := by
    refine down ?_ ?_
    · intro o
      refine VW.go [5] 400 ?_
      simp only [↓vcp, ↓vc_s, vch, vcn, Option.toList_some, Option.toList_none, List.cons_append, List.nil_append, Bool.false_eq_true, Bool.or_false, Bool.or_true, Bool.false_or, Bool.true_or, Nat.reduceAdd, Nat.reduceBEq, Nat.reduceLeDiff, Nat.zero_le, Nat.reduceLT, Nat.le_refl, ↓reduceIte, decide_true, decide_false, true_and, and_true, false_imp_iff, true_imp_iff, not_false_eq_true, not_true_eq_false, implies_true, and_self, eq_self, i10, List.length_cons, List.length_nil, vcv, xur, ↓pX4_crossings, bX4_crossings, e1, e2, e3, e4, e5, e6, e7, e8, e9, e10, e11, i1, i2, c1, ge_y]
      exact hK
    · intro j hj ih o
      have g1 := ge_n hj (by omega)
      have L2 : ∀ i, i ≤ ns t → (s = t → j < i) → VW g iX4_crossings K d 34 [some (.ref m), some (.int (nI s)), some (.int (nI t)), some (.int (sumI (fun k => sumI (crossT (decide (s = t)) xs ys (ns s) (cs s) (ns t) (cs t) k) (ns t)) j + sumI (crossT (decide (s = t)) xs ys (ns s) (cs s) (ns t) (cs t) j) i)), some (.int (nI j)), some (.int (nI i))] [] σ := by
        refine down ?_ ?_
        · intro _
          refine VW.go [5] 400 ?_
          simp only [↓vcp, ↓vc_s, vch, vcn, Option.toList_some, Option.toList_none, List.cons_append, List.nil_append, Bool.false_eq_true, Bool.or_false, Bool.or_true, Bool.false_or, Bool.true_or, Nat.reduceAdd, Nat.reduceBEq, Nat.reduceLeDiff, Nat.zero_le, Nat.reduceLT, Nat.le_refl, ↓reduceIte, decide_true, decide_false, true_and, and_true, false_imp_iff, true_imp_iff, not_false_eq_true, not_true_eq_false, implies_true, and_self, eq_self, i10, List.length_cons, List.length_nil, vcv, xur, ↓pX4_crossings, bX4_crossings, e1, e2, e3, e4, e5, e6, e7, e8, e9, e10, e11, i3, i4, t1, nI_1, ge_y]
          exact ih _
        · intro i hi ih2 hji
          have g2 := ge_n hi (by omega)
          have ht2 : crossT (decide (s = t)) xs ys (ns s) (cs s) (ns t) (cs t) j i = b2i (crossP xs ys (ns s) (cs s) j (ns t) (cs t) i) := by
            unfold crossT
            rw [if_neg]
            intro z
            have := hji (of_decide_eq_true z.1)
            omega
          have ih3 := ih2 (fun z => by have := hji z; omega)
          rw [← sumI_s, ht2, ← Int32.add_assoc] at ih3
          refine VW.go [34] 400 ?_
          simp only [↓vcp, ↓vc_s, vch, vcn, Option.toList_some, Option.toList_none, List.cons_append, List.nil_append, Bool.false_eq_true, Bool.or_false, Bool.or_true, Bool.false_or, Bool.true_or, Nat.reduceAdd, Nat.reduceBEq, Nat.reduceLeDiff, Nat.zero_le, Nat.reduceLT, Nat.le_refl, ↓reduceIte, decide_true, decide_false, true_and, and_true, false_imp_iff, true_imp_iff, not_false_eq_true, not_true_eq_false, implies_true, and_self, eq_self, i10, List.length_cons, List.length_nil, vcv, xur, ↓pX4_crossings, bX4_crossings, e1, e2, e3, e4, e5, e6, e7, e8, e9, e10, e11, i3, i4, t1, g2, hd1]
          refine ct_X4_doCross (by omega) s j t i hG' hs hj ht hi ?_
          simp only [↓vcp, ↓vc_s, vch, vcn, Option.toList_some, Option.toList_none, List.cons_append, List.nil_append, Bool.false_eq_true, Bool.or_false, Bool.or_true, Bool.false_or, Bool.true_or, Nat.reduceAdd, Nat.reduceBEq, Nat.reduceLeDiff, Nat.zero_le, Nat.reduceLT, Nat.le_refl, ↓reduceIte, decide_true, decide_false, true_and, and_true, false_imp_iff, true_imp_iff, not_false_eq_true, not_true_eq_false, implies_true, and_self, eq_self, i10, List.length_cons, List.length_nil, vcv, xur, ↓pX4_crossings, bX4_crossings, b2i_n, nI_1]
          refine ⟨fun q => ?_, fun q => ?_⟩
          · rw [q, b2i_f] at ih3
            exact ih3
          · rw [bnf q, b2i_t] at ih3
            exact ih3
      refine VW.go [5,34] 400 ?_
      simp only [↓vcp, ↓vc_s, vch, vcn, Option.toList_some, Option.toList_none, List.cons_append, List.nil_append, Bool.false_eq_true, Bool.or_false, Bool.or_true, Bool.false_or, Bool.true_or, Nat.reduceAdd, Nat.reduceBEq, Nat.reduceLeDiff, Nat.zero_le, Nat.reduceLT, Nat.le_refl, ↓reduceIte, decide_true, decide_false, true_and, and_true, false_imp_iff, true_imp_iff, not_false_eq_true, not_true_eq_false, implies_true, and_self, eq_self, i10, List.length_cons, List.length_nil, vcv, xur, ↓pX4_crossings, bX4_crossings, e1, e2, e3, e4, e5, e6, e7, e8, e9, e10, e11, i1, i2, c1, nI_1, g1, i5]
      refine ⟨fun q => ?_, fun q => ?_⟩
      · have := L2 0 (Nat.zero_le _) (fun z => absurd z q)
        rw [sumI_0, Int32.add_zero] at this
        exact this
      · have hjm : j + 1 ≤ ns t := by rw [← q]; omega
        have := L2 (j + 1) hjm (fun _ => by omega)
        rw [sumI_z (j + 1) (fun i hi => by unfold crossT; rw [if_pos ⟨by simpa using q, by omega⟩]), Int32.add_zero] at this
        exact this
  refine Ctr.of (by decide +kernel) rfl (by simp only [lent_0, lent_i, lent_r, lent_n, lent_l, lent_f, List.length_cons, List.length_nil, bX4_crossings]; decide) ?_
  simp only [lpad, lent_0, lent_i, lent_r, lent_n, lent_l, lent_f, List.length_cons, List.length_nil, bX4_crossings, Nat.reduceAdd, Nat.reduceSub, List.replicate_succ, List.replicate_zero, List.cons_append, List.nil_append]
  refine VW.go [5] 400 ?_
  simp only [↓vcp, ↓vc_s, vch, vcn, Option.toList_some, Option.toList_none, List.cons_append, List.nil_append, Bool.false_eq_true, Bool.or_false, Bool.or_true, Bool.false_or, Bool.true_or, Nat.reduceAdd, Nat.reduceBEq, Nat.reduceLeDiff, Nat.zero_le, Nat.reduceLT, Nat.le_refl, ↓reduceIte, decide_true, decide_false, true_and, and_true, false_imp_iff, true_imp_iff, not_false_eq_true, not_true_eq_false, implies_true, and_self, eq_self, i10, List.length_cons, List.length_nil, vcv, xur, ↓pX4_crossings, bX4_crossings]
  exact L 0 (Nat.zero_le _) _
theorem ct_X4_liesAt {g : xG} {d : Nat} {σ : xH} {K : xR → xH → Prop} {m S : Nat} {ns : Nat → Nat} {cs : Nat → Nat → Nat} {xs ys : Nat → Int32} (hd : 2 ≤ d) (x y : Int32) (s : Nat) (hG : tG σ m S ns cs xs ys) (hs : s < S) (hK : K (.inl (some (.int (lies (ns s) (cs s) xs ys x y)))) σ) : Ctr g d iX4_liesAt [.ref m, .int x, .int y, .int (nI s)] σ K := by
  have hG' := hG
  have hd1 : 1 ≤ d := by omega
  obtain ⟨fs, sf, sn, on, ca, cc, xa, ya, f1, f2, e1, e2, e3, e4, e5, e6, e7, e8, e9, e10, e11, hS, hc⟩ := hG
  obtain ⟨c1, ⟨c2, c3⟩, c4⟩ := hc s hs
  have i1 := in_y (a := s) (b := 8) (by omega) (by omega)
  have i2 := cl_y (a := s) (by omega)
  have L : ∀ (q j : Nat) (o : Bool), j + q = ns s → K (.inl (some (.int (liesF (ns s) (cs s) xs ys x y q j o)))) σ → ∀ a b c d1 d2, VW g iX4_liesAt K d 6 [some (.ref m), some (.int x), some (.int y), some (.int (nI s)), some (.int (b2i o)), some (.int (nI j)), a, b, c, d1, d2] [] σ := by
    intro q
    induction q with
    | zero =>
      intro j o hj hK a b c d1 d2
      have hjn : ns s = j := by omega
      rw [hjn] at c1
      refine VW.go [6] 400 ?_
      simp only [↓vcp, ↓vc_s, vch, vcn, Option.toList_some, Option.toList_none, List.cons_append, List.nil_append, Bool.false_eq_true, Bool.or_false, Bool.or_true, Bool.false_or, Bool.true_or, Nat.reduceAdd, Nat.reduceBEq, Nat.reduceLeDiff, Nat.zero_le, Nat.reduceLT, Nat.le_refl, ↓reduceIte, decide_true, decide_false, true_and, and_true, false_imp_iff, true_imp_iff, not_false_eq_true, not_true_eq_false, implies_true, and_self, eq_self, i10, List.length_cons, List.length_nil, vcv, xur, ↓pX4_liesAt, bX4_liesAt, e1, e2, e3, e4, e5, e6, e7, e8, e9, e10, e11, i1, i2, c1, ge_y, b2i_n]
      unfold liesF at hK
      refine ⟨fun q => ?_, fun q => ?_⟩
      · rw [if_neg (by rw [q]; simp)] at hK
        exact hK
      · rw [if_pos (bnf q)] at hK
        exact hK
    | succ q ih =>
      intro j o hj hK a b c d1 d2
      have hjn : j < ns s := by omega
      have g1 := ge_n hjn (by omega)
      obtain ⟨k1, k2, k3, k4, -⟩ := tcor hG' hs hjn
      have j1 := in_y k3 (by omega)
      have j2 := cl_y (a := cs s j) (by omega)
      have j3 := in_y k4 (by omega)
      have j4 := cl_y (a := cs s (nx (ns s) j)) (by omega)
      unfold liesF at hK
      have M : onE (ns s) (cs s) xs ys j x y = false → ∀ d1 d2, VW g iX4_liesAt K d 115 [some (.ref m), some (.int x), some (.int y), some (.int (nI s)), some (.int (b2i o)), some (.int (nI j)), some (.int (nI (cs s j))), some (.int (nI (cs s (nx (ns s) j)))), some (.int (sideE (ns s) (cs s) xs ys j x y)), d1, d2] [] σ := by
        intro hon d1 d2
        rw [if_neg (by rw [hon]; simp)] at hK
        have ih2 := ih (j + 1) _ (by omega) hK
        unfold rightE at ih2
        have n1 : ∀ p q : Int32, (p ≤ q) = ¬ (q < p) := fun p q => propext Int32.not_lt.symm
        have x1 : ∀ b : Bool, b2i b ^^^ 1 = b2i (b ^^ true) := by decide
        have x0 : ∀ b : Bool, b2i b ^^^ 0 = b2i (b ^^ false) := by decide
        by_cases p : y < ys (cs s j)
        · by_cases q : y < ys (cs s (nx (ns s) j))
          · simp only [p, q, decide_true, if_true] at ih2
            refine VW.go [6] 400 ?_
            simp only [↓vcp, ↓vc_s, vch, vcn, Option.toList_some, Option.toList_none, List.cons_append, List.nil_append, Bool.false_eq_true, Bool.or_false, Bool.or_true, Bool.false_or, Bool.true_or, Nat.reduceAdd, Nat.reduceBEq, Nat.reduceLeDiff, Nat.zero_le, Nat.reduceLT, Nat.le_refl, ↓reduceIte, decide_true, decide_false, true_and, and_true, false_imp_iff, true_imp_iff, not_false_eq_true, not_true_eq_false, implies_true, and_self, eq_self, i10, List.length_cons, List.length_nil, vcv, xur, ↓pX4_liesAt, bX4_liesAt, e1, e2, e3, e4, e5, e6, e7, e8, e9, e10, e11, j1, j2, j3, j4, n1, p, q, nI_1, x0, x1]
            exact ih2 _ _ _ _ _
          · simp only [p, q, decide_true, decide_false, Bool.true_eq_false, if_false, Bool.false_eq_true] at ih2
            refine VW.go [6] 400 ?_
            simp only [↓vcp, ↓vc_s, vch, vcn, Option.toList_some, Option.toList_none, List.cons_append, List.nil_append, Bool.false_eq_true, Bool.or_false, Bool.or_true, Bool.false_or, Bool.true_or, Nat.reduceAdd, Nat.reduceBEq, Nat.reduceLeDiff, Nat.zero_le, Nat.reduceLT, Nat.le_refl, ↓reduceIte, decide_true, decide_false, true_and, and_true, false_imp_iff, true_imp_iff, not_false_eq_true, not_true_eq_false, implies_true, and_self, eq_self, i10, List.length_cons, List.length_nil, vcv, xur, ↓pX4_liesAt, bX4_liesAt, e1, e2, e3, e4, e5, e6, e7, e8, e9, e10, e11, j1, j2, j3, j4, n1, p, q, nI_1, x0, x1]
            refine ⟨fun r => ?_, fun r => ?_⟩
            · rw [decide_eq_false r] at ih2
              exact ih2 _ _ _ _ _
            · rw [decide_eq_true (Decidable.not_not.mp r)] at ih2
              exact ih2 _ _ _ _ _
        · by_cases q : y < ys (cs s (nx (ns s) j))
          · simp only [p, q, decide_true, decide_false, Bool.false_eq_true, if_false, if_true] at ih2
            refine VW.go [6] 400 ?_
            simp only [↓vcp, ↓vc_s, vch, vcn, Option.toList_some, Option.toList_none, List.cons_append, List.nil_append, Bool.false_eq_true, Bool.or_false, Bool.or_true, Bool.false_or, Bool.true_or, Nat.reduceAdd, Nat.reduceBEq, Nat.reduceLeDiff, Nat.zero_le, Nat.reduceLT, Nat.le_refl, ↓reduceIte, decide_true, decide_false, true_and, and_true, false_imp_iff, true_imp_iff, not_false_eq_true, not_true_eq_false, implies_true, and_self, eq_self, i10, List.length_cons, List.length_nil, vcv, xur, ↓pX4_liesAt, bX4_liesAt, e1, e2, e3, e4, e5, e6, e7, e8, e9, e10, e11, j1, j2, j3, j4, n1, p, q, nI_1, x0, x1]
            refine ⟨fun r => ?_, fun r => ?_⟩
            · rw [decide_eq_true r] at ih2
              exact ih2 _ _ _ _ _
            · rw [decide_eq_false r] at ih2
              exact ih2 _ _ _ _ _
          · simp only [p, q, decide_false, if_true] at ih2
            refine VW.go [6] 400 ?_
            simp only [↓vcp, ↓vc_s, vch, vcn, Option.toList_some, Option.toList_none, List.cons_append, List.nil_append, Bool.false_eq_true, Bool.or_false, Bool.or_true, Bool.false_or, Bool.true_or, Nat.reduceAdd, Nat.reduceBEq, Nat.reduceLeDiff, Nat.zero_le, Nat.reduceLT, Nat.le_refl, ↓reduceIte, decide_true, decide_false, true_and, and_true, false_imp_iff, true_imp_iff, not_false_eq_true, not_true_eq_false, implies_true, and_self, eq_self, i10, List.length_cons, List.length_nil, vcv, xur, ↓pX4_liesAt, bX4_liesAt, e1, e2, e3, e4, e5, e6, e7, e8, e9, e10, e11, j1, j2, j3, j4, n1, p, q, nI_1, x0, x1]
            exact ih2 _ _ _ _ _
      refine VW.go [6,115] 400 ?_
      simp only [↓vcp, ↓vc_s, vch, vcn, Option.toList_some, Option.toList_none, List.cons_append, List.nil_append, Bool.false_eq_true, Bool.or_false, Bool.or_true, Bool.false_or, Bool.true_or, Nat.reduceAdd, Nat.reduceBEq, Nat.reduceLeDiff, Nat.zero_le, Nat.reduceLT, Nat.le_refl, ↓reduceIte, decide_true, decide_false, true_and, and_true, false_imp_iff, true_imp_iff, not_false_eq_true, not_true_eq_false, implies_true, and_self, eq_self, i10, List.length_cons, List.length_nil, vcv, xur, ↓pX4_liesAt, bX4_liesAt, e1, e2, e3, e4, e5, e6, e7, e8, e9, e10, e11, i1, i2, c1, g1, hd1, nI_1]
      refine ct_X4_cornerOf s j hG' hs (by omega) ?_
      simp only [↓vcp, ↓vc_s, vch, vcn, Option.toList_some, Option.toList_none, List.cons_append, List.nil_append, Bool.false_eq_true, Bool.or_false, Bool.or_true, Bool.false_or, Bool.true_or, Nat.reduceAdd, Nat.reduceBEq, Nat.reduceLeDiff, Nat.zero_le, Nat.reduceLT, Nat.le_refl, ↓reduceIte, decide_true, decide_false, true_and, and_true, false_imp_iff, true_imp_iff, not_false_eq_true, not_true_eq_false, implies_true, and_self, eq_self, i10, List.length_cons, List.length_nil, vcv, xur, ↓pX4_liesAt, bX4_liesAt, e1, e2, e3, e4, e5, e6, e7, e8, e9, e10, e11, hd1, k1, k2, j1, j2, j3, j4, nI_1]
      refine ct_X4_cornerOf s (j + 1) hG' hs (by omega) ?_
      simp only [↓vcp, ↓vc_s, vch, vcn, Option.toList_some, Option.toList_none, List.cons_append, List.nil_append, Bool.false_eq_true, Bool.or_false, Bool.or_true, Bool.false_or, Bool.true_or, Nat.reduceAdd, Nat.reduceBEq, Nat.reduceLeDiff, Nat.zero_le, Nat.reduceLT, Nat.le_refl, ↓reduceIte, decide_true, decide_false, true_and, and_true, false_imp_iff, true_imp_iff, not_false_eq_true, not_true_eq_false, implies_true, and_self, eq_self, i10, List.length_cons, List.length_nil, vcv, xur, ↓pX4_liesAt, bX4_liesAt, e1, e2, e3, e4, e5, e6, e7, e8, e9, e10, e11, hd1, k1, k2, j1, j2, j3, j4, nI_1]
      refine ct_X4_side _ _ _ _ hG' k3 k4 ?_
      simp only [↓vcp, ↓vc_s, vch, vcn, Option.toList_some, Option.toList_none, List.cons_append, List.nil_append, Bool.false_eq_true, Bool.or_false, Bool.or_true, Bool.false_or, Bool.true_or, Nat.reduceAdd, Nat.reduceBEq, Nat.reduceLeDiff, Nat.zero_le, Nat.reduceLT, Nat.le_refl, ↓reduceIte, decide_true, decide_false, true_and, and_true, false_imp_iff, true_imp_iff, not_false_eq_true, not_true_eq_false, implies_true, and_self, eq_self, i10, List.length_cons, List.length_nil, vcv, xur, ↓pX4_liesAt, bX4_liesAt, e1, e2, e3, e4, e5, e6, e7, e8, e9, e10, e11, hd1, k1, k2, j1, j2, j3, j4, nI_1]
      have sE : side6 (xs (cs s j)) (ys (cs s j)) (xs (cs s (nx (ns s) j))) (ys (cs s (nx (ns s) j))) x y = sideE (ns s) (cs s) xs ys j x y := rfl
      rw [sE]
      refine ⟨fun q1 => ?_, fun q1 => ?_⟩
      · exact M (by simp [onE, q1]) _ _
      · refine ct_X4_isBetween (by omega) _ _ _ ?_
        simp only [↓vcp, ↓vc_s, vch, vcn, Option.toList_some, Option.toList_none, List.cons_append, List.nil_append, Bool.false_eq_true, Bool.or_false, Bool.or_true, Bool.false_or, Bool.true_or, Nat.reduceAdd, Nat.reduceBEq, Nat.reduceLeDiff, Nat.zero_le, Nat.reduceLT, Nat.le_refl, ↓reduceIte, decide_true, decide_false, true_and, and_true, false_imp_iff, true_imp_iff, not_false_eq_true, not_true_eq_false, implies_true, and_self, eq_self, i10, List.length_cons, List.length_nil, vcv, xur, ↓pX4_liesAt, bX4_liesAt, e1, e2, e3, e4, e5, e6, e7, e8, e9, e10, e11, hd1, j1, j2, j3, j4, b2i_n]
        refine ⟨fun q2 => ?_, fun q2 => ?_⟩
        · exact M (by simp [onE, q2]) _ _
        · refine ct_X4_isBetween (by omega) _ _ _ ?_
          simp only [↓vcp, ↓vc_s, vch, vcn, Option.toList_some, Option.toList_none, List.cons_append, List.nil_append, Bool.false_eq_true, Bool.or_false, Bool.or_true, Bool.false_or, Bool.true_or, Nat.reduceAdd, Nat.reduceBEq, Nat.reduceLeDiff, Nat.zero_le, Nat.reduceLT, Nat.le_refl, ↓reduceIte, decide_true, decide_false, true_and, and_true, false_imp_iff, true_imp_iff, not_false_eq_true, not_true_eq_false, implies_true, and_self, eq_self, i10, List.length_cons, List.length_nil, vcv, xur, ↓pX4_liesAt, bX4_liesAt, e1, e2, e3, e4, e5, e6, e7, e8, e9, e10, e11, hd1, j1, j2, j3, j4, b2i_n]
          refine ⟨fun q3 => ?_, fun q3 => ?_⟩
          · exact M (by simp [onE, q3]) _ _
          · have : onE (ns s) (cs s) xs ys j x y = true := by simp [onE, q1, bnf q2, bnf q3]
            rw [if_pos this] at hK
            exact hK
  refine Ctr.of (by decide +kernel) rfl (by simp only [lent_0, lent_i, lent_r, lent_n, lent_l, lent_f, List.length_cons, List.length_nil, bX4_liesAt]; decide) ?_
  simp only [lpad, lent_0, lent_i, lent_r, lent_n, lent_l, lent_f, List.length_cons, List.length_nil, bX4_liesAt, Nat.reduceAdd, Nat.reduceSub, List.replicate_succ, List.replicate_zero, List.cons_append, List.nil_append]
  refine VW.go [6] 400 ?_
  simp only [↓vcp, ↓vc_s, vch, vcn, Option.toList_some, Option.toList_none, List.cons_append, List.nil_append, Bool.false_eq_true, Bool.or_false, Bool.or_true, Bool.false_or, Bool.true_or, Nat.reduceAdd, Nat.reduceBEq, Nat.reduceLeDiff, Nat.zero_le, Nat.reduceLT, Nat.le_refl, ↓reduceIte, decide_true, decide_false, true_and, and_true, false_imp_iff, true_imp_iff, not_false_eq_true, not_true_eq_false, implies_true, and_self, eq_self, i10, List.length_cons, List.length_nil, vcv, xur, ↓pX4_liesAt, bX4_liesAt]
  exact L (ns s) 0 false (by omega) hK _ _ _ _ _
theorem ct_X4_liesOf {g : xG} {d : Nat} {σ : xH} {K : xR → xH → Prop} {m S : Nat} {ns : Nat → Nat} {cs : Nat → Nat → Nat} {xs ys : Nat → Int32} (hd : 3 ≤ d) (p s : Nat) (hG : tG σ m S ns cs xs ys) (hp : p < 16) (hs : s < S) (hK : K (.inl (some (.int (lies (ns s) (cs s) xs ys (xs p) (ys p))))) σ) : Ctr g d iX4_liesOf [.ref m, .int (nI p), .int (nI s)] σ K := by
  have hG' := hG
  have hd1 : 1 ≤ d := by omega
  obtain ⟨fs, sf, sn, on, ca, cc, xa, ya, f1, f2, e1, e2, e3, e4, e5, e6, e7, e8, e9, e10, e11, hS, hc⟩ := hG
  have i1 := in_y hp (by omega)
  have i2 := cl_y (a := p) (by omega)
  refine Ctr.of (by decide +kernel) rfl (by simp only [lent_0, lent_i, lent_r, lent_n, lent_l, lent_f, List.length_cons, List.length_nil, bX4_liesOf]; decide) ?_
  simp only [lpad, lent_0, lent_i, lent_r, lent_n, lent_l, lent_f, List.length_cons, List.length_nil, bX4_liesOf, Nat.reduceAdd, Nat.reduceSub, List.replicate_succ, List.replicate_zero, List.cons_append, List.nil_append]
  refine VW.go [] 400 ?_
  simp only [↓vcp, ↓vc_s, vch, vcn, Option.toList_some, Option.toList_none, List.cons_append, List.nil_append, Bool.false_eq_true, Bool.or_false, Bool.or_true, Bool.false_or, Bool.true_or, Nat.reduceAdd, Nat.reduceBEq, Nat.reduceLeDiff, Nat.zero_le, Nat.reduceLT, Nat.le_refl, ↓reduceIte, decide_true, decide_false, true_and, and_true, false_imp_iff, true_imp_iff, not_false_eq_true, not_true_eq_false, implies_true, and_self, eq_self, i10, List.length_cons, List.length_nil, vcv, xur, ↓pX4_liesOf, bX4_liesOf, e1, e2, e3, e4, e5, e6, e7, e8, e9, e10, e11, i1, i2, hd1]
  refine ct_X4_liesAt (by omega) _ _ s hG' hs ?_
  simp only [↓vcp, ↓vc_s, vch, vcn, Option.toList_some, Option.toList_none, List.cons_append, List.nil_append, Bool.false_eq_true, Bool.or_false, Bool.or_true, Bool.false_or, Bool.true_or, Nat.reduceAdd, Nat.reduceBEq, Nat.reduceLeDiff, Nat.zero_le, Nat.reduceLT, Nat.le_refl, ↓reduceIte, decide_true, decide_false, true_and, and_true, false_imp_iff, true_imp_iff, not_false_eq_true, not_true_eq_false, implies_true, and_self, eq_self, i10, List.length_cons, List.length_nil, vcv, xur, ↓pX4_liesOf, bX4_liesOf, e1, e2, e3, e4, e5, e6, e7, e8, e9, e10, e11]
  exact hK
theorem ct_X4_widest {g : xG} {d : Nat} {σ : xH} {K : xR → xH → Prop} {m S : Nat} {ns : Nat → Nat} {cs : Nat → Nat → Nat} {xs ys : Nat → Int32} (hd : 1 ≤ d) (s : Nat) (hG : tG σ m S ns cs xs ys) (hs : s < S) (hK : K (.inl (some (.int (wO (cs s) xs ys (ns s))))) σ) : Ctr g d iX4_widest [.ref m, .int (nI s)] σ K := by
  have hG' := hG
  obtain ⟨fs, sf, sn, on, ca, cc, xa, ya, f1, f2, e1, e2, e3, e4, e5, e6, e7, e8, e9, e10, e11, hS, hc⟩ := hG
  obtain ⟨c1, ⟨c2, c3⟩, c4⟩ := hc s hs
  have i1 := in_y (a := s) (b := 8) (by omega) (by omega)
  have i2 := cl_y (a := s) (by omega)
  have L : ∀ j, j ≤ ns s → ∀ o, VW g iX4_widest K d 4 [some (.ref m), some (.int (nI s)), some (.int (wO (cs s) xs ys j)), some (.int (nI j)), o] [] σ := by
    refine down ?_ ?_
    · intro o
      refine VW.go [4] 400 ?_
      simp only [↓vcp, ↓vc_s, vch, vcn, Option.toList_some, Option.toList_none, List.cons_append, List.nil_append, Bool.false_eq_true, Bool.or_false, Bool.or_true, Bool.false_or, Bool.true_or, Nat.reduceAdd, Nat.reduceBEq, Nat.reduceLeDiff, Nat.zero_le, Nat.reduceLT, Nat.le_refl, ↓reduceIte, decide_true, decide_false, true_and, and_true, false_imp_iff, true_imp_iff, not_false_eq_true, not_true_eq_false, implies_true, and_self, eq_self, i10, List.length_cons, List.length_nil, vcv, xur, ↓pX4_widest, bX4_widest, e1, e2, e3, e4, e5, e6, e7, e8, e9, e10, e11, i1, i2, c1, ge_y]
      exact hK
    · intro j hj ih o
      have g1 := ge_n hj (by omega)
      obtain ⟨k1, k2, k3, k4, -⟩ := tcor hG' hs hj
      have L2 : ∀ i, i ≤ j → VW g iX4_widest K d 20 [some (.ref m), some (.int (nI s)), some (.int (wI (fun b => sq2 xs ys (cs s j) (xs (cs s b)) (ys (cs s b))) (wO (cs s) xs ys j) i)), some (.int (nI j)), some (.int (nI i))] [] σ := by
        refine down ?_ ?_
        · refine VW.go [4] 400 ?_
          simp only [↓vcp, ↓vc_s, vch, vcn, Option.toList_some, Option.toList_none, List.cons_append, List.nil_append, Bool.false_eq_true, Bool.or_false, Bool.or_true, Bool.false_or, Bool.true_or, Nat.reduceAdd, Nat.reduceBEq, Nat.reduceLeDiff, Nat.zero_le, Nat.reduceLT, Nat.le_refl, ↓reduceIte, decide_true, decide_false, true_and, and_true, false_imp_iff, true_imp_iff, not_false_eq_true, not_true_eq_false, implies_true, and_self, eq_self, i10, List.length_cons, List.length_nil, vcv, xur, ↓pX4_widest, bX4_widest, nI_1, ge_y]
          exact ih _
        · intro i hi ih2
          have g2 := ge_n hi (by omega)
          obtain ⟨n1, n2, n3, n4, -⟩ := tcor hG' hs (show i < ns s by omega)
          refine VW.go [20] 400 ?_
          simp only [↓vcp, ↓vc_s, vch, vcn, Option.toList_some, Option.toList_none, List.cons_append, List.nil_append, Bool.false_eq_true, Bool.or_false, Bool.or_true, Bool.false_or, Bool.true_or, Nat.reduceAdd, Nat.reduceBEq, Nat.reduceLeDiff, Nat.zero_le, Nat.reduceLT, Nat.le_refl, ↓reduceIte, decide_true, decide_false, true_and, and_true, false_imp_iff, true_imp_iff, not_false_eq_true, not_true_eq_false, implies_true, and_self, eq_self, i10, List.length_cons, List.length_nil, vcv, xur, ↓pX4_widest, bX4_widest, e1, g2, hd]
          refine ct_X4_cornerOf s j hG' hs (by omega) ?_
          simp only [↓vcp, ↓vc_s, vch, vcn, Option.toList_some, Option.toList_none, List.cons_append, List.nil_append, Bool.false_eq_true, Bool.or_false, Bool.or_true, Bool.false_or, Bool.true_or, Nat.reduceAdd, Nat.reduceBEq, Nat.reduceLeDiff, Nat.zero_le, Nat.reduceLT, Nat.le_refl, ↓reduceIte, decide_true, decide_false, true_and, and_true, false_imp_iff, true_imp_iff, not_false_eq_true, not_true_eq_false, implies_true, and_self, eq_self, i10, List.length_cons, List.length_nil, vcv, xur, ↓pX4_widest, bX4_widest, e1, hd, k1, n1, nI_1]
          refine ct_X4_cornerOf s i hG' hs (by omega) ?_
          simp only [↓vcp, ↓vc_s, vch, vcn, Option.toList_some, Option.toList_none, List.cons_append, List.nil_append, Bool.false_eq_true, Bool.or_false, Bool.or_true, Bool.false_or, Bool.true_or, Nat.reduceAdd, Nat.reduceBEq, Nat.reduceLeDiff, Nat.zero_le, Nat.reduceLT, Nat.le_refl, ↓reduceIte, decide_true, decide_false, true_and, and_true, false_imp_iff, true_imp_iff, not_false_eq_true, not_true_eq_false, implies_true, and_self, eq_self, i10, List.length_cons, List.length_nil, vcv, xur, ↓pX4_widest, bX4_widest, e1, hd, k1, n1, nI_1]
          refine ct_X4_square _ _ hG' k3 n3 ?_
          simp only [↓vcp, ↓vc_s, vch, vcn, Option.toList_some, Option.toList_none, List.cons_append, List.nil_append, Bool.false_eq_true, Bool.or_false, Bool.or_true, Bool.false_or, Bool.true_or, Nat.reduceAdd, Nat.reduceBEq, Nat.reduceLeDiff, Nat.zero_le, Nat.reduceLT, Nat.le_refl, ↓reduceIte, decide_true, decide_false, true_and, and_true, false_imp_iff, true_imp_iff, not_false_eq_true, not_true_eq_false, implies_true, and_self, eq_self, i10, List.length_cons, List.length_nil, vcv, xur, ↓pX4_widest, bX4_widest, e1, hd, k1, n1, nI_1]
          refine ct_J14_max _ _ ?_
          simp only [↓vcp, ↓vc_s, vch, vcn, Option.toList_some, Option.toList_none, List.cons_append, List.nil_append, Bool.false_eq_true, Bool.or_false, Bool.or_true, Bool.false_or, Bool.true_or, Nat.reduceAdd, Nat.reduceBEq, Nat.reduceLeDiff, Nat.zero_le, Nat.reduceLT, Nat.le_refl, ↓reduceIte, decide_true, decide_false, true_and, and_true, false_imp_iff, true_imp_iff, not_false_eq_true, not_true_eq_false, implies_true, and_self, eq_self, i10, List.length_cons, List.length_nil, vcv, xur, ↓pX4_widest, bX4_widest, e1, hd, k1, n1, nI_1]
          exact ih2
      refine VW.go [4,20] 400 ?_
      simp only [↓vcp, ↓vc_s, vch, vcn, Option.toList_some, Option.toList_none, List.cons_append, List.nil_append, Bool.false_eq_true, Bool.or_false, Bool.or_true, Bool.false_or, Bool.true_or, Nat.reduceAdd, Nat.reduceBEq, Nat.reduceLeDiff, Nat.zero_le, Nat.reduceLT, Nat.le_refl, ↓reduceIte, decide_true, decide_false, true_and, and_true, false_imp_iff, true_imp_iff, not_false_eq_true, not_true_eq_false, implies_true, and_self, eq_self, i10, List.length_cons, List.length_nil, vcv, xur, ↓pX4_widest, bX4_widest, e1, e2, e3, e4, e5, e6, e7, e8, e9, e10, e11, i1, i2, c1, g1]
      exact L2 0 (Nat.zero_le _)
  refine Ctr.of (by decide +kernel) rfl (by simp only [lent_0, lent_i, lent_r, lent_n, lent_l, lent_f, List.length_cons, List.length_nil, bX4_widest]; decide) ?_
  simp only [lpad, lent_0, lent_i, lent_r, lent_n, lent_l, lent_f, List.length_cons, List.length_nil, bX4_widest, Nat.reduceAdd, Nat.reduceSub, List.replicate_succ, List.replicate_zero, List.cons_append, List.nil_append]
  refine VW.go [4] 400 ?_
  simp only [↓vcp, ↓vc_s, vch, vcn, Option.toList_some, Option.toList_none, List.cons_append, List.nil_append, Bool.false_eq_true, Bool.or_false, Bool.or_true, Bool.false_or, Bool.true_or, Nat.reduceAdd, Nat.reduceBEq, Nat.reduceLeDiff, Nat.zero_le, Nat.reduceLT, Nat.le_refl, ↓reduceIte, decide_true, decide_false, true_and, and_true, false_imp_iff, true_imp_iff, not_false_eq_true, not_true_eq_false, implies_true, and_self, eq_self, i10, List.length_cons, List.length_nil, vcv, xur, ↓pX4_widest, bX4_widest]
  exact L 0 (Nat.zero_le _) _
theorem ct_X4_gridPoints {g : xG} {d : Nat} {σ : xH} {K : xR → xH → Prop} {m S : Nat} {ns : Nat → Nat} {cs : Nat → Nat → Nat} {xs ys : Nat → Int32} (hd : 30 ≤ d) (s : Nat) (hG : tG σ m S ns cs xs ys) (hsee : tSee σ m) (hs : s < S) (hx : rim xs) (hy : rim ys) (hK : K (.inl (some (.int (grid (ns s) (cs s) xs ys)))) σ) : Ctr g d iX4_gridPoints [.ref m, .int (nI s)] σ K := by
  have hG' := hG
  have hd1 : 1 ≤ d := by omega
  obtain ⟨fs, sf, sn, on, ca, cc, xa, ya, f1, f2, e1, e2, e3, e4, e5, e6, e7, e8, e9, e10, e11, hS, hc⟩ := hG
  obtain ⟨fs', sn', z1, z2, z3⟩ := hsee
  have z4 : fs' = fs := by have := z1.symm.trans e1; cases this; rfl
  subst z4
  have z5 : sn' = sn := by have := z2.symm.trans e2; cases this; rfl
  subst z5
  obtain ⟨c1, ⟨c2, c3⟩, c4⟩ := hc s hs
  have i1 := in_y (a := s) (b := 8) (by omega) (by omega)
  have i2 := cl_y (a := s) (by omega)
  have L : ∀ j, j ≤ ns s → ∀ o o', VW g iX4_gridPoints K d 4 [some (.ref m), some (.int (nI s)), some (.int (sumI (gridT (ns s) (cs s) xs ys) j)), some (.int (nI j)), o, o'] [] σ := by
    refine down ?_ ?_
    · intro o o'
      refine VW.go [4] 400 ?_
      simp only [↓vcp, ↓vc_s, vch, vcn, Option.toList_some, Option.toList_none, List.cons_append, List.nil_append, Bool.false_eq_true, Bool.or_false, Bool.or_true, Bool.false_or, Bool.true_or, Nat.reduceAdd, Nat.reduceBEq, Nat.reduceLeDiff, Nat.zero_le, Nat.reduceLT, Nat.le_refl, ↓reduceIte, decide_true, decide_false, true_and, and_true, false_imp_iff, true_imp_iff, not_false_eq_true, not_true_eq_false, implies_true, and_self, eq_self, i10, List.length_cons, List.length_nil, vcv, xur, ↓pX4_gridPoints, bX4_gridPoints, e1, e2, e3, e4, e5, e6, e7, e8, e9, e10, e11, z3, i1, i2, c1, ge_y]
      exact hK
    · intro j hj ih o o'
      have g1 := ge_n hj (by omega)
      obtain ⟨k1, k2, k3, k4, -⟩ := tcor hG' hs hj
      have j1 := in_y k3 (by omega)
      have j2 := cl_y (a := cs s j) (by omega)
      have j3 := in_y k4 (by omega)
      have j4 := cl_y (a := cs s (nx (ns s) j)) (by omega)
      obtain ⟨d1, d2⟩ := ab_dist (hx _ k3) (hx _ k4)
      obtain ⟨d3, d4⟩ := ab_dist (hy _ k3) (hy _ k4)
      refine VW.go [4] 400 ?_
      simp only [↓vcp, ↓vc_s, vch, vcn, Option.toList_some, Option.toList_none, List.cons_append, List.nil_append, Bool.false_eq_true, Bool.or_false, Bool.or_true, Bool.false_or, Bool.true_or, Nat.reduceAdd, Nat.reduceBEq, Nat.reduceLeDiff, Nat.zero_le, Nat.reduceLT, Nat.le_refl, ↓reduceIte, decide_true, decide_false, true_and, and_true, false_imp_iff, true_imp_iff, not_false_eq_true, not_true_eq_false, implies_true, and_self, eq_self, i10, List.length_cons, List.length_nil, vcv, xur, ↓pX4_gridPoints, bX4_gridPoints, e1, e2, e3, e4, e5, e6, e7, e8, e9, e10, e11, z3, i1, i2, c1, g1, hd1]
      refine ct_X4_cornerOf s j hG' hs (by omega) ?_
      simp only [↓vcp, ↓vc_s, vch, vcn, Option.toList_some, Option.toList_none, List.cons_append, List.nil_append, Bool.false_eq_true, Bool.or_false, Bool.or_true, Bool.false_or, Bool.true_or, Nat.reduceAdd, Nat.reduceBEq, Nat.reduceLeDiff, Nat.zero_le, Nat.reduceLT, Nat.le_refl, ↓reduceIte, decide_true, decide_false, true_and, and_true, false_imp_iff, true_imp_iff, not_false_eq_true, not_true_eq_false, implies_true, and_self, eq_self, i10, List.length_cons, List.length_nil, vcv, xur, ↓pX4_gridPoints, bX4_gridPoints, e1, e2, e3, e4, e5, e6, e7, e8, e9, e10, e11, hd1, k1, k2, j1, j2, j3, j4, nI_1, d1, d3]
      refine ct_X4_cornerOf s (j + 1) hG' hs (by omega) ?_
      simp only [↓vcp, ↓vc_s, vch, vcn, Option.toList_some, Option.toList_none, List.cons_append, List.nil_append, Bool.false_eq_true, Bool.or_false, Bool.or_true, Bool.false_or, Bool.true_or, Nat.reduceAdd, Nat.reduceBEq, Nat.reduceLeDiff, Nat.zero_le, Nat.reduceLT, Nat.le_refl, ↓reduceIte, decide_true, decide_false, true_and, and_true, false_imp_iff, true_imp_iff, not_false_eq_true, not_true_eq_false, implies_true, and_self, eq_self, i10, List.length_cons, List.length_nil, vcv, xur, ↓pX4_gridPoints, bX4_gridPoints, e1, e2, e3, e4, e5, e6, e7, e8, e9, e10, e11, hd1, k1, k2, j1, j2, j3, j4, nI_1, d1, d3]
      refine ct_J14_abs _ ?_
      simp only [↓vcp, ↓vc_s, vch, vcn, Option.toList_some, Option.toList_none, List.cons_append, List.nil_append, Bool.false_eq_true, Bool.or_false, Bool.or_true, Bool.false_or, Bool.true_or, Nat.reduceAdd, Nat.reduceBEq, Nat.reduceLeDiff, Nat.zero_le, Nat.reduceLT, Nat.le_refl, ↓reduceIte, decide_true, decide_false, true_and, and_true, false_imp_iff, true_imp_iff, not_false_eq_true, not_true_eq_false, implies_true, and_self, eq_self, i10, List.length_cons, List.length_nil, vcv, xur, ↓pX4_gridPoints, bX4_gridPoints, e1, e2, e3, e4, e5, e6, e7, e8, e9, e10, e11, hd1, k1, k2, j1, j2, j3, j4, nI_1, d1, d3]
      refine ct_J14_abs _ ?_
      simp only [↓vcp, ↓vc_s, vch, vcn, Option.toList_some, Option.toList_none, List.cons_append, List.nil_append, Bool.false_eq_true, Bool.or_false, Bool.or_true, Bool.false_or, Bool.true_or, Nat.reduceAdd, Nat.reduceBEq, Nat.reduceLeDiff, Nat.zero_le, Nat.reduceLT, Nat.le_refl, ↓reduceIte, decide_true, decide_false, true_and, and_true, false_imp_iff, true_imp_iff, not_false_eq_true, not_true_eq_false, implies_true, and_self, eq_self, i10, List.length_cons, List.length_nil, vcv, xur, ↓pX4_gridPoints, bX4_gridPoints, e1, e2, e3, e4, e5, e6, e7, e8, e9, e10, e11, hd1, k1, k2, j1, j2, j3, j4, nI_1, d1, d3]
      refine ct_X4_divisor 11 _ _ _ _ (by omega) d4 (by omega) (by omega) ?_
      simp only [↓vcp, ↓vc_s, vch, vcn, Option.toList_some, Option.toList_none, List.cons_append, List.nil_append, Bool.false_eq_true, Bool.or_false, Bool.or_true, Bool.false_or, Bool.true_or, Nat.reduceAdd, Nat.reduceBEq, Nat.reduceLeDiff, Nat.zero_le, Nat.reduceLT, Nat.le_refl, ↓reduceIte, decide_true, decide_false, true_and, and_true, false_imp_iff, true_imp_iff, not_false_eq_true, not_true_eq_false, implies_true, and_self, eq_self, i10, List.length_cons, List.length_nil, vcv, xur, ↓pX4_gridPoints, bX4_gridPoints, nI_1]
      exact ih _ _
  refine Ctr.of (by decide +kernel) rfl (by simp only [lent_0, lent_i, lent_r, lent_n, lent_l, lent_f, List.length_cons, List.length_nil, bX4_gridPoints]; decide) ?_
  simp only [lpad, lent_0, lent_i, lent_r, lent_n, lent_l, lent_f, List.length_cons, List.length_nil, bX4_gridPoints, Nat.reduceAdd, Nat.reduceSub, List.replicate_succ, List.replicate_zero, List.cons_append, List.nil_append]
  refine VW.go [4] 400 ?_
  simp only [↓vcp, ↓vc_s, vch, vcn, Option.toList_some, Option.toList_none, List.cons_append, List.nil_append, Bool.false_eq_true, Bool.or_false, Bool.or_true, Bool.false_or, Bool.true_or, Nat.reduceAdd, Nat.reduceBEq, Nat.reduceLeDiff, Nat.zero_le, Nat.reduceLT, Nat.le_refl, ↓reduceIte, decide_true, decide_false, true_and, and_true, false_imp_iff, true_imp_iff, not_false_eq_true, not_true_eq_false, implies_true, and_self, eq_self, i10, List.length_cons, List.length_nil, vcv, xur, ↓pX4_gridPoints, bX4_gridPoints]
  exact L 0 (Nat.zero_le _) _ _
theorem ct_X4_neverRight {g : xG} {d : Nat} {σ : xH} {K : xR → xH → Prop} {m S : Nat} {ns : Nat → Nat} {cs : Nat → Nat → Nat} {xs ys : Nat → Int32} (hd : 2 ≤ d) (s : Nat) (hG : tG σ m S ns cs xs ys) (hsee : tSee σ m) (hs : s < S) (hK : K (.inl (some (.int (b2i (conv (ns s) (cs s) xs ys))))) σ) : Ctr g d iX4_neverRight [.ref m, .int (nI s)] σ K := by
  have hG' := hG
  have hd1 : 1 ≤ d := by omega
  obtain ⟨fs, sf, sn, on, ca, cc, xa, ya, f1, f2, e1, e2, e3, e4, e5, e6, e7, e8, e9, e10, e11, hS, hc⟩ := hG
  obtain ⟨fs', sn', z1, z2, z3⟩ := hsee
  have z4 : fs' = fs := by have := z1.symm.trans e1; cases this; rfl
  subst z4
  have z5 : sn' = sn := by have := z2.symm.trans e2; cases this; rfl
  subst z5
  obtain ⟨c1, ⟨c2, c3⟩, c4⟩ := hc s hs
  have i1 := in_y (a := s) (b := 8) (by omega) (by omega)
  have i2 := cl_y (a := s) (by omega)
  have L : ∀ (q j : Nat), j + q = ns s → K (.inl (some (.int (b2i (convF (ns s) (cs s) xs ys q j))))) σ → VW g iX4_neverRight K d 2 [some (.ref m), some (.int (nI s)), some (.int (nI j))] [] σ := by
    intro q
    induction q with
    | zero =>
      intro j hj hK
      have hjn : ns s = j := by omega
      rw [hjn] at c1
      refine VW.go [2] 400 ?_
      simp only [↓vcp, ↓vc_s, vch, vcn, Option.toList_some, Option.toList_none, List.cons_append, List.nil_append, Bool.false_eq_true, Bool.or_false, Bool.or_true, Bool.false_or, Bool.true_or, Nat.reduceAdd, Nat.reduceBEq, Nat.reduceLeDiff, Nat.zero_le, Nat.reduceLT, Nat.le_refl, ↓reduceIte, decide_true, decide_false, true_and, and_true, false_imp_iff, true_imp_iff, not_false_eq_true, not_true_eq_false, implies_true, and_self, eq_self, i10, List.length_cons, List.length_nil, vcv, xur, ↓pX4_neverRight, bX4_neverRight, e1, e2, e3, e4, e5, e6, e7, e8, e9, e10, e11, z3, i1, i2, c1, ge_y]
      exact hK
    | succ q ih =>
      intro j hj hK
      have hjn : j < ns s := by omega
      have g1 := ge_n hjn (by omega)
      obtain ⟨k1, k2, k3, k4, k5, k6, k7⟩ := tcor hG' hs hjn
      obtain ⟨n1, n2, n3, n4, -⟩ := tcor hG' hs k7
      have k8 : (j + 2) % ns s = nx (ns s) (nx (ns s) j) := by
        rw [← n2, ← k2]
        rw [Nat.mod_add_mod]
      have p2 : nI j + 2 = nI (j + 2) := nI_add j 2
      unfold convF sideE at hK
      refine VW.go [2] 400 ?_
      simp only [↓vcp, ↓vc_s, vch, vcn, Option.toList_some, Option.toList_none, List.cons_append, List.nil_append, Bool.false_eq_true, Bool.or_false, Bool.or_true, Bool.false_or, Bool.true_or, Nat.reduceAdd, Nat.reduceBEq, Nat.reduceLeDiff, Nat.zero_le, Nat.reduceLT, Nat.le_refl, ↓reduceIte, decide_true, decide_false, true_and, and_true, false_imp_iff, true_imp_iff, not_false_eq_true, not_true_eq_false, implies_true, and_self, eq_self, i10, List.length_cons, List.length_nil, vcv, xur, ↓pX4_neverRight, bX4_neverRight, e1, e2, e3, e4, e5, e6, e7, e8, e9, e10, e11, z3, i1, i2, c1, g1, hd1]
      refine ct_X4_cornerOf s j hG' hs (by omega) ?_
      simp only [↓vcp, ↓vc_s, vch, vcn, Option.toList_some, Option.toList_none, List.cons_append, List.nil_append, Bool.false_eq_true, Bool.or_false, Bool.or_true, Bool.false_or, Bool.true_or, Nat.reduceAdd, Nat.reduceBEq, Nat.reduceLeDiff, Nat.zero_le, Nat.reduceLT, Nat.le_refl, ↓reduceIte, decide_true, decide_false, true_and, and_true, false_imp_iff, true_imp_iff, not_false_eq_true, not_true_eq_false, implies_true, and_self, eq_self, i10, List.length_cons, List.length_nil, vcv, xur, ↓pX4_neverRight, bX4_neverRight, e1, hd1, k1, k2, k8, p2, nI_1]
      refine ct_X4_cornerOf s (j + 1) hG' hs (by omega) ?_
      simp only [↓vcp, ↓vc_s, vch, vcn, Option.toList_some, Option.toList_none, List.cons_append, List.nil_append, Bool.false_eq_true, Bool.or_false, Bool.or_true, Bool.false_or, Bool.true_or, Nat.reduceAdd, Nat.reduceBEq, Nat.reduceLeDiff, Nat.zero_le, Nat.reduceLT, Nat.le_refl, ↓reduceIte, decide_true, decide_false, true_and, and_true, false_imp_iff, true_imp_iff, not_false_eq_true, not_true_eq_false, implies_true, and_self, eq_self, i10, List.length_cons, List.length_nil, vcv, xur, ↓pX4_neverRight, bX4_neverRight, e1, hd1, k1, k2, k8, p2, nI_1]
      refine ct_X4_cornerOf s (j + 2) hG' hs (by omega) ?_
      simp only [↓vcp, ↓vc_s, vch, vcn, Option.toList_some, Option.toList_none, List.cons_append, List.nil_append, Bool.false_eq_true, Bool.or_false, Bool.or_true, Bool.false_or, Bool.true_or, Nat.reduceAdd, Nat.reduceBEq, Nat.reduceLeDiff, Nat.zero_le, Nat.reduceLT, Nat.le_refl, ↓reduceIte, decide_true, decide_false, true_and, and_true, false_imp_iff, true_imp_iff, not_false_eq_true, not_true_eq_false, implies_true, and_self, eq_self, i10, List.length_cons, List.length_nil, vcv, xur, ↓pX4_neverRight, bX4_neverRight, e1, hd1, k1, k2, k8, p2, nI_1]
      refine ct_X4_sideOf (by omega) _ _ _ hG' k3 k4 n4 ?_
      simp only [↓vcp, ↓vc_s, vch, vcn, Option.toList_some, Option.toList_none, List.cons_append, List.nil_append, Bool.false_eq_true, Bool.or_false, Bool.or_true, Bool.false_or, Bool.true_or, Nat.reduceAdd, Nat.reduceBEq, Nat.reduceLeDiff, Nat.zero_le, Nat.reduceLT, Nat.le_refl, ↓reduceIte, decide_true, decide_false, true_and, and_true, false_imp_iff, true_imp_iff, not_false_eq_true, not_true_eq_false, implies_true, and_self, eq_self, i10, List.length_cons, List.length_nil, vcv, xur, ↓pX4_neverRight, bX4_neverRight, e1, hd1, k1, k2, k8, p2, nI_1]
      refine ⟨fun q => ?_, fun q => ?_⟩
      · rw [if_neg (Int32.not_lt.mpr q)] at hK
        exact ih (j + 1) (by omega) hK
      · rw [if_pos (Int32.not_le.mp q)] at hK
        exact hK
  refine Ctr.of (by decide +kernel) rfl (by simp only [lent_0, lent_i, lent_r, lent_n, lent_l, lent_f, List.length_cons, List.length_nil, bX4_neverRight]; decide) ?_
  simp only [lpad, lent_0, lent_i, lent_r, lent_n, lent_l, lent_f, List.length_cons, List.length_nil, bX4_neverRight, Nat.reduceAdd, Nat.reduceSub, List.replicate_succ, List.replicate_zero, List.cons_append, List.nil_append]
  refine VW.go [2] 400 ?_
  simp only [↓vcp, ↓vc_s, vch, vcn, Option.toList_some, Option.toList_none, List.cons_append, List.nil_append, Bool.false_eq_true, Bool.or_false, Bool.or_true, Bool.false_or, Bool.true_or, Nat.reduceAdd, Nat.reduceBEq, Nat.reduceLeDiff, Nat.zero_le, Nat.reduceLT, Nat.le_refl, ↓reduceIte, decide_true, decide_false, true_and, and_true, false_imp_iff, true_imp_iff, not_false_eq_true, not_true_eq_false, implies_true, and_self, eq_self, i10, List.length_cons, List.length_nil, vcv, xur, ↓pX4_neverRight, bX4_neverRight]
  exact L (ns s) 0 (by omega) hK
