set_option maxRecDepth 40000
set_option maxHeartbeats 2000000
/-! ===== HashMap's trees: treeify ===== -/
def nxC (nx : Nat → Option Nat) : Option Nat → List Nat → Prop
  | o, [] => o = none
  | o, i :: l => o = some i ∧ nxC nx (nx i) l
theorem oN_cut (nd : Nat → Nat) (o : Option Nat) : lcut (some (oN nd o)) = some (oN nd o) := by cases o <;> rfl
theorem tRt_of {t : xT} (h : tEs t ≠ []) : ∃ r, tRt t = some r := by
  cases t with
  | leaf _ => exact absurd rfl h
  | branch i l r => exact ⟨i, rfl⟩
theorem perm_in {A B R l : List Nat} {x : Nat} (h : (A ++ B ++ x :: R).Perm l) : (A ++ (x :: B) ++ R).Perm l := by
  refine List.Perm.trans ?_ h
  rw [List.append_assoc, List.append_assoc]
  refine List.Perm.append_left A ?_
  exact (List.perm_middle (l₁ := B) (a := x) (l₂ := R)).symm
theorem ct_J29_treeify {g : xG} {d : Nat} {σ : xH} {K : xR → xH → Prop} (hg : gwM g) (hd : 10 ≤ d) {F : xM} (hF : fz F σ) {l : List Nat} {nd ka vb : Nat → Nat} {nm : Nat → List Nat} {lf0 rt0 pa0 nx pv : Nat → Option Nat} {rd0 : Nat → Int32} (h : famL g σ l nd (tnE nd ka vb nm lf0 rt0 pa0 nx pv rd0)) (h01 : ∀ i ∈ l, rd0 i = 0 ∨ rd0 i = 1) (hL : lkL l nx pv) (hln : 2 ≤ l.length) (hnd : l.Nodup) (hk : ∀ i ∈ l, kyF g F nm ka i) (hinj : ∀ i ∈ l, ∀ j ∈ l, nm i = nm j → i = j) (hFn : ∀ i ∈ l, F (nd i) = none) {f tb cap j0 : Nat} {row : Nat → Option Nat} (hch : nxC nx (some f) l) (hb : g0 g ≤ tb) (ht : σ.1 tb = some (aq 6 cap row)) (hc : cap = 16 ∨ cap = 32 ∨ cap = 64) (hbx : ∀ i ∈ l, bix cap (hsN (nm i)) = j0) (hj : row j0 = some (nd f))
    (hK : ∀ (σ' : xH) (lf rt pa nx' pv' : Nat → Option Nat) (rd : Nat → Int32) (r : Nat) (t : xT), famL g σ' l nd (tnE nd ka vb nm lf rt pa nx' pv' rd) → tRt t = some r → (tEs t).Perm l → sT nm t → tre lf rt pa t none → nx' r ≠ none → lkL l nx' pv' → (∀ i ∈ l, rd i = 0 ∨ rd i = 1) → σ'.1 tb = some (aq 6 cap (va_up row j0 (some (nd r)))) → xg σ σ' 0 0 (fun z => inL l nd z ∨ z = tb) → K (.inl none) σ') : Ctr g d iJ29_treeify [.ref (nd f), .ref tb] σ K := by
  have d1 : 1 ≤ d := by omega
  refine Ctr.wf0 (fun hw => ?_)
  have fl : f ∈ l ∧ nx f ≠ none := by
    match l, hch, hln with
    | a :: b :: l', hch, _ =>
      obtain ⟨e, e2, -⟩ := hch
      cases e
      exact ⟨List.mem_cons_self, by rw [e2]; simp⟩
  have hnt : ∀ i ∈ l, nd i ≠ tb := fun i hi e => by
    have := (h.2 i hi).2
    rw [e, ht] at this
    cases this
  have L : ∀ (R : List Nat) (T : xT) (o : Option Nat) (σ1 : xH) (lf rt pa : Nat → Option Nat) (rd : Nat → Int32) (v4 v5 v6 v7 v8 v9 v10 v11 v12 : Option Value), famL g σ1 l nd (tnE nd ka vb nm lf rt pa nx pv rd) → (∀ i ∈ l, rd i = 0 ∨ rd i = 1) → nxC nx o R → (tEs T ++ R).Perm l → sT nm T → tre lf rt pa T none → xg σ σ1 0 0 (inL l nd) → VW g iJ29_treeify K d 4 [some (.ref (nd f)), some (.ref tb), some (oN nd (tRt T)), some (oN nd o), v4, v5, v6, v7, v8, v9, v10, v11, v12] [] σ1 := by
    intro R
    induction R with
    | nil =>
      intro T o σ1 lf rt pa rd v4 v5 v6 v7 v8 v9 v10 v11 v12 w1 w2 w3 w4 w5 w6 w7
      have w3' : o = none := w3
      subst w3'
      rw [List.append_nil] at w4
      obtain ⟨r, hr⟩ := tRt_of (t := T) (fun e => by rw [e] at w4; have := w4.length_eq; simp at this; omega)
      have rl : r ∈ l := w4.mem_iff.mp (tRt_in hr)
      have ht1 : σ1.1 tb = some (aq 6 cap row) := w7.at hw ht (fun ⟨i, hi, e⟩ => hnt i hi e.symm)
      rw [oN_n, hr, oN_s]
      refine VW.go [] 400 ?_
      simp only [↓vcp, ↓vc_s, vch, vcn, Option.toList_some, Option.toList_none, List.cons_append, List.nil_append, Bool.false_eq_true, Bool.or_false, Bool.or_true, Bool.false_or, Bool.true_or, Nat.reduceAdd, Nat.reduceBEq, Nat.reduceLeDiff, Nat.zero_le, Nat.reduceLT, Nat.le_refl, ↓reduceIte, decide_true, decide_false, true_and, and_true, false_imp_iff, true_imp_iff, not_false_eq_true, not_true_eq_false, implies_true, and_self, eq_self, i10, List.length_cons, List.length_nil, vcv, xur, ↓pJ29_treeify, bJ29_treeify, d1, Option.some.injEq, reduceCtorEq, forall_eq']
      refine ct_J29_front hg.2 w1 hL rl fl.1 fl.2 hb ht1 hc (by rw [hbx r rl]; exact hj) (fun σ2 nx2 pv2 k1 k2 k3 k4 k5 => ?_)
      rw [hbx r rl] at k4
      have fin := hK σ2 lf rt pa nx2 pv2 rd r T k1 hr w4 w5 w6 k3 k2 w2 k4 (((w7.mono (Nat.le_refl _) (Nat.le_refl _) (fun _ _ q => Or.inl q)).t2 k5).mono (Nat.le_refl _) (Nat.le_refl _) (fun _ _ q => q))
      simp only [↓vcp, ↓vc_s, vch, vcn, Option.toList_some, Option.toList_none, List.cons_append, List.nil_append, Bool.false_eq_true, Bool.or_false, Bool.or_true, Bool.false_or, Bool.true_or, Nat.reduceAdd, Nat.reduceBEq, Nat.reduceLeDiff, Nat.zero_le, Nat.reduceLT, Nat.le_refl, ↓reduceIte, decide_true, decide_false, true_and, and_true, false_imp_iff, true_imp_iff, not_false_eq_true, not_true_eq_false, implies_true, and_self, eq_self, i10, List.length_cons, List.length_nil, vcv, xur, ↓pJ29_treeify, bJ29_treeify, Option.some.injEq, reduceCtorEq, forall_eq']
      exact fin
    | cons x R ih =>
      intro T o σ1 lf rt pa rd v4 v5 v6 v7 v8 v9 v10 v11 v12 w1 w2 w3 w4 w5 w6 w7
      obtain ⟨e0, w3⟩ := w3
      subst e0
      have mx : x ∈ l := w4.mem_iff.mp (by simp)
      have mT : ∀ i ∈ tEs T, i ∈ l := fun i hi => w4.mem_iff.mp (by simp [hi])
      have nT : (tEs T ++ x :: R).Nodup := w4.nodup_iff.mpr hnd
      have xT : x ∉ tEs T := fun q => (List.nodup_append.mp nT).2.2 x q x List.mem_cons_self rfl
      have gx := (w1.2 x mx).1
      -- behind the first lines
      have A : ∀ (σ3 : xH) (lf3 rt3 : Nat → Option Nat) (v5 v6 v7 v8 v9 v10 v11 v12 : Option Value), famL g σ3 l nd (tnE nd ka vb nm lf3 rt3 pa nx pv rd) → lf3 x = none → rt3 x = none → tre lf3 rt3 pa T none → xg σ σ3 0 0 (inL l nd) → VW g iJ29_treeify K d 27 [some (.ref (nd f)), some (.ref tb), some (oN nd (tRt T)), some (.ref (nd x)), some (oN nd (nx x)), v5, v6, v7, v8, v9, v10, v11, v12] [] σ3 := by
        intro σ3 lf3 rt3 v5 v6 v7 v8 v9 v10 v11 v12 u1 u2 u3 u4 u5
        have cx := (u1.2 x mx).2
        have oc := oN_cut nd (nx x)
        cases hT : tRt T with
        | none =>
          have eT := leaf_of hT
          subst eT
          have f1 := famL.set (e := _) (lf' := lf3) (rt' := rt3) (pa' := va_up pa x none) (nx' := nx) (pv' := pv) (rd' := rd) u1 mx rfl (fun j hj q => by simp [tnE, va_up_ne _ _ q])
          have f2 := famL.set (e := _) (lf' := lf3) (rt' := rt3) (pa' := va_up pa x none) (nx' := nx) (pv' := pv) (rd' := va_up rd x 0) f1 mx rfl (fun j hj q => by simp [tnE, va_up_ne _ _ q])
          have fin := fun v4 v5 v6 v7 v8 v9 v10 v11 v12 => ih (.branch x (.leaf ()) (.leaf ())) (nx x) _ lf3 rt3 (va_up pa x none) (va_up rd x 0) v4 v5 v6 v7 v8 v9 v10 v11 v12 f2 (fun i hi => by
            by_cases q : i = x
            · subst q; rw [va_up_self]; exact Or.inl rfl
            · rw [va_up_ne _ _ q]; exact w2 i hi) w3 (by simpa [tEs] using w4) (by simp [sT, tEs]) ⟨va_up_self _ _ _, u2, u3, trivial, trivial⟩ (((u5.t2 (xg1 (inL_i mx))).t2 (xg1 (inL_i mx))).mono (Nat.le_refl _) (Nat.le_refl _) (fun _ _ q => q))
          simp only [tnE, va_up_self, tRt_b, oN_s, oN_n, xu_xu] at fin
          simp only [tnE] at cx
          rw [oN_n]
          refine VW.go [4] 400 ?_
          simp only [↓vcp, ↓vc_s, vch, vcn, Option.toList_some, Option.toList_none, List.cons_append, List.nil_append, Bool.false_eq_true, Bool.or_false, Bool.or_true, Bool.false_or, Bool.true_or, Nat.reduceAdd, Nat.reduceBEq, Nat.reduceLeDiff, Nat.zero_le, Nat.reduceLT, Nat.le_refl, ↓reduceIte, decide_true, decide_false, true_and, and_true, false_imp_iff, true_imp_iff, not_false_eq_true, not_true_eq_false, implies_true, and_self, eq_self, i10, List.length_cons, List.length_nil, vcv, xur, ↓pJ29_treeify, bJ29_treeify, cx, gx, oc, oN_r, Option.some.injEq, reduceCtorEq, forall_eq']
          exact fin _ _ _ _ _ _ _ _ _
        | some r =>
          have hF3 : fz F σ3 := hF.kx hw u5 (fun a e he ⟨i, hi, q⟩ => by rw [q, hFn i hi] at he; cases he)
          have D := tfy_desc (K := K) (d := d) hg (by omega) hF3 (T := T) (x := x) (nd := nd) (vb := vb) (nx := nx) (pv := pv) (rd := rd) u4 w5 (fun i hi => ⟨(u1.2 i (mT i hi)).2, hk i (mT i hi)⟩) (hk x mx) (fun i hi e => xT (by rw [← hinj i (mT i hi) x mx e]; exact hi)) (v0 := .ref (nd f)) (v1 := .ref tb) (v2 := .ref (nd r)) (v3 := .ref (nd x)) (v4 := oN nd (nx x)) ⟨rfl, rfl, rfl, rfl, oc⟩ (fun b xp s c z1 z2 kc v v10 v11 hv => ?_)
          · have fin := D T [] r hT rfl ⟨fun i hi => by simp [zL] at hi, fun i hi => by simp [zR] at hi⟩ .null
            rw [oN_s]
            simp only [tnE] at cx
            refine VW.go [64] 400 ?_
            simp only [↓vcp, ↓vc_s, vch, vcn, Option.toList_some, Option.toList_none, List.cons_append, List.nil_append, Bool.false_eq_true, Bool.or_false, Bool.or_true, Bool.false_or, Bool.true_or, Nat.reduceAdd, Nat.reduceBEq, Nat.reduceLeDiff, Nat.zero_le, Nat.reduceLT, Nat.le_refl, ↓reduceIte, decide_true, decide_false, true_and, and_true, false_imp_iff, true_imp_iff, not_false_eq_true, not_true_eq_false, implies_true, and_self, eq_self, i10, List.length_cons, List.length_nil, vcv, xur, ↓pJ29_treeify, bJ29_treeify, cx, oc, Option.some.injEq, reduceCtorEq, forall_eq']
            exact fin _ _ _ _ (Or.inl rfl)
          · -- the new place
            have exT : tEs T = zL ((b, xp, s) :: c) ++ zR ((b, xp, s) :: c) := by rw [← z1, plug_in]; rfl
            have mxp : xp ∈ l := mT xp (by
              rw [exT]
              exact List.mem_append.mpr (zPa_in (c := (b, xp, s) :: c) rfl))
            have nxp : x ≠ xp := fun e => xT (by
              rw [e, exT]
              exact List.mem_append.mpr (zPa_in (c := (b, xp, s) :: c) rfl))
            have dn := u1.ne mx mxp nxp
            have dn2 := u1.ne mxp mx (Ne.symm nxp)
            have gxp := (u1.2 xp mxp).1
            have cxp := (u1.2 xp mxp).2
            have nz : zPa ((b, xp, s) :: c) ≠ some x := fun e => nxp (Option.some.inj e).symm
            have tz := hang_ok (lf := lf3) (rt := rt3) (pa := pa) (c := (b, xp, s) :: c) (x := x) (by rw [z1]; exact xT) (by rw [z1]; exact (List.nodup_append.mp nT).1) (by rw [z1]; exact u4)
            rw [va_up_id (show lfZ ((b, xp, s) :: c) lf3 (some x) x = none by rw [lfZ_ne nz]; exact u2), va_up_id (show rtZ ((b, xp, s) :: c) rt3 (some x) x = none by rw [rtZ_ne nz]; exact u3)] at tz
            have eE : tEs (zPlug ((b, xp, s) :: c) (.branch x (.leaf ()) (.leaf ()))) = zL ((b, xp, s) :: c) ++ x :: zR ((b, xp, s) :: c) := by rw [plug_in]; rfl
            have pm : (tEs (zPlug ((b, xp, s) :: c) (.branch x (.leaf ()) (.leaf ()))) ++ R).Perm l := by
              rw [eE]
              exact perm_in (by rw [← exT]; exact w4)
            have nE : (tEs (zPlug ((b, xp, s) :: c) (.branch x (.leaf ()) (.leaf ())))).Nodup := (List.nodup_append.mp (pm.nodup_iff.mpr hnd)).1
            have lE : ∀ i ∈ tEs (zPlug ((b, xp, s) :: c) (.branch x (.leaf ()) (.leaf ()))), i ∈ l := fun i hi => pm.mem_iff.mp (List.mem_append_left _ hi)
            have rE : tRt (zPlug ((b, xp, s) :: c) (.branch x (.leaf ()) (.leaf ()))) = some r := by
              rw [plug_rt ((b, xp, s) :: c) _ (.leaf ()) (by simp), z1]; exact hT
            have sE : sT nm (zPlug ((b, xp, s) :: c) (.branch x (.leaf ()) (.leaf ()))) := zS_in (by rw [z1]; exact w5) z2
            have f1 := famL.set (e := _) (lf' := lf3) (rt' := rt3) (pa' := va_up pa x (some xp)) (nx' := nx) (pv' := pv) (rd' := rd) u1 mx rfl (fun j hj q => by simp [tnE, va_up_ne _ _ q])
            cases b
            · have q1 : (0 < v) = True := eq_true (Int32.not_le.mp (fun z => by have := hv.mp z; cases this))
              have f2 := famL.set (e := _) (lf' := lf3) (rt' := va_up rt3 xp (some x)) (pa' := va_up pa x (some xp)) (nx' := nx) (pv' := pv) (rd' := rd) f1 mxp rfl (fun j hj q => by simp [tnE, va_up_ne _ _ q])
              simp only [tnE, va_up_self, oN_s, va_up_ne _ _ (Ne.symm nxp)] at f2
              simp only [tnE] at cx cxp
              refine VW.go [4] 400 ?_
              simp only [↓vcp, ↓vc_s, vch, vcn, Option.toList_some, Option.toList_none, List.cons_append, List.nil_append, Bool.false_eq_true, Bool.or_false, Bool.or_true, Bool.false_or, Bool.true_or, Nat.reduceAdd, Nat.reduceBEq, Nat.reduceLeDiff, Nat.zero_le, Nat.reduceLT, Nat.le_refl, ↓reduceIte, decide_true, decide_false, true_and, and_true, false_imp_iff, true_imp_iff, not_false_eq_true, not_true_eq_false, implies_true, and_self, eq_self, i10, List.length_cons, List.length_nil, vcv, xur, ↓pJ29_treeify, bJ29_treeify, cx, cxp, gx, gxp, dn, dn2, q1, oc, d1, oN_r, Option.some.injEq, reduceCtorEq, forall_eq']
              refine ct_J29_bal (by omega) nE lE (fun σ5 lf5 rt5 pa5 rd5 ro5 t5 k1 k2 k3 k4 k5 k6 => ?_) f2 w2 tz rfl rE
              have fin := fun v5 v6 v7 v8 v9 v10 v11 v12 => ih t5 (nx x) σ5 lf5 rt5 pa5 rd5 (some (oN nd (nx x))) v5 v6 v7 v8 v9 v10 v11 v12 k1 k5 w3 (by rw [k3]; exact pm) (by unfold sT; rw [k3]; exact sE) k2 ((((u5.t2 (xg1 (inL_i mx))).t2 (xg1 (inL_i mxp))).t2 k6).mono (Nat.le_refl _) (Nat.le_refl _) (fun _ _ q => q))
              rw [k4, oN_s] at fin
              simp only [↓vcp, ↓vc_s, vch, vcn, Option.toList_some, Option.toList_none, List.cons_append, List.nil_append, Bool.false_eq_true, Bool.or_false, Bool.or_true, Bool.false_or, Bool.true_or, Nat.reduceAdd, Nat.reduceBEq, Nat.reduceLeDiff, Nat.zero_le, Nat.reduceLT, Nat.le_refl, ↓reduceIte, decide_true, decide_false, true_and, and_true, false_imp_iff, true_imp_iff, not_false_eq_true, not_true_eq_false, implies_true, and_self, eq_self, i10, List.length_cons, List.length_nil, vcv, xur, ↓pJ29_treeify, bJ29_treeify, oc, oN_r, Option.some.injEq, reduceCtorEq, forall_eq']
              exact fin _ _ _ _ _ _ _ _
            · have q1 : (0 < v) = False := eq_false (Int32.not_lt.mpr (hv.mpr rfl))
              have f2 := famL.set (e := _) (lf' := va_up lf3 xp (some x)) (rt' := rt3) (pa' := va_up pa x (some xp)) (nx' := nx) (pv' := pv) (rd' := rd) f1 mxp rfl (fun j hj q => by simp [tnE, va_up_ne _ _ q])
              simp only [tnE, va_up_self, oN_s, va_up_ne _ _ (Ne.symm nxp)] at f2
              simp only [tnE] at cx cxp
              refine VW.go [4] 400 ?_
              simp only [↓vcp, ↓vc_s, vch, vcn, Option.toList_some, Option.toList_none, List.cons_append, List.nil_append, Bool.false_eq_true, Bool.or_false, Bool.or_true, Bool.false_or, Bool.true_or, Nat.reduceAdd, Nat.reduceBEq, Nat.reduceLeDiff, Nat.zero_le, Nat.reduceLT, Nat.le_refl, ↓reduceIte, decide_true, decide_false, true_and, and_true, false_imp_iff, true_imp_iff, not_false_eq_true, not_true_eq_false, implies_true, and_self, eq_self, i10, List.length_cons, List.length_nil, vcv, xur, ↓pJ29_treeify, bJ29_treeify, cx, cxp, gx, gxp, dn, dn2, q1, oc, d1, oN_r, Option.some.injEq, reduceCtorEq, forall_eq']
              refine ct_J29_bal (by omega) nE lE (fun σ5 lf5 rt5 pa5 rd5 ro5 t5 k1 k2 k3 k4 k5 k6 => ?_) f2 w2 tz rfl rE
              have fin := fun v5 v6 v7 v8 v9 v10 v11 v12 => ih t5 (nx x) σ5 lf5 rt5 pa5 rd5 (some (oN nd (nx x))) v5 v6 v7 v8 v9 v10 v11 v12 k1 k5 w3 (by rw [k3]; exact pm) (by unfold sT; rw [k3]; exact sE) k2 ((((u5.t2 (xg1 (inL_i mx))).t2 (xg1 (inL_i mxp))).t2 k6).mono (Nat.le_refl _) (Nat.le_refl _) (fun _ _ q => q))
              rw [k4, oN_s] at fin
              simp only [↓vcp, ↓vc_s, vch, vcn, Option.toList_some, Option.toList_none, List.cons_append, List.nil_append, Bool.false_eq_true, Bool.or_false, Bool.or_true, Bool.false_or, Bool.true_or, Nat.reduceAdd, Nat.reduceBEq, Nat.reduceLeDiff, Nat.zero_le, Nat.reduceLT, Nat.le_refl, ↓reduceIte, decide_true, decide_false, true_and, and_true, false_imp_iff, true_imp_iff, not_false_eq_true, not_true_eq_false, implies_true, and_self, eq_self, i10, List.length_cons, List.length_nil, vcv, xur, ↓pJ29_treeify, bJ29_treeify, oc, oN_r, Option.some.injEq, reduceCtorEq, forall_eq']
              exact fin _ _ _ _ _ _ _ _
      have cx := (w1.2 x mx).2
      have f1 := famL.set (e := _) (lf' := lf) (rt' := va_up rt x none) (pa' := pa) (nx' := nx) (pv' := pv) (rd' := rd) w1 mx rfl (fun j hj q => by simp [tnE, va_up_ne _ _ q])
      have f2 := famL.set (e := _) (lf' := va_up lf x none) (rt' := va_up rt x none) (pa' := pa) (nx' := nx) (pv' := pv) (rd' := rd) f1 mx rfl (fun j hj q => by simp [tnE, va_up_ne _ _ q])
      have fin := fun v5 v6 v7 v8 v9 v10 v11 v12 => A _ (va_up lf x none) (va_up rt x none) v5 v6 v7 v8 v9 v10 v11 v12 f2 (va_up_self _ _ _) (va_up_self _ _ _) (tre_cg (fun i hi => by
        have q : i ≠ x := fun e => xT (by rw [← e]; exact hi)
        exact ⟨va_up_ne _ _ q, va_up_ne _ _ q, rfl⟩) w6) (((w7.t2 (xg1 (inL_i mx))).t2 (xg1 (inL_i mx))).mono (Nat.le_refl _) (Nat.le_refl _) (fun _ _ q => q))
      simp only [tnE, va_up_self, oN_n, xu_xu] at fin
      have oc := oN_cut nd (tRt T)
      rw [oN_s]
      cases hnx : nx x with
      | none =>
        rw [hnx] at fin
        simp only [tnE, hnx, oN_n] at cx fin
        refine VW.go [27] 400 ?_
        simp only [↓vcp, ↓vc_s, vch, vcn, Option.toList_some, Option.toList_none, List.cons_append, List.nil_append, Bool.false_eq_true, Bool.or_false, Bool.or_true, Bool.false_or, Bool.true_or, Nat.reduceAdd, Nat.reduceBEq, Nat.reduceLeDiff, Nat.zero_le, Nat.reduceLT, Nat.le_refl, ↓reduceIte, decide_true, decide_false, true_and, and_true, false_imp_iff, true_imp_iff, not_false_eq_true, not_true_eq_false, implies_true, and_self, eq_self, i10, List.length_cons, List.length_nil, vcv, xur, ↓pJ29_treeify, bJ29_treeify, cx, gx, oc, Option.some.injEq, reduceCtorEq, forall_eq']
        exact fin _ _ _ _ _ _ _ _
      | some y =>
        have my := (hL x mx).1 y hnx
        have e1 := fun oc idx => cst_o oc idx σ1 (nd y) 22 _ (w1.2 y my).2
        rw [hnx] at fin
        simp only [tnE, hnx, oN_s] at cx fin
        refine VW.go [27] 400 ?_
        simp only [↓vcp, ↓vc_s, vch, vcn, Option.toList_some, Option.toList_none, List.cons_append, List.nil_append, Bool.false_eq_true, Bool.or_false, Bool.or_true, Bool.false_or, Bool.true_or, Nat.reduceAdd, Nat.reduceBEq, Nat.reduceLeDiff, Nat.zero_le, Nat.reduceLT, Nat.le_refl, ↓reduceIte, decide_true, decide_false, true_and, and_true, false_imp_iff, true_imp_iff, not_false_eq_true, not_true_eq_false, implies_true, and_self, eq_self, i10, List.length_cons, List.length_nil, vcv, xur, ↓pJ29_treeify, bJ29_treeify, cx, gx, oc, e1, Option.some.injEq, reduceCtorEq, forall_eq']
        exact fin _ _ _ _ _ _ _ _
  refine Ctr.of (by decide +kernel) rfl (by simp only [lent_0, lent_i, lent_r, lent_n, lent_l, lent_f, List.length_cons, List.length_nil, bJ29_treeify]; decide) ?_
  simp only [lpad, lent_0, lent_i, lent_r, lent_n, lent_l, lent_f, List.length_cons, List.length_nil, bJ29_treeify, Nat.reduceAdd, Nat.reduceSub, List.replicate_succ, List.replicate_zero, List.cons_append, List.nil_append]
  have fin := fun v4 v5 v6 v7 v8 v9 v10 v11 v12 => L l (.leaf ()) (some f) σ lf0 rt0 pa0 rd0 v4 v5 v6 v7 v8 v9 v10 v11 v12 h h01 hch (List.Perm.refl _) (by simp [sT, tEs]) trivial (xg.refl _ _)
  rw [show tRt (.leaf ()) = none from rfl, oN_n, oN_s] at fin
  refine VW.go [4] 400 ?_
  simp only [↓vcp, ↓vc_s, vch, vcn, Option.toList_some, Option.toList_none, List.cons_append, List.nil_append, Bool.false_eq_true, Bool.or_false, Bool.or_true, Bool.false_or, Bool.true_or, Nat.reduceAdd, Nat.reduceBEq, Nat.reduceLeDiff, Nat.zero_le, Nat.reduceLT, Nat.le_refl, ↓reduceIte, decide_true, decide_false, true_and, and_true, false_imp_iff, true_imp_iff, not_false_eq_true, not_true_eq_false, implies_true, and_self, eq_self, i10, List.length_cons, List.length_nil, vcv, xur, ↓pJ29_treeify, bJ29_treeify, Option.some.injEq, reduceCtorEq, forall_eq']
  exact fin _ _ _ _ _ _ _ _ _
