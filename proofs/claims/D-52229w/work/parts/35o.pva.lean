set_option maxRecDepth 40000
set_option maxHeartbeats 2000000
/-! ===== HashMap.putVal: into a chain ===== -/
def pvH (g : xG) (σ : xH) (F : xM) (T : Nat → Nat) (t m cnt : Nat) (nm : Nat → List Nat) (tb cap : Nat) (w : List Nat) (a x : Nat) (mc : Int32) (lf : UInt32) (row : Nat → Option Nat) (nd ka vb : Nat → Nat) : Prop :=
  (σ.1 m = some (ob 11 [.null, .null, .ref tb, .null, .int (nI cnt), .int mc, .int (nI (cap / 4 * 3)), .float lf]) ∧ g0 g ≤ m ∧ T m = t ∧ g0 g ≤ tb ∧ T tb = t ∧ σ.1 tb = some (aq 6 cap row) ∧ (cap = 16 ∨ cap = 32 ∨ cap = 64)) ∧ (mEnt g F T t cnt nm nd ka vb ∧ mBin σ.1 cap cnt nm nd ka vb row ∧ (∀ i, i < cnt → nm i ≠ w) ∧ ∀ i j, i < cnt → j < cnt → nm i = nm j → i = j) ∧ (isS F a w ∧ oS g F a ∧ gC g x = some (ob 15 [.int (nI cnt)]) ∧ cnt < 16 ∧ t ≠ 0) ∧ (∀ z, σ.2.1 ≤ z → T z = t) ∧ fz F σ ∧ fT F T ∧ σ.2.1 + 30 ≤ gN g ∧ σ.2.2 + 400 ≤ gW g ∧ xWF g σ
section PV
variable {g : xG} {d : Nat} {σ : xH} {K : xR → xH → Prop} {F : xM} {T : Nat → Nat} {t m cnt tb cap a x : Nat} {nm : Nat → List Nat} {w : List Nat} {mc : Int32} {lf : UInt32} {row : Nat → Option Nat} {nd ka vb : Nat → Nat}
theorem pvH.lt (h : pvH g σ F T t m cnt nm tb cap w a x mc lf row nd ka vb) : ∀ i, i < cnt → nd i < σ.2.1 := mBin_lt h.2.2.2.2.2.2.2.2 h.1.2.2.2.2.2.2 h.2.1.2.1
theorem pvH.ent (h : pvH g σ F T t m cnt nm tb cap w a x mc lf row nd ka vb) : mEnt g F T t (cnt + 1) (va_up nm cnt w) (va_up nd cnt σ.2.1) (va_up ka cnt a) (va_up vb cnt x) := by
  have lt := h.lt
  obtain ⟨-, ⟨h1, -⟩, ⟨h2, h3, h4, h5, -⟩, hT, -, -, -, -, hw⟩ := h
  refine ⟨fun i hi => ?_, fun i j hi hj e => ?_⟩
  · by_cases q : i = cnt
    · subst q
      rw [va_up_self, va_up_self, va_up_self, va_up_self]
      exact ⟨hw.1, hT _ (Nat.le_refl _), h2, h3, h4⟩
    · rw [va_up_ne _ _ q, va_up_ne _ _ q, va_up_ne _ _ q, va_up_ne _ _ q]
      exact h1.1 i (by omega)
  · by_cases q : i = cnt
    · by_cases q' : j = cnt
      · rw [q, q']
      · rw [q, va_up_self, va_up_ne _ _ q'] at e
        have := lt j (by omega)
        omega
    · by_cases q' : j = cnt
      · rw [q', va_up_self, va_up_ne _ _ q] at e
        have := lt i (by omega)
        omega
      · rw [va_up_ne _ _ q, va_up_ne _ _ q'] at e
        exact h1.2 i j (by omega) (by omega) e
theorem pvH.inj (h : pvH g σ F T t m cnt nm tb cap w a x mc lf row nd ka vb) : ∀ i j, i < cnt + 1 → j < cnt + 1 → va_up nm cnt w i = va_up nm cnt w j → i = j := by
  obtain ⟨-, ⟨-, -, h1, h2⟩, -⟩ := h
  intro i j hi hj e
  by_cases q : i = cnt
  · by_cases q' : j = cnt
    · rw [q, q']
    · rw [q, va_up_self, va_up_ne _ _ q'] at e
      exact absurd e.symm (h1 j (by omega))
  · by_cases q' : j = cnt
    · rw [q', va_up_self, va_up_ne _ _ q] at e
      exact absurd e (h1 i (by omega))
    · rw [va_up_ne _ _ q, va_up_ne _ _ q'] at e
      exact h2 i j (by omega) (by omega) e
theorem nxC_mem {nx : Nat → Option Nat} : ∀ {l : List Nat} {o : Option Nat}, nxC nx o l → ∀ i ∈ l, ∀ y, nx i = some y → y ∈ l
  | [], _, _, i, hi => by cases hi
  | a :: l, o, h, i, hi => by
    intro y hy
    rcases List.mem_cons.mp hi with q | q
    · subst q
      have h2 := h.2
      rw [hy] at h2
      cases l with
      | nil => cases h2
      | cons b l' =>
        rw [Option.some.inj h2.1]; simp
    · exact List.mem_cons_of_mem _ (nxC_mem h.2 i q y hy)
/-- the chain with one entry more -/
theorem chn_add {M : xM} {n last cnt a x : Nat} {P : List Nat} {o : Option Nat} {w : List Nat} (hl : ∀ i ∈ P ++ [last], i < cnt ∧ nd i ≠ n) (hn : (P ++ [last]).Nodup) (hi : ∀ i ∈ P ++ [last], ∀ j ∈ P ++ [last], nd i = nd j → i = j) (h : chn M nd ka vb nm o (P ++ [last])) : chn (xu (xu M n (ob 21 [.int (hsN w), .ref a, .ref x, .null])) (nd last) (ob 21 [.int (hsN (nm last)), .ref (ka last), .ref (vb last), .ref n])) (va_up nd cnt n) (va_up ka cnt a) (va_up vb cnt x) (va_up nm cnt w) o (P ++ [last] ++ [cnt]) := by
  obtain ⟨nx, e1, e2, e3⟩ := chn_fam hn h
  have nc : ∀ i ∈ P ++ [last], i ≠ cnt := fun i hi e => by have := (hl i hi).1; omega
  have ml : last ∈ P ++ [last] := by simp
  have f := nxC_snoc hn (fun q => nc cnt q rfl) e2
  obtain ⟨hh, mh, eh⟩ := hdS P last
  rw [eh] at f e1
  have eo : o = (some hh).map (va_up nd cnt n) := by
    rw [e1]
    show some (nd hh) = some (va_up nd cnt n hh)
    rw [va_up_ne _ _ (nc hh mh)]
  rw [eo]
  refine fam_chn f (fun i hi' => ?_)
  rcases List.mem_append.mp hi' with q | q
  · have ic := nc i q
    rw [va_up_ne nd _ ic]
    by_cases z : i = last
    · subst z
      rw [xu_same]
      simp only [n21, va_up_self, va_up_ne _ _ ic, oN_s]
    · rw [xu_ne _ _ (fun e => z (hi i q last ml e)), xu_ne _ _ (hl i q).2, e3 i q]
      simp only [n21, va_up_ne _ _ ic, va_up_ne _ _ z]
      rw [oN_cg (nd := nd) (nd' := va_up nd cnt n) (fun y hy => va_up_ne _ _ (nc y (nxC_mem e2 i q y hy)))]
  · have ic := List.mem_singleton.mp q
    subst ic
    have z : i ≠ last := fun e => nc last ml e.symm
    have z2 : n ≠ nd last := fun e => (hl last ml).2 e.symm
    rw [va_up_self, xu_ne _ _ z2, xu_same]
    simp only [n21, va_up_self, va_up_ne _ _ z, oN_n]
end PV
theorem chn_last {M : xM} {nd ka vb : Nat → Nat} {nm : Nat → List Nat} {last : Nat} : ∀ {P : List Nat} {o : Option Nat}, chn M nd ka vb nm o (P ++ [last]) → M (nd last) = some (ob 21 [.int (hsN (nm last)), .ref (ka last), .ref (vb last), .null])
  | [], o, h => by
    obtain ⟨-, nx, h2, h3⟩ := h
    have e : nx = none := h3
    rw [h2, e]; rfl
  | a :: P, o, h => by
    obtain ⟨-, nx, -, h3⟩ := h
    exact chn_last h3
/-- a bin has become a tree -/
theorem body_tree {g : xG} {σ σ' : xH} {F : xM} {T : Nat → Nat} {t m c sz tb r : Nat} {nm : Nat → List Nat} {w : List Nat} {nd ka vb nd' : Nat → Nat} {row : Nat → Option Nat} {mc : Int32} {lf : UInt32} {lf' rt pa nx pv : Nat → Option Nat} {rd : Nat → Int32} {tt : xT} {k s : Nat} (hw : xWF g σ)
    (h1 : σ.1 m = some (ob 11 [.null, .null, .ref tb, .null, .int (nI sz), .int mc, .int (nI (64 / 4 * 3)), .float lf])) (h2 : g0 g ≤ tb) (h3 : T tb = t) (h4 : σ.1 tb = some (aq 6 64 row)) (h6 : mEnt g F T t c nm nd ka vb) (h7 : mBin σ.1 64 c nm nd ka vb row) (hT : ∀ z, σ.2.1 ≤ z → T z = t) (h9 : 9 ≤ (binL 64 c nm (bix 64 (hsN w))).length)
    (k0 : ∀ i ∈ binL 64 c nm (bix 64 (hsN w)), σ.2.1 ≤ nd' i) (k1 : famL g σ' (binL 64 c nm (bix 64 (hsN w))) nd' (tnE nd' ka vb nm lf' rt pa nx pv rd)) (k2 : tRt tt = some r) (k3 : (tEs tt).Perm (binL 64 c nm (bix 64 (hsN w)))) (k4 : sT nm tt) (k5 : tre lf' rt pa tt none) (k6 : nx r ≠ none) (k7 : lkL (binL 64 c nm (bix 64 (hsN w))) nx pv) (k8 : ∀ i ∈ binL 64 c nm (bix 64 (hsN w)), rd i = 0 ∨ rd i = 1) (k9 : σ'.1 tb = some (aq 6 64 (va_up row (bix 64 (hsN w)) (some (nd' r))))) (hx : xg σ σ' k s (fun z => z = tb)) : mBody g σ' F T t m c sz nm tb 64 := by
  have lt := mBin_lt hw (Or.inr (Or.inr rfl)) h7
  have dm : m ≠ tb := fun e => by rw [e, h4] at h1; cases h1
  let nF : Nat → Nat := fun i => if bix 64 (hsN (nm i)) = bix 64 (hsN w) then nd' i else nd i
  have inB : ∀ i, i < c → bix 64 (hsN (nm i)) = bix 64 (hsN w) → i ∈ binL 64 c nm (bix 64 (hsN w)) := fun i hi e => by rw [← e]; exact binL_mem hi rfl
  have nFy : ∀ i, bix 64 (hsN (nm i)) = bix 64 (hsN w) → nF i = nd' i := fun i e => if_pos e
  have nFn : ∀ i, bix 64 (hsN (nm i)) ≠ bix 64 (hsN w) → nF i = nd i := fun i e => if_neg e
  have cellO : ∀ i, i < c → nd i ≠ tb := fun i hi e => by
    have hm9 : i ∈ binL 64 c nm (bix 64 (hsN (nm i))) := binL_mem hi rfl
    rcases h7 _ (bix_lt (Or.inr (Or.inr rfl)) _) with q | ⟨q0, q1, a1, a2, a3, a4, a5, a6, a7, a8, q2, q2', q3, q4, q5, q6, q7⟩
    · obtain ⟨nx', z⟩ := chn_at q i hm9
      rw [e, h4] at z; cases z
    · have z := (q7 i hm9).1
      rw [e, h4] at z; cases z
  refine ⟨mc, lf, va_up row (bix 64 (hsN w)) (some (nd' r)), nF, ka, vb, hx.at hw h1 dm, h2, h3, k9, Or.inr (Or.inr rfl), ⟨fun i hi => ?_, fun i j hi hj e => ?_⟩, fun j hj => ?_⟩
  · obtain ⟨z1, z2, z3⟩ := h6.1 i hi
    by_cases q : bix 64 (hsN (nm i)) = bix 64 (hsN w)
    · rw [nFy i q]
      have := k0 i (inB i hi q)
      exact ⟨by have := hw.1; omega, hT _ this, z3⟩
    · rw [nFn i q]
      exact ⟨z1, z2, z3⟩
  · by_cases q : bix 64 (hsN (nm i)) = bix 64 (hsN w)
    · by_cases q' : bix 64 (hsN (nm j)) = bix 64 (hsN w)
      · rw [nFy i q, nFy j q'] at e
        exact k1.1 i (inB i hi q) j (inB j hj q') e
      · rw [nFy i q, nFn j q'] at e
        have := k0 i (inB i hi q)
        have := lt j hj
        omega
    · by_cases q' : bix 64 (hsN (nm j)) = bix 64 (hsN w)
      · rw [nFn i q, nFy j q'] at e
        have := k0 j (inB j hj q')
        have := lt i hi
        omega
      · rw [nFn i q, nFn j q'] at e
        exact h6.2 i j hi hj e
  · by_cases q : j = bix 64 (hsN w)
    · subst q
      rw [va_up_self]
      refine Or.inr ⟨rfl, treB_fun (nd := nd') (ka := ka) (vb := vb) (nm := nm) (fun i hi => ⟨nFy i (binL_lt hi).2, rfl, rfl, rfl⟩) ⟨h9, lf', rt, pa, nx, pv, rd, r, tt, rfl, k2, k3, k4, k5, k6, fun i hi => ⟨(k1.2 i hi).2, k8 i hi, (k7 i hi).1, (k7 i hi).2⟩⟩⟩
    · rw [va_up_ne _ _ q]
      have fu : ∀ i ∈ binL 64 c nm j, nF i = nd i ∧ ka i = ka i ∧ vb i = vb i ∧ nm i = nm i := fun i hi => ⟨nFn i (by rw [(binL_lt hi).2]; exact q), rfl, rfl, rfl⟩
      have kp : ∀ i ∈ binL 64 c nm j, σ'.1 (nd i) = σ.1 (nd i) := fun i hi => hx.2.2.2 _ (lt i (binL_lt hi).1) (cellO i (binL_lt hi).1)
      rcases h7 j hj with z | ⟨z1, z2⟩
      · exact Or.inl (chn_fun fu (chn_keep kp z))
      · exact Or.inr ⟨z1, treB_fun fu (treB_keep kp z2)⟩
