set_option maxRecDepth 40000
set_option maxHeartbeats 2000000
/-! ===== the frozen part of the heap: cells that are written no more (but for a String's hash) ===== -/
def fz (F : xM) (σ : xH) : Prop := ∀ (a : Nat) (e : xE), F a = some e → σ.1 a = some e ∨ ∃ (v : Nat) (h z h' z' : Int32) (w : List Nat) (f : Nat → Int32), e = ob 8 [.ref v, .int 0, .int h, .int z] ∧ σ.1 a = some (ob 8 [.ref v, .int 0, .int h', .int z']) ∧ F v = some (ai 1 w.length f) ∧ rowW w f ∧ okW w ∧ hv w h' z'
/-- F is a part of F' -/
def fle (F F' : xM) : Prop := ∀ (a : Nat) (e : xE), F a = some e → F' a = some e
theorem fle.refl (F : xM) : fle F F := fun _ _ h => h
theorem fle.trans {F F' F'' : xM} (h : fle F F') (h' : fle F' F'') : fle F F'' := fun a e q => h' a e (h a e q)
theorem fle_xu {F : xM} {a : Nat} {e : xE} (h : F a = none) : fle F (xu F a e) := fun b e' q => by
  have : b ≠ a := fun z => by rw [z, h] at q; cases q
  rw [xu_ne _ _ this]; exact q
theorem fz.o8 {F : xM} {σ : xH} (hF : fz F σ) {a c : Nat} {fs : List Value} (h : F a = some (ob c fs)) (hc : c ≠ 8) : σ.1 a = some (ob c fs) := by
  rcases hF a _ h with q | ⟨v, h0, z, h', z', w, f, q, -⟩
  · exact q
  · cases q; exact (hc rfl).elim
theorem fz.ar {F : xM} {σ : xH} (hF : fz F σ) {a : Nat} {q : Nat × vp_A} (h : F a = some (.inl q)) : σ.1 a = some (.inl q) := by
  rcases hF a _ h with q | ⟨v, h0, z, h', z', w, f, q, -⟩
  · exact q
  · cases q
theorem row_eq {w w' : List Nat} {f f' : Nat → Int32} {M : xM} {v : Nat} (h : M v = some (ai 1 w.length f)) (h' : M v = some (ai 1 w'.length f')) (r : rowW w f) (r' : rowW w' f') (o : okW w) (o' : okW w') : w = w' := by
  rw [h] at h'
  have e : w.length = w'.length ∧ f = f' := by
    simp only [Option.some.injEq, Sum.inl.injEq, Prod.mk.injEq, true_and] at h'
    exact h'
  refine tq_ext e.1 (fun k hk => ?_)
  have a1 := r k hk
  have a2 := r' k (by omega)
  rw [e.2, a2] at a1
  exact ((sb_eq (o'.1 k) (o.1 k)).mp a1).symm
theorem fz.str {F : xM} {σ : xH} (hF : fz F σ) {a : Nat} {w : List Nat} (h : isS F a w) : isS σ.1 a w := by
  obtain ⟨v, h0, z, f, h1, h2, h3, h4, h5⟩ := h
  have hv2 := hF.ar h2
  rcases hF a _ h1 with q | ⟨v', h0', z', h', z'', w', f', q, q1, q2, q3, q4, q5⟩
  · exact ⟨v, h0, z, f, q, hv2, h3, h4, h5⟩
  · cases q
    have := row_eq h2 q2 h3 q3 h4 q4
    subst this
    exact ⟨v, h', z'', f, q1, hv2, h3, h4, q5⟩
theorem fz.ex {F : xM} {σ : xH} (hF : fz F σ) {a : Nat} {e : xE} (h : F a = some e) : ∃ e', σ.1 a = some e' := by
  rcases hF a _ h with q | ⟨v', h0', z', h', z'', w', f', q, q1, -⟩
  · exact ⟨_, q⟩
  · exact ⟨_, q1⟩
theorem fz.lt {g : xG} {F : xM} {σ : xH} (hF : fz F σ) (hw : xWF g σ) {a : Nat} {e : xE} (h : F a = some e) : a < σ.2.1 := by
  obtain ⟨e', q⟩ := hF.ex h
  exact hw.2.1 _ _ q
/-- what is not written stays frozen -/
theorem fz.up {F : xM} {σ σ' : xH} (hF : fz F σ) (hk : ∀ (a : Nat) (e : xE), F a = some e → σ'.1 a = σ.1 a) : fz F σ' := fun a e h => by
  rcases hF a e h with q | ⟨v', h0', z', h', z'', w', f', q, q1, q2⟩
  · exact Or.inl ((hk a e h).trans q)
  · exact Or.inr ⟨v', h0', z', h', z'', w', f', q, (hk a e h).trans q1, q2⟩
theorem fz.kx {g : xG} {F : xM} {σ σ' : xH} {c s : Nat} {P : Nat → Prop} (hF : fz F σ) (hw : xWF g σ) (hx : xg σ σ' c s P) (hP : ∀ (a : Nat) (e : xE), F a = some e → ¬ P a) : fz F σ' :=
  hF.up (fun a e h => hx.2.2.2 a (hF.lt hw h) (hP a e h))
/-- one more cell is frozen -/
theorem fz.add {F : xM} {σ : xH} (hF : fz F σ) {a : Nat} {e : xE} (h : σ.1 a = some e) : fz (xu F a e) σ := fun b e' hb => by
  by_cases hba : b = a
  · subst hba
    rw [xu_same] at hb
    cases hb
    exact Or.inl h
  · rw [xu_ne _ _ hba] at hb
    rcases hF b e' hb with q | ⟨v, h0', z', h', z'', w', f', q, q1, q2, q3⟩
    · exact Or.inl q
    · refine Or.inr ⟨v, h0', z', h', z'', w', f', q, q1, ?_, q3⟩
      by_cases hva : v = a
      · subst hva
        have := hF.ar q2
        rw [h] at this
        cases this
        rw [xu_same]
      · rw [xu_ne _ _ hva]; exact q2
theorem isS_mono {F F' : xM} {a : Nat} {w : List Nat} (h : isS F a w) (hle : fle F F') : isS F' a w := by
  obtain ⟨v, h0, z, f, h1, h2, h3⟩ := h
  exact ⟨v, h0, z, f, hle _ _ h1, hle _ _ h2, h3⟩
/-- asking for a frozen String's hash keeps all frozen -/
theorem fz.hash {F : xM} {σ σ' : xH} (hF : fz F σ) {a : Nat} {w : List Nat} (h : isS F a w) (hh : hup σ σ' a w) : fz F σ' := fun b e hb => by
  obtain ⟨v', h0', z', h1', z1', e1, e2, e3, e4, e5⟩ := hh
  by_cases hba : b = a
  · subst hba
    obtain ⟨v, h0, z, f, h1, h2, h3, h4, h5⟩ := h
    rw [h1] at hb
    cases hb
    have hvv : v' = v := by
      rcases hF b _ h1 with q | ⟨v9, h09, z9, h9', z9', w9, f9, q, q1, -⟩
      · rw [e1] at q
        cases q; rfl
      · cases q
        rw [e1] at q1
        cases q1; rfl
    subst hvv
    exact Or.inr ⟨_, h0, z, h1', z1', w, f, rfl, e2, h2, h3, h4, e3⟩
  · rcases hF b e hb with q | ⟨v', h0', z', h9, z'', w', f', q, q1, q2⟩
    · exact Or.inl ((e5 b hba).trans q)
    · exact Or.inr ⟨v', h0', z', h9, z'', w', f', q, (e5 b hba).trans q1, q2⟩
/-- what every σ behind a call has -/
theorem Ctr.wf {g : xG} {d : Nat} {I : xI} {av : List Value} {σ : xH} {K : xR → xH → Prop} (h : Ctr g d I av σ (fun r σ' => xWF g σ' → K r σ')) : Ctr g d I av σ K := by
  intro hg p e ha hc hk s m args below hf happ hP hT
  obtain ⟨n, o, h1, h2, h3, σ', L, a1, a2, a3, a4, a5⟩ := h hg p e ha hc hk s m args below hf happ hP hT
  refine ⟨n, o, h1, h2, h3, σ', L, a1, a2, a3, a4, ?_⟩
  rcases a5 with ⟨v, e1, e2⟩ | ⟨q, c9, fs, e1, e2, e3⟩
  · exact Or.inl ⟨v, e1, e2 a1.wf⟩
  · exact Or.inr ⟨q, c9, fs, e1, e2, e3 a1.wf⟩
theorem Ctr.wf0 {g : xG} {d : Nat} {I : xI} {av : List Value} {σ : xH} {K : xR → xH → Prop} (h : xWF g σ → Ctr g d I av σ K) : Ctr g d I av σ K := by
  intro hg p e ha hc hk s m args below hf happ hP hT
  exact h hP.2.1.wf hg p e ha hc hk s m args below hf happ hP hT
/-- F' is F and new cells, from n on -/
def fex (F F' : xM) (n : Nat) : Prop := fle F F' ∧ ∀ z, z < n → F' z = F z
theorem fex.refl (F : xM) (n : Nat) : fex F F n := ⟨fle.refl F, fun _ _ => rfl⟩
theorem fex.trans {F F' F'' : xM} {n m : Nat} (h : fex F F' n) (h' : fex F' F'' m) (hn : n ≤ m) : fex F F'' n := ⟨h.1.trans h'.1, fun z hz => by rw [h'.2 z (by omega), h.2 z hz]⟩
theorem fex.less {F F' : xM} {n m : Nat} (h : fex F F' n) (hn : m ≤ n) : fex F F' m := ⟨h.1, fun z hz => h.2 z (by omega)⟩
theorem fz.nn {g : xG} {F : xM} {σ : xH} (hF : fz F σ) (hw : xWF g σ) {z : Nat} (hz : σ.2.1 ≤ z) : F z = none := by
  cases e : F z with
  | none => rfl
  | some q => have := hF.lt hw e; omega
/-- a new cell is frozen -/
theorem fex_add {F : xM} {z n : Nat} {e : xE} (h : F z = none) (hz : n ≤ z) : fex F (xu F z e) n := ⟨fle_xu h, fun y hy => by rw [xu_ne _ _ (by omega)]⟩
/-- a call that writes own cells outside of F -/
theorem fz.call {g : xG} {F : xM} {σ σ' : xH} {c s : Nat} {P : Nat → Prop} (hF : fz F σ) (hw : xWF g σ) (hw' : xWF g σ') (hx : xg σ σ' c s P) (hP : ∀ z, g0 g ≤ z → P z → F z = none) : fz F σ' := by
  refine hF.up (fun a e h => ?_)
  by_cases ha : a < g0 g
  · rw [hw'.2.2.1 a ha, hw.2.2.1 a ha]
  · refine hx.2.2.2 a (hF.lt hw h) (fun q => ?_)
    rw [hP a (by omega) q] at h
    cases h
/-! tags: T z = 0: frozen, or nobody's; else who may write the cell z -/
theorem xg.own {g : xG} {σ σ' : xH} {c s : Nat} {P Q : Nat → Prop} (h : xg σ σ' c s P) (hw : xWF g σ) (hw' : xWF g σ') (hQ : ∀ z, g0 g ≤ z → P z → Q z) : xg σ σ' c s Q :=
  ⟨h.1, h.2.1, h.2.2.1, fun z hz hq => by
    by_cases ha : z < g0 g
    · rw [hw'.2.2.1 z ha, hw.2.2.1 z ha]
    · exact h.2.2.2 z hz (fun q => hq (hQ z (by omega) q))⟩
def fT (F : xM) (T : Nat → Nat) : Prop := ∀ (z : Nat) (e : xE), F z = some e → T z = 0
def tex (T T' : Nat → Nat) (n : Nat) : Prop := ∀ z, z < n → T' z = T z
theorem tex.refl (T : Nat → Nat) (n : Nat) : tex T T n := fun _ _ => rfl
theorem tex.trans {T T' T'' : Nat → Nat} {n m : Nat} (h : tex T T' n) (h' : tex T' T'' m) (hn : n ≤ m) : tex T T'' n := fun z hz => by rw [h' z (by omega), h z hz]
theorem tex.less {T T' : Nat → Nat} {n m : Nat} (h : tex T T' n) (hn : m ≤ n) : tex T T' m := fun z hz => h z (by omega)
/-- one new cell's tag -/
def tup (T : Nat → Nat) (n t : Nat) : Nat → Nat := fun z => if z = n then t else T z
theorem tup_same (T : Nat → Nat) (n t : Nat) : tup T n t n = t := if_pos rfl
theorem tup_ne {T : Nat → Nat} {n t z : Nat} (h : z ≠ n) : tup T n t z = T z := if_neg h
theorem tup_tex {T : Nat → Nat} {n m t : Nat} (h : m ≤ n) : tex T (tup T n t) m := fun z hz => tup_ne (by omega)
theorem fz.tag {g : xG} {F : xM} {T : Nat → Nat} {S : Nat → Prop} {σ σ' : xH} {c s : Nat} (hF : fz F σ) (hw : xWF g σ) (hT : fT F T) (hx : xg σ σ' c s (fun z => S (T z))) (h0 : ¬ S 0) : fz F σ' :=
  hF.kx hw hx (fun a e h q => h0 (by rw [hT a e h] at q; exact q))
theorem fT.tu {g : xG} {F : xM} {T : Nat → Nat} {σ : xH} (h : fT F T) (hF : fz F σ) (hw : xWF g σ) {n t : Nat} (hn : σ.2.1 ≤ n) : fT F (tup T n t) := fun z e q => by
  rw [tup_ne (by have := hF.lt hw q; omega)]
  exact h z e q
theorem xg.tx {σ σ1 σ2 : xH} {T T' : Nat → Nat} {S : Nat → Prop} {c s c' s' : Nat} (h : xg σ σ1 c s (fun z => S (T z))) (h' : xg σ1 σ2 c' s' (fun z => S (T' z))) (ht : tex T T' σ.2.1) : xg σ σ2 (c + c') (s + s') (fun z => S (T z)) :=
  ⟨by have := h.1; have := h'.1; omega, by have := h.2.1; have := h'.2.1; omega, by have := h.2.2.1; have := h'.2.2.1; omega, fun z hz hp => by rw [h'.2.2.2 z (by have := h.1; omega) (by show ¬ S (T' z); rw [ht z hz]; exact hp), h.2.2.2 z hz hp]⟩
/-- the list at a with its row, both of the tag t -/
def isLT (g : xG) (σ : xH) (T : Nat → Nat) (t a n : Nat) (f : Nat → Option Nat) : Prop := ∃ b, isL g σ a b n f ∧ T a = t ∧ (g0 g ≤ b → T b = t)
theorem isL.o3 {g : xG} {σ : xH} {a b n : Nat} {f : Nat → Option Nat} (h : isL g σ a b n f) : ∃ mc, σ.1 a = some (ob 3 [.int mc, .ref b, .int (nI n)]) := by
  obtain ⟨ha, mc, cap, e, h1, -⟩ := h
  exact ⟨mc, h1⟩
theorem isLT.o3 {g : xG} {σ : xH} {T : Nat → Nat} {t a n : Nat} {f : Nat → Option Nat} (h : isLT g σ T t a n f) : ∃ v w, σ.1 a = some (ob 3 [v, w, .int (nI n)]) := by
  obtain ⟨b, h1, -⟩ := h
  obtain ⟨mc, h2⟩ := h1.o3
  exact ⟨_, _, h2⟩
theorem isLT.tagx {g : xG} {σ σ' : xH} {T T' : Nat → Nat} {S : Nat → Prop} {t a n c s : Nat} {f : Nat → Option Nat} (h : isLT g σ T t a n f) (hw : xWF g σ) (hw' : xWF g σ') (hx : xg σ σ' c s (fun z => S (T z))) (hS : ¬ S t) (ht : tex T T' σ.2.1) : isLT g σ' T' t a n f := by
  obtain ⟨b, h1, h2, h3⟩ := h
  have h1' := h1
  obtain ⟨ha, mc, cap, e, q1, q2, q3⟩ := h1'
  have la := hw.2.1 _ _ q1
  have lb := hw.2.1 _ _ q2
  refine ⟨b, isL_keep h1 (hx.2.2.2 a la (by show ¬ S (T a); rw [h2]; exact hS)) ?_, by rw [ht a la]; exact h2, fun q => by rw [ht b lb]; exact h3 q⟩
  by_cases hb : b < g0 g
  · rw [hw'.2.2.1 b hb, hw.2.2.1 b hb]
  · exact hx.2.2.2 b lb (by show ¬ S (T b); rw [h3 (by omega)]; exact hS)
theorem okE_up {σ σ' : xH} {o : Option Nat} {F : xM} (hF' : fz F σ') (h : ∃ x, o = some x ∧ ((∃ c fs, F x = some (ob c fs) ∧ ac 3 c = true ∧ c ≠ 8) ∨ ∃ n f, F x = some (ai 0 n f))) : okE σ' o := by
  obtain ⟨x, rfl, h | h⟩ := h
  · obtain ⟨c, fs, h1, h2, h3⟩ := h
    exact ⟨x, rfl, Or.inl ⟨c, fs, hF'.o8 h1 h3, h2⟩⟩
  · obtain ⟨n, f, h⟩ := h
    exact ⟨x, rfl, Or.inr ⟨n, f, hF'.ar h⟩⟩
theorem ct_addT {g : xG} {d : Nat} {σ : xH} {K : xR → xH → Prop} {F : xM} {T : Nat → Nat} (hd : 6 ≤ d) {a n x t : Nat} {f : Nat → Option Nat} (hl : isLT g σ T t a n f) (ht : t ≠ 0) (hF : fz F σ) (hT : fT F T) (hn : n < 40000) (hE : ∀ k, k < n → okE σ (f k)) (hx : okE σ (some x)) (r1 : σ.2.1 + 1 ≤ gN g) (r2 : σ.2.2 + (2 * n + 11) ≤ gW g)
    (hK : ∀ (σ' : xH) (T' : Nat → Nat), tex T T' σ.2.1 → isLT g σ' T' t a (n + 1) (va_up f n (some x)) → fz F σ' → fT F T' → xg σ σ' 1 (2 * n + 11) (fun z => T z = t) → xWF g σ → xWF g σ' → K (.inl (some (.int 1))) σ') : Ctr g d iJ2_add [.ref a, .ref x] σ K := by
  obtain ⟨b, h1, h2, h3⟩ := hl
  refine Ctr.wf (ct_J2_add hd h1 hn hE hx r1 r2 (fun σ' b' p1 p2 p3 hw hw' => ?_))
  have p4 : xg σ σ' 1 (2 * n + 11) (fun z => T z = t) := p2.own hw hw' (fun z hz q => by
    rcases q with q | q
    · rw [q]; exact h2
    · rw [q]; exact h3 (by rw [← q]; exact hz))
  have fz' : fz F σ' := hF.tag (S := fun k => k = t) hw hT p4 (fun q => ht q.symm)
  rcases p3 with p3 | p3
  · subst p3
    exact hK σ' T (tex.refl _ _) ⟨_, p1, h2, h3⟩ fz' hT p4 hw hw'
  · subst p3
    obtain ⟨mc, q1⟩ := h1.o3
    exact hK σ' (tup T σ.2.1 t) (tup_tex (Nat.le_refl _)) ⟨_, p1, by rw [tup_ne (hw.nl q1)]; exact h2, fun _ => tup_same _ _ _⟩ fz' (hT.tu hF hw (Nat.le_refl _)) p4 hw hw'
/-- all new cells are nobody's -/
def tcut (T : Nat → Nat) (n : Nat) : Nat → Nat := fun z => if z < n then T z else 0
theorem tcut_tex (T : Nat → Nat) (n : Nat) : tex T (tcut T n) n := fun z hz => if_pos hz
theorem fT.cut {F F' : xM} {T : Nat → Nat} {n : Nat} (h : fT F T) (hx : fex F F' n) : fT F' (tcut T n) := fun z e q => by
  unfold tcut
  split
  · next hz => exact h z e (by rw [← hx.2 z hz]; exact q)
  · rfl
theorem isLT.tx {g : xG} {σ : xH} {T T' : Nat → Nat} {t a n : Nat} {f : Nat → Option Nat} (h : isLT g σ T t a n f) (hw : xWF g σ) (ht : tex T T' σ.2.1) : isLT g σ T' t a n f := by
  obtain ⟨b, h1, h2, h3⟩ := h
  have h1' := h1
  obtain ⟨ha, mc, cap, e, q1, q2, q3⟩ := h1'
  exact ⟨b, h1, by rw [ht a (hw.2.1 _ _ q1)]; exact h2, fun q => by rw [ht b (hw.2.1 _ _ q2)]; exact h3 q⟩
