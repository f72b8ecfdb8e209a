set_option maxRecDepth 40000
set_option maxHeartbeats 2000000
/-! ===== trees over entries: pure ===== -/
/-- the way up from a place in a tree: (it hangs on the left, the entry above, the other subtree) .. -/
abbrev xZ : Type := List (Bool × Nat × xT)
def zPa : xZ → Option Nat
  | [] => none
  | (_, i, _) :: _ => some i
def zPlug : xZ → xT → xT
  | [], t => t
  | (true, i, s) :: c, t => zPlug c (.branch i t s)
  | (false, i, s) :: c, t => zPlug c (.branch i s t)
def zOk (lf rt pa : Nat → Option Nat) : xZ → Option Nat → Prop
  | [], _ => True
  | (true, i, s) :: c, o => lf i = o ∧ rt i = tRt s ∧ pa i = zPa c ∧ tre lf rt pa s (some i) ∧ zOk lf rt pa c (some i)
  | (false, i, s) :: c, o => lf i = tRt s ∧ rt i = o ∧ pa i = zPa c ∧ tre lf rt pa s (some i) ∧ zOk lf rt pa c (some i)
/-- what lies left, right of the place -/
def zL : xZ → List Nat
  | [] => []
  | (true, _, _) :: c => zL c
  | (false, i, s) :: c => zL c ++ (tEs s ++ [i])
def zR : xZ → List Nat
  | [] => []
  | (true, i, s) :: c => (i :: tEs s) ++ zR c
  | (false, _, _) :: c => zR c
theorem plug_in : ∀ (c : xZ) (t : xT), tEs (zPlug c t) = zL c ++ (tEs t ++ zR c)
  | [], t => by simp [zPlug, zL, zR]
  | (true, i, s) :: c, t => by rw [zPlug, plug_in c, tEs, zL, zR]; simp [List.append_assoc]
  | (false, i, s) :: c, t => by rw [zPlug, plug_in c, tEs, zL, zR]; simp [List.append_assoc]
theorem plug_tre {lf rt pa : Nat → Option Nat} : ∀ (c : xZ) (t : xT), tre lf rt pa (zPlug c t) none ↔ zOk lf rt pa c (tRt t) ∧ tre lf rt pa t (zPa c)
  | [], t => by simp [zPlug, zOk, zPa]
  | (true, i, s) :: c, t => by
    rw [zPlug, plug_tre c, tRt, tre, zOk, zPa]
    constructor
    · rintro ⟨h1, h2, h3, h4, h5, h6⟩; exact ⟨⟨h3, h4, h2, h6, h1⟩, h5⟩
    · rintro ⟨⟨h3, h4, h2, h6, h1⟩, h5⟩; exact ⟨h1, h2, h3, h4, h5, h6⟩
  | (false, i, s) :: c, t => by
    rw [zPlug, plug_tre c, tRt, tre, zOk, zPa]
    constructor
    · rintro ⟨h1, h2, h3, h4, h5, h6⟩; exact ⟨⟨h3, h4, h2, h5, h1⟩, h6⟩
    · rintro ⟨⟨h3, h4, h2, h5, h1⟩, h6⟩; exact ⟨h1, h2, h3, h4, h5, h6⟩
theorem plug_rt : ∀ (c : xZ) (t t' : xT), c ≠ [] → tRt (zPlug c t) = tRt (zPlug c t')
  | [], t, t', h => absurd rfl h
  | (true, i, s) :: [], t, t', _ => rfl
  | (false, i, s) :: [], t, t', _ => rfl
  | (true, i, s) :: q :: c, t, t', _ => plug_rt (q :: c) _ _ (by simp)
  | (false, i, s) :: q :: c, t, t', _ => plug_rt (q :: c) _ _ (by simp)
/-- every entry of a tree is the root of a part of it -/
theorem plug_at : ∀ (t : xT) {p : Nat}, p ∈ tEs t → ∃ (c : xZ) (l r : xT), t = zPlug c (.branch p l r)
  | .leaf _, p, h => by cases h
  | .branch i l r, p, h => by
    have app : ∀ (c c' : xZ) (s : xT), zPlug c' (zPlug c s) = zPlug (c ++ c') s := by
      intro c
      induction c with
      | nil => intro c' s; rfl
      | cons q c ih =>
        obtain ⟨b, j, u⟩ := q
        intro c' s
        cases b
        · exact ih _ _
        · exact ih _ _
    rw [tEs, List.mem_append, List.mem_cons] at h
    rcases h with h | h | h
    · obtain ⟨c, a, b, e⟩ := plug_at l h
      exact ⟨c ++ [(true, i, r)], a, b, by rw [← app, ← e]; rfl⟩
    · subst h; exact ⟨[], l, r, rfl⟩
    · obtain ⟨c, a, b, e⟩ := plug_at r h
      exact ⟨c ++ [(false, i, l)], a, b, by rw [← app, ← e]; rfl⟩
section TR
variable {lf rt pa lf' rt' pa' : Nat → Option Nat}
theorem tre_cg : ∀ {t : xT} {p : Option Nat}, (∀ i ∈ tEs t, lf' i = lf i ∧ rt' i = rt i ∧ pa' i = pa i) → tre lf rt pa t p → tre lf' rt' pa' t p
  | .leaf _, p, _, _ => trivial
  | .branch i l r, p, h, ⟨h1, h2, h3, h4, h5⟩ => by
    have hi := h i (by simp [tEs])
    exact ⟨hi.2.2.trans h1, hi.1.trans h2, hi.2.1.trans h3, tre_cg (fun j hj => h j (by simp [tEs, hj])) h4, tre_cg (fun j hj => h j (by simp [tEs, hj])) h5⟩
/-- .. hung up elsewhere -/
theorem tre_hang {t : xT} {p q : Option Nat} (hn : (tEs t).Nodup) (h : ∀ i ∈ tEs t, lf' i = lf i ∧ rt' i = rt i) (h1 : ∀ i ∈ tEs t, tRt t ≠ some i → pa' i = pa i) (h2 : ∀ i, tRt t = some i → pa' i = q) (ht : tre lf rt pa t p) : tre lf' rt' pa' t q := by
  match t, ht, hn, h, h1, h2 with
  | .leaf _, _, _, _, _, _ => exact trivial
  | .branch i l r, ⟨a1, a2, a3, a4, a5⟩, hn, h, h1, h2 =>
    have hi := h i (by simp [tEs])
    have hn' : (tEs l ++ i :: tEs r).Nodup := hn
    rw [List.nodup_append] at hn'
    obtain ⟨n1, n2, n3⟩ := hn'
    rw [List.nodup_cons] at n2
    refine ⟨h2 i rfl, hi.1.trans a2, hi.2.trans a3, tre_cg (fun j hj => ?_) a4, tre_cg (fun j hj => ?_) a5⟩
    · have := h j (by simp [tEs, hj])
      refine ⟨this.1, this.2, h1 j (by simp [tEs, hj]) (fun e => ?_)⟩
      exact n3 j hj j (by rw [← (Option.some.inj e : i = j)]; simp) rfl
    · have := h j (by simp [tEs, hj])
      refine ⟨this.1, this.2, h1 j (by simp [tEs, hj]) (fun e => ?_)⟩
      exact n2.1 (by rw [(Option.some.inj e : i = j)]; exact hj)
theorem zOk_cg : ∀ {c : xZ} {o : Option Nat}, (∀ i, i ∈ zL c ∨ i ∈ zR c → lf' i = lf i ∧ rt' i = rt i ∧ pa' i = pa i) → zOk lf rt pa c o → zOk lf' rt' pa' c o
  | [], _, _, _ => trivial
  | (true, i, s) :: c, o, h, ⟨h1, h2, h3, h4, h5⟩ => by
    have hi := h i (by simp [zR])
    exact ⟨hi.1.trans h1, hi.2.1.trans h2, hi.2.2.trans h3, tre_cg (fun j hj => h j (by simp [zR, hj])) h4, zOk_cg (fun j hj => h j (by simp [zL, zR]; rcases hj with hj | hj <;> simp [hj])) h5⟩
  | (false, i, s) :: c, o, h, ⟨h1, h2, h3, h4, h5⟩ => by
    have hi := h i (by simp [zL])
    exact ⟨hi.1.trans h1, hi.2.1.trans h2, hi.2.2.trans h3, tre_cg (fun j hj => h j (by simp [zL, hj])) h4, zOk_cg (fun j hj => h j (by simp [zL, zR]; rcases hj with hj | hj <;> simp [hj])) h5⟩
/-- .. with another tree hung below -/
theorem zOk_hang {c : xZ} {o o' : Option Nat} (hn : (zL c ++ zR c).Nodup) (hp : ∀ i, i ∈ zL c ∨ i ∈ zR c → pa' i = pa i) (h1 : ∀ i, i ∈ zL c ∨ i ∈ zR c → zPa c ≠ some i → lf' i = lf i ∧ rt' i = rt i) (h2 : ∀ b i s c', c = (b, i, s) :: c' → if b then lf' i = o' ∧ rt' i = rt i else lf' i = lf i ∧ rt' i = o') (h : zOk lf rt pa c o) : zOk lf' rt' pa' c o' := by
  match c, h, hn, hp, h1, h2 with
  | [], _, _, _, _, _ => exact trivial
  | (true, i, s) :: c, ⟨a1, a2, a3, a4, a5⟩, hn, hp, h1, h2 =>
    have h2' : lf' i = o' ∧ rt' i = rt i := h2 true i s c rfl
    have hn' : (zL c ++ ((i :: tEs s) ++ zR c)).Nodup := hn
    rw [List.nodup_append] at hn'
    obtain ⟨n1, n2, n3⟩ := hn'
    rw [List.nodup_append, List.nodup_cons] at n2
    obtain ⟨⟨n4, n5⟩, n6, n7⟩ := n2
    have ne : ∀ j, j ∈ tEs s ∨ j ∈ zL c ∨ j ∈ zR c → zPa ((true, i, s) :: c) ≠ some j := by
      intro j hj e
      cases e
      rcases hj with hj | hj | hj
      · exact n4 hj
      · exact n3 i hj i (by simp) rfl
      · exact n7 i (by simp) i hj rfl
    refine ⟨h2'.1, h2'.2.trans a2, (hp i (by simp [zR])).trans a3, tre_cg (fun j hj => ?_) a4, zOk_cg (fun j hj => ?_) a5⟩
    · have z : j ∈ zL ((true, i, s) :: c) ∨ j ∈ zR ((true, i, s) :: c) := by simp [zR, hj]
      exact ⟨(h1 j z (ne j (Or.inl hj))).1, (h1 j z (ne j (Or.inl hj))).2, hp j z⟩
    · have z : j ∈ zL ((true, i, s) :: c) ∨ j ∈ zR ((true, i, s) :: c) := by simp [zL, zR]; rcases hj with hj | hj <;> simp [hj]
      exact ⟨(h1 j z (ne j (Or.inr hj))).1, (h1 j z (ne j (Or.inr hj))).2, hp j z⟩
  | (false, i, s) :: c, ⟨a1, a2, a3, a4, a5⟩, hn, hp, h1, h2 =>
    have h2' : lf' i = lf i ∧ rt' i = o' := h2 false i s c rfl
    have hn' : ((zL c ++ (tEs s ++ [i])) ++ zR c).Nodup := hn
    rw [List.nodup_append, List.nodup_append, List.nodup_append] at hn'
    obtain ⟨⟨n1, ⟨n2, n8, n9⟩, n3⟩, n6, n7⟩ := hn'
    have ne : ∀ j, j ∈ tEs s ∨ j ∈ zL c ∨ j ∈ zR c → zPa ((false, i, s) :: c) ≠ some j := by
      intro j hj e
      cases e
      rcases hj with hj | hj | hj
      · exact n9 i hj i (by simp) rfl
      · exact n3 i hj i (by simp) rfl
      · exact n7 i (by simp) i hj rfl
    refine ⟨h2'.1.trans a1, h2'.2, (hp i (by simp [zL])).trans a3, tre_cg (fun j hj => ?_) a4, zOk_cg (fun j hj => ?_) a5⟩
    · have z : j ∈ zL ((false, i, s) :: c) ∨ j ∈ zR ((false, i, s) :: c) := by simp [zL, hj]
      exact ⟨(h1 j z (ne j (Or.inl hj))).1, (h1 j z (ne j (Or.inl hj))).2, hp j z⟩
    · have z : j ∈ zL ((false, i, s) :: c) ∨ j ∈ zR ((false, i, s) :: c) := by simp [zL, zR]; rcases hj with hj | hj <;> simp [hj]
      exact ⟨(h1 j z (ne j (Or.inr hj))).1, (h1 j z (ne j (Or.inr hj))).2, hp j z⟩
end TR
theorem tRt_in {t : xT} {i : Nat} (h : tRt t = some i) : i ∈ tEs t := by
  match t, h with
  | .branch j l r, h => cases h; simp [tEs]
theorem zPa_in {c : xZ} {i : Nat} (h : zPa c = some i) : i ∈ zL c ∨ i ∈ zR c := by
  match c, h with
  | (true, j, s) :: c, h => cases h; simp [zR]
  | (false, j, s) :: c, h => cases h; simp [zL]
/-- the link above a place is set to o -/
def lfZ (c : xZ) (lf : Nat → Option Nat) (o : Option Nat) : Nat → Option Nat := match c with
  | (true, i, _) :: _ => va_up lf i o
  | _ => lf
def rtZ (c : xZ) (rt : Nat → Option Nat) (o : Option Nat) : Nat → Option Nat := match c with
  | (false, i, _) :: _ => va_up rt i o
  | _ => rt
def paT (t : xT) (pa : Nat → Option Nat) (o : Option Nat) : Nat → Option Nat := match t with
  | .branch i _ _ => va_up pa i o
  | .leaf _ => pa
theorem lfZ_ne {c : xZ} {lf : Nat → Option Nat} {o : Option Nat} {i : Nat} (h : zPa c ≠ some i) : lfZ c lf o i = lf i := by
  match c, h with
  | [], _ => rfl
  | (true, j, s) :: c, h => exact va_up_ne _ _ (fun e => h (by rw [e]; rfl))
  | (false, j, s) :: c, _ => rfl
theorem rtZ_ne {c : xZ} {rt : Nat → Option Nat} {o : Option Nat} {i : Nat} (h : zPa c ≠ some i) : rtZ c rt o i = rt i := by
  match c, h with
  | [], _ => rfl
  | (true, j, s) :: c, _ => rfl
  | (false, j, s) :: c, h => exact va_up_ne _ _ (fun e => h (by rw [e]; rfl))
theorem paT_ne {t : xT} {pa : Nat → Option Nat} {o : Option Nat} {i : Nat} (h : tRt t ≠ some i) : paT t pa o i = pa i := by
  match t, h with
  | .leaf _, _ => rfl
  | .branch j l r, h => exact va_up_ne _ _ (fun e => h (by rw [e]; rfl))
theorem paT_at {t : xT} {pa : Nat → Option Nat} {o : Option Nat} {i : Nat} (h : tRt t = some i) : paT t pa o i = o := by
  match t, h with
  | .branch j l r, h => cases h; exact va_up_self _ _ _
theorem nod5 {L A B C R : List Nat} {p r : Nat} (h : (L ++ (A ++ p :: (B ++ r :: (C ++ R)))).Nodup) :
    p ≠ r ∧ B.Nodup ∧ (L ++ R).Nodup ∧ (∀ i, i ∈ L ∨ i ∈ R → i ≠ p ∧ i ≠ r ∧ i ∉ A ∧ i ∉ B ∧ i ∉ C) ∧ (∀ i ∈ A, i ≠ p ∧ i ≠ r ∧ i ∉ B ∧ i ∉ C) ∧ (∀ i ∈ B, i ≠ p ∧ i ≠ r ∧ i ∉ C) ∧ ∀ i ∈ C, i ≠ p ∧ i ≠ r := by
  simp only [List.nodup_append, List.nodup_cons, List.mem_append, List.mem_cons] at h ⊢
  grind
/-- turned to the left at p -/
theorem rotL_ok {lf rt pa : Nat → Option Nat} {c : xZ} {p r : Nat} {A B C : xT} (hn : (tEs (zPlug c (.branch p A (.branch r B C)))).Nodup) (h : tre lf rt pa (zPlug c (.branch p A (.branch r B C))) none) :
    tre (va_up (lfZ c lf (some r)) r (some p)) (rtZ c (va_up rt p (tRt B)) (some r)) (va_up (va_up (paT B pa (some p)) r (zPa c)) p (some r)) (zPlug c (.branch r (.branch p A B) C)) none := by
  rw [plug_in] at hn
  simp only [tEs, List.append_assoc, List.cons_append] at hn
  obtain ⟨hpr, hBn, hcn, hz, hA, hB, hC⟩ := nod5 hn
  obtain ⟨h1, h2, h3, h4, h5, h6, h7, h8, h9, h10⟩ := (plug_tre _ _).mp h
  have np : zPa c ≠ some p := fun e => (hz p (zPa_in e)).1 rfl
  have nr : zPa c ≠ some r := fun e => (hz r (zPa_in e)).2.1 rfl
  have nA : ∀ i ∈ tEs A, zPa c ≠ some i := fun i hi e => (hz i (zPa_in e)).2.2.1 hi
  have nB : ∀ i ∈ tEs B, zPa c ≠ some i := fun i hi e => (hz i (zPa_in e)).2.2.2.1 hi
  have nC : ∀ i ∈ tEs C, zPa c ≠ some i := fun i hi e => (hz i (zPa_in e)).2.2.2.2 hi
  refine (plug_tre _ _).mpr ⟨zOk_hang hcn (fun i hi => ?_) (fun i hi q => ⟨?_, ?_⟩) (fun b i s c' e => ?_) h1, ?_, va_up_self _ _ _, ?_, ⟨?_, ?_, ?_, ?_, ?_⟩, ?_⟩
  · have z := hz i hi
    rw [va_up_ne _ _ z.1, va_up_ne _ _ z.2.1, paT_ne (fun e => z.2.2.2.1 (tRt_in e))]
  · have z := hz i hi
    rw [va_up_ne _ _ z.2.1, lfZ_ne q]
  · have z := hz i hi
    rw [rtZ_ne q, va_up_ne _ _ z.1]
  · subst e
    have z := hz i (zPa_in rfl)
    cases b
    · show va_up lf r (some p) i = lf i ∧ va_up (va_up rt p (tRt B)) i (some r) i = some r
      exact ⟨va_up_ne _ _ z.2.1, va_up_self _ _ _⟩
    · show va_up (va_up lf i (some r)) r (some p) i = some r ∧ va_up rt p (tRt B) i = rt i
      exact ⟨by rw [va_up_ne _ _ z.2.1, va_up_self], va_up_ne _ _ z.1⟩
  · rw [va_up_ne _ _ (Ne.symm hpr), va_up_self]
  · rw [rtZ_ne nr, va_up_ne _ _ (Ne.symm hpr)]; exact h8
  · exact va_up_self _ _ _
  · rw [va_up_ne _ _ hpr, lfZ_ne np]; exact h3
  · rw [rtZ_ne np, va_up_self]
  · refine tre_cg (fun i hi => ?_) h5
    have z := hA i hi
    exact ⟨by rw [va_up_ne _ _ z.2.1, lfZ_ne (nA i hi)], by rw [rtZ_ne (nA i hi), va_up_ne _ _ z.1], by rw [va_up_ne _ _ z.1, va_up_ne _ _ z.2.1, paT_ne (fun e => z.2.2.1 (tRt_in e))]⟩
  · refine tre_hang hBn (fun i hi => ?_) (fun i hi e => ?_) (fun i e => ?_) h9
    · have z := hB i hi
      exact ⟨by rw [va_up_ne _ _ z.2.1, lfZ_ne (nB i hi)], by rw [rtZ_ne (nB i hi), va_up_ne _ _ z.1]⟩
    · have z := hB i hi
      rw [va_up_ne _ _ z.1, va_up_ne _ _ z.2.1, paT_ne e]
    · have z := hB i (tRt_in e)
      rw [va_up_ne _ _ z.1, va_up_ne _ _ z.2.1, paT_at e]
  · refine tre_cg (fun i hi => ?_) h10
    have z := hC i hi
    exact ⟨by rw [va_up_ne _ _ z.2, lfZ_ne (nC i hi)], by rw [rtZ_ne (nC i hi), va_up_ne _ _ z.1], by rw [va_up_ne _ _ z.1, va_up_ne _ _ z.2, paT_ne (fun e => (hB i (tRt_in e)).2.2 hi)]⟩
/-- turned to the right at p -/
theorem rotR_ok {lf rt pa : Nat → Option Nat} {c : xZ} {p r : Nat} {A B C : xT} (hn : (tEs (zPlug c (.branch p (.branch r A B) C))).Nodup) (h : tre lf rt pa (zPlug c (.branch p (.branch r A B) C)) none) :
    tre (lfZ c (va_up lf p (tRt B)) (some r)) (va_up (rtZ c rt (some r)) r (some p)) (va_up (va_up (paT B pa (some p)) r (zPa c)) p (some r)) (zPlug c (.branch r A (.branch p B C))) none := by
  rw [plug_in] at hn
  simp only [tEs, List.append_assoc, List.cons_append] at hn
  obtain ⟨hpr, hBn, hcn, hz, hA, hB, hC⟩ := nod5 hn
  obtain ⟨h1, h2, h3, h4, ⟨h6, h7, h8, h9, h10⟩, h5⟩ := (plug_tre _ _).mp h
  have np : zPa c ≠ some p := fun e => (hz p (zPa_in e)).2.1 rfl
  have nr : zPa c ≠ some r := fun e => (hz r (zPa_in e)).1 rfl
  have nA : ∀ i ∈ tEs A, zPa c ≠ some i := fun i hi e => (hz i (zPa_in e)).2.2.1 hi
  have nB : ∀ i ∈ tEs B, zPa c ≠ some i := fun i hi e => (hz i (zPa_in e)).2.2.2.1 hi
  have nC : ∀ i ∈ tEs C, zPa c ≠ some i := fun i hi e => (hz i (zPa_in e)).2.2.2.2 hi
  refine (plug_tre _ _).mpr ⟨zOk_hang hcn (fun i hi => ?_) (fun i hi q => ⟨?_, ?_⟩) (fun b i s c' e => ?_) h1, ?_, ?_, va_up_self _ _ _, ?_, ?_, ?_, ?_, ?_, ?_⟩
  · have z := hz i hi
    rw [va_up_ne _ _ z.2.1, va_up_ne _ _ z.1, paT_ne (fun e => z.2.2.2.1 (tRt_in e))]
  · have z := hz i hi
    rw [lfZ_ne q, va_up_ne _ _ z.2.1]
  · have z := hz i hi
    rw [va_up_ne _ _ z.1, rtZ_ne q]
  · subst e
    have z := hz i (zPa_in rfl)
    cases b
    · show va_up lf p (tRt B) i = lf i ∧ va_up (va_up rt i (some r)) r (some p) i = some r
      exact ⟨va_up_ne _ _ z.2.1, by rw [va_up_ne _ _ z.1, va_up_self]⟩
    · show va_up (va_up lf p (tRt B)) i (some r) i = some r ∧ va_up rt r (some p) i = rt i
      exact ⟨va_up_self _ _ _, va_up_ne _ _ z.1⟩
  · rw [va_up_ne _ _ hpr, va_up_self]
  · rw [lfZ_ne nr, va_up_ne _ _ hpr]; exact h7
  · refine tre_cg (fun i hi => ?_) h9
    have z := hA i hi
    exact ⟨by rw [lfZ_ne (nA i hi), va_up_ne _ _ z.2.1], by rw [va_up_ne _ _ z.1, rtZ_ne (nA i hi)], by rw [va_up_ne _ _ z.2.1, va_up_ne _ _ z.1, paT_ne (fun e => z.2.2.1 (tRt_in e))]⟩
  · exact va_up_self _ _ _
  · rw [lfZ_ne np, va_up_self]
  · rw [va_up_ne _ _ (Ne.symm hpr), rtZ_ne np]; exact h4
  · refine tre_hang hBn (fun i hi => ?_) (fun i hi e => ?_) (fun i e => ?_) h10
    · have z := hB i hi
      exact ⟨by rw [lfZ_ne (nB i hi), va_up_ne _ _ z.2.1], by rw [va_up_ne _ _ z.1, rtZ_ne (nB i hi)]⟩
    · have z := hB i hi
      rw [va_up_ne _ _ z.2.1, va_up_ne _ _ z.1, paT_ne e]
    · have z := hB i (tRt_in e)
      rw [va_up_ne _ _ z.2.1, va_up_ne _ _ z.1, paT_at e]
  · refine tre_cg (fun i hi => ?_) h5
    have z := hC i hi
    exact ⟨by rw [lfZ_ne (nC i hi), va_up_ne _ _ z.2], by rw [va_up_ne _ _ z.1, rtZ_ne (nC i hi)], by rw [va_up_ne _ _ z.2, va_up_ne _ _ z.1, paT_ne (fun e => (hB i (tRt_in e)).2.2 hi)]⟩
/-- a leaf becomes an entry -/
theorem hang_ok {lf rt pa : Nat → Option Nat} {c : xZ} {x : Nat} (hx : x ∉ tEs (zPlug c (.leaf ()))) (hn : (tEs (zPlug c (.leaf ()))).Nodup) (h : tre lf rt pa (zPlug c (.leaf ())) none) :
    tre (va_up (lfZ c lf (some x)) x none) (va_up (rtZ c rt (some x)) x none) (va_up pa x (zPa c)) (zPlug c (.branch x (.leaf ()) (.leaf ()))) none := by
  rw [plug_in] at hn hx
  simp only [tEs, List.nil_append, List.mem_append, not_or] at hn hx
  obtain ⟨h1, -⟩ := (plug_tre _ _).mp h
  have nz : ∀ i, i ∈ zL c ∨ i ∈ zR c → i ≠ x := fun i hi e => by subst e; rcases hi with q | q; exact hx.1 q; exact hx.2 q
  refine (plug_tre _ _).mpr ⟨zOk_hang hn (fun i hi => va_up_ne _ _ (nz i hi)) (fun i hi q => ⟨?_, ?_⟩) (fun b i s c' e => ?_) h1, va_up_self _ _ _, va_up_self _ _ _, va_up_self _ _ _, trivial, trivial⟩
  · rw [va_up_ne _ _ (nz i hi), lfZ_ne q]
  · rw [va_up_ne _ _ (nz i hi), rtZ_ne q]
  · subst e
    have z := nz i (zPa_in rfl)
    cases b
    · show va_up lf x none i = lf i ∧ va_up (va_up rt i (some x)) x none i = some x
      exact ⟨va_up_ne _ _ z, by rw [va_up_ne _ _ z, va_up_self]⟩
    · show va_up (va_up lf i (some x)) x none i = some x ∧ va_up rt x none i = rt i
      exact ⟨by rw [va_up_ne _ _ z, va_up_self], va_up_ne _ _ z⟩
