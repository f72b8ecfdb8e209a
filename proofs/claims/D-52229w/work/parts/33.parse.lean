set_option maxRecDepth 40000
set_option maxHeartbeats 2000000
/-! ===== the grammar, purely: what a row of tokens means ===== -/
/-- what sums are reckoned on: the shapes' corners (how many, which), the points' places -/
abbrev Wd : Type := (Nat → Nat) × (Nat → Nat → Nat) × (Nat → Int32) × (Nat → Int32)
abbrev Sm : Type := Wd → Int32
abbrev Tm : Type := Wd → Bool
/-- a fault (its number, the token), or the meaning and the token behind -/
abbrev Pr : Type := (Nat × Nat) ⊕ (Sm × Nat)
abbrev Pt2 : Type := (Nat × Nat) ⊕ (Tm × Nat)
def wNs (w : Wd) : Nat → Nat := w.1
def wCs (w : Wd) : Nat → Nat → Nat := w.2.1
def wXs (w : Wd) : Nat → Int32 := w.2.2.1
def wYs (w : Wd) : Nat → Int32 := w.2.2.2
def sArea (i : Nat) : Sm := fun w => ab (area (wNs w i) (wCs w i) (wXs w) (wYs w))
def sCross (i j : Nat) : Sm := fun w => crosses (decide (i = j)) (wXs w) (wYs w) (wNs w i) (wCs w i) (wNs w j) (wCs w j)
def tIn (i j : Nat) : Tm := fun w => decide (lies (wNs w j) (wCs w j) (wXs w) (wYs w) (wXs w i) (wYs w i) = 1)
/-- what a sign joins -/
def jn (k : Nat) (a b : Int32) : Int32 := if k = 28 then a + b else if k = 29 then a - b else if k = 30 then a * b else if k = 31 then (if b = 0 then 0 else a / b) else if k = 18 then mn a b else mx a b
/-- what a sign compares -/
def cmK (k : Nat) (a b : Int32) : Bool := if k = 32 then decide (a < b) else if k = 33 then decide (b < a) else if k = 34 then decide (a = b) else if k = 35 then decide (a ≤ b) else decide (b ≤ a)
section PG
variable (kd : Nat → Nat) (nu : Nat → Int32) (nm : Bool → Nat → Option Nat)
/-- a name at p, of a shape or of a point -/
def pNm {α : Type} (s : Bool) (p : Nat) (k : Nat → (Nat × Nat) ⊕ α) : (Nat × Nat) ⊕ α := if kd p = 20 then (match nm s p with | some i => k i | none => .inl (3, p)) else .inl (1, p)
/-- a given token at p -/
def pTk {α : Type} (what p : Nat) (k : (Nat × Nat) ⊕ α) : (Nat × Nat) ⊕ α := if kd p = what then k else .inl (1, p)
def pBd {α β : Type} (x : (Nat × Nat) ⊕ (α × Nat)) (k : α → Nat → (Nat × Nat) ⊕ β) : (Nat × Nat) ⊕ β := match x with
  | .inl e => .inl e
  | .inr (F, q) => k F q
def pLp (v : Nat → Pr) (o1 o2 : Nat) : Nat → Sm → Nat → Pr
  | 0, F, p => .inr (F, p)
  | n + 1, F, p => if kd p = o1 ∨ kd p = o2 then pBd (v (p + 1)) (fun G q => pLp v o1 o2 n (fun w => jn (kd p) (F w) (G w)) q) else .inr (F, p)
def pPr (v : Nat → Pr) (p : Nat) : Pr := pBd (v p) (fun F q => pLp kd v 30 31 401 F q)
def pSu (v : Nat → Pr) (p : Nat) : Pr := pBd (pPr kd v p) (fun F q => pLp kd (pPr kd v) 28 29 401 F q)
/-- a value; b: may it go deeper; v: the values there -/
def pVB (b : Bool) (v : Nat → Pr) (p : Nat) : Pr :=
  if kd p = 21 then .inr (fun _ => nu p, p + 1)
  else if kd p = 13 then pNm kd nm true (p + 1) (fun i => pNm kd nm true (p + 2) (fun j => .inr (sCross i j, p + 3)))
  else if kd p = 10 then pNm kd nm false (p + 1) (fun i => .inr (fun w => wXs w i, p + 2))
  else if kd p = 11 then pNm kd nm false (p + 1) (fun i => .inr (fun w => wYs w i, p + 2))
  else if kd p = 12 then pNm kd nm true (p + 1) (fun i => .inr (sArea i, p + 2))
  else if kd p = 29 then (if b then pBd (v (p + 1)) (fun F q => .inr (fun w => - F w, q)) else .inl (1, p))
  else if kd p = 18 ∨ kd p = 19 then (if b = true ∧ kd (p + 1) = 24 then pBd (pSu kd v (p + 2)) (fun F q => pTk kd 22 q (pBd (pSu kd v (q + 1)) (fun G r => pTk kd 25 r (.inr (fun w => jn (kd p) (F w) (G w), r + 1))))) else .inl (1, p + 1))
  else if kd p = 24 then (if b then pBd (pSu kd v (p + 1)) (fun F q => pTk kd 25 q (.inr (F, q + 1))) else .inl (1, p))
  else .inl (1, p)
def pVa : Nat → Nat → Pr
  | 0 => pVB kd nu nm false (fun p => .inl (1, p))
  | r + 1 => pVB kd nu nm true (pVa r)
/-- tests: several of them, joined by 'and' (all) or 'or' (any) -/
def pTL (t : Nat → Pt2) (o : Nat) (all : Bool) : Nat → Tm → Nat → Pt2
  | 0, F, p => .inr (F, p)
  | n + 1, F, p => if kd p = o then pBd (t (p + 1)) (fun G q => pTL t o all n (fun w => if all then (F w && G w) else (F w || G w)) q) else .inr (F, p)
def pBo (t : Nat → Pt2) (p : Nat) : Pt2 := pBd (t p) (fun F q => pTL kd t 16 true 401 F q)
def pTe (t : Nat → Pt2) (p : Nat) : Pt2 := pBd (pBo kd t p) (fun F q => pTL kd (pBo kd t) 17 false 401 F q)
def pSB (v : Nat → Pr) (b : Bool) (t : Nat → Pt2) (p : Nat) : Pt2 :=
  if kd p = 15 then (if b then pBd (t (p + 1)) (fun F q => .inr (fun w => !(F w), q)) else .inl (1, p))
  else if kd p = 26 then (if b then pBd (pTe kd t (p + 1)) (fun F q => pTk kd 27 q (.inr (F, q + 1))) else .inl (1, p))
  else if kd p = 14 then pNm kd nm false (p + 1) (fun i => pNm kd nm true (p + 2) (fun j => .inr (tIn i j, p + 3)))
  else pBd (pSu kd v p) (fun F q => if 32 ≤ kd q ∧ kd q ≤ 36 then pBd (pSu kd v (q + 1)) (fun G r => .inr (fun w => cmK (kd q) (F w) (G w), r)) else .inl (1, q))
def pSi : Nat → Nat → Pt2
  | 0 => pSB kd nm (pVa kd nu nm 0) false (fun p => .inl (1, p))
  | r + 1 => pSB kd nm (pVa kd nu nm (r + 1)) true (pSi r)
end PG
/-! progress: what is read ends ahead of the last token -/
def pGo {α : Type} (L p : Nat) (x : (Nat × Nat) ⊕ (α × Nat)) : Prop := ∀ F q, x = .inr (F, q) → p < q ∧ q ≤ L
theorem pGo_inl {α : Type} {L p : Nat} {e : Nat × Nat} : pGo (α := α) L p (.inl e) := fun F q h => by cases h
theorem pGo_bd {α β : Type} {L p : Nat} {x : (Nat × Nat) ⊕ (α × Nat)} {k : α → Nat → (Nat × Nat) ⊕ (β × Nat)} (h : ∀ F q, x = .inr (F, q) → pGo L p (k F q)) : pGo L p (pBd x k) := by
  unfold pBd
  split
  · exact pGo_inl
  · next F q => exact h F q rfl
theorem pGo_le {α : Type} {L p q : Nat} {x : (Nat × Nat) ⊕ (α × Nat)} (h : pGo L q x) (hq : p ≤ q) : pGo L p x := fun F r e => by have := h F r e; omega
section PG2
variable {kd : Nat → Nat} {nu : Nat → Int32} {nm : Bool → Nat → Option Nat} {L : Nat}
theorem kd_lt (hL : 60 ≤ kd L) {p k : Nat} (hp : p ≤ L) (h : kd p = k) (hk : k < 60) : p + 1 ≤ L := by
  rcases Nat.lt_or_ge p L with z | z
  · exact z
  · have : p = L := by omega
    subst this; omega
theorem pGo_nm {α : Type} {s : Bool} {p0 p : Nat} {k : Nat → (Nat × Nat) ⊕ (α × Nat)} (h : kd p = 20 → ∀ i, pGo L p0 (k i)) : pGo L p0 (pNm kd nm s p k) := by
  unfold pNm
  split
  · next q =>
    split
    · exact h q _
    · exact pGo_inl
  · exact pGo_inl
theorem pGo_tk {α : Type} {what p0 p : Nat} {k : (Nat × Nat) ⊕ (α × Nat)} (h : kd p = what → pGo L p0 k) : pGo L p0 (pTk kd what p k) := by
  unfold pTk
  split
  · next q => exact h q
  · exact pGo_inl
theorem pGo_r {α : Type} {F : α} {p q : Nat} (h1 : p < q) (h2 : q ≤ L) : pGo L p (.inr (F, q)) := fun G r e => by cases e; exact ⟨h1, h2⟩
theorem pGo_lp (hL : 60 ≤ kd L) {v : Nat → Pr} (hv : ∀ p, p ≤ L → pGo L p (v p)) {o1 o2 : Nat} (h1 : o1 < 60) (h2 : o2 < 60) : ∀ (n : Nat) (F : Sm) (p0 p : Nat), p0 < p → p ≤ L → pGo L p0 (pLp kd v o1 o2 n F p)
  | 0, F, p0, p, h, hp => pGo_r h hp
  | n + 1, F, p0, p, h, hp => by
    unfold pLp
    split
    · next q =>
      have hp1 : p + 1 ≤ L := by
        rcases q with q | q
        · exact kd_lt hL hp q h1
        · exact kd_lt hL hp q h2
      refine pGo_bd (fun G r e => ?_)
      have := hv (p + 1) hp1 G r e
      exact pGo_lp hL hv h1 h2 n _ p0 r (by omega) this.2
    · exact pGo_r h hp
theorem pGo_pr (hL : 60 ≤ kd L) {v : Nat → Pr} (hv : ∀ p, p ≤ L → pGo L p (v p)) (p : Nat) (hp : p ≤ L) : pGo L p (pPr kd v p) := by
  unfold pPr
  refine pGo_bd (fun F q e => ?_)
  have := hv p hp F q e
  exact pGo_lp hL hv (by decide) (by decide) _ _ p q this.1 this.2
theorem pGo_su (hL : 60 ≤ kd L) {v : Nat → Pr} (hv : ∀ p, p ≤ L → pGo L p (v p)) (p : Nat) (hp : p ≤ L) : pGo L p (pSu kd v p) := by
  unfold pSu
  refine pGo_bd (fun F q e => ?_)
  have := pGo_pr hL hv p hp F q e
  exact pGo_lp hL (pGo_pr hL hv) (by decide) (by decide) _ _ p q this.1 this.2
theorem pGo_vb (hL : 60 ≤ kd L) {b : Bool} {v : Nat → Pr} (hv : ∀ p, p ≤ L → pGo L p (v p)) (p : Nat) (hp : p ≤ L) : pGo L p (pVB kd nu nm b v p) := by
  unfold pVB
  split
  · next q => exact pGo_r (by omega) (kd_lt hL hp q (by decide))
  split
  · next q =>
    have h1 := kd_lt hL hp q (by decide)
    exact pGo_nm (fun q1 i => pGo_nm (fun q2 j => pGo_r (by omega) (kd_lt hL (kd_lt hL h1 q1 (by decide)) q2 (by decide))))
  split
  · next q =>
    have h1 := kd_lt hL hp q (by decide)
    exact pGo_nm (fun q1 i => pGo_r (by omega) (kd_lt hL h1 q1 (by decide)))
  split
  · next q =>
    have h1 := kd_lt hL hp q (by decide)
    exact pGo_nm (fun q1 i => pGo_r (by omega) (kd_lt hL h1 q1 (by decide)))
  split
  · next q =>
    have h1 := kd_lt hL hp q (by decide)
    exact pGo_nm (fun q1 i => pGo_r (by omega) (kd_lt hL h1 q1 (by decide)))
  split
  · next q =>
    have h1 := kd_lt hL hp q (by decide)
    split
    · refine pGo_bd (fun F r e => ?_)
      have := hv (p + 1) h1 F r e
      exact pGo_r (by omega) this.2
    · exact pGo_inl
  split
  · next q =>
    split
    · next q1 =>
      have h1 : p + 1 ≤ L := by
        rcases q with q | q
        · exact kd_lt hL hp q (by decide)
        · exact kd_lt hL hp q (by decide)
      have h2 := kd_lt hL h1 q1.2 (by decide)
      refine pGo_bd (fun F r e => ?_)
      have a1 := pGo_su hL hv (p + 2) h2 F r e
      refine pGo_tk (fun q2 => ?_)
      have h3 := kd_lt hL a1.2 q2 (by decide)
      refine pGo_bd (fun G s e2 => ?_)
      have a2 := pGo_su hL hv (r + 1) h3 G s e2
      exact pGo_tk (fun q3 => pGo_r (by omega) (kd_lt hL a2.2 q3 (by decide)))
    · exact pGo_inl
  split
  · next q =>
    have h1 := kd_lt hL hp q (by decide)
    split
    · refine pGo_bd (fun F r e => ?_)
      have a1 := pGo_su hL hv (p + 1) h1 F r e
      exact pGo_tk (fun q3 => pGo_r (by omega) (kd_lt hL a1.2 q3 (by decide)))
    · exact pGo_inl
  · exact pGo_inl
theorem pGo_va (hL : 60 ≤ kd L) : ∀ (r p : Nat), p ≤ L → pGo L p (pVa kd nu nm r p)
  | 0, p, hp => pGo_vb hL (fun _ _ => pGo_inl) p hp
  | r + 1, p, hp => pGo_vb hL (pGo_va hL r) p hp
theorem pGo_tl (hL : 60 ≤ kd L) {t : Nat → Pt2} (ht : ∀ p, p ≤ L → pGo L p (t p)) {o : Nat} {all : Bool} (h1 : o < 60) : ∀ (n : Nat) (F : Tm) (p0 p : Nat), p0 < p → p ≤ L → pGo L p0 (pTL kd t o all n F p)
  | 0, F, p0, p, h, hp => pGo_r h hp
  | n + 1, F, p0, p, h, hp => by
    unfold pTL
    split
    · next q =>
      have hp1 := kd_lt hL hp q h1
      refine pGo_bd (fun G r e => ?_)
      have := ht (p + 1) hp1 G r e
      exact pGo_tl hL ht h1 n _ p0 r (by omega) this.2
    · exact pGo_r h hp
theorem pGo_bo (hL : 60 ≤ kd L) {t : Nat → Pt2} (ht : ∀ p, p ≤ L → pGo L p (t p)) (p : Nat) (hp : p ≤ L) : pGo L p (pBo kd t p) := by
  unfold pBo
  refine pGo_bd (fun F q e => ?_)
  have := ht p hp F q e
  exact pGo_tl hL ht (by decide) _ _ p q this.1 this.2
theorem pGo_te (hL : 60 ≤ kd L) {t : Nat → Pt2} (ht : ∀ p, p ≤ L → pGo L p (t p)) (p : Nat) (hp : p ≤ L) : pGo L p (pTe kd t p) := by
  unfold pTe
  refine pGo_bd (fun F q e => ?_)
  have := pGo_bo hL ht p hp F q e
  exact pGo_tl hL (pGo_bo hL ht) (by decide) _ _ p q this.1 this.2
theorem pGo_sb (hL : 60 ≤ kd L) {v : Nat → Pr} (hv : ∀ p, p ≤ L → pGo L p (v p)) {b : Bool} {t : Nat → Pt2} (ht : ∀ p, p ≤ L → pGo L p (t p)) (p : Nat) (hp : p ≤ L) : pGo L p (pSB kd nm v b t p) := by
  unfold pSB
  split
  · next q =>
    have h1 := kd_lt hL hp q (by decide)
    split
    · refine pGo_bd (fun F r e => ?_)
      have := ht (p + 1) h1 F r e
      exact pGo_r (by omega) this.2
    · exact pGo_inl
  split
  · next q =>
    have h1 := kd_lt hL hp q (by decide)
    split
    · refine pGo_bd (fun F r e => ?_)
      have a1 := pGo_te hL ht (p + 1) h1 F r e
      exact pGo_tk (fun q3 => pGo_r (by omega) (kd_lt hL a1.2 q3 (by decide)))
    · exact pGo_inl
  split
  · next q =>
    have h1 := kd_lt hL hp q (by decide)
    exact pGo_nm (fun q1 i => pGo_nm (fun q2 j => pGo_r (by omega) (kd_lt hL (kd_lt hL h1 q1 (by decide)) q2 (by decide))))
  · refine pGo_bd (fun F q e => ?_)
    have a1 := pGo_su hL hv p hp F q e
    split
    · next z =>
      have h1 : q + 1 ≤ L := by
        rcases Nat.lt_or_ge q L with y | y
        · exact y
        · have : q = L := by omega
          subst this; omega
      refine pGo_bd (fun G r e2 => ?_)
      have a2 := pGo_su hL hv (q + 1) h1 G r e2
      exact pGo_r (by omega) a2.2
    · exact pGo_inl
theorem pGo_si (hL : 60 ≤ kd L) : ∀ (r p : Nat), p ≤ L → pGo L p (pSi kd nu nm r p)
  | 0, p, hp => pGo_sb hL (pGo_va hL 0) (fun _ _ => pGo_inl) p hp
  | r + 1, p, hp => pGo_sb hL (pGo_va hL (r + 1)) (pGo_si hL r) p hp
end PG2
