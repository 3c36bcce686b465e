/-! pure land: T1 T2 T3 (see wip/D-94657w/pl) -/
/-! ===== a parser of its own: text, places, words, figures ===== -/
/-- a text: byte by byte, 256 behind the end -/
def Tx (T : Nat → Nat) (n : Nat) : Prop := n ≤ 400 ∧ (∀ p, p < n → T p < 256) ∧ ∀ p, n ≤ p → T p = 256
/-- the first place from p on that is none of f's -/
def yrun (f : Nat → Bool) : Nat → Nat → Nat
  | 0, p => p
  | k + 1, p => if f p = true then yrun f k (p + 1) else p
theorem run_spec {f : Nat → Bool} {n : Nat} (hf : ∀ p, n ≤ p → f p = false) : ∀ k p, p ≤ n → n ≤ p + k → p ≤ yrun f k p ∧ yrun f k p ≤ n ∧ f (yrun f k p) = false ∧ ∀ q, p ≤ q → q < yrun f k p → f q = true := by
  intro k
  induction k with
  | zero => intro p h1 h2; exact ⟨Nat.le_refl _, h1, hf p (by omega), fun q a b => absurd b (Nat.not_lt.mpr a)⟩
  | succ k ih =>
    intro p h1 h2
    show p ≤ (if f p = true then yrun f k (p + 1) else p) ∧ (if f p = true then yrun f k (p + 1) else p) ≤ n ∧ f (if f p = true then yrun f k (p + 1) else p) = false ∧ ∀ q, p ≤ q → q < (if f p = true then yrun f k (p + 1) else p) → f q = true
    by_cases z : f p = true
    · have hp : p < n := by
        rcases Nat.lt_or_ge p n with h | h
        · exact h
        · rw [hf p h] at z; cases z
      rw [if_pos z]
      obtain ⟨a, b, c, d⟩ := ih (p + 1) (by omega) (by omega)
      refine ⟨by omega, b, c, fun q h3 h4 => ?_⟩
      by_cases y : q = p
      · rw [y]; exact z
      · exact d q (by omega) h4
    · rw [if_neg z]
      exact ⟨Nat.le_refl _, h1, Bool.eq_false_iff.mpr z, fun q a b => absurd b (Nat.not_lt.mpr a)⟩
theorem run_stop {f : Nat → Bool} {k p : Nat} (h : f p = false) : yrun f k p = p := by
  cases k with
  | zero => rfl
  | succ k => exact if_neg (by rw [h]; decide)
def isB (t : Nat) : Bool := decide (t = 32)
def isL (t : Nat) : Bool := decide (97 ≤ t ∧ t ≤ 122)
def isD (t : Nat) : Bool := decide (48 ≤ t ∧ t ≤ 57)
/-- behind the blanks; behind the letters; behind the figures -/
def sk (T : Nat → Nat) (p : Nat) : Nat := yrun (fun q => isB (T q)) 400 p
def we (T : Nat → Nat) (p : Nat) : Nat := yrun (fun q => isL (T q)) 400 p
def ne (T : Nat → Nat) (p : Nat) : Nat := yrun (fun q => isD (T q)) 400 p
section ZT1
variable {T : Nat → Nat} {n p : Nat}
theorem Tx_lt (h : Tx T n) (hp : T p < 256) : p < n := by
  rcases Nat.lt_or_ge p n with q | q
  · exact q
  · rw [h.2.2 p q] at hp; omega
theorem sk_spec (h : Tx T n) (hp : p ≤ n) : p ≤ sk T p ∧ sk T p ≤ n ∧ T (sk T p) ≠ 32 ∧ ∀ q, p ≤ q → q < sk T p → T q = 32 := by
  obtain ⟨a, b, c, d⟩ := run_spec (f := fun q => isB (T q)) (n := n) (fun q hq => by show decide (T q = 32) = false; rw [h.2.2 q hq]; rfl) 400 p hp (by have := h.1; omega)
  exact ⟨a, b, of_decide_eq_false c, fun q h1 h2 => of_decide_eq_true (d q h1 h2)⟩
theorem we_spec (h : Tx T n) (hp : p ≤ n) : p ≤ we T p ∧ we T p ≤ n ∧ isL (T (we T p)) = false ∧ ∀ q, p ≤ q → q < we T p → isL (T q) = true :=
  run_spec (f := fun q => isL (T q)) (n := n) (fun q hq => by show decide (97 ≤ T q ∧ T q ≤ 122) = false; rw [h.2.2 q hq]; rfl) 400 p hp (by have := h.1; omega)
theorem ne_spec (h : Tx T n) (hp : p ≤ n) : p ≤ ne T p ∧ ne T p ≤ n ∧ isD (T (ne T p)) = false ∧ ∀ q, p ≤ q → q < ne T p → isD (T q) = true :=
  run_spec (f := fun q => isD (T q)) (n := n) (fun q hq => by show decide (48 ≤ T q ∧ T q ≤ 57) = false; rw [h.2.2 q hq]; rfl) 400 p hp (by have := h.1; omega)
theorem sk_id (h : T p ≠ 32) : sk T p = p := run_stop (decide_eq_false h)
theorem sk_sk (h : Tx T n) (hp : p ≤ n) : sk T (sk T p) = sk T p := sk_id (sk_spec h hp).2.2.1
end ZT1
/-- the word i stands at s -/
def ywk (i : Nat) (T : Nat → Nat) (s : Nat) : Bool := decide (we T s = s + (zTb i).length ∧ ∀ k, k < (zTb i).length → nI (T (s + k)) = (zTb i).getD k 0)
/-- the number of so many figures -/
def vl (T : Nat → Nat) (s : Nat) : Nat → Nat
  | 0 => 0
  | k + 1 => 10 * vl T s k + T (s + k) - 48
/-- a result: the place of an error, or a value and the place behind it -/
abbrev pR9 (α : Type) : Type := Nat ⊕ (α × Nat)
/-- figures: at least ylo, below hi, at most dg figures -/
def pFig (ylo hi dg : Nat) (T : Nat → Nat) (p : Nat) : pR9 Nat :=
  if ne T (sk T p) = sk T p ∨ dg < ne T (sk T p) - sk T p ∨ ¬ (ylo ≤ vl T (sk T p) (ne T (sk T p) - sk T p) ∧ vl T (sk T p) (ne T (sk T p) - sk T p) < hi) then .inl (sk T p)
  else .inr (vl T (sk T p) (ne T (sk T p) - sk T p), ne T (sk T p))
abbrev Sc9 : Type := Nat → Int32
def pPart (T : Nat → Nat) (p : Nat) : pR9 (Sc9 → Int32) :=
  if isD (T (sk T p)) = true then (match pFig 0 1000 3 T (sk T p) with
    | .inl e => .inl e
    | .inr (v, q) => .inr (fun _ => nI v, q))
  else if ywk 19 T (sk T p) = true then .inr (fun s => s 1, we T (sk T p))
  else if ywk 20 T (sk T p) = true then .inr (fun s => s 2, we T (sk T p))
  else if ywk 21 T (sk T p) = true then .inr (fun s => s 3, we T (sk T p))
  else if ywk 22 T (sk T p) = true then .inr (fun s => s 4, we T (sk T p))
  else .inl (sk T p)
def pSumL (T : Nat → Nat) : Nat → (Sc9 → Int32) → Nat → pR9 (Sc9 → Int32)
  | 0, f, p => .inr (f, sk T p)
  | k + 1, f, p => if T (sk T p) = 43 then (match pPart T (sk T p + 1) with
    | .inl e => .inl e
    | .inr (g, q) => pSumL T k (fun s => f s + g s) q) else .inr (f, sk T p)
def pSum (T : Nat → Nat) (p : Nat) : pR9 (Sc9 → Int32) := match pPart T p with
  | .inl e => .inl e
  | .inr (g, q) => pSumL T 400 g q
abbrev Co9 : Type := Sc9 → Bool
def pCmp (T : Nat → Nat) (f : Sc9 → Int32) (q : Nat) : pR9 Co9 :=
  if T q = 60 then (match pSum T (q + 1) with
    | .inl e => .inl e
    | .inr (g, r) => .inr (fun s => decide (f s < g s), r))
  else if T q = 62 then (match pSum T (q + 1) with
    | .inl e => .inl e
    | .inr (g, r) => .inr (fun s => decide (g s < f s), r))
  else .inl q
def pPlain (T : Nat → Nat) (p : Nat) : pR9 Co9 :=
  if ywk 1 T (sk T p) = true then .inr (fun s => decide (s 0 = 0), we T (sk T p))
  else if ywk 2 T (sk T p) = true then .inr (fun s => decide (s 0 = 1), we T (sk T p))
  else if ywk 3 T (sk T p) = true then .inr (fun s => decide (s 0 = 2), we T (sk T p))
  else if ywk 4 T (sk T p) = true then .inr (fun s => decide (s 0 = 3), we T (sk T p))
  else if ywk 17 T (sk T p) = true then .inr (fun s => decide (s 5 = 1), we T (sk T p))
  else if ywk 18 T (sk T p) = true then .inr (fun s => decide (s 6 = 1), we T (sk T p))
  else (match pSum T (sk T p) with
    | .inl e => .inl e
    | .inr (f, q) => pCmp T f q)
def pEvL (T : Nat → Nat) (ra : Nat → pR9 Co9) : Nat → Co9 → Nat → pR9 Co9
  | 0, f, p => .inr (f, sk T p)
  | k + 1, f, p => if ywk 15 T (sk T p) = true then (match ra (we T (sk T p)) with
    | .inl e => .inl e
    | .inr (g, q) => pEvL T ra k (fun s => f s && g s) q) else .inr (f, sk T p)
def pEv (T : Nat → Nat) (ra : Nat → pR9 Co9) (p : Nat) : pR9 Co9 := match ra p with
  | .inl e => .inl e
  | .inr (g, q) => pEvL T ra 400 g q
def pSoL (T : Nat → Nat) (ra : Nat → pR9 Co9) : Nat → Co9 → Nat → pR9 Co9
  | 0, f, p => .inr (f, sk T p)
  | k + 1, f, p => if ywk 16 T (sk T p) = true then (match pEv T ra (we T (sk T p)) with
    | .inl e => .inl e
    | .inr (g, q) => pSoL T ra k (fun s => f s || g s) q) else .inr (f, sk T p)
def pSo (T : Nat → Nat) (ra : Nat → pR9 Co9) (p : Nat) : pR9 Co9 := match pEv T ra p with
  | .inl e => .inl e
  | .inr (g, q) => pSoL T ra 400 g q
def pAtom (T : Nat → Nat) (ra : Nat → Nat → pR9 Co9) (d p : Nat) : pR9 Co9 :=
  if T (sk T p) = 40 then (if d = 6 then .inl (sk T p) else match pSo T (ra (d + 1)) (sk T p + 1) with
    | .inl e => .inl e
    | .inr (g, q) => if T (sk T q) = 41 then .inr (g, sk T q + 1) else .inl (sk T q))
  else if ywk 14 T (sk T p) = true then (if d = 6 then .inl (sk T p) else match ra (d + 1) (we T (sk T p)) with
    | .inl e => .inl e
    | .inr (g, q) => .inr (fun s => !g s, q))
  else pPlain T (sk T p)
def pAtomD (T : Nat → Nat) : Nat → Nat → Nat → pR9 Co9
  | 0 => fun _ p => .inl p
  | n + 1 => fun d p => pAtom T (pAtomD T n) d p
/-- a line of a law: what it counts, and when -/
def pLine (T : Nat → Nat) (p : Nat) : pR9 (Nat × Co9) :=
  if ywk 12 T (sk T p) = true then (match pFig 0 100 3 T (we T (sk T p)) with
    | .inl e => .inl e
    | .inr (v, q) => if ywk 13 T (sk T q) = true then (match pSo T (pAtomD T 9 0) (we T (sk T q)) with
      | .inl e => .inl e
      | .inr (g, r) => .inr ((v, g), r)) else .inr ((v, fun _ => true), sk T q))
  else .inl (sk T p)
/-- what is told with one line more -/
def lnx (f : Sc9 → Option Nat) (v : Nat) (g : Co9) : Sc9 → Option Nat := fun s => match f s with
  | some x => some x
  | none => if g s = true then some v else none
/-- the lines from line l on; what is told by the lines before -/
def pLaw (T : Nat → Nat) : Nat → Nat → (Sc9 → Option Nat) → Nat → pR9 (Nat × (Sc9 → Option Nat))
  | 0, l, f, p => .inr ((l, f), p)
  | k + 1, l, f, p => if l = 12 then .inl (sk T p) else match pLine T p with
    | .inl e => .inl e
    | .inr ((v, g), q) =>
      if T (sk T q) = 256 then .inr ((l + 1, lnx f v g), sk T q)
      else if T (sk T q) = 59 then pLaw T k (l + 1) (lnx f v g) (sk T q + 1)
      else .inl (sk T q)
def pRead (T : Nat → Nat) : pR9 (Nat × (Sc9 → Option Nat)) :=
  if T (sk T 0) = 256 then .inr ((0, fun _ => none), sk T 0) else pLaw T 13 0 (fun _ => none) 0
/-- where a result lies -/
def qB {α : Type} (n p : Nat) (r : pR9 α) : Prop := match r with
  | .inl e => e ≤ n
  | .inr x => p < x.2 ∧ x.2 ≤ n
def qBl {α : Type} (n p : Nat) (r : pR9 α) : Prop := match r with
  | .inl e => e ≤ n
  | .inr x => p ≤ x.2 ∧ x.2 ≤ n
section ZT2
variable {T : Nat → Nat} {n p : Nat}
theorem zTb_ne : ∀ i, i < 23 → 0 < (zTb i).length ∧ (zTb i).length < 100 ∧ ∀ k, k < (zTb i).length → (97 : Int32) ≤ (zTb i).getD k 0 ∧ (zTb i).getD k 0 ≤ 122 := by decide +kernel
theorem wk_b (h : Tx T n) {i s : Nat} (hi : i < 23) (hs : s ≤ n) (hw : ywk i T s = true) : s < we T s ∧ we T s ≤ n := by
  obtain ⟨a, b⟩ := of_decide_eq_true hw
  have := (zTb_ne i hi).1
  have := (we_spec h hs).2.1
  omega
theorem pFig_b (h : Tx T n) (hp : p ≤ n) {ylo hi dg : Nat} : qB n p (pFig ylo hi dg T p) := by
  obtain ⟨a1, a2, -, -⟩ := sk_spec h hp
  obtain ⟨b1, b2, -, -⟩ := ne_spec h a2
  unfold pFig
  split
  · exact a2
  · next hc =>
    have : ¬ ne T (sk T p) = sk T p := fun q => hc (Or.inl q)
    exact ⟨by show p < ne T (sk T p); omega, b2⟩
theorem pPart_b (h : Tx T n) (hp : p ≤ n) : qB n p (pPart T p) := by
  obtain ⟨a1, a2, -, -⟩ := sk_spec h hp
  unfold pPart
  split
  · have := pFig_b h a2 (ylo := 0) (hi := 1000) (dg := 3)
    generalize pFig 0 1000 3 T (sk T p) = r at this
    match r, this with
    | .inl e, this => exact this
    | .inr (v, q), this => exact ⟨Nat.lt_of_le_of_lt a1 this.1, this.2⟩
  · split
    · next hw => have := wk_b h (by omega) a2 hw; exact ⟨by show p < we T (sk T p); omega, this.2⟩
    · split
      · next hw => have := wk_b h (by omega) a2 hw; exact ⟨by show p < we T (sk T p); omega, this.2⟩
      · split
        · next hw => have := wk_b h (by omega) a2 hw; exact ⟨by show p < we T (sk T p); omega, this.2⟩
        · split
          · next hw => have := wk_b h (by omega) a2 hw; exact ⟨by show p < we T (sk T p); omega, this.2⟩
          · exact a2
theorem Tx_in (h : Tx T n) {q c : Nat} (hc : c < 256) (e : T q = c) : q < n := Tx_lt h (by omega)
theorem pSumL_b (h : Tx T n) : ∀ k f p, p ≤ n → qBl n p (pSumL T k f p) := by
  intro k
  induction k with
  | zero => intro f p hp; obtain ⟨a1, a2, -, -⟩ := sk_spec h hp; exact ⟨a1, a2⟩
  | succ k ih =>
    intro f p hp
    obtain ⟨a1, a2, -, -⟩ := sk_spec h hp
    unfold pSumL
    split
    · next hc =>
      have hlt := Tx_in h (by omega) hc
      have := pPart_b h (show sk T p + 1 ≤ n by omega)
      generalize pPart T (sk T p + 1) = r at this
      match r, this with
      | .inl e, this => exact this
      | .inr (g, q), this =>
        have h1 : sk T p + 1 < q := this.1
        have h2 := ih (fun s => f s + g s) q this.2
        show qBl n p (pSumL T k (fun s => f s + g s) q)
        generalize pSumL T k (fun s => f s + g s) q = r2 at h2
        match r2, h2 with
        | .inl e, h2 => exact h2
        | .inr (g2, q2), h2 => exact ⟨by have h3 : q ≤ q2 := h2.1; show p ≤ q2; omega, h2.2⟩
    · exact ⟨a1, a2⟩
theorem pSum_b (h : Tx T n) (hp : p ≤ n) : qB n p (pSum T p) := by
  unfold pSum
  have := pPart_b h hp
  generalize pPart T p = r at this
  match r, this with
  | .inl e, this => exact this
  | .inr (g, q), this =>
    have h1 : p < q := this.1
    have h2 := pSumL_b h 400 g q this.2
    show qB n p (pSumL T 400 g q)
    generalize pSumL T 400 g q = r2 at h2
    match r2, h2 with
    | .inl e, h2 => exact h2
    | .inr (g2, q2), h2 => exact ⟨by have h3 : q ≤ q2 := h2.1; show p < q2; omega, h2.2⟩
theorem pCmp_b (h : Tx T n) {f : Sc9 → Int32} {q : Nat} (hp : p < q) (hq : q ≤ n) : qB n p (pCmp T f q) := by
  unfold pCmp
  split
  · next hc =>
    have := pSum_b h (show q + 1 ≤ n by have := Tx_in h (by omega) hc; omega)
    generalize pSum T (q + 1) = r at this
    match r, this with
    | .inl e, this => exact this
    | .inr (g, r), this => exact ⟨by have h1 : q + 1 < r := this.1; show p < r; omega, this.2⟩
  · split
    · next hc =>
      have := pSum_b h (show q + 1 ≤ n by have := Tx_in h (by omega) hc; omega)
      generalize pSum T (q + 1) = r at this
      match r, this with
      | .inl e, this => exact this
      | .inr (g, r), this => exact ⟨by have h1 : q + 1 < r := this.1; show p < r; omega, this.2⟩
    · exact hq
theorem pPlain_b (h : Tx T n) (hp : p ≤ n) : qB n p (pPlain T p) := by
  obtain ⟨a1, a2, -, -⟩ := sk_spec h hp
  have yW : ∀ {i : Nat} {x : Co9}, i < 23 → ywk i T (sk T p) = true → qB n p (.inr (x, we T (sk T p)) : pR9 Co9) := fun hi hw => ⟨by have := (wk_b h hi a2 hw).1; show p < we T (sk T p); omega, (wk_b h hi a2 hw).2⟩
  unfold pPlain
  split
  · next hw => exact yW (by omega) hw
  · split
    · next hw => exact yW (by omega) hw
    · split
      · next hw => exact yW (by omega) hw
      · split
        · next hw => exact yW (by omega) hw
        · split
          · next hw => exact yW (by omega) hw
          · split
            · next hw => exact yW (by omega) hw
            · have := pSum_b h a2
              generalize pSum T (sk T p) = r at this
              match r, this with
              | .inl e, this => exact this
              | .inr (f, q), this => exact pCmp_b h (by have h1 : sk T p < q := this.1; omega) this.2
theorem pEvL_b (h : Tx T n) {ra : Nat → pR9 Co9} (hr : ∀ p, p ≤ n → qB n p (ra p)) : ∀ k f p, p ≤ n → qBl n p (pEvL T ra k f p) := by
  intro k
  induction k with
  | zero => intro f p hp; obtain ⟨a1, a2, -, -⟩ := sk_spec h hp; exact ⟨a1, a2⟩
  | succ k ih =>
    intro f p hp
    obtain ⟨a1, a2, -, -⟩ := sk_spec h hp
    unfold pEvL
    split
    · next hw =>
      have hb := wk_b h (by omega) a2 hw
      have := hr _ hb.2
      generalize ra (we T (sk T p)) = r at this
      match r, this with
      | .inl e, this => exact this
      | .inr (g, q), this =>
        have h1 : we T (sk T p) < q := this.1
        have h2 := ih (fun s => f s && g s) q this.2
        show qBl n p (pEvL T ra k (fun s => f s && g s) q)
        generalize pEvL T ra k (fun s => f s && g s) q = r2 at h2
        match r2, h2 with
        | .inl e, h2 => exact h2
        | .inr (g2, q2), h2 => exact ⟨by have h3 : q ≤ q2 := h2.1; show p ≤ q2; omega, h2.2⟩
    · exact ⟨a1, a2⟩
theorem pEv_b (h : Tx T n) {ra : Nat → pR9 Co9} (hr : ∀ p, p ≤ n → qB n p (ra p)) (hp : p ≤ n) : qB n p (pEv T ra p) := by
  unfold pEv
  have := hr p hp
  generalize ra p = r at this
  match r, this with
  | .inl e, this => exact this
  | .inr (g, q), this =>
    have h1 : p < q := this.1
    have h2 := pEvL_b h hr 400 g q this.2
    show qB n p (pEvL T ra 400 g q)
    generalize pEvL T ra 400 g q = r2 at h2
    match r2, h2 with
    | .inl e, h2 => exact h2
    | .inr (g2, q2), h2 => exact ⟨by have h3 : q ≤ q2 := h2.1; show p < q2; omega, h2.2⟩
theorem pSoL_b (h : Tx T n) {ra : Nat → pR9 Co9} (hr : ∀ p, p ≤ n → qB n p (ra p)) : ∀ k f p, p ≤ n → qBl n p (pSoL T ra k f p) := by
  intro k
  induction k with
  | zero => intro f p hp; obtain ⟨a1, a2, -, -⟩ := sk_spec h hp; exact ⟨a1, a2⟩
  | succ k ih =>
    intro f p hp
    obtain ⟨a1, a2, -, -⟩ := sk_spec h hp
    unfold pSoL
    split
    · next hw =>
      have hb := wk_b h (by omega) a2 hw
      have := pEv_b h hr hb.2
      generalize pEv T ra (we T (sk T p)) = r at this
      match r, this with
      | .inl e, this => exact this
      | .inr (g, q), this =>
        have h1 : we T (sk T p) < q := this.1
        have h2 := ih (fun s => f s || g s) q this.2
        show qBl n p (pSoL T ra k (fun s => f s || g s) q)
        generalize pSoL T ra k (fun s => f s || g s) q = r2 at h2
        match r2, h2 with
        | .inl e, h2 => exact h2
        | .inr (g2, q2), h2 => exact ⟨by have h3 : q ≤ q2 := h2.1; show p ≤ q2; omega, h2.2⟩
    · exact ⟨a1, a2⟩
theorem pSo_b (h : Tx T n) {ra : Nat → pR9 Co9} (hr : ∀ p, p ≤ n → qB n p (ra p)) (hp : p ≤ n) : qB n p (pSo T ra p) := by
  unfold pSo
  have := pEv_b h hr hp
  generalize pEv T ra p = r at this
  match r, this with
  | .inl e, this => exact this
  | .inr (g, q), this =>
    have h1 : p < q := this.1
    have h2 := pSoL_b h hr 400 g q this.2
    show qB n p (pSoL T ra 400 g q)
    generalize pSoL T ra 400 g q = r2 at h2
    match r2, h2 with
    | .inl e, h2 => exact h2
    | .inr (g2, q2), h2 => exact ⟨by have h3 : q ≤ q2 := h2.1; show p < q2; omega, h2.2⟩
theorem pAtom_b (h : Tx T n) {ra : Nat → Nat → pR9 Co9} (hr : ∀ d p, p ≤ n → qB n p (ra d p)) (d : Nat) (hp : p ≤ n) : qB n p (pAtom T ra d p) := by
  obtain ⟨a1, a2, -, -⟩ := sk_spec h hp
  unfold pAtom
  split
  · next hc =>
    have hlt := Tx_in h (by omega) hc
    split
    · exact a2
    · have := pSo_b h (hr (d + 1)) (show sk T p + 1 ≤ n by omega)
      generalize pSo T (ra (d + 1)) (sk T p + 1) = r at this
      match r, this with
      | .inl e, this => exact this
      | .inr (g, q), this =>
        have h1 : sk T p + 1 < q := this.1
        have h9 : q ≤ n := this.2
        obtain ⟨b1, b2, -, -⟩ := sk_spec h h9
        show qB n p (if T (sk T q) = 41 then .inr (g, sk T q + 1) else .inl (sk T q))
        split
        · next hc2 => exact ⟨by show p < sk T q + 1; omega, Tx_in h (by omega) hc2⟩
        · exact b2
  · split
    · next hw =>
      have hb := wk_b h (by omega) a2 hw
      split
      · exact a2
      · have := hr (d + 1) _ hb.2
        generalize ra (d + 1) (we T (sk T p)) = r at this
        match r, this with
        | .inl e, this => exact this
        | .inr (g, q), this => exact ⟨by have h1 : we T (sk T p) < q := this.1; show p < q; omega, this.2⟩
    · have := pPlain_b h a2
      generalize pPlain T (sk T p) = r at this
      match r, this with
      | .inl e, this => exact this
      | .inr (g, q), this => exact ⟨Nat.lt_of_le_of_lt a1 this.1, this.2⟩
theorem pAtomD_b (h : Tx T n) : ∀ k d p, p ≤ n → qB n p (pAtomD T k d p) := by
  intro k
  induction k with
  | zero => intro d p hp; exact hp
  | succ k ih => intro d p hp; exact pAtom_b h ih d hp
theorem pLine_b (h : Tx T n) (hp : p ≤ n) : qB n p (pLine T p) := by
  obtain ⟨a1, a2, -, -⟩ := sk_spec h hp
  unfold pLine
  split
  · next hw =>
    have hb := wk_b h (by omega) a2 hw
    have := pFig_b h hb.2 (ylo := 0) (hi := 100) (dg := 3)
    generalize pFig 0 100 3 T (we T (sk T p)) = r at this
    match r, this with
    | .inl e, this => exact this
    | .inr (v, q), this =>
      have h1 : we T (sk T p) < q := this.1
      have h9 : q ≤ n := this.2
      obtain ⟨b1, b2, -, -⟩ := sk_spec h h9
      show qB n p (if ywk 13 T (sk T q) = true then (match pSo T (pAtomD T 9 0) (we T (sk T q)) with
      | .inl e => .inl e
      | .inr (g, r) => .inr ((v, g), r)) else .inr ((v, fun _ => true), sk T q))
      split
      · next hw2 =>
        have hb2 := wk_b h (by omega) b2 hw2
        have := pSo_b h (fun p hp => pAtomD_b h 9 0 p hp) hb2.2
        generalize pSo T (pAtomD T 9 0) (we T (sk T q)) = r at this
        match r, this with
        | .inl e, this => exact this
        | .inr (g, r), this => exact ⟨by have h4 : we T (sk T q) < r := this.1; show p < r; omega, this.2⟩
      · exact ⟨by show p < sk T q; omega, b2⟩
  · exact a2
theorem pLaw_b (h : Tx T n) : ∀ k l f p, p ≤ n → qBl n p (pLaw T k l f p) := by
  intro k
  induction k with
  | zero => intro l f p hp; exact ⟨Nat.le_refl _, hp⟩
  | succ k ih =>
    intro l f p hp
    unfold pLaw
    split
    · exact (sk_spec h hp).2.1
    · have := pLine_b h hp
      generalize pLine T p = r at this
      match r, this with
      | .inl e, this => exact this
      | .inr ((v, g), q), this =>
        have h1 : p < q := this.1
        have h9 : q ≤ n := this.2
        obtain ⟨b1, b2, -, -⟩ := sk_spec h h9
        show qBl n p (if T (sk T q) = 256 then .inr ((l + 1, _), sk T q) else if T (sk T q) = 59 then pLaw T k (l + 1) _ (sk T q + 1) else .inl (sk T q))
        split
        · exact ⟨by show p ≤ sk T q; omega, b2⟩
        · split
          · next hc =>
            have hlt := Tx_in h (by omega) hc
            have h2 := ih (l + 1) (lnx f v g) (sk T q + 1) (by omega)
            generalize pLaw T k (l + 1) _ (sk T q + 1) = r2 at h2
            match r2, h2 with
            | .inl e, h2 => exact h2
            | .inr (g2, q2), h2 => exact ⟨by have h3 : sk T q + 1 ≤ q2 := h2.1; show p ≤ q2; omega, h2.2⟩
          · exact b2
end ZT2
/-! ===== the model reads as the parser does ===== -/
/-- the model at place p, with error e, at depth d -/
def m3 (M : mS) (p e d : Int32) : mS := (fun k => if k = 9 then p else if k = 10 then e else if k = 11 then d else M.1 k, M.2)
/-- the text that the model reads -/
def yTM (M : mS) (T : Nat → Nat) (n : Nat) : Prop := Tx T n ∧ M.1 8 = nI n ∧ ((M.1 7 = -1 ∧ ∀ p, p < n → M.2 3 p = nI (T p)) ∨ (M.1 7 = 542 ∧ ∀ p, p < n → M.2 0 (542 + p) = nI (T p)))
/-- the scene that it reads for -/
def ySM (M : mS) (s : Sc9) : Prop := M.1 13 = s 0 ∧ M.1 14 = s 5 ∧ M.1 15 = s 6 ∧ (M.2 4 0 = s 1 ∧ M.2 4 1 = s 2 ∧ M.2 4 2 = s 3 ∧ M.2 4 3 = s 4) ∧ (s 5 = 0 ∨ s 5 = 1) ∧ (s 6 = 0 ∨ s 6 = 1)
/-- the model's answer is the parser's -/
def Rg {α : Type} (M : mS) (d : Int32) (B : Nat) (enc : α → Int32) (r : pR9 α) (go : Option (Int32 × mS)) : Prop := match r with
  | .inl e => ∃ v q d', q ≤ B ∧ go = some (v, m3 M (nI q) (nI e) d')
  | .inr x => go = some (enc x.1, m3 M (nI x.2) (-1) d)
section ZT3
variable {M : mS} {T : Nat → Nat} {n p : Nat} {e d x : Int32} {s : Sc9}
theorem m3_9 : (m3 M x e d).1 9 = x := rfl
theorem m3_10 : (m3 M x e d).1 10 = e := rfl
theorem m3_11 : (m3 M x e d).1 11 = d := rfl
theorem m3_8 : (m3 M x e d).1 8 = M.1 8 := rfl
theorem m3_7 : (m3 M x e d).1 7 = M.1 7 := rfl
theorem m3_s9 {y : Int32} : mset (m3 M x e d) 9 y = m3 M y e d := by
  refine Prod.ext (funext fun k => ?_) rfl
  show (if k = 9 then y else if k = 9 then x else if k = 10 then e else if k = 11 then d else M.1 k) = if k = 9 then y else if k = 10 then e else if k = 11 then d else M.1 k
  by_cases z : k = 9
  · rw [if_pos z, if_pos z]
  · rw [if_neg z, if_neg z, if_neg z]
theorem m3_s10 {y : Int32} : mset (m3 M x e d) 10 y = m3 M x y d := by
  refine Prod.ext (funext fun k => ?_) rfl
  show (if k = 10 then y else if k = 9 then x else if k = 10 then e else if k = 11 then d else M.1 k) = if k = 9 then x else if k = 10 then y else if k = 11 then d else M.1 k
  by_cases z : k = 10
  · rw [if_pos z, if_neg (by omega), if_pos z]
  · rw [if_neg z, if_neg z, if_neg z]
theorem m3_s11 {y : Int32} : mset (m3 M x e d) 11 y = m3 M x e y := by
  refine Prod.ext (funext fun k => ?_) rfl
  show (if k = 11 then y else if k = 9 then x else if k = 10 then e else if k = 11 then d else M.1 k) = if k = 9 then x else if k = 10 then e else if k = 11 then y else M.1 k
  by_cases z : k = 11
  · rw [if_pos z, if_neg (by omega), if_neg (by omega), if_pos z]
  · rw [if_neg z, if_neg (c := k = 11) z, if_neg (c := k = 11) z]
theorem TM_lt (h : yTM M T n) : n < 2 ^ 31 := by have := h.1.1; omega
theorem g_letter (h : yTM M T n) (hp : p < n) : g_X6_letter (nI p) (m3 M x e d) = some (nI (T p), m3 M x e d) := by
  have hn := h.1.1
  unfold g_X6_letter
  rw [m3_7]
  rcases h.2.2 with ⟨h7, hl⟩ | ⟨h7, hl⟩
  · rw [h7, if_neg (fun q => q rfl), mL_n (j := 3) (show p < 400 by omega) (by omega), bd_at]
    show some (M.2 3 p, _) = _
    rw [hl p hp]
  · have hne : ¬ (542 : Int32) = -1 := by decide
    rw [h7, if_pos hne, show (542 : Int32) = nI 542 from rfl, nI_add, mL_n (j := 0) (show 542 + p < 942 by omega) (by omega), bd_at]
    show some (M.2 0 (542 + p), _) = _
    rw [hl p hp]
theorem nI_inj {a b : Nat} (ha : a < 2 ^ 31) (hb : b < 2 ^ 31) : (nI a = nI b) = (a = b) := propext (nI_eq ha hb)
theorem g_skip (h : yTM M T n) (hp : p ≤ n) : g_X6_skip (m3 M (nI p) e d) = some ((), m3 M (nI (sk T p)) e d) := by
  have hn := h.1.1
  have H : ∀ k p fu, p ≤ n → n ≤ p + k → k < fu → zlp0 g_X6_skip_0_b fu (m3 M (nI p) e d) = some ((), m3 M (nI (yrun (fun q => isB (T q)) k p)) e d) := by
    intro k
    induction k with
    | zero =>
      intro p fu h1 h2 h3
      obtain ⟨fu, rfl⟩ : ∃ f', fu = f' + 1 := ⟨fu - 1, by omega⟩
      show g_X6_skip_0_b _ _ = some ((), m3 M (nI p) e d)
      unfold g_X6_skip_0_b
      rw [m3_8, m3_9, h.2.1, if_pos (nI_le (by omega) (by omega))]
    | succ k ih =>
      intro p fu h1 h2 h3
      obtain ⟨fu, rfl⟩ : ∃ f', fu = f' + 1 := ⟨fu - 1, by omega⟩
      show g_X6_skip_0_b (zlp0 g_X6_skip_0_b fu) _ = some ((), m3 M (nI (if isB (T p) = true then yrun (fun q => isB (T q)) k (p + 1) else p)) e d)
      have ih' := ih (p + 1) fu
      generalize zlp0 g_X6_skip_0_b fu = rf at ih'
      unfold g_X6_skip_0_b
      rw [m3_8, m3_9, h.2.1]
      by_cases z : p < n
      · rw [nleF z (by omega), g_letter h z, zb2_at, show (32 : Int32) = nI 32 from rfl]
        have ht := h.1.2.1 p z
        by_cases y : T p = 32
        · rw [y, if_neg (fun q => q rfl), if_pos (by rfl), zl_at, m3_9, m3_s9, nI_1]
          exact ih' (by omega) (by omega) (by omega)
        · have : ¬ nI (T p) = nI 32 := by rw [nI_inj (by omega) (by omega)]; exact y
          have yb : ¬ isB (T p) = true := fun q => y (of_decide_eq_true q)
          rw [if_pos this, if_neg yb]
      · have yb : ¬ isB (T p) = true := fun q => by
          have := of_decide_eq_true q
          rw [h.1.2.2 p (by omega)] at this
          omega
        rw [if_pos (nI_le (by omega) (by omega)), if_neg yb]
  exact H 400 p NN hp (by omega) (NN_lt (by omega))
theorem isL_iff {t : Nat} (ht : t ≤ 256) : (isL t = true) = ((97 : Int32) ≤ nI t ∧ nI t ≤ 122) := by
  rw [show (97 : Int32) = nI 97 from rfl, show (122 : Int32) = nI 122 from rfl, nI_leI (by omega) (by omega), nI_leI (by omega) (by omega)]
  exact propext ⟨fun h => of_decide_eq_true h, fun h => decide_eq_true h⟩
theorem isD_iff {t : Nat} (ht : t ≤ 256) : (isD t = true) = ((48 : Int32) ≤ nI t ∧ nI t ≤ 57) := by
  rw [show (48 : Int32) = nI 48 from rfl, show (57 : Int32) = nI 57 from rfl, nI_leI (by omega) (by omega), nI_leI (by omega) (by omega)]
  exact propext ⟨fun h => of_decide_eq_true h, fun h => decide_eq_true h⟩
theorem Tx_256 (h : Tx T n) (p : Nat) : T p ≤ 256 := by
  rcases Nat.lt_or_ge p n with q | q
  · have := h.2.1 p q; omega
  · rw [h.2.2 p q]; omega
theorem g_has9 (h : yTM M T n) {i : Nat} (hp : p ≤ n) : g_X6_has_9 i (nI p) (m3 M x e d) = g_X6_has_38 i (nI (we T p)) (m3 M x e d) := by
  have hn := h.1.1
  have H : ∀ k p fu, p ≤ n → n ≤ p + k → k < fu → zlp1 (g_X6_has_9_b i) fu (nI p) (m3 M x e d) = g_X6_has_38 i (nI (yrun (fun q => isL (T q)) k p)) (m3 M x e d) := by
    intro k
    induction k with
    | zero =>
      intro p fu h1 h2 h3
      obtain ⟨fu, rfl⟩ : ∃ f', fu = f' + 1 := ⟨fu - 1, by omega⟩
      show g_X6_has_9_b i _ _ _ = g_X6_has_38 i (nI p) _
      unfold g_X6_has_9_b
      rw [m3_8, h.2.1, if_pos (nI_le (by omega) (by omega))]
    | succ k ih =>
      intro p fu h1 h2 h3
      obtain ⟨fu, rfl⟩ : ∃ f', fu = f' + 1 := ⟨fu - 1, by omega⟩
      show g_X6_has_9_b i (zlp1 (g_X6_has_9_b i) fu) _ _ = g_X6_has_38 i (nI (if isL (T p) = true then yrun (fun q => isL (T q)) k (p + 1) else p)) _
      have ih' := ih (p + 1) fu
      generalize zlp1 (g_X6_has_9_b i) fu = rf at ih'
      unfold g_X6_has_9_b
      rw [m3_8, h.2.1]
      by_cases z : p < n
      · rw [nleF z (by omega), g_letter h z, zb2_at]
        by_cases y : isL (T p) = true
        · have y' := y
          rw [isL_iff (Tx_256 h.1 p)] at y'
          rw [g_in1 y', zb2_at, if_neg (by decide), if_pos y, zl_at, nI_1]
          exact ih' (by omega) (by omega) (by omega)
        · have y' := y
          rw [isL_iff (Tx_256 h.1 p)] at y'
          rw [g_in0 y', zb2_at, if_pos rfl, if_neg y]
      · have yb : ¬ isL (T p) = true := fun q => by
          have := of_decide_eq_true q
          rw [h.1.2.2 p (by omega)] at this
          omega
        rw [if_pos (nI_le (by omega) (by omega)), if_neg yb]
  exact H 400 p NN hp (by omega) (NN_lt (by omega))
theorem g_has55 (h : yTM M T n) {i s r : Nat} (hi : i < 23) (hr : s + (zTb i).length ≤ n) : g_X6_has_55 i (nI r) 0 (m3 M (nI s) e d) = if (∀ k, k < (zTb i).length → nI (T (s + k)) = (zTb i).getD k 0) then some (1, m3 M (nI r) e d) else some (0, m3 M (nI s) e d) := by
  have hn := h.1.1
  have hl := (zTb_ne i hi).2.1
  have H : ∀ j k fu, k + j = (zTb i).length → j < fu → (∀ k', k' < k → nI (T (s + k')) = (zTb i).getD k' 0) → zlp1 (g_X6_has_55_b i (nI r)) fu (nI k) (m3 M (nI s) e d) = if (∀ k, k < (zTb i).length → nI (T (s + k)) = (zTb i).getD k 0) then some (1, m3 M (nI r) e d) else some (0, m3 M (nI s) e d) := by
    intro j
    induction j with
    | zero =>
      intro k fu h1 h2 h3
      obtain ⟨fu, rfl⟩ : ∃ f', fu = f' + 1 := ⟨fu - 1, by omega⟩
      show g_X6_has_55_b i (nI r) _ _ _ = _
      unfold g_X6_has_55_b zlt
      rw [show Int32.ofNat (zTb i).length = nI (zTb i).length from rfl, if_pos (nI_le (by omega) (by omega)), zl_at, m3_s9, if_pos (fun k' hk' => h3 k' (by omega))]
    | succ j ih =>
      intro k fu h1 h2 h3
      obtain ⟨fu, rfl⟩ : ∃ f', fu = f' + 1 := ⟨fu - 1, by omega⟩
      show g_X6_has_55_b i (nI r) (zlp1 (g_X6_has_55_b i (nI r)) fu) _ _ = _
      have ih' := ih (k + 1) fu
      generalize zlp1 (g_X6_has_55_b i (nI r)) fu = rf at ih'
      unfold g_X6_has_55_b zlt
      rw [show Int32.ofNat (zTb i).length = nI (zTb i).length from rfl, nleF (show k < (zTb i).length by omega) (by omega), m3_9, nI_add, g_letter h (by omega), zb2_at]
      have hz : zch9 i (nI k) = some ((zTb i).getD k 0) := by
        unfold zch9
        rw [if_neg (nI_in (show k < (zTb i).length by omega) (by omega)), nI_clamp (by omega)]
      rw [hz, bd_at]
      by_cases y : nI (T (s + k)) = (zTb i).getD k 0
      · rw [if_pos y, zl_at, nI_1]
        exact ih' (by omega) (by omega) (fun k' hk' => by
          by_cases w : k' = k
          · rw [w]; exact y
          · exact h3 k' (by omega))
      · rw [if_neg y, if_neg (fun q => y (q k (by omega)))]
  exact H (zTb i).length 0 NN (by omega) (NN_lt (by omega)) (fun k' hk' => absurd hk' (Nat.not_lt_zero _))
theorem g_has (h : yTM M T n) {i : Nat} (hi : i < 23) (hp : p ≤ n) : g_X6_has i (m3 M (nI p) e d) = if ywk i T (sk T p) = true then some (1, m3 M (nI (we T (sk T p))) e d) else some (0, m3 M (nI (sk T p)) e d) := by
  have hn := h.1.1
  obtain ⟨a1, a2, a3, a4⟩ := sk_spec h.1 hp
  obtain ⟨b1, b2, b3, b4⟩ := we_spec h.1 a2
  have hl := (zTb_ne i hi).2.1
  unfold g_X6_has
  rw [g_skip h hp, zb2_at, zl_at, m3_9, g_has9 h a2]
  unfold g_X6_has_38 zlt
  rw [m3_9, pk_sub b1, show Int32.ofNat (zTb i).length = nI (zTb i).length from rfl]
  by_cases z : we T (sk T p) - sk T p = (zTb i).length
  · rw [if_pos (by rw [z]), g_has55 h hi (by omega)]
    by_cases y : ∀ k, k < (zTb i).length → nI (T (sk T p + k)) = (zTb i).getD k 0
    · have hw : ywk i T (sk T p) = true := decide_eq_true ⟨by omega, y⟩
      rw [if_pos y, if_pos hw]
    · rw [if_neg y, if_neg (fun q => y (of_decide_eq_true q).2)]
  · have : ¬ nI (we T (sk T p) - sk T p) = nI (zTb i).length := by rw [nI_inj (by omega) (by omega)]; exact z
    rw [if_neg this, if_neg (fun q => z (by have := (of_decide_eq_true q).1; omega))]
theorem g_has1 (h : yTM M T n) {i : Nat} (hi : i < 23) (hp : p ≤ n) (hw : ywk i T (sk T p) = true) : g_X6_has i (m3 M (nI p) e d) = some (1, m3 M (nI (we T (sk T p))) e d) := by rw [g_has h hi hp, if_pos hw]
theorem g_has0 (h : yTM M T n) {i : Nat} (hi : i < 23) (hp : p ≤ n) (hw : ¬ ywk i T (sk T p) = true) : g_X6_has i (m3 M (nI p) e d) = some (0, m3 M (nI (sk T p)) e d) := by rw [g_has h hi hp, if_neg hw]
theorem g_wrong : g_X6_wrong x (m3 M e (-1) d) = some ((), m3 M e x d) := by
  unfold g_X6_wrong
  rw [m3_10, if_neg (fun q => q rfl), zl_at, m3_s10]
theorem g_wrong1 {y : Int32} (he : ¬ e = -1) : g_X6_wrong y (m3 M x e d) = some ((), m3 M x e d) := by
  unfold g_X6_wrong
  rw [m3_10, if_pos he]
theorem g_sign (h : yTM M T n) {c : Nat} (hc : c < 256) (hp : p ≤ n) : g_X6_isSign (nI c) (m3 M (nI p) e d) = some (if T (sk T p) = c then 1 else 0, m3 M (nI (sk T p)) e d) := by
  have hn := h.1.1
  obtain ⟨a1, a2, a3, a4⟩ := sk_spec h.1 hp
  unfold g_X6_isSign
  rw [g_skip h hp, zb2_at, m3_8, m3_9, h.2.1]
  by_cases z : sk T p < n
  · rw [nleF z (by omega), g_letter h z, zb2_at]
    have ht := h.1.2.1 _ z
    by_cases y : T (sk T p) = c
    · rw [if_neg (fun q => q (by rw [y])), if_pos y]
    · have : ¬ nI (T (sk T p)) = nI c := by rw [nI_inj (by omega) (by omega)]; exact y
      rw [if_pos this, if_neg y]
  · rw [if_pos (nI_le (by omega) (by omega)), if_neg]
    rw [h.1.2.2 _ (by omega)]
    omega
end ZT3
theorem nn1 : ¬ ¬ ((-1 : Int32) = -1) := fun q => q rfl
section ZT4
variable {M : mS} {T : Nat → Nat} {n p B : Nat} {e d x : Int32} {s : Sc9}
theorem vl_lt {s : Nat} : ∀ k, (∀ j, j < k → isD (T (s + j)) = true) → vl T s k < 10 ^ k := by
  intro k
  induction k with
  | zero => intro _; exact Nat.zero_lt_one
  | succ k ih =>
    intro h
    have h1 := ih (fun j hj => h j (by omega))
    have h2 := of_decide_eq_true (h k (by omega))
    show 10 * vl T s k + T (s + k) - 48 < 10 ^ (k + 1)
    rw [Nat.pow_succ]
    omega
theorem p10_6 {k : Nat} (h : k ≤ 6) : 10 ^ k ≤ 1000000 := by
  rcases (show k = 0 ∨ k = 1 ∨ k = 2 ∨ k = 3 ∨ k = 4 ∨ k = 5 ∨ k = 6 by omega) with rfl | rfl | rfl | rfl | rfl | rfl | rfl <;> decide
/-- figures are read -/
theorem g_fig (h : yTM M T n) (hB : n ≤ B) (hp : p ≤ n) {ylo hi dg : Nat} {hI : Int32} (hlo : ylo ≤ 1) (hdg : dg ≤ 5) (hhi : ∀ v, v < 1000000 → (nI v ≤ hI ↔ v < hi)) : Rg M d B (fun v => nI v) (pFig ylo hi dg T p) (g_X6_figures (nI ylo) hI (nI dg) (m3 M (nI p) (-1) d)) := by
  have hn := h.1.1
  obtain ⟨a1, a2, a3, a4⟩ := sk_spec h.1 hp
  obtain ⟨b1, b2, b3, b4⟩ := ne_spec h.1 a2
  unfold g_X6_figures g_X6_figures_23
  rw [m3_10, if_pos rfl, g_skip h hp, zb2_at, zl_at, m3_9]
  have hpF : pFig ylo hi dg T p = if ne T (sk T p) = sk T p ∨ dg < ne T (sk T p) - sk T p ∨ ¬ (ylo ≤ vl T (sk T p) (ne T (sk T p) - sk T p) ∧ vl T (sk T p) (ne T (sk T p) - sk T p) < hi) then .inl (sk T p)
  else .inr (vl T (sk T p) (ne T (sk T p) - sk T p), ne T (sk T p)) := rfl
  generalize sk T p = s at *
  generalize hr : ne T s = r at *
  have hdig : ∀ j, s + j < r → isD (T (s + j)) = true := fun j hj => b4 _ (by omega) hj
  -- the end
  have E95 : ∀ k, s + k ≤ r → k ≤ 6 → (s + k = r ∨ dg < k) → Rg M d B (fun v => nI v) (pFig ylo hi dg T p) (g_X6_figures_95 (nI ylo) hI (nI dg) (nI s) (nI (vl T s k)) (m3 M (nI (s + k)) (-1) d)) := by
    intro k hk h6 hor
    have hv : vl T s k < 1000000 := Nat.lt_of_lt_of_le (vl_lt k (fun j hj => hdig j (by omega))) (p10_6 h6)
    have ywr : ∀ v, g_X6_figures_127 (nI s) v (m3 M (nI (s + k)) (-1) d) = some (v, m3 M (nI (s + k)) (nI s) d) := by
      intro v
      unfold g_X6_figures_127
      rw [g_wrong, zb2_at]
    rw [hpF]
    unfold g_X6_figures_95
    rw [m3_9, pk_sub (by omega), show s + k - s = k by omega]
    by_cases z : s + k = s
    · rw [if_pos (show nI (s + k) = nI s by rw [z]), ywr, if_pos (Or.inl (by omega))]
      exact ⟨_, s + k, _, by omega, rfl⟩
    · rw [if_neg (show ¬ nI (s + k) = nI s by rw [nI_inj (by omega) (by omega)]; exact z)]
      by_cases y : dg < k
      · rw [if_pos (nI_lt y (by omega)), ywr, if_pos (Or.inr (Or.inl (by omega)))]
        exact ⟨_, s + k, _, by omega, rfl⟩
      · have hrk : r - s = k := by omega
        rw [if_neg (nI_nlt (by omega) (by omega)), hrk]
        by_cases x : vl T s k < ylo
        · rw [if_pos (nI_lt x (by omega)), ywr, if_pos (Or.inr (Or.inr (fun q => by omega)))]
          exact ⟨_, s + k, _, by omega, rfl⟩
        · rw [if_neg (nI_nlt (by omega) (by omega))]
          by_cases w : vl T s k < hi
          · rw [if_pos ((hhi _ hv).mpr w), if_neg (by omega), show s + k = r by omega]
            exact rfl
          · rw [if_neg (fun q => w ((hhi _ hv).mp q)), ywr, if_pos (Or.inr (Or.inr (fun q => w q.2)))]
            exact ⟨_, s + k, _, by omega, rfl⟩
  have H : ∀ j k fu, k + j = dg + 1 → s + k ≤ r → j < fu → Rg M d B (fun v => nI v) (pFig ylo hi dg T p) (zlp1 (g_X6_figures_23_b (nI ylo) hI (nI dg) (nI s)) fu (nI (vl T s k)) (m3 M (nI (s + k)) (-1) d)) := by
    intro j
    induction j with
    | zero =>
      intro k fu h1 h2 h3
      obtain ⟨fu, rfl⟩ : ∃ f', fu = f' + 1 := ⟨fu - 1, by omega⟩
      show Rg M d B _ _ (g_X6_figures_23_b (nI ylo) hI (nI dg) (nI s) _ _ _)
      unfold g_X6_figures_23_b
      rw [m3_8, m3_9, h.2.1]
      have e9 := E95 k h2 (by omega) (Or.inr (by omega))
      by_cases z : s + k < n
      · rw [nleF z (by omega), g_letter h z, zb2_at]
        by_cases y : isD (T (s + k)) = true
        · have y' := y
          rw [isD_iff (Tx_256 h.1 _)] at y'
          rw [g_in1 y', zb2_at, if_neg (by decide), m3_9, pk_sub (by omega), show s + k - s = k by omega, if_pos (nI_lt (by omega) (by omega))]
          exact e9
        · have y' := y
          rw [isD_iff (Tx_256 h.1 _)] at y'
          rw [g_in0 y', zb2_at, if_pos rfl]
          exact e9
      · rw [if_pos (nI_le (by omega) (by omega))]
        exact e9
    | succ j ih =>
      intro k fu h1 h2 h3
      obtain ⟨fu, rfl⟩ : ∃ f', fu = f' + 1 := ⟨fu - 1, by omega⟩
      show Rg M d B _ _ (g_X6_figures_23_b (nI ylo) hI (nI dg) (nI s) (zlp1 (g_X6_figures_23_b (nI ylo) hI (nI dg) (nI s)) fu) _ _)
      have ih' := ih (k + 1) fu
      generalize zlp1 (g_X6_figures_23_b (nI ylo) hI (nI dg) (nI s)) fu = rf at ih'
      unfold g_X6_figures_23_b
      rw [m3_8, m3_9, h.2.1]
      by_cases z : s + k < n
      · rw [nleF z (by omega), g_letter h z, zb2_at]
        by_cases y : isD (T (s + k)) = true
        · have y' := y
          rw [isD_iff (Tx_256 h.1 _)] at y'
          have hlt : s + k < r := by
            rcases Nat.lt_or_ge (s + k) r with q | q
            · exact q
            · have e : s + k = r := by omega
              rw [e, b3] at y; cases y
          have hd := of_decide_eq_true y
          rw [g_in1 y', zb2_at, if_neg (by decide), m3_9, pk_sub (by omega), show s + k - s = k by omega, if_neg (nI_nlt (by omega) (by omega)), g_letter h z, zb2_at, zl_at, m3_9, m3_s9, zl_at, nI_1, show (10 : Int32) = nI 10 from rfl, show (48 : Int32) = nI 48 from rfl, pk_mul, nI_add, pk_sub (by omega)]
          exact ih' (by omega) (by omega) (by omega)
        · have y' := y
          rw [isD_iff (Tx_256 h.1 _)] at y'
          rw [g_in0 y', zb2_at, if_pos rfl]
          have e : s + k = r := by
            rcases Nat.lt_or_ge (s + k) r with q | q
            · exact absurd (hdig k q) y
            · omega
          exact E95 k h2 (by omega) (Or.inl e)
      · rw [if_pos (nI_le (by omega) (by omega))]
        exact E95 k h2 (by omega) (Or.inl (by omega))
  exact H (dg + 1) 0 NN (by omega) b1 (NN_lt (by omega))
theorem g_fig_err {a b c : Int32} (he : ¬ e = -1) : g_X6_figures a b c (m3 M x e d) = some (0, m3 M x e d) := by
  unfold g_X6_figures
  rw [m3_10, if_neg he]
theorem Rg_inl {α : Type} {enc : α → Int32} {r : pR9 α} {go : Option (Int32 × mS)} {e : Nat} (hr : r = .inl e) (h : Rg M d B enc r go) : ∃ v q d', q ≤ B ∧ go = some (v, m3 M (nI q) (nI e) d') := by subst hr; exact h
theorem Rg_inr {α : Type} {enc : α → Int32} {r : pR9 α} {go : Option (Int32 × mS)} {y : α} {q : Nat} (hr : r = .inr (y, q)) (h : Rg M d B enc r go) : go = some (enc y, m3 M (nI q) (-1) d) := by subst hr; exact h
/-- a part of a sum -/
theorem g_part (h : yTM M T n) (hB : n ≤ B) (hs : ySM M s) (hp : p ≤ n) : Rg M d B (fun f => f s) (pPart T p) (g_X6_part (m3 M (nI p) (-1) d)) := by
  have hn := h.1.1
  obtain ⟨a1, a2, a3, a4⟩ := sk_spec h.1 hp
  have ss := sk_sk h.1 hp
  obtain ⟨-, -, -, ⟨f0, f1, f2, f3⟩, -, -⟩ := hs
  unfold g_X6_part
  rw [m3_10, if_pos rfl, g_skip h hp, zb2_at, m3_8, m3_9, h.2.1]
  -- the words
  have P : ¬ isD (T (sk T p)) = true → Rg M d B (fun f => f s) (pPart T p) (g_X6_part_53 (m3 M (nI (sk T p)) (-1) d)) := by
    intro y
    have rd : ∀ j (x : Int32), j < 4 → M.2 4 j = x → ∀ q, g_X6_part_106 (nI j) (m3 M q (-1) d) = some (x, m3 M q (-1) d) := by
      intro j x hj hx q
      unfold g_X6_part_106
      have : ¬ nI j = -1 := by
        rcases (show j = 0 ∨ j = 1 ∨ j = 2 ∨ j = 3 by omega) with rfl | rfl | rfl | rfl <;> decide
      rw [if_pos this, mL_n (j := 4) (show j < 4 by omega) (by omega), bd_at]
      show some (M.2 4 j, _) = _
      rw [hx]
    unfold g_X6_part_53 pPart
    rw [if_neg y]
    by_cases w1 : ywk 19 T (sk T p) = true
    · rw [if_pos w1, g_has1 h (by omega) a2 (by rw [ss]; exact w1), zb2_at, if_neg (by decide), ss]
      exact rd 0 _ (by omega) f0 _
    · rw [if_neg w1, g_has0 h (by omega) a2 (by rw [ss]; exact w1), zb2_at, if_pos rfl, ss]
      by_cases w2 : ywk 20 T (sk T p) = true
      · rw [if_pos w2, g_has1 h (by omega) a2 (by rw [ss]; exact w2), zb2_at, if_neg (by decide), ss]
        exact rd 1 _ (by omega) f1 _
      · rw [if_neg w2, g_has0 h (by omega) a2 (by rw [ss]; exact w2), zb2_at, if_pos rfl, ss]
        by_cases w3 : ywk 21 T (sk T p) = true
        · rw [if_pos w3, g_has1 h (by omega) a2 (by rw [ss]; exact w3), zb2_at, if_neg (by decide), ss]
          exact rd 2 _ (by omega) f2 _
        · rw [if_neg w3, g_has0 h (by omega) a2 (by rw [ss]; exact w3), zb2_at, if_pos rfl, ss]
          by_cases w4 : ywk 22 T (sk T p) = true
          · rw [if_pos w4, g_has1 h (by omega) a2 (by rw [ss]; exact w4), zb2_at, if_neg (by decide), ss]
            exact rd 3 _ (by omega) f3 _
          · rw [if_neg w4, g_has0 h (by omega) a2 (by rw [ss]; exact w4), zb2_at, if_pos rfl, ss]
            unfold g_X6_part_106
            rw [if_neg (fun q => q rfl), m3_9, g_wrong, zb2_at]
            exact ⟨_, sk T p, _, by omega, rfl⟩
  by_cases z : sk T p < n
  · rw [nleF z (by omega), g_letter h z, zb2_at]
    by_cases y : isD (T (sk T p)) = true
    · have y' := y
      rw [isD_iff (Tx_256 h.1 _)] at y'
      rw [g_in1 y', zb2_at, if_neg (by decide)]
      have hf := g_fig (d := d) h hB a2 (ylo := 0) (hi := 1000) (dg := 3) (hI := 999) (by omega) (by omega) (fun v hv => by rw [show (999 : Int32) = nI 999 from rfl, nI_leI (by omega) (by omega)]; omega)
      have hf' : Rg M d B (fun v => nI v) (pFig 0 1000 3 T (sk T p)) (g_X6_figures 0 999 3 (m3 M (nI (sk T p)) (-1) d)) := hf
      unfold pPart
      rw [if_pos y]
      generalize pFig 0 1000 3 T (sk T p) = r at hf'
      match r, hf' with
      | .inl e, hf' =>
        obtain ⟨v, q, d', hqB, hg⟩ := hf'
        rw [hg, zb2_at]
        exact ⟨_, q, _, hqB, rfl⟩
      | .inr (v, q), hf' =>
        have hg : g_X6_figures 0 999 3 (m3 M (nI (sk T p)) (-1) d) = some (nI v, m3 M (nI q) (-1) d) := hf'
        rw [hg, zb2_at]
        exact rfl
    · have y' := y
      rw [isD_iff (Tx_256 h.1 _)] at y'
      rw [g_in0 y', zb2_at, if_pos rfl]
      exact P y
  · rw [if_pos (nI_le (by omega) (by omega))]
    refine P fun q => ?_
    have := of_decide_eq_true q
    rw [h.1.2.2 _ (by omega)] at this
    omega
theorem nI_ne1 {k : Nat} (h : k ≤ 1000) : ¬ nI k = -1 := by
  intro q
  have h1 : (0 : Int32) ≤ nI k := nI_pos' (by omega)
  rw [q] at h1
  exact absurd h1 (by decide)
theorem g_part_err (he : ¬ e = -1) : g_X6_part (m3 M x e d) = some (0, m3 M x e d) := by
  unfold g_X6_part
  rw [m3_10, if_neg he]
theorem g_sumL (h : yTM M T n) (hB : n ≤ B) (hs : ySM M s) : ∀ k p f fu, p ≤ n → n ≤ p + k → k < fu → Rg M d B (fun f => f s) (pSumL T k f p) (zlp1 g_X6_sum_5_b fu (f s) (m3 M (nI p) (-1) d)) := by
  have hn := h.1.1
  intro k
  induction k with
  | zero =>
    intro p f fu h1 h2 h3
    obtain ⟨fu, rfl⟩ : ∃ f', fu = f' + 1 := ⟨fu - 1, by omega⟩
    obtain ⟨a1, a2, a3, a4⟩ := sk_spec h.1 h1
    show Rg M d B _ (.inr (f, sk T p)) (g_X6_sum_5_b _ _ _)
    unfold g_X6_sum_5_b
    have : ¬ T (sk T p) = 43 := by rw [h.1.2.2 _ (by omega)]; omega
    rw [m3_10, if_neg nn1, show (43 : Int32) = nI 43 from rfl, g_sign h (by omega) h1, zb2_at, if_neg this, if_pos rfl]
    exact rfl
  | succ k ih =>
    intro p f fu h1 h2 h3
    obtain ⟨fu, rfl⟩ : ∃ f', fu = f' + 1 := ⟨fu - 1, by omega⟩
    obtain ⟨a1, a2, a3, a4⟩ := sk_spec h.1 h1
    show Rg M d B _ _ (g_X6_sum_5_b (zlp1 g_X6_sum_5_b fu) _ _)
    have er : ∀ v q e d', ¬ e = -1 → 0 < fu → zlp1 g_X6_sum_5_b fu v (m3 M q e d') = some (v, m3 M q e d') := by
      intro v q e d' he hfu
      obtain ⟨fu, rfl⟩ : ∃ f', fu = f' + 1 := ⟨fu - 1, by omega⟩
      show g_X6_sum_5_b _ _ _ = _
      unfold g_X6_sum_5_b
      rw [m3_10, if_pos he]
    have ih' := fun q g (hq : p < q) (hqn : q ≤ n) => ih q g fu hqn (by omega) (by omega)
    generalize zlp1 g_X6_sum_5_b fu = rf at ih' er
    unfold g_X6_sum_5_b pSumL
    rw [m3_10, if_neg nn1, show (43 : Int32) = nI 43 from rfl, g_sign h (by omega) h1, zb2_at]
    by_cases z : T (sk T p) = 43
    · have hlt := Tx_in h.1 (by omega) z
      rw [if_pos z, if_pos z, if_neg (by decide), zl_at, m3_9, m3_s9, nI_1]
      have hg := g_part (d := d) h hB hs (show sk T p + 1 ≤ n by omega)
      have hb := pPart_b h.1 (show sk T p + 1 ≤ n by omega)
      generalize pPart T (sk T p + 1) = r at hg hb
      match r, hg, hb with
      | .inl e, hg, hb =>
        obtain ⟨v, q, d', hqB, hg⟩ := hg
        have hen : e ≤ n := hb
        rw [hg, zb2_at, zl_at, er _ _ _ _ (nI_ne1 (by omega)) (by omega)]
        exact ⟨_, q, _, hqB, rfl⟩
      | .inr (g, q), hg, hb =>
        have hg' : g_X6_part (m3 M (nI (sk T p + 1)) (-1) d) = some (g s, m3 M (nI q) (-1) d) := hg
        have hb1 : sk T p + 1 < q := hb.1
        rw [hg', zb2_at, zl_at]
        exact ih' q (fun s => f s + g s) (by omega) hb.2
    · rw [if_neg z, if_neg z, if_pos rfl]
      exact rfl
theorem g_sum (h : yTM M T n) (hB : n ≤ B) (hs : ySM M s) (hp : p ≤ n) : Rg M d B (fun f => f s) (pSum T p) (g_X6_sum (m3 M (nI p) (-1) d)) := by
  have hn := h.1.1
  unfold g_X6_sum pSum
  have hg := g_part (d := d) h hB hs hp
  have hb := pPart_b h.1 hp
  generalize pPart T p = r at hg hb
  match r, hg, hb with
  | .inl e, hg, hb =>
    obtain ⟨v, q, d', hqB, hg⟩ := hg
    have hen : e ≤ n := hb
    rw [hg, zb2_at]
    unfold g_X6_sum_5
    show Rg M d B _ _ (g_X6_sum_5_b _ _ _)
    unfold g_X6_sum_5_b
    rw [m3_10, if_pos (nI_ne1 (by omega))]
    exact ⟨_, q, _, hqB, rfl⟩
  | .inr (g, q), hg, hb =>
    have hg' : g_X6_part (m3 M (nI p) (-1) d) = some (g s, m3 M (nI q) (-1) d) := hg
    rw [hg', zb2_at]
    exact g_sumL h hB hs 400 q g NN hb.2 (by have : p < q := hb.1; omega) (NN_lt (by omega))
end ZT4
