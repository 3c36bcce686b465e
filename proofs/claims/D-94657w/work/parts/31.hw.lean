/-! writes -/
def vset (V : cV) (k : Nat) (x : Int32) : cV := (fun j => if j = k then x else V.1 j, V.2)
def vsetZ (V : cV) (k : Nat) (x : Int32) : Option cV := if x = 0 ∨ x = 1 then some (vset V k x) else none
def vtab (V : cV) (t i : Nat) (x : Int32) : cV := (V.1, fun q => if q = t then upd (V.2.1 t) i x else V.2.1 q, V.2.2)
def vtabZ (V : cV) (t i : Nat) (x : Int32) : Option cV := if x = 0 ∨ x = 1 then some (vtab V t i x) else none
def vL (V : cV) (t n : Nat) (i : Int32) : Option Int32 := if i < 0 ∨ n ≤ i.toNatClampNeg then none else some (V.2.1 t i.toNatClampNeg)
def vSt (V : cV) (t n : Nat) (i x : Int32) : Option cV := if i < 0 ∨ n ≤ i.toNatClampNeg then none else some (vtab V t i.toNatClampNeg x)
theorem cOK_set {σ : zS} {A : cA} {V : cV} {k : Nat} {x : Int32} (h : cOK σ A V) : cOK σ A (vset V k x) := h
theorem cOK_tab {σ : zS} {A : cA} {V : cV} {t i : Nat} {x : Int32} (h : cOK σ A V) : cOK σ A (vtab V t i x) := h
theorem czset {σ : zS} {A : cA} {V V' : cV} (hA : cOK σ A V) {r : Nat} {o : zOb} (hs : cCt A V' r = some o) (ho : ∀ q, q ≠ r → cCt A V' q = cCt A V q) : zset (pC σ A V) (aad A r) o = pC σ A V' := by
  unfold zset
  refine Prod.ext (funext fun q => ?_) rfl
  show (if q = aad A r then some o else (pC σ A V).1 q) = (pC σ A V').1 q
  by_cases e : q = aad A r
  · subst e
    rw [if_pos rfl]
    show _ = (match ainv A (aad A r) with
      | some r => cCt A V' r
      | none => σ.1 (aad A r))
    rw [hA.1 r]
    exact hs.symm
  · rw [if_neg e]
    show (match ainv A q with
      | some r => cCt A V r
      | none => σ.1 q) = (match ainv A q with
      | some r => cCt A V' r
      | none => σ.1 q)
    cases e2 : ainv A q with
    | none => rfl
    | some r' =>
      have e3 := hA.2.2.2 q r' e2
      exact (ho r' (fun e4 => e (by rw [← e3, e4]))).symm
theorem cpF {σ : zS} {A : cA} {V V' : cV} (hA : cOK σ A V) {r ci k : Nat} {fs : List Value} {v : Value} (hc : cCt A V r = some (.inr (ci, fs))) (hk : k < fs.length) (hs : cCt A V' r = some (.inr (ci, fs.set k v))) (ho : ∀ q, q ≠ r → cCt A V' q = cCt A V q) : pF (pC σ A V) (aad A r) ci k v = some (pC σ A V') := by
  unfold pF
  rw [pC_ad hA, hc]
  show (if ci = ci ∧ k < fs.length ∧ zbs σ ≤ aad A r then some (zset (pC σ A V) (aad A r) (.inr (ci, fs.set k v))) else none) = _
  rw [if_pos ⟨rfl, hk, hA.2.1 r⟩, czset hA hs ho]
theorem cpZ {σ : zS} {A : cA} {V V' : cV} (hA : cOK σ A V) {r ci k : Nat} {fs : List Value} {x : Int32} (hx : x = 0 ∨ x = 1) (hc : cCt A V r = some (.inr (ci, fs))) (hk : k < fs.length) (hs : cCt A V' r = some (.inr (ci, fs.set k (.int x)))) (ho : ∀ q, q ≠ r → cCt A V' q = cCt A V q) : pZ (pC σ A V) (aad A r) ci k x = some (pC σ A V') := by
  unfold pZ
  rw [if_pos hx]
  exact cpF hA hc hk hs ho
theorem clI {σ : zS} {A : cA} {V : cV} (hA : cOK σ A V) {r t n u : Nat} {i x : Int32} (hc : cCt A V r = some (.inl (u, n, .inl (V.2.1 t)))) (hu : u % 100 = u) (h : vL V t n i = some x) : lI (pC σ A V) (aad A r) u i = some x := by
  unfold lI
  rw [pC_ad hA, hc]
  unfold vL at h
  by_cases hi : i < 0 ∨ n ≤ i.toNatClampNeg
  · rw [if_pos hi] at h; cases h
  · rw [if_neg hi] at h
    show (if u % 100 = u ∧ ¬ (i < 0 ∨ n ≤ i.toNatClampNeg) then some (V.2.1 t i.toNatClampNeg) else none) = _
    rw [if_pos ⟨hu, hi⟩]
    exact h
theorem csI {σ : zS} {A : cA} {V V' : cV} (hA : cOK σ A V) {r t n : Nat} {i x : Int32} (hc : cCt A V r = some (.inl (0, n, .inl (V.2.1 t)))) (h : vSt V t n i x = some V') (hs : ∀ k y, cCt A (vtab V t k y) r = some (.inl (0, n, .inl (upd (V.2.1 t) k y)))) (ho : ∀ k y q, q ≠ r → cCt A (vtab V t k y) q = cCt A V q) : sI (pC σ A V) (aad A r) i x = some (pC σ A V') := by
  unfold sI
  rw [pC_ad hA, hc]
  unfold vSt at h
  by_cases hi : i < 0 ∨ n ≤ i.toNatClampNeg
  · rw [if_pos hi] at h; cases h
  · rw [if_neg hi] at h
    cases h
    have hb : zbs (pC σ A V) ≤ aad A r := hA.2.1 r
    show (if 0 = 0 ∧ ¬ (i < 0 ∨ n ≤ i.toNatClampNeg) ∧ zbs (pC σ A V) ≤ aad A r then some (zset (pC σ A V) (aad A r) (.inl (0, n, .inl (upd (V.2.1 t) i.toNatClampNeg x)))) else none) = _
    rw [if_pos ⟨rfl, hi, hb⟩, czset hA (hs _ _) (ho _ _)]
theorem vso_0 {A : cA} {V : cV} {x : Int32} : ∀ q, q ≠ 1 → cCt A (vset V 0 x) q = cCt A V q
  | 0, _ => rfl
  | 1, h => absurd rfl h
  | 2, _ => rfl
  | 3, _ => rfl
  | 4, _ => rfl
  | 5, _ => rfl
  | 6, _ => rfl
  | 7, _ => rfl
  | 8, _ => rfl
  | 9, _ => rfl
  | 10, _ => rfl
  | 11, _ => rfl
  | 12, _ => rfl
  | 13, _ => rfl
  | 14, _ => rfl
  | 15, _ => rfl
  | 16, _ => rfl
  | 17, _ => rfl
  | 18, _ => rfl
  | 19, _ => rfl
  | q + 20, _ => rfl
theorem vso_1 {A : cA} {V : cV} {x : Int32} : ∀ q, q ≠ 1 → cCt A (vset V 1 x) q = cCt A V q
  | 0, _ => rfl
  | 1, h => absurd rfl h
  | 2, _ => rfl
  | 3, _ => rfl
  | 4, _ => rfl
  | 5, _ => rfl
  | 6, _ => rfl
  | 7, _ => rfl
  | 8, _ => rfl
  | 9, _ => rfl
  | 10, _ => rfl
  | 11, _ => rfl
  | 12, _ => rfl
  | 13, _ => rfl
  | 14, _ => rfl
  | 15, _ => rfl
  | 16, _ => rfl
  | 17, _ => rfl
  | 18, _ => rfl
  | 19, _ => rfl
  | q + 20, _ => rfl
theorem vso_2 {A : cA} {V : cV} {x : Int32} : ∀ q, q ≠ 1 → cCt A (vset V 2 x) q = cCt A V q
  | 0, _ => rfl
  | 1, h => absurd rfl h
  | 2, _ => rfl
  | 3, _ => rfl
  | 4, _ => rfl
  | 5, _ => rfl
  | 6, _ => rfl
  | 7, _ => rfl
  | 8, _ => rfl
  | 9, _ => rfl
  | 10, _ => rfl
  | 11, _ => rfl
  | 12, _ => rfl
  | 13, _ => rfl
  | 14, _ => rfl
  | 15, _ => rfl
  | 16, _ => rfl
  | 17, _ => rfl
  | 18, _ => rfl
  | 19, _ => rfl
  | q + 20, _ => rfl
theorem vso_3 {A : cA} {V : cV} {x : Int32} : ∀ q, q ≠ 1 → cCt A (vset V 3 x) q = cCt A V q
  | 0, _ => rfl
  | 1, h => absurd rfl h
  | 2, _ => rfl
  | 3, _ => rfl
  | 4, _ => rfl
  | 5, _ => rfl
  | 6, _ => rfl
  | 7, _ => rfl
  | 8, _ => rfl
  | 9, _ => rfl
  | 10, _ => rfl
  | 11, _ => rfl
  | 12, _ => rfl
  | 13, _ => rfl
  | 14, _ => rfl
  | 15, _ => rfl
  | 16, _ => rfl
  | 17, _ => rfl
  | 18, _ => rfl
  | 19, _ => rfl
  | q + 20, _ => rfl
theorem vso_4 {A : cA} {V : cV} {x : Int32} : ∀ q, q ≠ 1 → cCt A (vset V 4 x) q = cCt A V q
  | 0, _ => rfl
  | 1, h => absurd rfl h
  | 2, _ => rfl
  | 3, _ => rfl
  | 4, _ => rfl
  | 5, _ => rfl
  | 6, _ => rfl
  | 7, _ => rfl
  | 8, _ => rfl
  | 9, _ => rfl
  | 10, _ => rfl
  | 11, _ => rfl
  | 12, _ => rfl
  | 13, _ => rfl
  | 14, _ => rfl
  | 15, _ => rfl
  | 16, _ => rfl
  | 17, _ => rfl
  | 18, _ => rfl
  | 19, _ => rfl
  | q + 20, _ => rfl
theorem vso_5 {A : cA} {V : cV} {x : Int32} : ∀ q, q ≠ 1 → cCt A (vset V 5 x) q = cCt A V q
  | 0, _ => rfl
  | 1, h => absurd rfl h
  | 2, _ => rfl
  | 3, _ => rfl
  | 4, _ => rfl
  | 5, _ => rfl
  | 6, _ => rfl
  | 7, _ => rfl
  | 8, _ => rfl
  | 9, _ => rfl
  | 10, _ => rfl
  | 11, _ => rfl
  | 12, _ => rfl
  | 13, _ => rfl
  | 14, _ => rfl
  | 15, _ => rfl
  | 16, _ => rfl
  | 17, _ => rfl
  | 18, _ => rfl
  | 19, _ => rfl
  | q + 20, _ => rfl
theorem vso_6 {A : cA} {V : cV} {x : Int32} : ∀ q, q ≠ 1 → cCt A (vset V 6 x) q = cCt A V q
  | 0, _ => rfl
  | 1, h => absurd rfl h
  | 2, _ => rfl
  | 3, _ => rfl
  | 4, _ => rfl
  | 5, _ => rfl
  | 6, _ => rfl
  | 7, _ => rfl
  | 8, _ => rfl
  | 9, _ => rfl
  | 10, _ => rfl
  | 11, _ => rfl
  | 12, _ => rfl
  | 13, _ => rfl
  | 14, _ => rfl
  | 15, _ => rfl
  | 16, _ => rfl
  | 17, _ => rfl
  | 18, _ => rfl
  | 19, _ => rfl
  | q + 20, _ => rfl
theorem vso_7 {A : cA} {V : cV} {x : Int32} : ∀ q, q ≠ 0 → cCt A (vset V 7 x) q = cCt A V q
  | 0, h => absurd rfl h
  | 1, _ => rfl
  | 2, _ => rfl
  | 3, _ => rfl
  | 4, _ => rfl
  | 5, _ => rfl
  | 6, _ => rfl
  | 7, _ => rfl
  | 8, _ => rfl
  | 9, _ => rfl
  | 10, _ => rfl
  | 11, _ => rfl
  | 12, _ => rfl
  | 13, _ => rfl
  | 14, _ => rfl
  | 15, _ => rfl
  | 16, _ => rfl
  | 17, _ => rfl
  | 18, _ => rfl
  | 19, _ => rfl
  | q + 20, _ => rfl
theorem vso_8 {A : cA} {V : cV} {x : Int32} : ∀ q, q ≠ 2 → cCt A (vset V 8 x) q = cCt A V q
  | 0, _ => rfl
  | 1, _ => rfl
  | 2, h => absurd rfl h
  | 3, _ => rfl
  | 4, _ => rfl
  | 5, _ => rfl
  | 6, _ => rfl
  | 7, _ => rfl
  | 8, _ => rfl
  | 9, _ => rfl
  | 10, _ => rfl
  | 11, _ => rfl
  | 12, _ => rfl
  | 13, _ => rfl
  | 14, _ => rfl
  | 15, _ => rfl
  | 16, _ => rfl
  | 17, _ => rfl
  | 18, _ => rfl
  | 19, _ => rfl
  | q + 20, _ => rfl
theorem vso_9 {A : cA} {V : cV} {x : Int32} : ∀ q, q ≠ 2 → cCt A (vset V 9 x) q = cCt A V q
  | 0, _ => rfl
  | 1, _ => rfl
  | 2, h => absurd rfl h
  | 3, _ => rfl
  | 4, _ => rfl
  | 5, _ => rfl
  | 6, _ => rfl
  | 7, _ => rfl
  | 8, _ => rfl
  | 9, _ => rfl
  | 10, _ => rfl
  | 11, _ => rfl
  | 12, _ => rfl
  | 13, _ => rfl
  | 14, _ => rfl
  | 15, _ => rfl
  | 16, _ => rfl
  | 17, _ => rfl
  | 18, _ => rfl
  | 19, _ => rfl
  | q + 20, _ => rfl
theorem vso_10 {A : cA} {V : cV} {x : Int32} : ∀ q, q ≠ 2 → cCt A (vset V 10 x) q = cCt A V q
  | 0, _ => rfl
  | 1, _ => rfl
  | 2, h => absurd rfl h
  | 3, _ => rfl
  | 4, _ => rfl
  | 5, _ => rfl
  | 6, _ => rfl
  | 7, _ => rfl
  | 8, _ => rfl
  | 9, _ => rfl
  | 10, _ => rfl
  | 11, _ => rfl
  | 12, _ => rfl
  | 13, _ => rfl
  | 14, _ => rfl
  | 15, _ => rfl
  | 16, _ => rfl
  | 17, _ => rfl
  | 18, _ => rfl
  | 19, _ => rfl
  | q + 20, _ => rfl
theorem vso_11 {A : cA} {V : cV} {x : Int32} : ∀ q, q ≠ 2 → cCt A (vset V 11 x) q = cCt A V q
  | 0, _ => rfl
  | 1, _ => rfl
  | 2, h => absurd rfl h
  | 3, _ => rfl
  | 4, _ => rfl
  | 5, _ => rfl
  | 6, _ => rfl
  | 7, _ => rfl
  | 8, _ => rfl
  | 9, _ => rfl
  | 10, _ => rfl
  | 11, _ => rfl
  | 12, _ => rfl
  | 13, _ => rfl
  | 14, _ => rfl
  | 15, _ => rfl
  | 16, _ => rfl
  | 17, _ => rfl
  | 18, _ => rfl
  | 19, _ => rfl
  | q + 20, _ => rfl
theorem vso_12 {A : cA} {V : cV} {x : Int32} : ∀ q, q ≠ 2 → cCt A (vset V 12 x) q = cCt A V q
  | 0, _ => rfl
  | 1, _ => rfl
  | 2, h => absurd rfl h
  | 3, _ => rfl
  | 4, _ => rfl
  | 5, _ => rfl
  | 6, _ => rfl
  | 7, _ => rfl
  | 8, _ => rfl
  | 9, _ => rfl
  | 10, _ => rfl
  | 11, _ => rfl
  | 12, _ => rfl
  | 13, _ => rfl
  | 14, _ => rfl
  | 15, _ => rfl
  | 16, _ => rfl
  | 17, _ => rfl
  | 18, _ => rfl
  | 19, _ => rfl
  | q + 20, _ => rfl
theorem vso_13 {A : cA} {V : cV} {x : Int32} : ∀ q, q ≠ 2 → cCt A (vset V 13 x) q = cCt A V q
  | 0, _ => rfl
  | 1, _ => rfl
  | 2, h => absurd rfl h
  | 3, _ => rfl
  | 4, _ => rfl
  | 5, _ => rfl
  | 6, _ => rfl
  | 7, _ => rfl
  | 8, _ => rfl
  | 9, _ => rfl
  | 10, _ => rfl
  | 11, _ => rfl
  | 12, _ => rfl
  | 13, _ => rfl
  | 14, _ => rfl
  | 15, _ => rfl
  | 16, _ => rfl
  | 17, _ => rfl
  | 18, _ => rfl
  | 19, _ => rfl
  | q + 20, _ => rfl
theorem vso_14 {A : cA} {V : cV} {x : Int32} : ∀ q, q ≠ 3 → cCt A (vset V 14 x) q = cCt A V q
  | 0, _ => rfl
  | 1, _ => rfl
  | 2, _ => rfl
  | 3, h => absurd rfl h
  | 4, _ => rfl
  | 5, _ => rfl
  | 6, _ => rfl
  | 7, _ => rfl
  | 8, _ => rfl
  | 9, _ => rfl
  | 10, _ => rfl
  | 11, _ => rfl
  | 12, _ => rfl
  | 13, _ => rfl
  | 14, _ => rfl
  | 15, _ => rfl
  | 16, _ => rfl
  | 17, _ => rfl
  | 18, _ => rfl
  | 19, _ => rfl
  | q + 20, _ => rfl
theorem vso_15 {A : cA} {V : cV} {x : Int32} : ∀ q, q ≠ 3 → cCt A (vset V 15 x) q = cCt A V q
  | 0, _ => rfl
  | 1, _ => rfl
  | 2, _ => rfl
  | 3, h => absurd rfl h
  | 4, _ => rfl
  | 5, _ => rfl
  | 6, _ => rfl
  | 7, _ => rfl
  | 8, _ => rfl
  | 9, _ => rfl
  | 10, _ => rfl
  | 11, _ => rfl
  | 12, _ => rfl
  | 13, _ => rfl
  | 14, _ => rfl
  | 15, _ => rfl
  | 16, _ => rfl
  | 17, _ => rfl
  | 18, _ => rfl
  | 19, _ => rfl
  | q + 20, _ => rfl
theorem vso_16 {A : cA} {V : cV} {x : Int32} : ∀ q, q ≠ 3 → cCt A (vset V 16 x) q = cCt A V q
  | 0, _ => rfl
  | 1, _ => rfl
  | 2, _ => rfl
  | 3, h => absurd rfl h
  | 4, _ => rfl
  | 5, _ => rfl
  | 6, _ => rfl
  | 7, _ => rfl
  | 8, _ => rfl
  | 9, _ => rfl
  | 10, _ => rfl
  | 11, _ => rfl
  | 12, _ => rfl
  | 13, _ => rfl
  | 14, _ => rfl
  | 15, _ => rfl
  | 16, _ => rfl
  | 17, _ => rfl
  | 18, _ => rfl
  | 19, _ => rfl
  | q + 20, _ => rfl
theorem vso_17 {A : cA} {V : cV} {x : Int32} : ∀ q, q ≠ 3 → cCt A (vset V 17 x) q = cCt A V q
  | 0, _ => rfl
  | 1, _ => rfl
  | 2, _ => rfl
  | 3, h => absurd rfl h
  | 4, _ => rfl
  | 5, _ => rfl
  | 6, _ => rfl
  | 7, _ => rfl
  | 8, _ => rfl
  | 9, _ => rfl
  | 10, _ => rfl
  | 11, _ => rfl
  | 12, _ => rfl
  | 13, _ => rfl
  | 14, _ => rfl
  | 15, _ => rfl
  | 16, _ => rfl
  | 17, _ => rfl
  | 18, _ => rfl
  | 19, _ => rfl
  | q + 20, _ => rfl
theorem vso_18 {A : cA} {V : cV} {x : Int32} : ∀ q, q ≠ 3 → cCt A (vset V 18 x) q = cCt A V q
  | 0, _ => rfl
  | 1, _ => rfl
  | 2, _ => rfl
  | 3, h => absurd rfl h
  | 4, _ => rfl
  | 5, _ => rfl
  | 6, _ => rfl
  | 7, _ => rfl
  | 8, _ => rfl
  | 9, _ => rfl
  | 10, _ => rfl
  | 11, _ => rfl
  | 12, _ => rfl
  | 13, _ => rfl
  | 14, _ => rfl
  | 15, _ => rfl
  | 16, _ => rfl
  | 17, _ => rfl
  | 18, _ => rfl
  | 19, _ => rfl
  | q + 20, _ => rfl
theorem vso_19 {A : cA} {V : cV} {x : Int32} : ∀ q, q ≠ 3 → cCt A (vset V 19 x) q = cCt A V q
  | 0, _ => rfl
  | 1, _ => rfl
  | 2, _ => rfl
  | 3, h => absurd rfl h
  | 4, _ => rfl
  | 5, _ => rfl
  | 6, _ => rfl
  | 7, _ => rfl
  | 8, _ => rfl
  | 9, _ => rfl
  | 10, _ => rfl
  | 11, _ => rfl
  | 12, _ => rfl
  | 13, _ => rfl
  | 14, _ => rfl
  | 15, _ => rfl
  | 16, _ => rfl
  | 17, _ => rfl
  | 18, _ => rfl
  | 19, _ => rfl
  | q + 20, _ => rfl
theorem vso_20 {A : cA} {V : cV} {x : Int32} : ∀ q, q ≠ 3 → cCt A (vset V 20 x) q = cCt A V q
  | 0, _ => rfl
  | 1, _ => rfl
  | 2, _ => rfl
  | 3, h => absurd rfl h
  | 4, _ => rfl
  | 5, _ => rfl
  | 6, _ => rfl
  | 7, _ => rfl
  | 8, _ => rfl
  | 9, _ => rfl
  | 10, _ => rfl
  | 11, _ => rfl
  | 12, _ => rfl
  | 13, _ => rfl
  | 14, _ => rfl
  | 15, _ => rfl
  | 16, _ => rfl
  | 17, _ => rfl
  | 18, _ => rfl
  | 19, _ => rfl
  | q + 20, _ => rfl
theorem vso_21 {A : cA} {V : cV} {x : Int32} : ∀ q, q ≠ 4 → cCt A (vset V 21 x) q = cCt A V q
  | 0, _ => rfl
  | 1, _ => rfl
  | 2, _ => rfl
  | 3, _ => rfl
  | 4, h => absurd rfl h
  | 5, _ => rfl
  | 6, _ => rfl
  | 7, _ => rfl
  | 8, _ => rfl
  | 9, _ => rfl
  | 10, _ => rfl
  | 11, _ => rfl
  | 12, _ => rfl
  | 13, _ => rfl
  | 14, _ => rfl
  | 15, _ => rfl
  | 16, _ => rfl
  | 17, _ => rfl
  | 18, _ => rfl
  | 19, _ => rfl
  | q + 20, _ => rfl
theorem vso_22 {A : cA} {V : cV} {x : Int32} : ∀ q, q ≠ 4 → cCt A (vset V 22 x) q = cCt A V q
  | 0, _ => rfl
  | 1, _ => rfl
  | 2, _ => rfl
  | 3, _ => rfl
  | 4, h => absurd rfl h
  | 5, _ => rfl
  | 6, _ => rfl
  | 7, _ => rfl
  | 8, _ => rfl
  | 9, _ => rfl
  | 10, _ => rfl
  | 11, _ => rfl
  | 12, _ => rfl
  | 13, _ => rfl
  | 14, _ => rfl
  | 15, _ => rfl
  | 16, _ => rfl
  | 17, _ => rfl
  | 18, _ => rfl
  | 19, _ => rfl
  | q + 20, _ => rfl
theorem vso_23 {A : cA} {V : cV} {x : Int32} : ∀ q, q ≠ 4 → cCt A (vset V 23 x) q = cCt A V q
  | 0, _ => rfl
  | 1, _ => rfl
  | 2, _ => rfl
  | 3, _ => rfl
  | 4, h => absurd rfl h
  | 5, _ => rfl
  | 6, _ => rfl
  | 7, _ => rfl
  | 8, _ => rfl
  | 9, _ => rfl
  | 10, _ => rfl
  | 11, _ => rfl
  | 12, _ => rfl
  | 13, _ => rfl
  | 14, _ => rfl
  | 15, _ => rfl
  | 16, _ => rfl
  | 17, _ => rfl
  | 18, _ => rfl
  | 19, _ => rfl
  | q + 20, _ => rfl
theorem vso_24 {A : cA} {V : cV} {x : Int32} : ∀ q, q ≠ 4 → cCt A (vset V 24 x) q = cCt A V q
  | 0, _ => rfl
  | 1, _ => rfl
  | 2, _ => rfl
  | 3, _ => rfl
  | 4, h => absurd rfl h
  | 5, _ => rfl
  | 6, _ => rfl
  | 7, _ => rfl
  | 8, _ => rfl
  | 9, _ => rfl
  | 10, _ => rfl
  | 11, _ => rfl
  | 12, _ => rfl
  | 13, _ => rfl
  | 14, _ => rfl
  | 15, _ => rfl
  | 16, _ => rfl
  | 17, _ => rfl
  | 18, _ => rfl
  | 19, _ => rfl
  | q + 20, _ => rfl
theorem vso_25 {A : cA} {V : cV} {x : Int32} : ∀ q, q ≠ 4 → cCt A (vset V 25 x) q = cCt A V q
  | 0, _ => rfl
  | 1, _ => rfl
  | 2, _ => rfl
  | 3, _ => rfl
  | 4, h => absurd rfl h
  | 5, _ => rfl
  | 6, _ => rfl
  | 7, _ => rfl
  | 8, _ => rfl
  | 9, _ => rfl
  | 10, _ => rfl
  | 11, _ => rfl
  | 12, _ => rfl
  | 13, _ => rfl
  | 14, _ => rfl
  | 15, _ => rfl
  | 16, _ => rfl
  | 17, _ => rfl
  | 18, _ => rfl
  | 19, _ => rfl
  | q + 20, _ => rfl
theorem vto_0 {A : cA} {V : cV} (k : Nat) (y : Int32) : ∀ q, q ≠ 5 → cCt A (vtab V 0 k y) q = cCt A V q
  | 0, _ => rfl
  | 1, _ => rfl
  | 2, _ => rfl
  | 3, _ => rfl
  | 4, _ => rfl
  | 5, h => absurd rfl h
  | 6, _ => rfl
  | 7, _ => rfl
  | 8, _ => rfl
  | 9, _ => rfl
  | 10, _ => rfl
  | 11, _ => rfl
  | 12, _ => rfl
  | 13, _ => rfl
  | 14, _ => rfl
  | 15, _ => rfl
  | 16, _ => rfl
  | 17, _ => rfl
  | 18, _ => rfl
  | 19, _ => rfl
  | q + 20, _ => rfl
theorem vts_0 {A : cA} {V : cV} (k : Nat) (y : Int32) : cCt A (vtab V 0 k y) 5 = some (.inl (0, 8, .inl (upd (V.2.1 0) k y))) := rfl
theorem vto_5 {A : cA} {V : cV} (k : Nat) (y : Int32) : ∀ q, q ≠ 6 → cCt A (vtab V 5 k y) q = cCt A V q
  | 0, _ => rfl
  | 1, _ => rfl
  | 2, _ => rfl
  | 3, _ => rfl
  | 4, _ => rfl
  | 5, _ => rfl
  | 6, h => absurd rfl h
  | 7, _ => rfl
  | 8, _ => rfl
  | 9, _ => rfl
  | 10, _ => rfl
  | 11, _ => rfl
  | 12, _ => rfl
  | 13, _ => rfl
  | 14, _ => rfl
  | 15, _ => rfl
  | 16, _ => rfl
  | 17, _ => rfl
  | 18, _ => rfl
  | 19, _ => rfl
  | q + 20, _ => rfl
theorem vts_5 {A : cA} {V : cV} (k : Nat) (y : Int32) : cCt A (vtab V 5 k y) 6 = some (.inl (0, 16, .inl (upd (V.2.1 5) k y))) := rfl
theorem vto_6 {A : cA} {V : cV} (k : Nat) (y : Int32) : ∀ q, q ≠ 7 → cCt A (vtab V 6 k y) q = cCt A V q
  | 0, _ => rfl
  | 1, _ => rfl
  | 2, _ => rfl
  | 3, _ => rfl
  | 4, _ => rfl
  | 5, _ => rfl
  | 6, _ => rfl
  | 7, h => absurd rfl h
  | 8, _ => rfl
  | 9, _ => rfl
  | 10, _ => rfl
  | 11, _ => rfl
  | 12, _ => rfl
  | 13, _ => rfl
  | 14, _ => rfl
  | 15, _ => rfl
  | 16, _ => rfl
  | 17, _ => rfl
  | 18, _ => rfl
  | 19, _ => rfl
  | q + 20, _ => rfl
theorem vts_6 {A : cA} {V : cV} (k : Nat) (y : Int32) : cCt A (vtab V 6 k y) 7 = some (.inl (0, 6, .inl (upd (V.2.1 6) k y))) := rfl
theorem vto_7 {A : cA} {V : cV} (k : Nat) (y : Int32) : ∀ q, q ≠ 8 → cCt A (vtab V 7 k y) q = cCt A V q
  | 0, _ => rfl
  | 1, _ => rfl
  | 2, _ => rfl
  | 3, _ => rfl
  | 4, _ => rfl
  | 5, _ => rfl
  | 6, _ => rfl
  | 7, _ => rfl
  | 8, h => absurd rfl h
  | 9, _ => rfl
  | 10, _ => rfl
  | 11, _ => rfl
  | 12, _ => rfl
  | 13, _ => rfl
  | 14, _ => rfl
  | 15, _ => rfl
  | 16, _ => rfl
  | 17, _ => rfl
  | 18, _ => rfl
  | 19, _ => rfl
  | q + 20, _ => rfl
theorem vts_7 {A : cA} {V : cV} (k : Nat) (y : Int32) : cCt A (vtab V 7 k y) 8 = some (.inl (0, 64, .inl (upd (V.2.1 7) k y))) := rfl
theorem vto_8 {A : cA} {V : cV} (k : Nat) (y : Int32) : ∀ q, q ≠ 9 → cCt A (vtab V 8 k y) q = cCt A V q
  | 0, _ => rfl
  | 1, _ => rfl
  | 2, _ => rfl
  | 3, _ => rfl
  | 4, _ => rfl
  | 5, _ => rfl
  | 6, _ => rfl
  | 7, _ => rfl
  | 8, _ => rfl
  | 9, h => absurd rfl h
  | 10, _ => rfl
  | 11, _ => rfl
  | 12, _ => rfl
  | 13, _ => rfl
  | 14, _ => rfl
  | 15, _ => rfl
  | 16, _ => rfl
  | 17, _ => rfl
  | 18, _ => rfl
  | 19, _ => rfl
  | q + 20, _ => rfl
theorem vts_8 {A : cA} {V : cV} (k : Nat) (y : Int32) : cCt A (vtab V 8 k y) 9 = some (.inl (0, 4096, .inl (upd (V.2.1 8) k y))) := rfl
theorem vto_9 {A : cA} {V : cV} (k : Nat) (y : Int32) : ∀ q, q ≠ 10 → cCt A (vtab V 9 k y) q = cCt A V q
  | 0, _ => rfl
  | 1, _ => rfl
  | 2, _ => rfl
  | 3, _ => rfl
  | 4, _ => rfl
  | 5, _ => rfl
  | 6, _ => rfl
  | 7, _ => rfl
  | 8, _ => rfl
  | 9, _ => rfl
  | 10, h => absurd rfl h
  | 11, _ => rfl
  | 12, _ => rfl
  | 13, _ => rfl
  | 14, _ => rfl
  | 15, _ => rfl
  | 16, _ => rfl
  | 17, _ => rfl
  | 18, _ => rfl
  | 19, _ => rfl
  | q + 20, _ => rfl
theorem vts_9 {A : cA} {V : cV} (k : Nat) (y : Int32) : cCt A (vtab V 9 k y) 10 = some (.inl (0, 4096, .inl (upd (V.2.1 9) k y))) := rfl
theorem vto_10 {A : cA} {V : cV} (k : Nat) (y : Int32) : ∀ q, q ≠ 11 → cCt A (vtab V 10 k y) q = cCt A V q
  | 0, _ => rfl
  | 1, _ => rfl
  | 2, _ => rfl
  | 3, _ => rfl
  | 4, _ => rfl
  | 5, _ => rfl
  | 6, _ => rfl
  | 7, _ => rfl
  | 8, _ => rfl
  | 9, _ => rfl
  | 10, _ => rfl
  | 11, h => absurd rfl h
  | 12, _ => rfl
  | 13, _ => rfl
  | 14, _ => rfl
  | 15, _ => rfl
  | 16, _ => rfl
  | 17, _ => rfl
  | 18, _ => rfl
  | 19, _ => rfl
  | q + 20, _ => rfl
/-! elements -/
theorem cE1 {A : cA} {V : cV} {i : Nat} (hi : i < V.2.2 1) (h9 : i < 100) : cCt A V (100 * 1 + i) = some (.inr (6, [.int (V.2.1 1 (4 * i)), .int (V.2.1 1 (4 * i + 1)), .int (V.2.1 1 (4 * i + 2)), .int (V.2.1 1 (4 * i + 3))])) := by
  rw [cEl_at (by decide) h9]
  exact if_pos hi
theorem cE2 {A : cA} {V : cV} {i : Nat} (hi : i < V.2.2 2) (h9 : i < 100) : cCt A V (100 * 2 + i) = some (.inr (7, [.int (V.2.1 2 (3 * i)), .int (V.2.1 2 (3 * i + 1)), .int (V.2.1 2 (3 * i + 2))])) := by
  rw [cEl_at (by decide) h9]
  exact if_pos hi
theorem cE3 {A : cA} {V : cV} {i : Nat} (hi : i < V.2.2 3) (h9 : i < 100) : cCt A V (100 * 3 + i) = some (.inr (10, [.int (V.2.1 3 (2 * i)), .int (V.2.1 3 (2 * i + 1))])) := by
  rw [cEl_at (by decide) h9]
  exact if_pos hi
theorem cE4 {A : cA} {V : cV} {i : Nat} (hi : i < V.2.2 4) (h9 : i < 100) : cCt A V (100 * 4 + i) = some (.inr (8, [.int (V.2.1 4 (8 * i)), .int (V.2.1 4 (8 * i + 1)), .int (V.2.1 4 (8 * i + 2)), .int (V.2.1 4 (8 * i + 3)), .int (V.2.1 4 (8 * i + 4)), .int (V.2.1 4 (8 * i + 5)), .int (V.2.1 4 (8 * i + 6)), .int (V.2.1 4 (8 * i + 7))])) := by
  rw [cEl_at (by decide) h9]
  exact if_pos hi
theorem upd_ne {f : Nat → Int32} {i j : Nat} {x : Int32} (h : j ≠ i) : upd f i x j = f j := by simp [upd, h]
theorem upd_eq {f : Nat → Int32} {i : Nat} {x : Int32} : upd f i x i = f i ∨ upd f i x i = x := by simp [upd]
/-- a number of one element changes: the other roles stay -/
theorem cEl_oth {A : cA} {V : cV} {t i k w : Nat} {x : Int32} (ht : t = 1 ∧ w = 4 ∨ t = 2 ∧ w = 3 ∨ t = 4 ∧ w = 8) (hk : k < w) (hi : i < 100) : ∀ q, q ≠ 100 * t + i → cCt A (vtab V t (w * i + k) x) q = cCt A V q := by
  have hel : ∀ j i', (j ≠ t ∨ i' ≠ i) → cEl A (vtab V t (w * i + k) x) j i' = cEl A V j i' := by
    intro j i' hne
    unfold cEl
    show (if i' < V.2.2 j then _ else _) = (if i' < V.2.2 j then _ else _)
    by_cases hc : i' < V.2.2 j
    · rw [if_pos hc, if_pos hc]
      have hT : ∀ (m : Nat), m ≠ t → (vtab V t (w * i + k) x).2.1 m = V.2.1 m := fun m hm => if_neg hm
      have hU : ∀ (n : Nat), n ≠ w * i + k → (vtab V t (w * i + k) x).2.1 t n = V.2.1 t n := fun n hn => by
        show (if t = t then upd (V.2.1 t) (w * i + k) x else V.2.1 t) n = _
        rw [if_pos rfl, upd_ne hn]
      split
      · by_cases h1 : 1 = t
        · have e : i' ≠ i := fun e => hne.elim (fun h => h h1) (fun h => h e)
          subst h1
          have hw : w = 4 := by omega
          subst hw
          rw [hU _ (by omega), hU _ (by omega), hU _ (by omega), hU _ (by omega)]
        · rw [hT 1 h1]
      · by_cases h1 : 2 = t
        · have e : i' ≠ i := fun e => hne.elim (fun h => h h1) (fun h => h e)
          subst h1
          have hw : w = 3 := by omega
          subst hw
          rw [hU _ (by omega), hU _ (by omega), hU _ (by omega)]
        · rw [hT 2 h1]
      · rw [hT 3 (by omega)]
      · by_cases h1 : 4 = t
        · have e : i' ≠ i := fun e => hne.elim (fun h => h h1) (fun h => h e)
          subst h1
          have hw : w = 8 := by omega
          subst hw
          rw [hU _ (by omega), hU _ (by omega), hU _ (by omega), hU _ (by omega), hU _ (by omega), hU _ (by omega), hU _ (by omega), hU _ (by omega)]
        · rw [hT 4 h1]
      · rfl
    · rw [if_neg hc, if_neg hc]
  have hT : ∀ (m : Nat), m ≠ t → (vtab V t (w * i + k) x).2.1 m = V.2.1 m := fun m hm => if_neg hm
  intro q hq
  match q, hq with
  | 0, _ => rfl
  | 1, _ => rfl
  | 2, _ => rfl
  | 3, _ => rfl
  | 4, _ => rfl
  | 5, _ => show some (Sum.inl (0, 8, Sum.inl ((vtab V t (w * i + k) x).2.1 0))) = _; rw [hT 0 (by omega)]; rfl
  | 6, _ => show some (Sum.inl (0, 16, Sum.inl ((vtab V t (w * i + k) x).2.1 5))) = _; rw [hT 5 (by omega)]; rfl
  | 7, _ => show some (Sum.inl (0, 6, Sum.inl ((vtab V t (w * i + k) x).2.1 6))) = _; rw [hT 6 (by omega)]; rfl
  | 8, _ => show some (Sum.inl (0, 64, Sum.inl ((vtab V t (w * i + k) x).2.1 7))) = _; rw [hT 7 (by omega)]; rfl
  | 9, _ => show some (Sum.inl (0, 4096, Sum.inl ((vtab V t (w * i + k) x).2.1 8))) = _; rw [hT 8 (by omega)]; rfl
  | 10, _ => show some (Sum.inl (0, 4096, Sum.inl ((vtab V t (w * i + k) x).2.1 9))) = _; rw [hT 9 (by omega)]; rfl
  | 11, _ => show some (Sum.inl (1, 400, Sum.inl ((vtab V t (w * i + k) x).2.1 10))) = _; rw [hT 10 (by omega)]; rfl
  | 12, _ => rfl
  | 13, _ => rfl
  | 14, _ => rfl
  | 15, _ => rfl
  | 16, _ => rfl
  | 17, _ => rfl
  | 18, _ => rfl
  | 19, _ => rfl
  | r + 20, hq =>
    show (if r < 80 then none else cEl A (vtab V t (w * i + k) x) ((r + 20) / 100) ((r + 20) % 100)) = (if r < 80 then none else cEl A V ((r + 20) / 100) ((r + 20) % 100))
    rw [hel _ _ (by omega)]
