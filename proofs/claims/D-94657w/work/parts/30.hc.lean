/-! ===== the component's objects as numbers: scalars, tables, counts; the address book; the map that bears them ===== -/
/-- scalars, tables, counts. Scalars: 0 texts 1 houses 2 limit 3 rest 4 day 5 seed 6 serial, 7 many (ashes), 8 length 9 end 10 at 11 begin 12 fault 13 deep, 14 sort 15 age 16 wear 17 paces 18 day 19 night 20 own, 21 many 22 base 23 line 24 days. Tables: 0 debt 1 walkers (4) 2 turns (3) 3 offers (2) 4 entries (8) 5 ashes 6 counts 7 sums 8 9 states 10 tape. Counts: 1 walkers 2 turns 3 offers 4 entries. Scalar 25: not 0 if now and next are swapped -/
abbrev cV : Type := (Nat → Int32) × (Nat → Nat → Int32) × (Nat → Nat)
/-- addresses by roles, roles by addresses, element arrays' addresses, their capacities, modCounts, image and law -/
abbrev cA : Type := (Nat → Nat) × (Nat → Option Nat) × (Nat → Nat) × (Nat → Nat) × (Nat → Int32) × (Nat → Option Nat)
abbrev aad (A : cA) : Nat → Nat := A.1
abbrev ainv (A : cA) : Nat → Option Nat := A.2.1
abbrev aer (A : cA) : Nat → Nat := A.2.2.1
abbrev acap (A : cA) : Nat → Nat := A.2.2.2.1
abbrev amc (A : cA) : Nat → Int32 := A.2.2.2.2.1
abbrev arf (A : cA) : Nat → Option Nat := A.2.2.2.2.2
def sw (V : cV) : Nat := if V.1 25 = 0 then 0 else 1
def cEl (A : cA) (V : cV) (j i : Nat) : Option zOb :=
  if i < V.2.2 j then (match j with
    | 1 => some (.inr (6, [.int (V.2.1 1 (4 * i)), .int (V.2.1 1 (4 * i + 1)), .int (V.2.1 1 (4 * i + 2)), .int (V.2.1 1 (4 * i + 3))]))
    | 2 => some (.inr (7, [.int (V.2.1 2 (3 * i)), .int (V.2.1 2 (3 * i + 1)), .int (V.2.1 2 (3 * i + 2))]))
    | 3 => some (.inr (10, [.int (V.2.1 3 (2 * i)), .int (V.2.1 3 (2 * i + 1))]))
    | 4 => some (.inr (8, [.int (V.2.1 4 (8 * i)), .int (V.2.1 4 (8 * i + 1)), .int (V.2.1 4 (8 * i + 2)), .int (V.2.1 4 (8 * i + 3)), .int (V.2.1 4 (8 * i + 4)), .int (V.2.1 4 (8 * i + 5)), .int (V.2.1 4 (8 * i + 6)), .int (V.2.1 4 (8 * i + 7))]))
    | _ => none) else none
def cLs (A : cA) (V : cV) (j : Nat) : Option zOb := some (.inr (19, [.int (amc A j), .ref (aer A j), .int (Int32.ofNat (V.2.2 j))]))
def cEa (A : cA) (V : cV) (j : Nat) : Option zOb := if aer A j = aad A (15 + j) then some (.inl (3, acap A j, .inr (.inr (.inr (.inr (fun i => if i < V.2.2 j then some (aad A (100 * j + i)) else none)))))) else none
/-- what stands at the address of a role -/
def cCt (A : cA) (V : cV) : Nat → Option zOb
  | 0 => some (.inr (0, [.ref (aad A 1), va_rf (arf A 0), .ref (aad A 2), .ref (aad A 3), .ref (aad A 4), .ref (aad A 6), .int (V.1 7)]))
  | 1 => some (.inr (1, [.int (V.1 0), .int (V.1 1), .int (V.1 2), .int (V.1 3), .int (V.1 4), .int (V.1 5), .int (V.1 6), .ref (aad A 5), .ref (aad A 12), .ref (aad A 13), .ref (aad A 14), .ref (aad A 15), va_rf (arf A 1)]))
  | 2 => some (.inr (2, [.ref (aad A 11), .int (V.1 8), .int (V.1 9), .int (V.1 10), .int (V.1 11), .int (V.1 12), .int (V.1 13)]))
  | 3 => some (.inr (3, [.int (V.1 14), .int (V.1 15), .int (V.1 16), .int (V.1 17), .int (V.1 18), .int (V.1 19), .int (V.1 20)]))
  | 4 => some (.inr (4, [.ref (aad A 7), .ref (aad A 8), .ref (aad A (9 + sw V)), .ref (aad A (10 - sw V)), .int (V.1 21), .int (V.1 22), .int (V.1 23), .int (V.1 24), .ref (aad A 0)]))
  | 5 => some (.inl (0, 8, .inl (V.2.1 0)))
  | 6 => some (.inl (0, 16, .inl (V.2.1 5)))
  | 7 => some (.inl (0, 6, .inl (V.2.1 6)))
  | 8 => some (.inl (0, 64, .inl (V.2.1 7)))
  | 9 => some (.inl (0, 4096, .inl (V.2.1 8)))
  | 10 => some (.inl (0, 4096, .inl (V.2.1 9)))
  | 11 => some (.inl (1, 400, .inl (V.2.1 10)))
  | 12 => cLs A V 1
  | 13 => cLs A V 2
  | 14 => cLs A V 3
  | 15 => cLs A V 4
  | 16 => cEa A V 1
  | 17 => cEa A V 2
  | 18 => cEa A V 3
  | 19 => cEa A V 4
  | r + 20 => if r < 80 then none else cEl A V ((r + 20) / 100) ((r + 20) % 100)
def pC (σ : zS) (A : cA) (V : cV) : zS := (fun q => match ainv A q with
  | some r => cCt A V r
  | none => σ.1 q, σ.2)
/-- the book is in order; the lists are either new and empty, or have an array of their own that holds them -/
def cOK (σ : zS) (A : cA) (V : cV) : Prop := (∀ r, ainv A (aad A r) = some r) ∧ (∀ r, zbs σ ≤ aad A r) ∧ (∀ j, 1 ≤ j → j ≤ 4 → V.2.2 j < 100 ∧ (aer A j = aad A (15 + j) ∧ V.2.2 j ≤ acap A j ∧ acap A j < 1000 ∨ V.2.2 j = 0)) ∧ ∀ q r, ainv A q = some r → aad A r = q
theorem pC_ad {σ : zS} {A : cA} {V : cV} (hA : cOK σ A V) (r : Nat) : (pC σ A V).1 (aad A r) = cCt A V r := by
  show (match ainv A (aad A r) with
    | some r => cCt A V r
    | none => σ.1 (aad A r)) = _
  rw [hA.1 r]
theorem cEl_at {A : cA} {V : cV} {j i : Nat} (hj : 1 ≤ j) (hi : i < 100) : cCt A V (100 * j + i) = cEl A V j i := by
  obtain ⟨r, e⟩ : ∃ r, 100 * j + i = r + 20 := ⟨100 * j + i - 20, by omega⟩
  rw [e]
  show (if r < 80 then none else cEl A V ((r + 20) / 100) ((r + 20) % 100)) = _
  rw [if_neg (by omega), show (r + 20) / 100 = j by omega, show (r + 20) % 100 = i by omega]
/-! reads -/
theorem cgI {σ : zS} {A : cA} {V : cV} (hA : cOK σ A V) {r ci k : Nat} {fs : List Value} {v : Int32} (hc : cCt A V r = some (.inr (ci, fs))) (hk : fs[k]? = some (.int v)) (h9 : ci % 100 = ci) : gI (pC σ A V) (aad A r) ci k = some v := by
  unfold gI zfld
  rw [pC_ad hA, hc]
  show (match (if ci % 100 = ci then fs[k]? else none) with
    | some (.int x) => some x
    | _ => none) = _
  rw [if_pos h9, hk]
theorem cgR {σ : zS} {A : cA} {V : cV} (hA : cOK σ A V) {r ci k : Nat} {fs : List Value} {q : Option Nat} (hc : cCt A V r = some (.inr (ci, fs))) (hk : fs[k]? = some (va_rf q)) (h9 : ci % 100 = ci) : gR (pC σ A V) (aad A r) ci k = some q := by
  unfold gR zfld
  rw [pC_ad hA, hc]
  show (match (if ci % 100 = ci then fs[k]? else none) with
    | some (.ref q) => some (some q)
    | some .null => some none
    | _ => none) = _
  rw [if_pos h9, hk]
  cases q <;> rfl
theorem ccl {σ : zS} {A : cA} {V : cV} (hA : cOK σ A V) {r ci : Nat} {fs : List Value} (hc : cCt A V r = some (.inr (ci, fs))) (h9 : ci % 100 = ci) : zcl (pC σ A V) (aad A r) = ci := by
  unfold zcl
  rw [pC_ad hA, hc]
  exact h9
theorem cckC {σ : zS} {A : cA} {V : cV} (hA : cOK σ A V) {r ci : Nat} {fs : List Value} (hc : cCt A V r = some (.inr (ci, fs))) (h9 : ci % 100 = ci) : zckC (pC σ A V) (some (aad A r)) ci = true := by
  show Nat.beq (zcl (pC σ A V) (aad A r)) ci = true
  rw [ccl hA hc h9]
  exact Nat.beq_refl ci
/-- an index into a list -/
def vix (n : Nat) (i : Int32) : Option Nat := if i < 0 ∨ n ≤ i.toNatClampNeg then none else some i.toNatClampNeg
theorem vix_inv {n k : Nat} {i : Int32} (h : vix n i = some k) : i.toNatClampNeg = k ∧ k < n ∧ ¬ i < 0 := by
  unfold vix at h
  by_cases hc : i < 0 ∨ n ≤ i.toNatClampNeg
  · rw [if_pos hc] at h; cases h
  · rw [if_neg hc] at h
    have e := Option.some.inj h
    exact ⟨e, by rw [← e]; exact Nat.not_le.mp fun q => hc (Or.inr q), fun q => hc (Or.inl q)⟩
theorem cCt_ls {A : cA} {V : cV} {j : Nat} (h1 : 1 ≤ j) (h4 : j ≤ 4) : cCt A V (11 + j) = cLs A V j := by
  have : j = 1 ∨ j = 2 ∨ j = 3 ∨ j = 4 := by omega
  rcases this with rfl | rfl | rfl | rfl <;> rfl
theorem cCt_ea {A : cA} {V : cV} {j : Nat} (h1 : 1 ≤ j) (h4 : j ≤ 4) : cCt A V (15 + j) = cEa A V j := by
  have : j = 1 ∨ j = 2 ∨ j = 3 ∨ j = 4 := by omega
  rcases this with rfl | rfl | rfl | rfl <;> rfl
theorem csize {σ : zS} {A : cA} {V : cV} (hA : cOK σ A V) {j : Nat} (h1 : 1 ≤ j) (h4 : j ≤ 4) : f_J2_size (aad A (11 + j)) (pC σ A V) = some (Int32.ofNat (V.2.2 j), pC σ A V) := by
  unfold f_J2_size
  rw [cgI hA (cCt_ls h1 h4) (v := Int32.ofNat (V.2.2 j)) rfl rfl]
  rfl
theorem cget {σ : zS} {A : cA} {V : cV} (hA : cOK σ A V) {j k : Nat} {i : Int32} (h1 : 1 ≤ j) (h4 : j ≤ 4) (h : vix (V.2.2 j) i = some k) : f_J2_get (aad A (11 + j)) i (pC σ A V) = some (some (aad A (100 * j + k)), pC σ A V) := by
  obtain ⟨e, hk, h0⟩ := vix_inv h
  obtain ⟨o1, o2, o3, o4⟩ := hA
  obtain ⟨n1, n2⟩ := o3 j h1 h4
  have hA : cOK σ A V := ⟨o1, o2, o3, o4⟩
  have n2 : aer A j = aad A (15 + j) ∧ V.2.2 j ≤ acap A j ∧ acap A j < 1000 := by
    rcases n2 with n2 | n2
    · exact n2
    · omega
  have h3 : f_J3_checkIndex i (Int32.ofNat (V.2.2 j)) (pC σ A V) = some (i, pC σ A V) := by
    unfold f_J3_checkIndex f_J4_checkIndex
    rw [if_neg h0, if_pos (zlt_of n1 (fun q => q.elim h0 (fun q => by omega)))]
    rfl
  have h5 : lR (pC σ A V) (aad A (15 + j)) i = some (some (aad A (100 * j + k))) := by
    unfold lR
    rw [pC_ad hA, cCt_ea h1 h4]
    unfold cEa
    rw [if_pos n2.1]
    show (if (3 ≤ 3 ∧ 3 ≤ 5) ∧ ¬ (i < 0 ∨ acap A j ≤ i.toNatClampNeg) then some (if i.toNatClampNeg < V.2.2 j then some (aad A (100 * j + i.toNatClampNeg)) else none) else none) = _
    rw [if_pos ⟨⟨by decide, by decide⟩, fun q => q.elim h0 (fun q => by omega)⟩, if_pos (by omega), e]
  have h6 : f_J2_elementData (aad A (11 + j)) i (pC σ A V) = some (some (aad A (100 * j + k)), pC σ A V) := by
    unfold f_J2_elementData
    rw [cgR hA (cCt_ls h1 h4) (q := some (aer A j)) rfl rfl]
    show (lR (pC σ A V) (aer A j) i).bind _ = _
    rw [n2.1, h5]
    rfl
  unfold f_J2_get
  rw [cgI hA (cCt_ls h1 h4) (v := Int32.ofNat (V.2.2 j)) rfl rfl]
  show zb2 (f_J3_checkIndex i (Int32.ofNat (V.2.2 j)) (pC σ A V)) _ = _
  rw [h3]
  show zif (zcl (pC σ A V) (aad A (11 + j)) = 19) _ = _
  unfold zif
  rw [if_pos (ccl hA (cCt_ls h1 h4) rfl)]
  show zb2 (f_J2_elementData (aad A (11 + j)) i (pC σ A V)) _ = _
  rw [h6]
  rfl
