/-! pure land: F1 F2 F3 F4 (see wip/D-94657w/pl) -/
/-! ===== the component in the heap: an address book that fits ===== -/
/-- what stands at the book's addresses is what the roles say; nothing stands behind the heap's end -/
def Rp (σ : zS) (A : cA) (N : Nat → Nat) (U : cU) : Prop :=
  cOKN σ A N ∧ (∀ r, σ.1 (aad A r) = cCt A (U.1, U.2, N) r) ∧ (∀ q, zn σ ≤ q → σ.1 q = none) ∧ zbs σ ≤ zn σ ∧ ∀ j, 1 ≤ j → j ≤ 4 → (aer A j = aad A (15 + j) ∧ N j ≤ acap A j ∧ 1 ≤ acap A j ∧ acap A j ≤ 90) ∨ (N j = 0 ∧ aer A j < zbs σ)
section ZRP
variable {σ σ' : zS} {A A' : cA} {N N' : Nat → Nat} {U U' : cU}
theorem Rp_pU (R : Rp σ A N U) : pU σ A N U = σ := by
  unfold pU pC
  refine Prod.ext (funext fun q => ?_) rfl
  show (match ainv A q with
    | some r => cCt A (U.1, U.2, N) r
    | none => σ.1 q) = σ.1 q
  cases e : ainv A q with
  | none => rfl
  | some r =>
    have h := R.1.2.2.2 q r e
    show cCt A (U.1, U.2, N) r = σ.1 q
    rw [← R.2.1 r, h]
theorem Rp_lt (R : Rp σ A N U) {r : Nat} (h : ∃ o, cCt A (U.1, U.2, N) r = some o) : aad A r < zn σ := by
  obtain ⟨o, h⟩ := h
  rcases Nat.lt_or_ge (aad A r) (zn σ) with q | q
  · exact q
  · have := R.2.2.1 _ q
    rw [R.2.1 r, h] at this
    cases this
/-- the numbers may change -/
theorem Rp_set (R : Rp σ A N U) (h : ∀ r, cCt A (U.1, U.2, N) r = none → cCt A (U'.1, U'.2, N) r = none) : Rp (pU σ A N U') A N U' := by
  obtain ⟨a, b, c, d, e⟩ := R
  refine ⟨a, fun r => pC_ad (V := (U'.1, U'.2, N)) a r, fun q hq => ?_, d, e⟩
  show (match ainv A q with
    | some r => cCt A (U'.1, U'.2, N) r
    | none => σ.1 q) = none
  cases z : ainv A q with
  | none => exact c q hq
  | some r =>
    have h1 := a.2.2.2 q r z
    have h2 := c q hq
    rw [← h1, b r] at h2
    exact h r h2
theorem cCt_none (r : Nat) (h : cCt A (U.1, U.2, N) r = none) : cCt A (U'.1, U'.2, N) r = none := by
  match r, h with
  | 16, h => exact h
  | 17, h => exact h
  | 18, h => exact h
  | 19, h => exact h
  | r + 20, h =>
    have h' : (if r < 80 then none else cEl A (U.1, U.2, N) ((r + 20) / 100) ((r + 20) % 100)) = none := h
    show (if r < 80 then none else cEl A (U'.1, U'.2, N) ((r + 20) / 100) ((r + 20) % 100)) = none
    by_cases z : r < 80
    · rw [if_pos z]
    · rw [if_neg z] at h' ⊢
      generalize (r + 20) / 100 = j at h' ⊢
      generalize (r + 20) % 100 = i at h' ⊢
      unfold cEl at h' ⊢
      by_cases y : i < N j
      · rw [if_pos y] at h' ⊢
        match j, h' with
        | 0, _ => rfl
        | j + 5, _ => rfl
      · rw [if_neg y]
theorem Rp_upd (R : Rp σ A N U) : Rp (pU σ A N U') A N U' := Rp_set R (fun r h => cCt_none r h)
theorem cCt_iv {ad er cap : Nat → Nat} {iv iv' rf : Nat → Option Nat} {mc : Nat → Int32} {V : cV} : ∀ r, cCt (ad, iv, er, cap, mc, rf) V r = cCt (ad, iv', er, cap, mc, rf) V r
  | 0 => rfl
  | 1 => rfl
  | 2 => rfl
  | 3 => rfl
  | 4 => rfl
  | 5 => rfl
  | 6 => rfl
  | 7 => rfl
  | 8 => rfl
  | 9 => rfl
  | 10 => rfl
  | 11 => rfl
  | 12 => rfl
  | 13 => rfl
  | 14 => rfl
  | 15 => rfl
  | 16 => rfl
  | 17 => rfl
  | 18 => rfl
  | 19 => rfl
  | _ + 20 => rfl
/-- a role that something stands for -/
def zal (N : Nat → Nat) (own : Nat → Bool) (r : Nat) : Prop := r < 16 ∨ (∃ j, 1 ≤ j ∧ j ≤ 4 ∧ r = 15 + j ∧ own j = true) ∨ ∃ j i, 1 ≤ j ∧ j ≤ 4 ∧ i < N j ∧ i < 100 ∧ r = 100 * j + i
theorem Rp_mk (ad er cap : Nat → Nat) (mc : Nat → Int32) (rf : Nat → Option Nat) (own : Nat → Bool)
    (hN : ∀ j, 1 ≤ j → j ≤ 4 → N j < 100 ∧ ((own j = true ∧ er j = ad (15 + j) ∧ N j ≤ cap j ∧ 1 ≤ cap j ∧ cap j ≤ 90) ∨ (own j = false ∧ N j = 0 ∧ er j < zbs σ)))
    (hb : ∀ r, zal N own r → zbs σ ≤ ad r ∧ ad r < zn σ) (hi : ∀ r r', zal N own r → zal N own r' → ad r = ad r' → r = r')
    (hc : ∀ r, zal N own r → σ.1 (ad r) = cCt (ad, fun _ => none, er, cap, mc, rf) (U.1, U.2, N) r) (hf : ∀ q, zn σ ≤ q → σ.1 q = none) (hz : zbs σ ≤ zn σ) :
    ∃ A, Rp σ A N U ∧ (∀ r, zal N own r → aad A r = ad r) ∧ aer A = er ∧ acap A = cap ∧ amc A = mc ∧ arf A = rf ∧ ∀ r, ¬ zal N own r → zn σ ≤ aad A r := by
  let ad' : Nat → Nat := fun r => @ite Nat (zal N own r) (Classical.propDecidable _) (ad r) (zn σ + r)
  have a1 : ∀ r, zal N own r → ad' r = ad r := fun r h => @if_pos _ (Classical.propDecidable _) h _ _ _
  have a2 : ∀ r, ¬ zal N own r → ad' r = zn σ + r := fun r h => @if_neg _ (Classical.propDecidable _) h _ _ _
  have inj : ∀ r r', ad' r = ad' r' → r = r' := by
    intro r r' h
    rcases Classical.em (zal N own r) with h1 | h1 <;> rcases Classical.em (zal N own r') with h2 | h2
    · rw [a1 r h1, a1 r' h2] at h; exact hi r r' h1 h2 h
    · rw [a1 r h1, a2 r' h2] at h; have := (hb r h1).2; omega
    · rw [a2 r h1, a1 r' h2] at h; have := (hb r' h2).2; omega
    · rw [a2 r h1, a2 r' h2] at h; omega
  let iv : Nat → Option Nat := fun q => @dite (Option Nat) (∃ r, ad' r = q) (Classical.propDecidable _) (fun h => some (Classical.choose h)) (fun _ => none)
  have i1 : ∀ r, iv (ad' r) = some r := by
    intro r
    have hx : ∃ r', ad' r' = ad' r := ⟨r, rfl⟩
    show @dite (Option Nat) (∃ r', ad' r' = ad' r) (Classical.propDecidable _) (fun h => some (Classical.choose h)) (fun _ => none) = some r
    rw [@dif_pos _ (Classical.propDecidable _) hx]
    exact congrArg some (inj _ _ (Classical.choose_spec hx))
  have i2 : ∀ q r, iv q = some r → ad' r = q := by
    intro q r h
    have h' : @dite (Option Nat) (∃ r', ad' r' = q) (Classical.propDecidable _) (fun h => some (Classical.choose h)) (fun _ => none) = some r := h
    rcases Classical.em (∃ r', ad' r' = q) with hx | hx
    · rw [@dif_pos _ (Classical.propDecidable _) hx] at h'
      have e := Option.some.inj h'
      rw [← e]
      exact Classical.choose_spec hx
    · rw [@dif_neg _ (Classical.propDecidable _) hx] at h'
      cases h'
  -- alike on the roles that something stands for
  have z16 : ∀ r, r < 16 → ad' r = ad r := fun r h => a1 r (Or.inl h)
  have hag : ∀ r, zal N own r → cCt (ad', iv, er, cap, mc, rf) (U.1, U.2, N) r = cCt (ad, fun _ => none, er, cap, mc, rf) (U.1, U.2, N) r := by
    intro r hr
    have hea : ∀ j, 1 ≤ j → j ≤ 4 → own j = true → cEa (ad', iv, er, cap, mc, rf) (U.1, U.2, N) j = cEa (ad, fun _ => none, er, cap, mc, rf) (U.1, U.2, N) j := by
      intro j h1 h4 ho
      have e1 : ad' (15 + j) = ad (15 + j) := a1 _ (Or.inr (Or.inl ⟨j, h1, h4, rfl, ho⟩))
      unfold cEa
      show (if er j = ad' (15 + j) then _ else _) = (if er j = ad (15 + j) then _ else _)
      rw [e1]
      have : (fun i => if i < N j then some (ad' (100 * j + i)) else none) = (fun i => if i < N j then some (ad (100 * j + i)) else none) := by
        funext i
        by_cases y : i < N j
        · rw [if_pos y, if_pos y, a1 _ (Or.inr (Or.inr ⟨j, i, h1, h4, y, Nat.lt_trans y (hN j h1 h4).1, rfl⟩))]
        · rw [if_neg y, if_neg y]
      show (if er j = ad (15 + j) then some (Sum.inl (3, cap j, Sum.inr (Sum.inr (Sum.inr (Sum.inr (fun i => if i < N j then some (ad' (100 * j + i)) else none)))))) else none) = _
      rw [this]
    rcases hr with hr | ⟨j, h1, h4, rfl, ho⟩ | ⟨j, i, h1, h4, hi, h100, rfl⟩
    · have hsw : sw (U.1, U.2, N) = 0 ∨ sw (U.1, U.2, N) = 1 := by
        unfold sw
        split
        · exact Or.inl rfl
        · exact Or.inr rfl
      match r, hr with
      | 0, _ =>
        show some (Sum.inr (0, [Value.ref (ad' 1), va_rf (rf 0), .ref (ad' 2), .ref (ad' 3), .ref (ad' 4), .ref (ad' 6), .int (U.1 7)])) = some (Sum.inr (0, [Value.ref (ad 1), va_rf (rf 0), .ref (ad 2), .ref (ad 3), .ref (ad 4), .ref (ad 6), .int (U.1 7)]))
        rw [z16 1 (by omega), z16 2 (by omega), z16 3 (by omega), z16 4 (by omega), z16 6 (by omega)]
      | 1, _ =>
        show some (Sum.inr (1, [Value.int (U.1 0), .int (U.1 1), .int (U.1 2), .int (U.1 3), .int (U.1 4), .int (U.1 5), .int (U.1 6), .ref (ad' 5), .ref (ad' 12), .ref (ad' 13), .ref (ad' 14), .ref (ad' 15), va_rf (rf 1)])) = some (Sum.inr (1, [Value.int (U.1 0), .int (U.1 1), .int (U.1 2), .int (U.1 3), .int (U.1 4), .int (U.1 5), .int (U.1 6), .ref (ad 5), .ref (ad 12), .ref (ad 13), .ref (ad 14), .ref (ad 15), va_rf (rf 1)]))
        rw [z16 5 (by omega), z16 12 (by omega), z16 13 (by omega), z16 14 (by omega), z16 15 (by omega)]
      | 2, _ =>
        show some (Sum.inr (2, [Value.ref (ad' 11), .int (U.1 8), .int (U.1 9), .int (U.1 10), .int (U.1 11), .int (U.1 12), .int (U.1 13)])) = some (Sum.inr (2, [Value.ref (ad 11), .int (U.1 8), .int (U.1 9), .int (U.1 10), .int (U.1 11), .int (U.1 12), .int (U.1 13)]))
        rw [z16 11 (by omega)]
      | 3, _ => rfl
      | 4, _ =>
        show some (Sum.inr (4, [Value.ref (ad' 7), .ref (ad' 8), .ref (ad' (9 + sw (U.1, U.2, N))), .ref (ad' (10 - sw (U.1, U.2, N))), .int (U.1 21), .int (U.1 22), .int (U.1 23), .int (U.1 24), .ref (ad' 0)])) = some (Sum.inr (4, [Value.ref (ad 7), .ref (ad 8), .ref (ad (9 + sw (U.1, U.2, N))), .ref (ad (10 - sw (U.1, U.2, N))), .int (U.1 21), .int (U.1 22), .int (U.1 23), .int (U.1 24), .ref (ad 0)]))
        rw [z16 7 (by omega), z16 8 (by omega), z16 0 (by omega), z16 (9 + sw (U.1, U.2, N)) (by omega), z16 (10 - sw (U.1, U.2, N)) (by omega)]
      | 5, _ => rfl
      | 6, _ => rfl
      | 7, _ => rfl
      | 8, _ => rfl
      | 9, _ => rfl
      | 10, _ => rfl
      | 11, _ => rfl
      | 12, _ => rfl
      | 13, _ => rfl
      | 14, _ => rfl
      | 15, _ => rfl
      | r + 16, h => exact absurd h (by omega)
    · rw [cCt_ea h1 h4, cCt_ea h1 h4]
      exact hea j h1 h4 ho
    · rw [cEl_at h1 h100, cEl_at h1 h100]
      rfl
  have hno : ∀ r, ¬ zal N own r → cCt (ad', iv, er, cap, mc, rf) (U.1, U.2, N) r = none := by
    intro r hr
    rcases (show r < 16 ∨ (16 ≤ r ∧ r < 20) ∨ 20 ≤ r by omega) with h | h | h
    · exact absurd (Or.inl h) hr
    · obtain ⟨j, rfl⟩ : ∃ j, r = 15 + j := ⟨r - 15, by omega⟩
      have ho : own j = false := by
        cases z : own j with
        | false => rfl
        | true => exact absurd (Or.inr (Or.inl ⟨j, by omega, by omega, rfl, z⟩)) hr
      rw [cCt_ea (by omega) (by omega)]
      unfold cEa
      refine if_neg ?_
      show ¬ er j = ad' (15 + j)
      rw [a2 _ hr]
      rcases (hN j (by omega) (by omega)).2 with h' | h'
      · rw [ho] at h'; cases h'.1
      · have := h'.2.2; omega
    · obtain ⟨r, rfl⟩ : ∃ r', r = r' + 20 := ⟨r - 20, by omega⟩
      show (if r < 80 then none else cEl (ad', iv, er, cap, mc, rf) (U.1, U.2, N) ((r + 20) / 100) ((r + 20) % 100)) = none
      by_cases z : r < 80
      · rw [if_pos z]
      · rw [if_neg z]
        have hj1 : 1 ≤ (r + 20) / 100 := by omega
        have hi1 : (r + 20) % 100 < 100 := Nat.mod_lt _ (by omega)
        have er' : r + 20 = 100 * ((r + 20) / 100) + (r + 20) % 100 := by omega
        generalize (r + 20) / 100 = j at *
        generalize (r + 20) % 100 = i at *
        unfold cEl
        by_cases y : i < N j
        · rw [if_pos y]
          by_cases x : j ≤ 4
          · exact absurd (Or.inr (Or.inr ⟨j, i, hj1, x, y, hi1, er'⟩)) hr
          · obtain ⟨j, rfl⟩ : ∃ j', j = j' + 5 := ⟨j - 5, by omega⟩
            rfl
        · rw [if_neg y]
  refine ⟨(ad', iv, er, cap, mc, rf), ⟨⟨i1, fun r => ?_, fun j h1 h4 => ?_, i2⟩, fun r => ?_, hf, hz, fun j h1 h4 => ?_⟩, a1, rfl, rfl, rfl, rfl, fun r hr => by show zn σ ≤ ad' r; rw [a2 r hr]; omega⟩
  · show zbs σ ≤ ad' r
    rcases Classical.em (zal N own r) with h1 | h1
    · rw [a1 r h1]; exact (hb r h1).1
    · rw [a2 r h1]; omega
  · obtain ⟨h9, h⟩ := hN j h1 h4
    refine ⟨h9, ?_⟩
    rcases h with ⟨o1, o2, o3, o4⟩ | ⟨o1, o2, o3⟩
    · refine Or.inl ⟨?_, o3, by show cap j < 1000; omega⟩
      show er j = ad' (15 + j)
      rw [a1 _ (Or.inr (Or.inl ⟨j, h1, h4, rfl, o1⟩))]; exact o2
    · exact Or.inr o2
  · show σ.1 (ad' r) = cCt (ad', iv, er, cap, mc, rf) (U.1, U.2, N) r
    rcases Classical.em (zal N own r) with h1 | h1
    · rw [hag r h1, a1 r h1]; exact hc r h1
    · rw [hno r h1, a2 r h1]; exact hf _ (by omega)
  · obtain ⟨h9, h⟩ := hN j h1 h4
    rcases h with ⟨o1, o2, o3, o4⟩ | ⟨o1, o2, o3⟩
    · refine Or.inl ⟨?_, o3, o4⟩
      show er j = ad' (15 + j)
      rw [a1 _ (Or.inr (Or.inl ⟨j, h1, h4, rfl, o1⟩))]; exact o2
    · exact Or.inr ⟨o2, o3⟩
end ZRP
/-! lists in the heap -/
def obA (g : Nat → Option Nat) : (Nat → Int32) ⊕ (Nat → Int64) ⊕ (Nat → UInt32) ⊕ (Nat → UInt64) ⊕ (Nat → Option Nat) := .inr (.inr (.inr (.inr g)))
def lsA (n : Nat) (a : Nat → Nat) : Nat → Option Nat := fun i => if i < n then some (a i) else none
section ZLS
variable {σ σ' : zS}
theorem zs_at {a : Nat} {o : zOb} : (zset σ a o).1 a = some o := if_pos rfl
theorem zs_no {a q : Nat} {o : zOb} (h : q ≠ a) : (zset σ a o).1 q = σ.1 q := if_neg h
theorem gI_of {a ci k : Nat} {fs : List Value} {v : Int32} (h : σ.1 a = some (.inr (ci, fs))) (hk : fs[k]? = some (.int v)) (h9 : ci % 100 = ci) : gI σ a ci k = some v := by
  unfold gI zfld
  rw [h]
  show (match (if ci % 100 = ci then fs[k]? else none) with
    | some (.int x) => some x
    | _ => none) = _
  rw [if_pos h9, hk]
theorem gR_of {a ci k : Nat} {fs : List Value} {q : Option Nat} (h : σ.1 a = some (.inr (ci, fs))) (hk : fs[k]? = some (va_rf q)) (h9 : ci % 100 = ci) : gR σ a ci k = some q := by
  unfold gR zfld
  rw [h]
  show (match (if ci % 100 = ci then fs[k]? else none) with
    | some (.ref q) => some (some q)
    | some .null => some none
    | _ => none) = _
  rw [if_pos h9, hk]
  cases q <;> rfl
theorem pF_of {a ci k : Nat} {fs : List Value} {v : Value} (h : σ.1 a = some (.inr (ci, fs))) (hk : k < fs.length) (hb : zbs σ ≤ a) : pF σ a ci k v = some (zset σ a (.inr (ci, fs.set k v))) := by
  unfold pF
  rw [h]
  show (if ci = ci ∧ k < fs.length ∧ zbs σ ≤ a then some (zset σ a (.inr (ci, fs.set k v))) else none) = _
  rw [if_pos ⟨rfl, hk, hb⟩]
theorem cl_of {a ci : Nat} {fs : List Value} (h : σ.1 a = some (.inr (ci, fs))) (h9 : ci % 100 = ci) : zcl σ a = ci := by
  unfold zcl
  rw [h]
  exact h9
theorem zif_t {β : Type} {c : Prop} [inst9 : Decidable c] {K : Option β} (h : c) : zif c K = K := if_pos h
theorem aln_of {a u n : Nat} {f : (Nat → Int32) ⊕ (Nat → Int64) ⊕ (Nat → UInt32) ⊕ (Nat → UInt64) ⊕ (Nat → Option Nat)} (h : σ.1 a = some (.inl (u, n, f))) : zaln σ a = some (Int32.ofNat n) := by
  unfold zaln
  rw [h]
theorem sR_of {a n i : Nat} {g : Nat → Option Nat} {r : Option Nat} (h : σ.1 a = some (.inl (3, n, obA g))) (hi : i < n) (hn : n < 2 ^ 31) (hb : zbs σ ≤ a) (hr : zob σ r = true) : sR σ a (nI i) r = some (zset σ a (.inl (3, n, obA (va_up g i r)))) := by
  unfold sR
  rw [h]
  show (if 3 = 3 ∧ ¬ (nI i < 0 ∨ n ≤ (nI i).toNatClampNeg) ∧ zbs σ ≤ a ∧ zob σ r = true then _ else none) = _
  rw [if_pos ⟨rfl, nI_in hi hn, hb, hr⟩, nI_clamp (by omega)]
  rfl
theorem zob_set {a q : Nat} {o : zOb} {ci : Nat} {fs : List Value} (ho : o = .inr (ci, fs)) (hc : ci < 22) (h : zob σ (some q) = true) : zob (zset σ a o) (some q) = true := by
  subst ho
  show (match (zset σ a (.inr (ci, fs))).1 q with
    | some (.inr (c, _)) => Nat.blt c 22
    | _ => false) = true
  by_cases e : q = a
  · subst e; rw [zs_at]; exact Nat.ble_eq.mpr hc
  · rw [zs_no e]; exact h
theorem zob_arr {a q : Nat} {o : zOb} {x : zOb} (hx : σ.1 a = some x) (ha : ∀ c fs, x ≠ .inr (c, fs)) (h : zob σ (some q) = true) : zob (zset σ a o) (some q) = true := by
  have e : q ≠ a := by
    intro e
    subst e
    have h' : (match σ.1 q with
      | some (.inr (c, _)) => Nat.blt c 22
      | _ => false) = true := h
    rw [hx] at h'
    match x, ha, h' with
    | .inr (c, fs), ha, _ => exact ha c fs rfl
  show (match (zset σ a o).1 q with
    | some (.inr (c, _)) => Nat.blt c 22
    | _ => false) = true
  rw [zs_no e]; exact h
theorem lsA_up {n x : Nat} {a : Nat → Nat} : va_up (lsA n a) n (some x) = lsA (n + 1) (fun i => if i = n then x else a i) := by
  funext i
  show (if i = n then some x else if i < n then some (a i) else none) = if i < n + 1 then some (if i = n then x else a i) else none
  by_cases h : i = n
  · subst h; rw [if_pos rfl, if_pos (by omega), if_pos rfl]
  · rw [if_neg h, if_neg h]
    by_cases h2 : i < n
    · rw [if_pos h2, if_pos (by omega)]
    · rw [if_neg h2, if_neg (by omega)]
/-- the end of an addition: there is room -/
theorem add_11 {l e n cap x : Nat} {mc : Int32} {a : Nat → Nat} (hl : σ.1 l = some (.inr (19, [.int mc, .ref e, .int (nI n)]))) (hb : zbs σ ≤ l) (he : σ.1 e = some (.inl (3, cap, obA (lsA n a)))) (hbe : zbs σ ≤ e) (hn : n < cap) (hc : cap ≤ 90) (hx : zob σ (some x) = true) :
    f_J2_add_2_11 l (some x) (some e) (nI n) σ = some ((), (fun q => if q = l then some (.inr (19, [.int mc, .ref e, .int (nI (n + 1))])) else if q = e then some (.inl (3, cap, obA (lsA (n + 1) (fun i => if i = n then x else a i)))) else σ.1 q, σ.2)) := by
  have hle : l ≠ e := by
    intro q; subst q; rw [hl] at he; cases he
  unfold f_J2_add_2_11
  rw [bd_at, sR_of he hn (by omega) hbe hx, bd_at, nI_1, lsA_up]
  unfold pI
  rw [pF_of (ci := 19) (fs := [.int mc, .ref e, .int (nI n)]) (by rw [zs_no hle]; exact hl) (by show 2 < 3; omega) (show zbs (zset σ e (.inl (3, cap, obA (lsA (n + 1) (fun i => if i = n then x else a i))))) ≤ l from hb), bd_at]
  refine congrArg some (Prod.ext rfl (Prod.ext (funext fun q => ?_) rfl))
  show (if q = l then some _ else if q = e then some _ else σ.1 q) = if q = l then some _ else if q = e then some _ else σ.1 q
  rfl
theorem znewR_at {n : Nat} (hn : n ≤ 65536) (hc : 1 ≤ zc σ ∧ n ≤ zz σ) : znewR σ (nI n) = some (zn σ, (zup σ.1 (zn σ) (.inl (3, n, obA (fun _ => none))), zsv σ, zbs σ, zn σ + 1, zc σ - 1, zz σ - n)) := by
  have h1 : ¬ (nI n < 0 ∨ 65536 < (nI n).toNatClampNeg) := by
    intro q
    rcases q with q | q
    · exact nI_pos (by omega) q
    · rw [nI_clamp (by omega)] at q; omega
  unfold znewR znew
  rw [if_neg h1, nI_clamp (by omega), if_pos hc]
  rfl
theorem J2_add_spec {l e n cap x m0 : Nat} {mc : Int32} {a : Nat → Nat} (hl : σ.1 l = some (.inr (19, [.int mc, .ref e, .int (nI n)]))) (hb : zbs σ ≤ l) (hln : l < zn σ) (hbz : zbs σ ≤ zn σ) (hx : zob σ (some x) = true) (hxn : x < zn σ) (hn : n < 60)
    (h : (σ.1 e = some (.inl (3, cap, obA (lsA n a))) ∧ zbs σ ≤ e ∧ e < zn σ ∧ n ≤ cap ∧ 1 ≤ cap ∧ cap ≤ 90 ∧ ∀ i, i < n → zob σ (some (a i)) = true ∧ a i < zn σ) ∨ (n = 0 ∧ zk σ 1 = some e ∧ σ.1 e = some (.inl (103, 0, obA (fun _ => none))) ∧ e < zbs σ))
    (h0 : zk σ 0 = some m0) (hc : 1 ≤ zc σ ∧ 90 ≤ zz σ) :
    ∃ e' cap' σ', f_J2_add l (some x) σ = some (1, σ') ∧ σ'.1 = (fun q => if q = l then some (.inr (19, [.int (mc + 1), .ref e', .int (nI (n + 1))])) else if q = e' then some (.inl (3, cap', obA (lsA (n + 1) (fun i => if i = n then x else a i)))) else σ.1 q) ∧ zsv σ' = zsv σ ∧ zbs σ' = zbs σ ∧
      zbs σ ≤ e' ∧ n + 1 ≤ cap' ∧ cap' ≤ 90 ∧ e' ≠ l ∧ ((e' = e ∧ zbs σ ≤ e ∧ zn σ' = zn σ) ∨ (e' = zn σ ∧ zn σ' = zn σ + 1)) ∧ zc σ ≤ zc σ' + 1 ∧ zz σ ≤ zz σ' + 90 := by
  -- the count of changes
  have s1 : f_J2_add l (some x) σ = zb2 (f_J2_add_2 l (some x) (some e) (nI n) (zset σ l (.inr (19, [.int (mc + 1), .ref e, .int (nI n)])))) (fun _ σ7 => some ((1 : Int32), σ7)) := by
    unfold f_J2_add
    rw [gI_of hl rfl rfl, bd_at]
    unfold pI
    rw [pF_of hl (by show 0 < 3; omega) hb, bd_at]
    show (gR (zset σ l (.inr (19, [.int (mc + 1), .ref e, .int (nI n)]))) l 19 1).bind _ = _
    rw [gR_of zs_at (q := some e) rfl rfl, bd_at, gI_of zs_at (v := nI n) rfl rfl, bd_at, zif_t (cl_of zs_at rfl)]
    rfl
  have hle : l ≠ e := by
    intro q; subst q
    rcases h with h | h
    · rw [hl] at h; cases h.1
    · have := h.2.2.2; omega
  generalize hS : zset σ l (.inr (19, [.int (mc + 1), .ref e, .int (nI n)])) = S at s1
  have S1 : S.1 l = some (.inr (19, [.int (mc + 1), .ref e, .int (nI n)])) := by rw [← hS]; exact zs_at
  have Sq : ∀ q, q ≠ l → S.1 q = σ.1 q := fun q hq => by rw [← hS]; exact zs_no hq
  have S2 : S.2 = σ.2 := by rw [← hS]; rfl
  have Sx : zob S (some x) = true := by rw [← hS]; exact zob_set rfl (by omega) hx
  have Se : S.1 e = σ.1 e := Sq e (fun q => hle q.symm)
  have Sbs : zbs S = zbs σ := by show S.2.2.1 = σ.2.2.1; rw [S2]
  have Sn : zn S = zn σ := by show S.2.2.2.1 = σ.2.2.2.1; rw [S2]
  have Sc : zc S = zc σ := by show S.2.2.2.2.1 = σ.2.2.2.2.1; rw [S2]
  have Sz : zz S = zz σ := by show S.2.2.2.2.2 = σ.2.2.2.2.2; rw [S2]
  have Sv : zsv S = zsv σ := by show S.2.1 = σ.2.1; rw [S2]
  -- behind a growth
  have fin : ∀ (T : zS) (cap' : Nat), T.1 = (fun q => if q = l then some (.inr (19, [.int (mc + 1), .ref (zn σ), .int (nI n)])) else if q = zn σ then some (.inl (3, cap', obA (lsA n a))) else S.1 q) → zsv T = zsv σ → zbs T = zbs σ → zn T = zn σ + 1 → zc σ ≤ zc T + 1 → zz σ ≤ zz T + 90 → n < cap' → cap' ≤ 90 →
      ∃ e' cap' σ', zb2 (f_J2_add_2_11 l (some x) (some (zn σ)) (nI n) T) (fun _ σ7 => some ((1 : Int32), σ7)) = some (1, σ') ∧ σ'.1 = (fun q => if q = l then some (.inr (19, [.int (mc + 1), .ref e', .int (nI (n + 1))])) else if q = e' then some (.inl (3, cap', obA (lsA (n + 1) (fun i => if i = n then x else a i)))) else σ.1 q) ∧ zsv σ' = zsv σ ∧ zbs σ' = zbs σ ∧
      zbs σ ≤ e' ∧ n + 1 ≤ cap' ∧ cap' ≤ 90 ∧ e' ≠ l ∧ ((e' = e ∧ zbs σ ≤ e ∧ zn σ' = zn σ) ∨ (e' = zn σ ∧ zn σ' = zn σ + 1)) ∧ zc σ ≤ zc σ' + 1 ∧ zz σ ≤ zz σ' + 90 := by
    intro T cap' hT tv tb tn tc tz hn' hc'
    have hlz : zn σ ≠ l := by omega
    have T1 : T.1 l = some (.inr (19, [.int (mc + 1), .ref (zn σ), .int (nI n)])) := by rw [hT]; exact if_pos rfl
    have T2 : T.1 (zn σ) = some (.inl (3, cap', obA (lsA n a))) := by rw [hT]; exact (if_neg hlz).trans (if_pos rfl)
    have Tx : zob T (some x) = true := by
      show (match T.1 x with
        | some (.inr (c, _)) => Nat.blt c 22
        | _ => false) = true
      have e9 : T.1 x = if x = l then some (.inr (19, [.int (mc + 1), .ref (zn σ), .int (nI n)])) else if x = zn σ then some (.inl (3, cap', obA (lsA n a))) else S.1 x := by rw [hT]
      rw [e9]
      by_cases q : x = l
      · rw [if_pos q]; rfl
      · rw [if_neg q, if_neg (by omega)]
        exact Sx
    refine ⟨zn σ, cap', (fun q => if q = l then some (.inr (19, [.int (mc + 1), .ref (zn σ), .int (nI (n + 1))])) else if q = zn σ then some (.inl (3, cap', obA (lsA (n + 1) (fun i => if i = n then x else a i)))) else T.1 q, T.2), ?_, ?_, tv, tb, hbz, by omega, hc', hlz, Or.inr ⟨rfl, tn⟩, tc, tz⟩
    · exact congrArg (fun z => zb2 z (fun _ σ7 => some ((1 : Int32), σ7))) (add_11 T1 (by rw [tb]; exact hb) T2 (by rw [tb]; exact hbz) hn' hc' Tx)
    · funext q
      show (if q = l then _ else if q = zn σ then _ else T.1 q) = if q = l then _ else if q = zn σ then _ else σ.1 q
      by_cases z : q = l
      · rw [if_pos z, if_pos z]
      · by_cases y : q = zn σ
        · rw [if_neg z, if_pos y, if_neg z, if_pos y]
        · rw [if_neg z, if_neg y, if_neg z, if_neg y, hT]
          show (if q = l then _ else if q = zn σ then _ else S.1 q) = _
          rw [if_neg z, if_neg y, Sq q z]
  rw [s1]
  unfold f_J2_add_2
  rcases h with ⟨h1, h2, h2b, h3, h4, h5, h6⟩ | ⟨h1, h2, h3, h4⟩
  · rw [bd_at, aln_of (Se.trans h1), bd_at, ofN]
    by_cases hfull : n = cap
    · -- it grows
      subst hfull
      have hnl : zmax (nI (n + 1) - nI n) (nI n >>> (1 &&& 31)) = nI (max 1 (n / 2)) := by
        rw [pk_sub (by omega), show n + 1 - n = 1 by omega]
        have e : nI n >>> ((1 : Int32) &&& 31) = nI (n / 2 ^ 1) := pk_shrN (by omega) (nI 1 &&& 31) 1 (s_l 1 (by omega))
        rw [e, show nI 1 = nI 1 from rfl, zmax_nI (by omega) (by omega)]
      have hcap : n < n + max 1 (n / 2) ∧ n + max 1 (n / 2) ≤ 90 := by omega
      generalize hK : n + max 1 (n / 2) = K at hcap
      have g1 : f_J2_grow l S = some (some (zn σ), (fun q => if q = l then some (.inr (19, [.int (mc + 1), .ref (zn σ), .int (nI n)])) else if q = zn σ then some (.inl (3, K, obA (lsA n a))) else S.1 q, zsv S, zbs S, zn S + 1, zc S - 1, zz S - K)) := by
        unfold f_J2_grow
        rw [gI_of S1 (v := nI n) rfl rfl, bd_at, zif_t (cl_of S1 rfl), nI_1]
        unfold f_J2_grow_2
        have p0 : (0 : Int32) < nI n := nI_lt (a := 0) (by omega) (by omega)
        rw [gR_of S1 (q := some e) rfl rfl, bd_at, bd_at, aln_of (Se.trans h1), bd_at, ofN, if_pos p0]
        unfold f_J2_grow_2_20 f_J5_newLength
        rw [hnl, nI_add, hK, zl_at, if_neg (nI_nle (by omega) (by omega)), if_neg (show ¬ (2147483639 : Int32) < nI K from nI_nlt (a := 2147483639) (by omega) (by omega)), zb2_at, gR_of S1 (q := some e) rfl rfl, bd_at]
        unfold f_J7_copyOf f_J7_copyOf_2
        have k3 : zckA S (some e) 3 = true := by
          unfold zckA
          show (match S.1 e with
            | some (.inl (u, _)) => _
            | _ => _) = true
          rw [Se, h1]
          rfl
        have k0 : zk S 0 = some m0 := by show zsv S 0 = _; rw [Sv]; exact h0
        rw [bd_at, if_pos (Or.inl k3), k0, bd_at, bd_at, if_neg (fun q => q rfl), znewR_at (by omega) (by rw [Sc, Sz]; omega), zb2_at, bd_at]
        generalize hT : ((zup S.1 (zn S) (.inl (3, K, obA (fun _ => none))), zsv S, zbs S, zn S + 1, zc S - 1, zz S - K) : zS) = T
        have Te : T.1 e = some (.inl (3, n, obA (lsA n a))) := by
          rw [← hT]
          show (if e = zn S then _ else S.1 e) = _
          rw [if_neg (by rw [Sn]; omega), Se, h1]
        have Tn : T.1 (zn σ) = some (.inl (3, K, obA (fun _ => none))) := by
          rw [← hT, ← Sn]
          exact if_pos rfl
        have Tq : ∀ q, q ≠ zn σ → T.1 q = S.1 q := fun q hq => by
          rw [← hT]
          exact if_neg (by rw [Sn]; exact hq)
        have Tbs : zbs T = zbs σ := by rw [← hT]; exact Sbs
        have Tob : ∀ i, i < n → zob T (lsA n a i) = true := by
          intro i hi
          obtain ⟨o1, o2⟩ := h6 i hi
          have e1 : lsA n a i = some (a i) := if_pos hi
          rw [e1]
          show (match T.1 (a i) with
            | some (.inr (c, _)) => Nat.blt c 22
            | _ => false) = true
          rw [Tq _ (by omega)]
          by_cases z : a i = l
          · rw [z, S1]; rfl
          · rw [Sq _ z]; exact o1
        have c1 : zcpy T e 0 (zn S) 0 (zmin (nI n) (nI K)) = some (zset T (zn σ) (.inl (3, K, obA (lsA n a)))) := by
          rw [zmin_nI (by omega) (by omega), Nat.min_eq_left (by omega), Sn]
          unfold zcpy
          rw [Te, Tn]
          show (if 3 % 100 = 3 ∧ 3 = 3 ∧ ¬ (0 : Int32) < 0 ∧ ¬ (0 : Int32) < 0 ∧ ¬ nI n < 0 ∧ (0 : Int32).toNatClampNeg + (nI n).toNatClampNeg ≤ n ∧ (0 : Int32).toNatClampNeg + (nI n).toNatClampNeg ≤ K ∧ zbs T ≤ zn σ ∧ ((List.range (nI n).toNatClampNeg).all fun i => zob T (lsA n a ((0 : Int32).toNatClampNeg + i))) = true then _ else none) = _
          have hz0 : (0 : Int32).toNatClampNeg = 0 := rfl
          rw [nI_clamp (by omega), hz0, if_pos ⟨rfl, rfl, by decide, by decide, nI_pos (by omega), by omega, by omega, by rw [Tbs]; exact hbz, List.all_eq_true.mpr fun i hi => by rw [Nat.zero_add]; exact Tob i (List.mem_range.mp hi)⟩]
          have : va_cpy (lsA n a) (fun _ => none) 0 0 n = lsA n a := by
            funext i
            show (if 0 ≤ i ∧ i < 0 + n then lsA n a (0 + (i - 0)) else none) = lsA n a i
            by_cases q : i < n
            · rw [if_pos ⟨Nat.zero_le _, by omega⟩, Nat.zero_add, Nat.sub_zero]
            · rw [if_neg (fun w => q (by omega))]
              exact (if_neg q).symm
          rw [this]
          rfl
        rw [aln_of Te, bd_at, ofN, c1, bd_at, zb2_at, zb2_at]
        unfold pR
        have Tl : (zset T (zn σ) (.inl (3, K, obA (lsA n a)))).1 l = some (.inr (19, [.int (mc + 1), .ref e, .int (nI n)])) := by
          rw [zs_no (by omega), Tq l (by omega), S1]
        rw [pF_of Tl (by show 1 < 3; omega) (by show zbs T ≤ l; rw [Tbs]; exact hb), bd_at, zb2_at]
        refine congrArg some (Prod.ext (by rw [Sn]) (Prod.ext (funext fun q => ?_) ?_))
        · show (if q = l then some (Sum.inr (19, [Value.int (mc + 1), va_rf (some (zn S)), .int (nI n)])) else if q = zn σ then _ else T.1 q) = if q = l then _ else if q = zn σ then _ else S.1 q
          by_cases z : q = l
          · rw [if_pos z, if_pos z, Sn]; rfl
          · by_cases y : q = zn σ
            · rw [if_neg z, if_pos y, if_neg z, if_pos y]
            · rw [if_neg z, if_neg y, if_neg z, if_neg y, Tq q y]
        · show T.2 = _
          rw [← hT]
      rw [if_neg (fun q => q rfl), zif_t (cl_of S1 rfl), g1, zb2_at]
      exact fin _ K rfl (by show zsv S = _; exact Sv) (by show zbs S = _; exact Sbs) (by show zn S + 1 = _; rw [Sn]) (by show zc σ ≤ (zc S - 1) + 1; rw [Sc]; omega) (by show zz σ ≤ (zz S - K) + 90; rw [Sz]; omega) hcap.1 hcap.2
    · -- there is room
      have hne : ¬ nI n = nI cap := fun q => hfull ((nI_eq (by omega) (by omega)).mp q)
      rw [if_pos hne]
      have := add_11 S1 (by rw [Sbs]; exact hb) (Se.trans h1) (by rw [Sbs]; exact h2) (show n < cap by omega) h5 Sx
      rw [this, zb2_at]
      refine ⟨e, cap, _, rfl, ?_, Sv, Sbs, h2, by omega, h5, fun q => hle q.symm, Or.inl ⟨rfl, h2, Sn⟩, by show zc σ ≤ zc S + 1; rw [Sc]; omega, by show zz σ ≤ zz S + 90; rw [Sz]; omega⟩
      funext q
      show (if q = l then _ else if q = e then _ else S.1 q) = if q = l then _ else if q = e then _ else σ.1 q
      by_cases z : q = l
      · rw [if_pos z, if_pos z]
      · by_cases y : q = e
        · rw [if_neg z, if_pos y, if_neg z, if_pos y]
        · rw [if_neg z, if_neg y, if_neg z, if_neg y, Sq q z]
  · -- the first array
    subst h1
    have k1 : zk S 1 = some e := by show zsv S 1 = _; rw [Sv]; exact h2
    have g1 : f_J2_grow l S = some (some (zn σ), (fun q => if q = l then some (.inr (19, [.int (mc + 1), .ref (zn σ), .int (nI 0)])) else if q = zn σ then some (.inl (3, 10, obA (lsA 0 a))) else S.1 q, zsv S, zbs S, zn S + 1, zc S - 1, zz S - 10)) := by
      unfold f_J2_grow
      rw [gI_of S1 (v := nI 0) rfl rfl, bd_at, zif_t (cl_of S1 rfl), nI_1]
      unfold f_J2_grow_2
      rw [gR_of S1 (q := some e) rfl rfl, bd_at, bd_at, aln_of (Se.trans h3), bd_at, if_neg (by decide), bd_at, k1, zl_at, if_pos rfl, show zmax 10 (nI (0 + 1)) = nI 10 from by decide, znewR_at (by omega) (by rw [Sc, Sz]; omega), zb2_at]
      unfold pR
      have hT : ((zup S.1 (zn S) (.inl (3, 10, obA (fun _ => none))), zsv S, zbs S, zn S + 1, zc S - 1, zz S - 10) : zS).1 l = some (.inr (19, [.int (mc + 1), .ref e, .int (nI 0)])) := by
        show (if l = zn S then _ else S.1 l) = _
        rw [if_neg (by rw [Sn]; omega), S1]
      rw [pF_of hT (by show 1 < 3; omega) (by show zbs S ≤ l; rw [Sbs]; exact hb), bd_at, zb2_at]
      refine congrArg some (Prod.ext (by rw [Sn]) (Prod.ext (funext fun q => ?_) rfl))
      show (if q = l then some (Sum.inr (19, [Value.int (mc + 1), va_rf (some (zn S)), .int (nI 0)])) else if q = zn S then some (Sum.inl (3, 10, obA (fun _ => none))) else S.1 q) = if q = l then _ else if q = zn σ then _ else S.1 q
      rw [Sn]
      have e0 : (fun _ => none : Nat → Option Nat) = lsA 0 a := funext fun i => (if_neg (Nat.not_lt_zero i)).symm
      rw [e0]
      rfl
    rw [bd_at, aln_of (Se.trans h3), bd_at, if_neg (fun q => q (show nI 0 = Int32.ofNat 0 from rfl)), zif_t (cl_of S1 rfl), g1, zb2_at]
    exact fin _ 10 rfl (by show zsv S = _; exact Sv) (by show zbs S = _; exact Sbs) (by show zn S + 1 = _; rw [Sn]) (by show zc σ ≤ (zc S - 1) + 1; rw [Sc]; omega) (by show zz σ ≤ (zz S - 10) + 90; rw [Sz]; omega) (by omega) (by omega)
end ZLS
/-! the component stands apart from what is set aside -/
def Cs (σ : zS) (A : cA) (N : Nat → Nat) (U : cU) (S : Nat → Prop) : Prop := Rp σ A N U ∧ (∀ q, S q → q < zn σ ∧ ∀ r, aad A r = q → 300 ≤ r ∧ r < 400) ∧ ∀ j, 1 ≤ j → j ≤ 4 → aer A j = aad A (15 + j) ∨ zk σ 1 = some (aer A j)
/-- what is set aside stays; so many cells and slots at most are spent -/
def ySt (σ σ' : zS) (S : Nat → Prop) (a b : Nat) : Prop := zsv σ' = zsv σ ∧ zbs σ' = zbs σ ∧ zn σ ≤ zn σ' ∧ (∀ q, (S q ∨ q < zbs σ) → σ'.1 q = σ.1 q) ∧ zc σ ≤ zc σ' + a ∧ zz σ ≤ zz σ' + b
theorem St_r {σ : zS} {S : Nat → Prop} : ySt σ σ S 0 0 := ⟨rfl, rfl, Nat.le_refl _, fun _ _ => rfl, Nat.le_refl _, Nat.le_refl _⟩
theorem St_t {σ σ' σ'' : zS} {S : Nat → Prop} {a b a' b' : Nat} (h : ySt σ σ' S a b) (h' : ySt σ' σ'' S a' b') : ySt σ σ'' S (a + a') (b + b') := by
  obtain ⟨h1, h2, h3, h4, h5, h6⟩ := h
  obtain ⟨g1, g2, g3, g4, g5, g6⟩ := h'
  exact ⟨g1.trans h1, g2.trans h2, Nat.le_trans h3 g3, fun q hq => (g4 q (by rw [h2]; exact hq)).trans (h4 q hq), by omega, by omega⟩
theorem St_le {σ σ' : zS} {S : Nat → Prop} {a b a' b' : Nat} (h : ySt σ σ' S a b) (h1 : a ≤ a') (h2 : b ≤ b') : ySt σ σ' S a' b' := by
  obtain ⟨g1, g2, g3, g4, g5, g6⟩ := h
  exact ⟨g1, g2, g3, g4, by omega, by omega⟩
def Nj (N : Nat → Nat) (j n : Nat) : Nat → Nat := fun k => if k = j then n else N k
section ZCS
variable {σ σ' : zS} {A A' : cA} {N N' : Nat → Nat} {U U' : cU} {S : Nat → Prop}
theorem Cs_keep (C : Cs σ A N U S) (h3 : U'.2 3 = U.2 3) {q : Nat} (h : S q ∨ q < zbs σ) : (pU σ A N U').1 q = σ.1 q := by
  show (match ainv A q with
    | some r => cCt A (U'.1, U'.2, N) r
    | none => σ.1 q) = σ.1 q
  cases e : ainv A q with
  | none => rfl
  | some r =>
    have h1 := C.1.1.2.2.2 q r e
    rcases h with h | h
    · obtain ⟨r1, r2⟩ := (C.2.1 q h).2 r h1
      show cCt A (U'.1, U'.2, N) r = σ.1 q
      rw [← h1, C.1.2.1 r]
      obtain ⟨i, rfl⟩ : ∃ i, r = 100 * 3 + i := ⟨r - 300, by omega⟩
      rw [cEl_at (by omega) (by omega), cEl_at (by omega) (by omega)]
      unfold cEl
      show (if i < N 3 then some (Sum.inr (10, [Value.int (U'.2 3 (2 * i)), .int (U'.2 3 (2 * i + 1))])) else none) = (if i < N 3 then some (Sum.inr (10, [Value.int (U.2 3 (2 * i)), .int (U.2 3 (2 * i + 1))])) else none)
      rw [h3]
    · have := C.1.1.2.1 r
      omega
theorem Cs_pU (C : Cs σ A N U S) (h3 : U'.2 3 = U.2 3) : Cs (pU σ A N U') A N U' S ∧ ySt σ (pU σ A N U') S 0 0 := by
  refine ⟨⟨Rp_upd C.1, C.2⟩, rfl, rfl, Nat.le_refl _, fun q hq => Cs_keep C h3 hq, Nat.le_refl _, Nat.le_refl _⟩
theorem Cs_id (C : Cs σ A N U S) : pU σ A N U = σ := Rp_pU C.1
/-- the lists that have an array of their own -/
def zow (A : cA) (j : Nat) : Bool := decide (aer A j = aad A (15 + j))
theorem zal_some {r : Nat} (hr : zal N (zow A) r) : ∃ o, cCt A (U.1, U.2, N) r = some o := by
  rcases hr with hr | ⟨j, j1, j4, rfl, ho⟩ | ⟨j, i, j1, j4, hi, h100, rfl⟩
  · match r, hr with
    | 0, _ => exact ⟨_, rfl⟩
    | 1, _ => exact ⟨_, rfl⟩
    | 2, _ => exact ⟨_, rfl⟩
    | 3, _ => exact ⟨_, rfl⟩
    | 4, _ => exact ⟨_, rfl⟩
    | 5, _ => exact ⟨_, rfl⟩
    | 6, _ => exact ⟨_, rfl⟩
    | 7, _ => exact ⟨_, rfl⟩
    | 8, _ => exact ⟨_, rfl⟩
    | 9, _ => exact ⟨_, rfl⟩
    | 10, _ => exact ⟨_, rfl⟩
    | 11, _ => exact ⟨_, rfl⟩
    | 12, _ => exact ⟨_, rfl⟩
    | 13, _ => exact ⟨_, rfl⟩
    | 14, _ => exact ⟨_, rfl⟩
    | 15, _ => exact ⟨_, rfl⟩
    | r + 16, h => exact absurd h (by omega)
  · rw [cCt_ea j1 j4]
    unfold cEa
    rw [if_pos (of_decide_eq_true ho)]
    exact ⟨_, rfl⟩
  · rw [cEl_at j1 h100]
    unfold cEl
    rw [if_pos hi]
    have : j = 1 ∨ j = 2 ∨ j = 3 ∨ j = 4 := by omega
    rcases this with rfl | rfl | rfl | rfl <;> exact ⟨_, rfl⟩
theorem some_zal {r : Nat} (h : ∃ o, cCt A (U.1, U.2, N) r = some o) : zal N (zow A) r := by
  obtain ⟨o, ho⟩ := h
  rcases (show r < 16 ∨ (16 ≤ r ∧ r < 20) ∨ 20 ≤ r by omega) with h | h | h
  · exact Or.inl h
  · obtain ⟨j, rfl⟩ : ∃ j, r = 15 + j := ⟨r - 15, by omega⟩
    rw [cCt_ea (by omega) (by omega)] at ho
    unfold cEa at ho
    by_cases z : aer A j = aad A (15 + j)
    · exact Or.inr (Or.inl ⟨j, by omega, by omega, rfl, decide_eq_true z⟩)
    · rw [if_neg z] at ho; cases ho
  · obtain ⟨r, rfl⟩ : ∃ r', r = r' + 20 := ⟨r - 20, by omega⟩
    have ho' : (if r < 80 then none else cEl A (U.1, U.2, N) ((r + 20) / 100) ((r + 20) % 100)) = some o := ho
    by_cases z : r < 80
    · rw [if_pos z] at ho'; cases ho'
    · rw [if_neg z] at ho'
      unfold cEl at ho'
      by_cases y : (r + 20) % 100 < N ((r + 20) / 100)
      · refine Or.inr (Or.inr ⟨(r + 20) / 100, (r + 20) % 100, by omega, ?_, y, Nat.mod_lt _ (by omega), by omega⟩)
        rw [if_pos y] at ho'
        rcases Nat.lt_or_ge ((r + 20) / 100) 5 with x | x
        · omega
        · obtain ⟨j, hj⟩ : ∃ j, (r + 20) / 100 = j + 5 := ⟨(r + 20) / 100 - 5, by omega⟩
          rw [hj] at ho'
          cases ho'
      · rw [if_neg y] at ho'; cases ho'
/-- heap cells may come that are nobody's -/
theorem Cs_more {τ : zS} (C : Cs σ A N U S) (h1 : ∀ q, q < zn σ → τ.1 q = σ.1 q) (h2 : zsv τ = zsv σ) (h3 : zbs τ = zbs σ) (h4 : zn σ ≤ zn τ) (h5 : ∀ q, zn τ ≤ q → τ.1 q = none) : ∃ A', Cs τ A' N U S ∧ (∀ r, (∃ o, cCt A (U.1, U.2, N) r = some o) → aad A' r = aad A r) ∧ aer A' = aer A ∧ acap A' = acap A ∧ amc A' = amc A ∧ arf A' = arf A := by
  obtain ⟨R, hS, hD⟩ := C
  let own : Nat → Bool := zow A
  have hal : ∀ r, zal N own r → ∃ o, cCt A (U.1, U.2, N) r = some o := fun r h => zal_some h
  have hla : ∀ r, (∃ o, cCt A (U.1, U.2, N) r = some o) → zal N own r := fun r h => some_zal h
  have g1 : ∀ j, 1 ≤ j → j ≤ 4 → N j < 100 ∧ ((own j = true ∧ aer A j = aad A (15 + j) ∧ N j ≤ acap A j ∧ 1 ≤ acap A j ∧ acap A j ≤ 90) ∨ (own j = false ∧ N j = 0 ∧ aer A j < zbs τ)) := by
    intro j j1 j4
    refine ⟨(R.1.2.2.1 j j1 j4).1, ?_⟩
    rcases R.2.2.2.2 j j1 j4 with h | h
    · exact Or.inl ⟨decide_eq_true h.1, h⟩
    · by_cases z : aer A j = aad A (15 + j)
      · have := R.1.2.1 (15 + j)
        omega
      · exact Or.inr ⟨decide_eq_false z, h.1, by rw [h3]; exact h.2⟩
  have g2 : ∀ r, zal N own r → zbs τ ≤ aad A r ∧ aad A r < zn τ := fun r hr => ⟨by rw [h3]; exact R.1.2.1 r, Nat.lt_of_lt_of_le (Rp_lt R (hal r hr)) h4⟩
  have g3 : ∀ r r', zal N own r → zal N own r' → aad A r = aad A r' → r = r' := by
    intro r r' _ _ e
    have e1 := R.1.1 r
    rw [e, R.1.1 r'] at e1
    exact (Option.some.inj e1).symm
  have g4 : ∀ r, zal N own r → τ.1 (aad A r) = cCt (aad A, fun _ => none, aer A, acap A, amc A, arf A) (U.1, U.2, N) r := by
    intro r hr
    rw [h1 _ (Rp_lt R (hal r hr)), R.2.1 r]
    exact cCt_iv r
  obtain ⟨A', a1, a2, a3, a4, a5, a6, a7⟩ := Rp_mk (σ := τ) (U := U) (N := N) (aad A) (aer A) (acap A) (amc A) (arf A) own g1 g2 g3 g4 h5 (by rw [h3]; exact Nat.le_trans R.2.2.2.1 h4)
  refine ⟨A', ⟨a1, fun q hq => ⟨Nat.lt_of_lt_of_le (hS q hq).1 h4, fun r e => ?_⟩, fun j j1 j4 => ?_⟩, fun r hr => a2 r (hla r hr), a3, a4, a5, a6⟩
  · rcases Classical.em (zal N own r) with z | z
    · rw [a2 r z] at e; exact (hS q hq).2 r e
    · have := a7 r z
      have := (hS q hq).1
      omega
  · rcases hD j j1 j4 with h | h
    · left
      rw [a3, a2 _ (Or.inr (Or.inl ⟨j, j1, j4, rfl, decide_eq_true h⟩))]; exact h
    · right
      rw [a3]
      show zsv τ 1 = _
      rw [h2]; exact h
end ZCS
/-- the heap's constants that lists need -/
def yEv (σ : zS) : Prop := (∃ m0, zk σ 0 = some m0) ∧ ∀ d, zk σ 1 = some d → d < zbs σ ∧ σ.1 d = some (.inl (103, 0, obA (fun _ => none)))
section ZAD
variable {σ σ' τ : zS} {A A' : cA} {N N' : Nat → Nat} {U U' : cU} {S : Nat → Prop}
theorem Ev_St {a b : Nat} (E : yEv σ) (h : ySt σ σ' S a b) : yEv σ' := by
  obtain ⟨⟨m, h1⟩, h2⟩ := E
  obtain ⟨g1, g2, g3, g4, -⟩ := h
  refine ⟨⟨m, by show zsv σ' 0 = _; rw [g1]; exact h1⟩, fun d hd => ?_⟩
  have hd' : zk σ 1 = some d := by
    have : zsv σ' 1 = some d := hd
    rw [g1] at this; exact this
  obtain ⟨q1, q2⟩ := h2 d hd'
  exact ⟨by rw [g2]; exact q1, by rw [g4 d (Or.inr q1)]; exact q2⟩
theorem Nj_at {j n : Nat} : Nj N j n j = n := if_pos rfl
theorem Nj_no {j n k : Nat} (h : k ≠ j) : Nj N j n k = N k := if_neg h
/-- roles that do not belong to the list j look alike in both books -/
theorem cCt_agree {ad er cap : Nat → Nat} {mc : Nat → Int32} {rf iv : Nat → Option Nat} {j : Nat} (j1 : 1 ≤ j) (j4 : j ≤ 4)
    (h16 : ∀ r, r < 16 → ad r = aad A r) (hea : ∀ k, 1 ≤ k → k ≤ 4 → k ≠ j → er k = aer A k ∧ cap k = acap A k ∧ mc k = amc A k ∧ ad (15 + k) = aad A (15 + k) ∧ N' k = N k ∧ ∀ i, i < N k → ad (100 * k + i) = aad A (100 * k + i)) (hrf : rf = arf A) (hNj : N j ≤ N' j) :
    ∀ r, r ≠ 11 + j → r ≠ 15 + j → (∃ o, cCt A (U.1, U.2, N) r = some o) → cCt (ad, iv, er, cap, mc, rf) (U.1, U.2, N') r = cCt A (U.1, U.2, N) r := by
  intro r n1 n2 hs
  subst hrf
  have hls : ∀ k, 1 ≤ k → k ≤ 4 → k ≠ j → cLs (ad, iv, er, cap, mc, arf A) (U.1, U.2, N') k = cLs A (U.1, U.2, N) k := by
    intro k k1 k4 kj
    obtain ⟨b1, b2, b3, b4, b5, b6⟩ := hea k k1 k4 kj
    show some (Sum.inr (19, [Value.int (mc k), .ref (er k), .int (Int32.ofNat (N' k))])) = some (Sum.inr (19, [Value.int (amc A k), .ref (aer A k), .int (Int32.ofNat (N k))]))
    rw [b1, b3, b5]
  have hsw : sw (U.1, U.2, N') = sw (U.1, U.2, N) := rfl
  have hsw2 : sw (U.1, U.2, N) = 0 ∨ sw (U.1, U.2, N) = 1 := by
    unfold sw
    split
    · exact Or.inl rfl
    · exact Or.inr rfl
  rcases (show r < 12 ∨ (12 ≤ r ∧ r < 16) ∨ (16 ≤ r ∧ r < 20) ∨ 20 ≤ r by omega) with h | h | h | h
  · match r, h with
    | 0, _ =>
      show some (Sum.inr (0, [Value.ref (ad 1), va_rf (arf A 0), .ref (ad 2), .ref (ad 3), .ref (ad 4), .ref (ad 6), .int (U.1 7)])) = some (Sum.inr (0, [Value.ref (aad A 1), va_rf (arf A 0), .ref (aad A 2), .ref (aad A 3), .ref (aad A 4), .ref (aad A 6), .int (U.1 7)]))
      rw [h16 1 (by omega), h16 2 (by omega), h16 3 (by omega), h16 4 (by omega), h16 6 (by omega)]
    | 1, _ =>
      show some (Sum.inr (1, [Value.int (U.1 0), .int (U.1 1), .int (U.1 2), .int (U.1 3), .int (U.1 4), .int (U.1 5), .int (U.1 6), .ref (ad 5), .ref (ad 12), .ref (ad 13), .ref (ad 14), .ref (ad 15), va_rf (arf A 1)])) = some (Sum.inr (1, [Value.int (U.1 0), .int (U.1 1), .int (U.1 2), .int (U.1 3), .int (U.1 4), .int (U.1 5), .int (U.1 6), .ref (aad A 5), .ref (aad A 12), .ref (aad A 13), .ref (aad A 14), .ref (aad A 15), va_rf (arf A 1)]))
      rw [h16 5 (by omega), h16 12 (by omega), h16 13 (by omega), h16 14 (by omega), h16 15 (by omega)]
    | 2, _ =>
      show some (Sum.inr (2, [Value.ref (ad 11), .int (U.1 8), .int (U.1 9), .int (U.1 10), .int (U.1 11), .int (U.1 12), .int (U.1 13)])) = some (Sum.inr (2, [Value.ref (aad A 11), .int (U.1 8), .int (U.1 9), .int (U.1 10), .int (U.1 11), .int (U.1 12), .int (U.1 13)]))
      rw [h16 11 (by omega)]
    | 3, _ => rfl
    | 4, _ =>
      show some (Sum.inr (4, [Value.ref (ad 7), .ref (ad 8), .ref (ad (9 + sw (U.1, U.2, N'))), .ref (ad (10 - sw (U.1, U.2, N'))), .int (U.1 21), .int (U.1 22), .int (U.1 23), .int (U.1 24), .ref (ad 0)])) = some (Sum.inr (4, [Value.ref (aad A 7), .ref (aad A 8), .ref (aad A (9 + sw (U.1, U.2, N))), .ref (aad A (10 - sw (U.1, U.2, N))), .int (U.1 21), .int (U.1 22), .int (U.1 23), .int (U.1 24), .ref (aad A 0)]))
      rw [hsw, h16 7 (by omega), h16 8 (by omega), h16 0 (by omega), h16 (9 + sw (U.1, U.2, N)) (by omega), h16 (10 - sw (U.1, U.2, N)) (by omega)]
    | 5, _ => rfl
    | 6, _ => rfl
    | 7, _ => rfl
    | 8, _ => rfl
    | 9, _ => rfl
    | 10, _ => rfl
    | 11, _ => rfl
    | r + 12, h => exact absurd h (by omega)
  · obtain ⟨k, rfl⟩ : ∃ k, r = 11 + k := ⟨r - 11, by omega⟩
    rw [cCt_ls (by omega) (by omega), cCt_ls (by omega) (by omega)]
    exact hls k (by omega) (by omega) (by omega)
  · obtain ⟨k, rfl⟩ : ∃ k, r = 15 + k := ⟨r - 15, by omega⟩
    obtain ⟨b1, b2, b3, b4, b5, b6⟩ := hea k (by omega) (by omega) (by omega)
    rw [cCt_ea (by omega) (by omega), cCt_ea (by omega) (by omega)]
    unfold cEa
    show (if er k = ad (15 + k) then some (Sum.inl (3, cap k, Sum.inr (Sum.inr (Sum.inr (Sum.inr (fun i => if i < N' k then some (ad (100 * k + i)) else none)))))) else none) = (if aer A k = aad A (15 + k) then some (Sum.inl (3, acap A k, Sum.inr (Sum.inr (Sum.inr (Sum.inr (fun i => if i < N k then some (aad A (100 * k + i)) else none)))))) else none)
    have : (fun i => if i < N' k then some (ad (100 * k + i)) else none) = (fun i => if i < N k then some (aad A (100 * k + i)) else none) := by
      funext i
      rw [b5]
      by_cases z : i < N k
      · rw [if_pos z, if_pos z, b6 i z]
      · rw [if_neg z, if_neg z]
    rw [b1, b2, b4, this]
  · obtain ⟨r, rfl⟩ : ∃ r', r = r' + 20 := ⟨r - 20, by omega⟩
    obtain ⟨o, ho⟩ := hs
    have ho' : (if r < 80 then none else cEl A (U.1, U.2, N) ((r + 20) / 100) ((r + 20) % 100)) = some o := ho
    show (if r < 80 then none else cEl (ad, iv, er, cap, mc, arf A) (U.1, U.2, N') ((r + 20) / 100) ((r + 20) % 100)) = (if r < 80 then none else cEl A (U.1, U.2, N) ((r + 20) / 100) ((r + 20) % 100))
    by_cases z : r < 80
    · rw [if_pos z] at ho'; cases ho'
    · rw [if_neg z] at ho'
      rw [if_neg z, if_neg z]
      have e : r + 20 = 100 * ((r + 20) / 100) + (r + 20) % 100 := by omega
      have h1 : 1 ≤ (r + 20) / 100 := by omega
      generalize (r + 20) / 100 = k at *
      generalize (r + 20) % 100 = i at *
      unfold cEl at ho' ⊢
      have hi : i < N k := by
        by_cases y : i < N k
        · exact y
        · rw [if_neg y] at ho'; cases ho'
      have hk4 : k ≤ 4 := by
        rcases Nat.lt_or_ge k 5 with x | x
        · omega
        · obtain ⟨k', rfl⟩ : ∃ k', k = k' + 5 := ⟨k - 5, by omega⟩
          rw [if_pos hi] at ho'; cases ho'
      have hi' : i < N' k := by
        by_cases y : k = j
        · subst y; omega
        · rw [(hea k h1 hk4 y).2.2.2.2.1]; exact hi
      show (if i < N' k then _ else none) = (if i < N k then _ else none)
      rw [if_pos hi, if_pos hi']
theorem zob_of {q c : Nat} {fs : List Value} (h : σ.1 q = some (.inr (c, fs))) (hc : c < 22) : zob σ (some q) = true := by
  show (match σ.1 q with
    | some (.inr (c, _)) => Nat.blt c 22
    | _ => false) = true
  rw [h]
  exact Nat.ble_eq.mpr hc
theorem cEl_obj {j i : Nat} (j1 : 1 ≤ j) (j4 : j ≤ 4) (hi : i < N j) : ∃ c fs, cEl A (U.1, U.2, N) j i = some (.inr (c, fs)) ∧ c < 22 := by
  unfold cEl
  show ∃ c fs, (if i < N j then _ else none) = _ ∧ _
  rw [if_pos hi]
  have : j = 1 ∨ j = 2 ∨ j = 3 ∨ j = 4 := by omega
  rcases this with rfl | rfl | rfl | rfl
  · exact ⟨_, _, rfl, by omega⟩
  · exact ⟨_, _, rfl, by omega⟩
  · exact ⟨_, _, rfl, by omega⟩
  · exact ⟨_, _, rfl, by omega⟩
/-- an object that was made just now goes to the end of a list -/
theorem Cs_add {j x : Nat} {o : zOb} (j1 : 1 ≤ j) (j4 : j ≤ 4) (C : Cs σ A N U S) (E : yEv σ) (hx : x = zn σ) (hτ : ∀ q, τ.1 q = if q = x then some o else σ.1 q) (tv : zsv τ = zsv σ) (tb : zbs τ = zbs σ) (tn : zn τ = zn σ + 1) (hn : N j < 60)
    (ho : cEl A (U.1, U.2, Nj N j (N j + 1)) j (N j) = some o) (hc : 1 ≤ zc τ ∧ 90 ≤ zz τ) :
    ∃ σ' A', f_J2_add (aad A (11 + j)) (some x) τ = some (1, σ') ∧ Cs σ' A' (Nj N j (N j + 1)) U S ∧ ySt τ σ' S 1 90 ∧ (∀ r, r < 16 → aad A' r = aad A r) ∧ arf A' = arf A := by
  obtain ⟨R, hS, hD⟩ := C
  have C : Cs σ A N U S := ⟨R, hS, hD⟩
  obtain ⟨⟨m0, hm0⟩, hd1⟩ := E
  have Q : ∀ q, q ≠ x → τ.1 q = σ.1 q := fun q hq => by rw [hτ, if_neg hq]
  have hlt : ∀ r, (∃ o, cCt A (U.1, U.2, N) r = some o) → aad A r < zn σ := fun r h => Rp_lt R h
  have hbx : zbs σ ≤ x := by rw [hx]; exact R.2.2.2.1
  have sl : cCt A (U.1, U.2, N) (11 + j) = some (.inr (19, [.int (amc A j), .ref (aer A j), .int (nI (N j))])) := cCt_ls j1 j4
  have llt := hlt (11 + j) ⟨_, sl⟩
  have hl : τ.1 (aad A (11 + j)) = some (.inr (19, [.int (amc A j), .ref (aer A j), .int (nI (N j))])) := by rw [Q _ (by omega), R.2.1, sl]
  obtain ⟨c0, fs0, hco, hc22⟩ := cEl_obj (A := A) (N := Nj N j (N j + 1)) (U := U) j1 j4 (show N j < Nj N j (N j + 1) j by rw [Nj_at]; omega)
  have hox : o = .inr (c0, fs0) := by rw [hco] at ho; exact (Option.some.inj ho).symm
  have hτx : τ.1 x = some o := by rw [hτ, if_pos rfl]
  have hxo : zob τ (some x) = true := zob_of (by rw [hτx, hox]) hc22
  have hxl : x ≠ aad A (11 + j) := by omega
  have hel : ∀ i, i < N j → ∃ c fs, cCt A (U.1, U.2, N) (100 * j + i) = some (.inr (c, fs)) ∧ c < 22 := by
    intro i hi
    rw [cEl_at j1 (by omega)]
    exact cEl_obj j1 j4 hi
  have hcase : (τ.1 (aer A j) = some (.inl (3, acap A j, obA (lsA (N j) (fun i => aad A (100 * j + i))))) ∧ zbs τ ≤ aer A j ∧ aer A j < zn τ ∧ N j ≤ acap A j ∧ 1 ≤ acap A j ∧ acap A j ≤ 90 ∧ ∀ i, i < N j → zob τ (some (aad A (100 * j + i))) = true ∧ aad A (100 * j + i) < zn τ) ∨ (N j = 0 ∧ zk τ 1 = some (aer A j) ∧ τ.1 (aer A j) = some (.inl (103, 0, obA (fun _ => none))) ∧ aer A j < zbs τ) := by
    rcases R.2.2.2.2 j j1 j4 with ⟨o1, o2, o3, o4⟩ | ⟨o1, o2⟩
    · have se : cCt A (U.1, U.2, N) (15 + j) = some (.inl (3, acap A j, obA (lsA (N j) (fun i => aad A (100 * j + i))))) := by
        rw [cCt_ea j1 j4]
        unfold cEa
        rw [if_pos o1]
        rfl
      have elt := hlt (15 + j) ⟨_, se⟩
      refine Or.inl ⟨?_, by rw [tb, o1]; exact R.1.2.1 _, by rw [tn, o1]; omega, o2, o3, o4, fun i hi => ?_⟩
      · rw [o1, Q _ (by omega), R.2.1, se]
      · obtain ⟨c, fs, q1, q2⟩ := hel i hi
        have il := hlt (100 * j + i) ⟨_, q1⟩
        exact ⟨zob_of (by rw [Q _ (by omega), R.2.1, q1]) q2, by rw [tn]; omega⟩
    · have hk : zk σ 1 = some (aer A j) := by
        rcases hD j j1 j4 with h | h
        · have := R.1.2.1 (15 + j)
          omega
        · exact h
      obtain ⟨d1, d2⟩ := hd1 _ hk
      exact Or.inr ⟨o1, by show zsv τ 1 = _; rw [tv]; exact hk, by rw [Q _ (by omega)]; exact d2, by rw [tb]; exact d1⟩
  obtain ⟨e', cap', σ', a1, a2, a3, a4, a5, a6, a7, a8, a9, a10, a11⟩ := J2_add_spec (a := fun i => aad A (100 * j + i)) hl (by rw [tb]; exact R.1.2.1 _) (by omega) (by rw [tb, tn]; exact Nat.le_succ_of_le R.2.2.2.1) hxo (by omega) hn hcase (m0 := m0) (by show zsv τ 0 = _; rw [tv]; exact hm0) hc
  -- the new book
  let ad : Nat → Nat := fun r => if r = 15 + j then e' else if r = 100 * j + N j then x else aad A r
  let er : Nat → Nat := fun k => if k = j then e' else aer A k
  let cap : Nat → Nat := fun k => if k = j then cap' else acap A k
  let mc : Nat → Int32 := fun k => if k = j then amc A j + 1 else amc A k
  let own : Nat → Bool := fun k => if k = j then true else zow A k
  have adx : ad (100 * j + N j) = x := by
    show (if 100 * j + N j = 15 + j then e' else if 100 * j + N j = 100 * j + N j then x else _) = x
    rw [if_neg (by omega), if_pos rfl]
  have ade : ad (15 + j) = e' := if_pos rfl
  have ado : ∀ r, r ≠ 15 + j → r ≠ 100 * j + N j → ad r = aad A r := by
    intro r r1 r2
    show (if r = 15 + j then e' else if r = 100 * j + N j then x else aad A r) = _
    rw [if_neg r1, if_neg r2]
  have zn' : zn τ ≤ zn σ' ∧ (e' < zn σ') := by
    rcases a9 with ⟨h1, h2, h3⟩ | ⟨h1, h2⟩
    · refine ⟨by omega, ?_⟩
      rw [h1, h3]
      rcases hcase with h | h
      · exact h.2.2.1
      · omega
    · omega
  -- a new role is an old one, or one of the two
  have hN9 : ∀ k, 1 ≤ k → k ≤ 4 → N k < 100 := fun k k1 k4 => (R.1.2.2.1 k k1 k4).1
  have old : ∀ r, zal (Nj N j (N j + 1)) own r → r = 15 + j ∨ r = 100 * j + N j ∨ (r ≠ 15 + j ∧ r ≠ 100 * j + N j ∧ zal N (zow A) r) := by
    intro r hr
    by_cases z1 : r = 15 + j
    · exact Or.inl z1
    · by_cases z2 : r = 100 * j + N j
      · exact Or.inr (Or.inl z2)
      · refine Or.inr (Or.inr ⟨z1, z2, ?_⟩)
        rcases hr with h | ⟨k, k1, k4, rfl, h⟩ | ⟨k, i, k1, k4, hi, h100, rfl⟩
        · exact Or.inl h
        · have hkj : k ≠ j := by omega
          have h' : (if k = j then true else zow A k) = true := h
          rw [if_neg hkj] at h'
          exact Or.inr (Or.inl ⟨k, k1, k4, rfl, h'⟩)
        · refine Or.inr (Or.inr ⟨k, i, k1, k4, ?_, h100, rfl⟩)
          by_cases hkj : k = j
          · subst hkj; rw [Nj_at] at hi; omega
          · rw [Nj_no hkj] at hi; exact hi
  -- the two are new, or (the array) the list's own
  have hesep : ∀ r, zal N (zow A) r → r ≠ 15 + j → aad A r ≠ e' := by
    intro r hr hne e
    rcases a9 with ⟨h1, h2, h3⟩ | ⟨h1, h2⟩
    · rcases hcase with h | h
      · rcases R.2.2.2.2 j j1 j4 with o1 | o1
        · have q := R.1.1 r
          rw [e, h1, o1.1, R.1.1 (15 + j)] at q
          exact hne (Option.some.inj q).symm
        · have := h.2.1
          omega
      · have := h.2.2.2
        omega
    · have := hlt r (zal_some hr)
      omega
  have hlne : ∀ r, r ≠ 11 + j → aad A r ≠ aad A (11 + j) := by
    intro r hr e
    have q := R.1.1 r
    rw [e, R.1.1 (11 + j)] at q
    exact hr (Option.some.inj q).symm
  have hex : e' ≠ x := by
    rcases a9 with ⟨h1, h2, h3⟩ | ⟨h1, h2⟩
    · rcases hcase with h | h
      · rcases R.2.2.2.2 j j1 j4 with o1 | o1
        · have se : ∃ o, cCt A (U.1, U.2, N) (15 + j) = some o := by
            rw [cCt_ea j1 j4]
            unfold cEa
            rw [if_pos o1.1]
            exact ⟨_, rfl⟩
          have := hlt _ se
          omega
        · have := h.2.1
          omega
      · have := h.2.2.2
        omega
    · omega
  have g1 : ∀ k, 1 ≤ k → k ≤ 4 → Nj N j (N j + 1) k < 100 ∧ ((own k = true ∧ er k = ad (15 + k) ∧ Nj N j (N j + 1) k ≤ cap k ∧ 1 ≤ cap k ∧ cap k ≤ 90) ∨ (own k = false ∧ Nj N j (N j + 1) k = 0 ∧ er k < zbs σ')) := by
    intro k k1 k4
    by_cases hkj : k = j
    · subst hkj
      rw [Nj_at]
      refine ⟨by omega, Or.inl ⟨if_pos rfl, ?_, ?_, ?_, ?_⟩⟩
      · show (if k = k then e' else aer A k) = ad (15 + k)
        rw [if_pos rfl, ade]
      · show _ ≤ (if k = k then cap' else acap A k)
        rw [if_pos rfl]; exact a6
      · show 1 ≤ (if k = k then cap' else acap A k)
        rw [if_pos rfl]; omega
      · show (if k = k then cap' else acap A k) ≤ 90
        rw [if_pos rfl]; exact a7
    · rw [Nj_no hkj]
      have e1 : own k = zow A k := if_neg hkj
      have e2 : er k = aer A k := if_neg hkj
      have e3 : cap k = acap A k := if_neg hkj
      have e4 : ad (15 + k) = aad A (15 + k) := ado _ (by omega) (by omega)
      rw [e1, e2, e3, e4, a4, tb]
      refine ⟨hN9 k k1 k4, ?_⟩
      rcases R.2.2.2.2 k k1 k4 with h | h
      · exact Or.inl ⟨decide_eq_true h.1, h⟩
      · by_cases z : aer A k = aad A (15 + k)
        · have := R.1.2.1 (15 + k)
          omega
        · exact Or.inr ⟨decide_eq_false z, h⟩
  have g2 : ∀ r, zal (Nj N j (N j + 1)) own r → zbs σ' ≤ ad r ∧ ad r < zn σ' := by
    intro r hr
    rw [a4, tb]
    rcases old r hr with rfl | rfl | ⟨r1, r2, h⟩
    · rw [ade]; exact ⟨by rw [← tb]; exact a5, zn'.2⟩
    · rw [adx]; exact ⟨hbx, by omega⟩
    · rw [ado r r1 r2]
      have := hlt r (zal_some h)
      exact ⟨R.1.2.1 r, by omega⟩
  have g3 : ∀ r r', zal (Nj N j (N j + 1)) own r → zal (Nj N j (N j + 1)) own r' → ad r = ad r' → r = r' := by
    intro r r' hr hr' e
    rcases old r hr with rfl | rfl | ⟨r1, r2, h⟩ <;> rcases old r' hr' with rfl | rfl | ⟨r1', r2', h'⟩
    · rfl
    · rw [ade, adx] at e; exact absurd e hex
    · rw [ade, ado r' r1' r2'] at e; exact absurd e.symm (hesep r' h' r1')
    · rw [ade, adx] at e; exact absurd e.symm hex
    · rfl
    · rw [adx, ado r' r1' r2'] at e
      have := hlt r' (zal_some h')
      omega
    · rw [ade, ado r r1 r2] at e; exact absurd e (hesep r h r1)
    · rw [adx, ado r r1 r2] at e
      have := hlt r (zal_some h)
      omega
    · rw [ado r r1 r2, ado r' r1' r2'] at e
      have q := R.1.1 r
      rw [e, R.1.1 r'] at q
      exact (Option.some.inj q).symm
  have el1 : e' ≠ aad A (11 + j) := a8
  have g4 : ∀ r, zal (Nj N j (N j + 1)) own r → σ'.1 (ad r) = cCt (ad, fun _ => none, er, cap, mc, arf A) (U.1, U.2, Nj N j (N j + 1)) r := by
    intro r hr
    by_cases hr1 : r = 11 + j
    · subst hr1
      rw [ado _ (by omega) (by omega), cCt_ls j1 j4, a2]
      show (if aad A (11 + j) = aad A (11 + j) then _ else _) = some (Sum.inr (19, [Value.int (mc j), .ref (er j), .int (Int32.ofNat (Nj N j (N j + 1) j))]))
      rw [if_pos rfl, Nj_at]
      have e1 : mc j = amc A j + 1 := if_pos rfl
      have e2 : er j = e' := if_pos rfl
      rw [e1, e2]
      rfl
    · rcases old r hr with rfl | rfl | ⟨r1, r2, h⟩
      · rw [ade, cCt_ea j1 j4, a2]
        unfold cEa
        have e2 : er j = e' := if_pos rfl
        have e3 : cap j = cap' := if_pos rfl
        show (if e' = aad A (11 + j) then _ else if e' = e' then _ else _) = (if er j = ad (15 + j) then some (Sum.inl (3, cap j, Sum.inr (Sum.inr (Sum.inr (Sum.inr (fun i => if i < Nj N j (N j + 1) j then some (ad (100 * j + i)) else none)))))) else none)
        rw [if_neg el1, if_pos rfl, e2, ade, if_pos rfl, e3, Nj_at]
        have : (fun i => if i < N j + 1 then some (ad (100 * j + i)) else none) = lsA (N j + 1) (fun i => if i = N j then x else aad A (100 * j + i)) := by
          funext i
          show (if i < N j + 1 then some (ad (100 * j + i)) else none) = if i < N j + 1 then some (if i = N j then x else aad A (100 * j + i)) else none
          by_cases z : i < N j + 1
          · rw [if_pos z, if_pos z]
            by_cases y : i = N j
            · subst y; rw [adx, if_pos rfl]
            · rw [ado _ (by omega) (by omega), if_neg y]
          · rw [if_neg z, if_neg z]
        rw [this]
        rfl
      · rw [adx, a2]
        show (if x = aad A (11 + j) then _ else if x = e' then _ else τ.1 x) = _
        rw [if_neg hxl, if_neg (fun q => hex q.symm), hτx, cEl_at j1 (by omega), ← ho]
        rfl
      · have hs := zal_some (U := U) h
        have hne := hlt r hs
        rw [ado r r1 r2, a2]
        show (if aad A r = aad A (11 + j) then _ else if aad A r = e' then _ else τ.1 (aad A r)) = _
        rw [if_neg (hlne r hr1), if_neg (hesep r h r1), Q _ (by omega), R.2.1 r]
        refine (cCt_agree (A := A) (N := N) (N' := Nj N j (N j + 1)) j1 j4 (fun r hr => ado r (by omega) (by omega)) (fun k k1 k4 hkj => ⟨if_neg hkj, if_neg hkj, if_neg hkj, ado _ (by omega) (by have := hN9 k k1 k4; omega), Nj_no hkj, fun i hi => ado _ (by omega) (by have := hN9 k k1 k4; omega)⟩) rfl (by rw [Nj_at]; omega) r hr1 r1 hs).symm
  have g5 : ∀ q, zn σ' ≤ q → σ'.1 q = none := by
    intro q hq
    rw [a2]
    show (if q = aad A (11 + j) then _ else if q = e' then _ else τ.1 q) = none
    rw [if_neg (by omega), if_neg (by omega), Q q (by omega)]
    exact R.2.2.1 q (by omega)
  obtain ⟨A', b1, b2, b3, b4, b5, b6, b7⟩ := Rp_mk (σ := σ') (U := U) (N := Nj N j (N j + 1)) ad er cap mc (arf A) own g1 g2 g3 g4 g5 (by rw [a4, tb]; have := R.2.2.2.1; omega)
  refine ⟨σ', A', a1, ⟨b1, fun q hq => ⟨by have := (hS q hq).1; omega, fun r e => ?_⟩, fun k k1 k4 => ?_⟩, ⟨a3, a4, zn'.1, fun q hq => ?_, a10, a11⟩, fun r hr => ?_, b6⟩
  · have hq1 := (hS q hq).1
    rcases Classical.em (zal (Nj N j (N j + 1)) own r) with z | z
    · rw [b2 r z] at e
      rcases old r z with rfl | rfl | ⟨r1, r2, h⟩
      · rw [ade] at e
        rcases a9 with ⟨h1, h2, h3⟩ | ⟨h1, h2⟩
        · rcases R.2.2.2.2 j j1 j4 with o1 | o1
          · have := (hS q hq).2 (15 + j) (by rw [← o1.1, ← h1]; exact e)
            omega
          · omega
        · omega
      · rw [adx] at e; omega
      · rw [ado r r1 r2] at e; exact (hS q hq).2 r e
    · have := b7 r z
      omega
  · rw [b3]
    by_cases hkj : k = j
    · subst hkj
      left
      rw [b2 _ (Or.inr (Or.inl ⟨k, k1, k4, rfl, if_pos rfl⟩)), ade]
      exact if_pos rfl
    · have e2 : er k = aer A k := if_neg hkj
      rw [e2]
      rcases hD k k1 k4 with h | h
      · left
        rw [b2 _ (Or.inr (Or.inl ⟨k, k1, k4, rfl, (if_neg hkj).trans (decide_eq_true h)⟩)), ado _ (by omega) (by omega)]
        exact h
      · right
        show zsv σ' 1 = _
        rw [a3, tv]; exact h
  · rw [a2]
    show (if q = aad A (11 + j) then _ else if q = e' then _ else τ.1 q) = τ.1 q
    have hq2 : q ≠ aad A (11 + j) ∧ q ≠ e' := by
      rcases hq with hq | hq
      · have h1 := (hS q hq).1
        refine ⟨fun e => by have := (hS q hq).2 (11 + j) e.symm; omega, fun e => ?_⟩
        rcases a9 with ⟨h1, h2, h3⟩ | ⟨h1, h2⟩
        · rcases R.2.2.2.2 j j1 j4 with o1 | o1
          · have := (hS q hq).2 (15 + j) (by rw [← o1.1, ← h1]; exact e.symm)
            omega
          · omega
        · omega
      · have := R.1.2.1 (11 + j)
        exact ⟨by omega, by omega⟩
    rw [if_neg hq2.1, if_neg hq2.2]
  · rw [b2 r (Or.inl hr), ado r (by omega) (by omega)]
end ZAD
