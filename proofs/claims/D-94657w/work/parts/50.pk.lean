/-! pure land: H1 (see wip/D-94657w/pl) -/
/-! a world in the heap, by a book of its own -/
def wrl (r : Nat) : Prop := r = 1 ∨ r = 5 ∨ 12 ≤ r
/-- what stands at the world's roles; where it may be written (all but the offers) it is ours -/
def yWd (σ : zS) (A : cA) (N : Nat → Nat) (U : cU) : Prop :=
  (∀ r, wrl r → zal N (zow A) r → zbs σ ≤ aad A r ∧ aad A r < zn σ ∧ σ.1 (aad A r) = cCt A (U.1, U.2, N) r) ∧ (∀ r r', wrl r → wrl r' → zal N (zow A) r → zal N (zow A) r' → aad A r = aad A r' → r = r') ∧
    ∀ j, 1 ≤ j → j ≤ 4 → N j ≤ 60 ∧ ((aer A j = aad A (15 + j) ∧ N j ≤ acap A j ∧ 1 ≤ acap A j ∧ acap A j ≤ 90) ∨ (aer A j ≠ aad A (15 + j) ∧ N j = 0 ∧ zk σ 1 = some (aer A j)))
section ZWD
variable {σ σ' τ : zS} {A A' : cA} {N N' : Nat → Nat} {U U' U'' : cU} {S : Nat → Prop} {c : Nat} {M M' : mS}
theorem Cs_Wd (C : Cs σ A N U S) (E : yEv σ) (hN : ∀ j, 1 ≤ j → j ≤ 4 → N j ≤ 60) : yWd σ A N U := by
  obtain ⟨R, hS, hD⟩ := C
  refine ⟨fun r _ hr => ⟨R.1.2.1 r, Rp_lt R (zal_some hr), R.2.1 r⟩, fun r r' _ _ _ _ e => ?_, fun j j1 j4 => ⟨hN j j1 j4, ?_⟩⟩
  · have q := R.1.1 r
    rw [e, R.1.1 r'] at q
    exact (Option.some.inj q).symm
  · rcases R.2.2.2.2 j j1 j4 with h | h
    · exact Or.inl h
    · have hne : aer A j ≠ aad A (15 + j) := by
        have := R.1.2.1 (15 + j)
        omega
      exact Or.inr ⟨hne, h.1, (hD j j1 j4).resolve_left hne⟩
/-- the world does not look at what is not its own -/
theorem Wd_keep (yW : yWd σ A N U) (h1 : ∀ r, wrl r → zal N (zow A) r → τ.1 (aad A r) = σ.1 (aad A r)) (hv : zsv τ = zsv σ) (hb : zbs τ = zbs σ) (hn : zn σ ≤ zn τ) : yWd τ A N U := by
  obtain ⟨w1, w2, w3⟩ := yW
  refine ⟨fun r hr hz => ?_, w2, fun j j1 j4 => ?_⟩
  · obtain ⟨a, b, d⟩ := w1 r hr hz
    exact ⟨by rw [hb]; exact a, Nat.lt_of_lt_of_le b hn, by rw [h1 r hr hz]; exact d⟩
  · obtain ⟨a, b⟩ := w3 j j1 j4
    refine ⟨a, b.imp id fun h => ⟨h.1, h.2.1, ?_⟩⟩
    show zsv τ 1 = _
    rw [hv]; exact h.2.2
/-- an object that stands behind all of the world goes to the end of a list -/
theorem Wd_add {j x : Nat} {o : zOb} (j1 : 1 ≤ j) (j4 : j ≤ 4) (yW : yWd σ A N U) (E : yEv σ) (hbz : zbs σ ≤ zn σ) (hf : ∀ q, zn σ ≤ q → σ.1 q = none) (hxs : σ.1 x = some o) (hxb : zbs σ ≤ x) (hxn : x < zn σ) (hxa : ∀ r, wrl r → zal N (zow A) r → aad A r ≠ x) (hn : N j < 60)
    (ho : cEl A (U.1, U.2, Nj N j (N j + 1)) j (N j) = some o) (hc : 1 ≤ zc σ ∧ 90 ≤ zz σ) :
    ∃ σ' A', f_J2_add (aad A (11 + j)) (some x) σ = some (1, σ') ∧ yWd σ' A' (Nj N j (N j + 1)) U ∧ zsv σ' = zsv σ ∧ zbs σ' = zbs σ ∧ zn σ ≤ zn σ' ∧ (∀ q, zn σ' ≤ q → σ'.1 q = none) ∧ zc σ ≤ zc σ' + 1 ∧ zz σ ≤ zz σ' + 90 ∧ (∀ q, q < zn σ → (∀ r, wrl r → zal N (zow A) r → q ≠ aad A r) → σ'.1 q = σ.1 q) ∧
      (∀ r, r < 16 → aad A' r = aad A r) ∧ arf A' = arf A ∧ (∀ k i, 1 ≤ k → k ≤ 4 → i < N k → aad A' (100 * k + i) = aad A (100 * k + i)) ∧ aad A' (100 * j + N j) = x ∧ (∀ r, wrl r → zal (Nj N j (N j + 1)) (zow A') r → (zal N (zow A) r ∧ aad A' r = aad A r) ∨ (r = 100 * j + N j ∧ aad A' r = x) ∨ (zn σ ≤ aad A' r ∧ r = 15 + j)) ∧ (∀ k, 1 ≤ k → k ≤ 4 → k ≠ j → aer A' k = aer A k ∧ (zow A' k = zow A k) ∧ amc A' k = amc A k) := by
  obtain ⟨w1, w2, w3⟩ := yW
  obtain ⟨⟨m0, hm0⟩, hd1⟩ := E
  have N60 : ∀ k, 1 ≤ k → k ≤ 4 → N k ≤ 60 := fun k k1 k4 => (w3 k k1 k4).1
  have zl : zal N (zow A) (11 + j) := Or.inl (by omega)
  have wl : wrl (11 + j) := Or.inr (Or.inr (by omega))
  obtain ⟨l1, l2, l3⟩ := w1 (11 + j) wl zl
  have hl : σ.1 (aad A (11 + j)) = some (.inr (19, [.int (amc A j), .ref (aer A j), .int (nI (N j))])) := l3.trans (cCt_ls j1 j4)
  obtain ⟨c0, fs0, hco, hc22⟩ := cEl_obj (A := A) (N := Nj N j (N j + 1)) (U := U) j1 j4 (show N j < Nj N j (N j + 1) j by rw [Nj_at]; omega)
  have hox : o = .inr (c0, fs0) := by rw [hco] at ho; exact (Option.some.inj ho).symm
  have hxo : zob σ (some x) = true := zob_of (by rw [hxs, hox]) hc22
  have hxl : x ≠ aad A (11 + j) := fun e => hxa _ wl zl e.symm
  have hel : ∀ i, i < N j → zal N (zow A) (100 * j + i) ∧ wrl (100 * j + i) := fun i hi => ⟨Or.inr (Or.inr ⟨j, i, j1, j4, hi, by have := N60 j j1 j4; omega, rfl⟩), Or.inr (Or.inr (by omega))⟩
  have zea : aer A j = aad A (15 + j) → zal N (zow A) (15 + j) := fun h => Or.inr (Or.inl ⟨j, j1, j4, rfl, decide_eq_true h⟩)
  have wea : wrl (15 + j) := Or.inr (Or.inr (by omega))
  have hcase : (σ.1 (aer A j) = some (.inl (3, acap A j, obA (lsA (N j) (fun i => aad A (100 * j + i))))) ∧ zbs σ ≤ aer A j ∧ aer A j < zn σ ∧ N j ≤ acap A j ∧ 1 ≤ acap A j ∧ acap A j ≤ 90 ∧ ∀ i, i < N j → zob σ (some (aad A (100 * j + i))) = true ∧ aad A (100 * j + i) < zn σ) ∨ (N j = 0 ∧ zk σ 1 = some (aer A j) ∧ σ.1 (aer A j) = some (.inl (103, 0, obA (fun _ => none))) ∧ aer A j < zbs σ) := by
    rcases (w3 j j1 j4).2 with ⟨o1, o2, o3, o4⟩ | ⟨o1, o2, o3⟩
    · obtain ⟨e1, e2, e3⟩ := w1 (15 + j) wea (zea o1)
      have se : cCt A (U.1, U.2, N) (15 + j) = some (.inl (3, acap A j, obA (lsA (N j) (fun i => aad A (100 * j + i))))) := by
        rw [cCt_ea j1 j4]
        unfold cEa
        rw [if_pos o1]
        rfl
      refine Or.inl ⟨by rw [o1, e3, se], by rw [o1]; exact e1, by rw [o1]; exact e2, o2, o3, o4, fun i hi => ?_⟩
      obtain ⟨x1, x2⟩ := hel i hi
      obtain ⟨q1, q2, q3⟩ := w1 _ x2 x1
      obtain ⟨c, fs, y1, y2⟩ := cEl_obj (A := A) (U := U) j1 j4 hi
      rw [cEl_at j1 (by have := N60 j j1 j4; omega)] at q3
      exact ⟨zob_of (q3.trans y1) y2, q2⟩
    · obtain ⟨d1, d2⟩ := hd1 _ o3
      exact Or.inr ⟨o2, o3, d2, d1⟩
  obtain ⟨e', cap', σ', a1, a2, a3, a4, a5, a6, a7, a8, a9, a10, a11⟩ := J2_add_spec (a := fun i => aad A (100 * j + i)) hl l1 l2 hbz hxo hxn hn hcase hm0 hc
  let ad : Nat → Nat := fun r => if r = 15 + j then e' else if r = 100 * j + N j then x else aad A r
  let er : Nat → Nat := fun k => if k = j then e' else aer A k
  let cap : Nat → Nat := fun k => if k = j then cap' else acap A k
  let mc : Nat → Int32 := fun k => if k = j then amc A j + 1 else amc A k
  let A' : cA := (ad, ainv A, er, cap, mc, arf A)
  have adx : ad (100 * j + N j) = x := by
    show (if 100 * j + N j = 15 + j then e' else if 100 * j + N j = 100 * j + N j then x else _) = x
    rw [if_neg (by omega), if_pos rfl]
  have ade : ad (15 + j) = e' := if_pos rfl
  have ado : ∀ r, r ≠ 15 + j → r ≠ 100 * j + N j → ad r = aad A r := by
    intro r r1 r2
    show (if r = 15 + j then e' else if r = 100 * j + N j then x else aad A r) = _
    rw [if_neg r1, if_neg r2]
  have zn' : zn σ ≤ zn σ' ∧ e' < zn σ' := by
    rcases a9 with ⟨h1, h2, h3⟩ | ⟨h1, h2⟩
    · refine ⟨by omega, ?_⟩
      rw [h1, h3]
      rcases hcase with h | h
      · exact h.2.2.1
      · omega
    · omega
  have zk' : ∀ k, k ≠ j → 1 ≤ k → k ≤ 4 → zow A' k = zow A k := by
    intro k hk k1 k4
    show decide ((if k = j then e' else aer A k) = ad (15 + k)) = decide (aer A k = aad A (15 + k))
    rw [if_neg hk, ado _ (by omega) (by omega)]
  have old : ∀ r, zal (Nj N j (N j + 1)) (zow A') r → r = 15 + j ∨ r = 100 * j + N j ∨ (r ≠ 15 + j ∧ r ≠ 100 * j + N j ∧ zal N (zow A) r) := by
    intro r hr
    by_cases z1 : r = 15 + j
    · exact Or.inl z1
    · by_cases z2 : r = 100 * j + N j
      · exact Or.inr (Or.inl z2)
      · refine Or.inr (Or.inr ⟨z1, z2, ?_⟩)
        rcases hr with h | ⟨k, k1, k4, rfl, h⟩ | ⟨k, i, k1, k4, hi, h100, rfl⟩
        · exact Or.inl h
        · have hkj : k ≠ j := by omega
          rw [zk' k hkj k1 k4] at h
          exact Or.inr (Or.inl ⟨k, k1, k4, rfl, h⟩)
        · refine Or.inr (Or.inr ⟨k, i, k1, k4, ?_, h100, rfl⟩)
          by_cases hkj : k = j
          · subst hkj; rw [Nj_at] at hi; omega
          · rw [Nj_no hkj] at hi; exact hi
  have hesep : ∀ r, wrl r → zal N (zow A) r → r ≠ 15 + j → aad A r ≠ e' := by
    intro r hw hr hne e
    rcases a9 with ⟨h1, h2, h3⟩ | ⟨h1, h2⟩
    · rcases (w3 j j1 j4).2 with o1 | o1
      · exact hne (w2 r (15 + j) hw wea hr (zea o1.1) (by rw [e, h1, o1.1]))
      · obtain ⟨d1, d2⟩ := hd1 _ o1.2.2
        omega
    · have := (w1 r hw hr).2.1
      omega
  have hlne : ∀ r, wrl r → zal N (zow A) r → r ≠ 11 + j → aad A r ≠ aad A (11 + j) := fun r hw hr hne e => hne (w2 r (11 + j) hw wl hr zl e)
  have hex : e' ≠ x := by
    rcases a9 with ⟨h1, h2, h3⟩ | ⟨h1, h2⟩
    · rcases (w3 j j1 j4).2 with o1 | o1
      · rw [h1, o1.1]; exact hxa _ wea (zea o1.1)
      · obtain ⟨d1, d2⟩ := hd1 _ o1.2.2
        omega
    · omega
  have el1 : e' ≠ aad A (11 + j) := a8
  have hin : wrl (100 * j + N j) := Or.inr (Or.inr (by omega))
  refine ⟨σ', A', a1, ⟨fun r hw hr => ?_, fun r r' hw hw' hr hr' e => ?_, fun k k1 k4 => ?_⟩, a3, a4, zn'.1, fun q hq => ?_, a10, a11, fun q hq hqr => ?_, fun r hr => ado r (by omega) (by omega), rfl, fun k i k1 k4 hi => ado _ (by omega) (fun q => ?_), adx, fun r hw hr => ?_, fun k k1 k4 hk => ⟨if_neg hk, zk' k hk k1 k4, if_neg hk⟩⟩
  · show zbs σ' ≤ ad r ∧ ad r < zn σ' ∧ σ'.1 (ad r) = cCt A' (U.1, U.2, Nj N j (N j + 1)) r
    rw [a4]
    by_cases hr1 : r = 11 + j
    · subst hr1
      rw [ado _ (by omega) (by omega), cCt_ls j1 j4, a2]
      refine ⟨l1, by omega, ?_⟩
      show (if aad A (11 + j) = aad A (11 + j) then _ else _) = some (Sum.inr (19, [Value.int (mc j), .ref (er j), .int (Int32.ofNat (Nj N j (N j + 1) j))]))
      rw [if_pos rfl, Nj_at]
      have e1 : mc j = amc A j + 1 := if_pos rfl
      have e2 : er j = e' := if_pos rfl
      rw [e1, e2]
      rfl
    · rcases old r hr with rfl | rfl | ⟨r1, r2, h⟩
      · rw [ade, cCt_ea j1 j4, a2]
        refine ⟨a5, zn'.2, ?_⟩
        unfold cEa
        have e2 : er j = e' := if_pos rfl
        have e3 : cap j = cap' := if_pos rfl
        show (if e' = aad A (11 + j) then _ else if e' = e' then _ else _) = (if er j = ad (15 + j) then some (Sum.inl (3, cap j, Sum.inr (Sum.inr (Sum.inr (Sum.inr (fun i => if i < Nj N j (N j + 1) j then some (ad (100 * j + i)) else none)))))) else none)
        rw [if_neg el1, if_pos rfl, e2, ade, if_pos rfl, e3, Nj_at]
        have : (fun i => if i < N j + 1 then some (ad (100 * j + i)) else none) = lsA (N j + 1) (fun i => if i = N j then x else aad A (100 * j + i)) := by
          funext i
          show (if i < N j + 1 then some (ad (100 * j + i)) else none) = if i < N j + 1 then some (if i = N j then x else aad A (100 * j + i)) else none
          by_cases z : i < N j + 1
          · rw [if_pos z, if_pos z]
            by_cases y : i = N j
            · subst y; rw [adx, if_pos rfl]
            · rw [ado _ (by omega) (by omega), if_neg y]
          · rw [if_neg z, if_neg z]
        rw [this]
        rfl
      · rw [adx, a2]
        refine ⟨hxb, by omega, ?_⟩
        show (if x = aad A (11 + j) then _ else if x = e' then _ else σ.1 x) = _
        rw [if_neg hxl, if_neg (fun q => hex q.symm), hxs, cEl_at j1 (by omega), ← ho]
        rfl
      · obtain ⟨q1, q2, q3⟩ := w1 r hw h
        rw [ado r r1 r2, a2]
        refine ⟨q1, by omega, ?_⟩
        show (if aad A r = aad A (11 + j) then _ else if aad A r = e' then _ else σ.1 (aad A r)) = _
        rw [if_neg (hlne r hw h hr1), if_neg (hesep r hw h r1), q3]
        exact (cCt_agree (A := A) (N := N) (N' := Nj N j (N j + 1)) (iv := ainv A) j1 j4 (fun r hr => ado r (by omega) (by omega)) (fun k k1 k4 hkj => ⟨if_neg hkj, if_neg hkj, if_neg hkj, ado _ (by omega) (by have := N60 k k1 k4; have := N60 j j1 j4; omega), Nj_no hkj, fun i hi => ado _ (by omega) (by have := N60 k k1 k4; have := N60 j j1 j4; omega)⟩) rfl (by rw [Nj_at]; omega) r hr1 r1 (zal_some h)).symm
  · have e : ad r = ad r' := e
    rcases old r hr with rfl | rfl | ⟨r1, r2, h⟩ <;> rcases old r' hr' with rfl | rfl | ⟨r1', r2', h'⟩
    · rfl
    · rw [ade, adx] at e; exact absurd e hex
    · rw [ade, ado r' r1' r2'] at e; exact absurd e.symm (hesep r' hw' h' r1')
    · rw [ade, adx] at e; exact absurd e.symm hex
    · rfl
    · rw [adx, ado r' r1' r2'] at e; exact absurd e.symm (hxa r' hw' h')
    · rw [ade, ado r r1 r2] at e; exact absurd e (hesep r hw h r1)
    · rw [adx, ado r r1 r2] at e; exact absurd e (hxa r hw h)
    · rw [ado r r1 r2, ado r' r1' r2'] at e; exact w2 r r' hw hw' h h' e
  · by_cases hkj : k = j
    · subst hkj
      rw [Nj_at]
      refine ⟨by omega, Or.inl ⟨?_, ?_, ?_, ?_⟩⟩
      · show (if k = k then e' else aer A k) = ad (15 + k)
        rw [if_pos rfl, ade]
      · show _ ≤ (if k = k then cap' else acap A k)
        rw [if_pos rfl]; exact a6
      · show 1 ≤ (if k = k then cap' else acap A k)
        rw [if_pos rfl]; omega
      · show (if k = k then cap' else acap A k) ≤ 90
        rw [if_pos rfl]; exact a7
    · rw [Nj_no hkj]
      have e1 : aer A' k = aer A k := if_neg hkj
      have e2 : acap A' k = acap A k := if_neg hkj
      have e3 : aad A' (15 + k) = aad A (15 + k) := ado _ (by omega) (by omega)
      have e4 : zk σ' 1 = zk σ 1 := by show zsv σ' 1 = zsv σ 1; rw [a3]
      rw [e1, e2, e3, e4]
      exact w3 k k1 k4
  · rw [a2]
    show (if q = aad A (11 + j) then _ else if q = e' then _ else σ.1 q) = none
    rw [if_neg (by omega), if_neg (by omega)]
    exact hf q (by omega)
  · rw [a2]
    show (if q = aad A (11 + j) then _ else if q = e' then _ else σ.1 q) = σ.1 q
    rw [if_neg (hqr _ wl zl), if_neg]
    rcases a9 with ⟨h1, h2, h3⟩ | ⟨h1, h2⟩
    · rcases (w3 j j1 j4).2 with o1 | o1
      · rw [h1, o1.1]; exact hqr _ wea (zea o1.1)
      · obtain ⟨d1, d2⟩ := hd1 _ o1.2.2
        omega
    · omega
  · by_cases z : k = j
    · subst z; omega
    · have := N60 k k1 k4
      have := N60 j j1 j4
      omega
  · rcases old r hr with rfl | rfl | ⟨r1, r2, h⟩
    · rcases a9 with ⟨h1, h2, h3⟩ | ⟨h1, h2⟩
      · rcases (w3 j j1 j4).2 with o1 | o1
        · exact Or.inl ⟨zea o1.1, by show ad (15 + j) = _; rw [ade, h1, o1.1]⟩
        · obtain ⟨d1, d2⟩ := hd1 _ o1.2.2
          omega
      · exact Or.inr (Or.inr ⟨by show zn σ ≤ ad (15 + j); rw [ade, h1]; exact Nat.le_refl _, rfl⟩)
    · exact Or.inr (Or.inl ⟨rfl, adx⟩)
    · exact Or.inl ⟨h, ado r r1 r2⟩
end ZWD
