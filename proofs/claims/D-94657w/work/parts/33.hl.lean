/-! the numbers' steps on the map -/
section ZHL
variable {σ : zS} {A : cA} {N : Nat → Nat}
theorem hN9 (hA : cOKN σ A N) {j : Nat} (h1 : 1 ≤ j) (h4 : j ≤ 4) : N j < 100 := (hA.2.2.1 j h1 h4).1
theorem cE1_ (hA : cOKN σ A N) {U1 : Nat → Int32} {U2 : Nat → Nat → Int32} {i : Nat} (hi : i < N 1) : cCt A (U1, U2, N) (100 * 1 + i) = some (.inr (6, [.int (U2 1 (4 * i)), .int (U2 1 (4 * i + 1)), .int (U2 1 (4 * i + 2)), .int (U2 1 (4 * i + 3))])) := cE1 (V := (U1, U2, N)) hi (Nat.lt_trans hi (hN9 hA (by decide) (by decide)))
theorem cE2_ (hA : cOKN σ A N) {U1 : Nat → Int32} {U2 : Nat → Nat → Int32} {i : Nat} (hi : i < N 2) : cCt A (U1, U2, N) (100 * 2 + i) = some (.inr (7, [.int (U2 2 (3 * i)), .int (U2 2 (3 * i + 1)), .int (U2 2 (3 * i + 2))])) := cE2 (V := (U1, U2, N)) hi (Nat.lt_trans hi (hN9 hA (by decide) (by decide)))
theorem cE3_ (hA : cOKN σ A N) {U1 : Nat → Int32} {U2 : Nat → Nat → Int32} {i : Nat} (hi : i < N 3) : cCt A (U1, U2, N) (100 * 3 + i) = some (.inr (10, [.int (U2 3 (2 * i)), .int (U2 3 (2 * i + 1))])) := cE3 (V := (U1, U2, N)) hi (Nat.lt_trans hi (hN9 hA (by decide) (by decide)))
theorem cE4_ (hA : cOKN σ A N) {U1 : Nat → Int32} {U2 : Nat → Nat → Int32} {i : Nat} (hi : i < N 4) : cCt A (U1, U2, N) (100 * 4 + i) = some (.inr (8, [.int (U2 4 (8 * i)), .int (U2 4 (8 * i + 1)), .int (U2 4 (8 * i + 2)), .int (U2 4 (8 * i + 3)), .int (U2 4 (8 * i + 4)), .int (U2 4 (8 * i + 5)), .int (U2 4 (8 * i + 6)), .int (U2 4 (8 * i + 7))])) := cE4 (V := (U1, U2, N)) hi (Nat.lt_trans hi (hN9 hA (by decide) (by decide)))
theorem cempty (hA : cOKN σ A N) {V : cV} (hV : V.2.2 = N := by rfl) {j : Nat} (h1 : 1 ≤ j) (h4 : j ≤ 4) : f_J2_isEmpty (aad A (11 + j)) (pC σ A V) = some (if Int32.ofNat (V.2.2 j) = 0 then 1 else 0, pC σ A V) := by
  subst hV
  have hA' : cOK σ A V := hA
  unfold f_J2_isEmpty
  rw [cgI hA' (cCt_ls h1 h4) (v := Int32.ofNat (V.2.2 j)) rfl rfl]
  show (if ¬ Int32.ofNat (V.2.2 j) = 0 then _ else _) = _
  by_cases h : Int32.ofNat (V.2.2 j) = 0
  · rw [if_neg (fun z => z h), if_pos h]
  · rw [if_pos h, if_neg h]
theorem upd_same {f : Nat → Int32} {i : Nat} {x : Int32} : upd f i x i = x := by simp [upd]
theorem cpE1_3 (hA : cOKN σ A N) {U : cU} {i : Nat} {x : Int32} (hi : i < N 1) : pI (pU σ A N U) (aad A (100 * 1 + i)) 6 3 x = some (pU σ A N (utab U 1 (4 * i + 3) x)) := by
  have h9 := hN9 hA (j := 1) (by decide) (by decide)
  refine cpF hA (V := (U.1, U.2, N)) (V' := ((utab U 1 (4 * i + 3) x).1, (utab U 1 (4 * i + 3) x).2, N)) (cE1_ hA hi) (Nat.le_of_ble_eq_true rfl) ?_ (cEl_oth (V := (U.1, U.2, N)) (t := 1) (w := 4) (k := 3) (Or.inl ⟨rfl, rfl⟩) (by decide) (by omega))
  rw [cE1_ hA hi]
  show some (Sum.inr (6, [Value.int (upd (U.2 1) (4 * i + 3) x (4 * i)), Value.int (upd (U.2 1) (4 * i + 3) x (4 * i + 1)), Value.int (upd (U.2 1) (4 * i + 3) x (4 * i + 2)), Value.int (upd (U.2 1) (4 * i + 3) x (4 * i + 3))])) = _
  rw [upd_ne (by omega), upd_ne (by omega), upd_ne (by omega), upd_same]
  rfl
theorem cpE2_1 (hA : cOKN σ A N) {U : cU} {i : Nat} {x : Int32} (hi : i < N 2) : pI (pU σ A N U) (aad A (100 * 2 + i)) 7 1 x = some (pU σ A N (utab U 2 (3 * i + 1) x)) := by
  have h9 := hN9 hA (j := 2) (by decide) (by decide)
  refine cpF hA (V := (U.1, U.2, N)) (V' := ((utab U 2 (3 * i + 1) x).1, (utab U 2 (3 * i + 1) x).2, N)) (cE2_ hA hi) (Nat.le_of_ble_eq_true rfl) ?_ (cEl_oth (V := (U.1, U.2, N)) (t := 2) (w := 3) (k := 1) (Or.inr (Or.inl ⟨rfl, rfl⟩)) (by decide) (by omega))
  rw [cE2_ hA hi]
  show some (Sum.inr (7, [Value.int (upd (U.2 2) (3 * i + 1) x (3 * i)), Value.int (upd (U.2 2) (3 * i + 1) x (3 * i + 1)), Value.int (upd (U.2 2) (3 * i + 1) x (3 * i + 2))])) = _
  rw [upd_ne (by omega), upd_same, upd_ne (by omega)]
  rfl
theorem cpE2_2 (hA : cOKN σ A N) {U : cU} {i : Nat} {x : Int32} (hi : i < N 2) : pI (pU σ A N U) (aad A (100 * 2 + i)) 7 2 x = some (pU σ A N (utab U 2 (3 * i + 2) x)) := by
  have h9 := hN9 hA (j := 2) (by decide) (by decide)
  refine cpF hA (V := (U.1, U.2, N)) (V' := ((utab U 2 (3 * i + 2) x).1, (utab U 2 (3 * i + 2) x).2, N)) (cE2_ hA hi) (Nat.le_of_ble_eq_true rfl) ?_ (cEl_oth (V := (U.1, U.2, N)) (t := 2) (w := 3) (k := 2) (Or.inr (Or.inl ⟨rfl, rfl⟩)) (by decide) (by omega))
  rw [cE2_ hA hi]
  show some (Sum.inr (7, [Value.int (upd (U.2 2) (3 * i + 2) x (3 * i)), Value.int (upd (U.2 2) (3 * i + 2) x (3 * i + 1)), Value.int (upd (U.2 2) (3 * i + 2) x (3 * i + 2))])) = _
  rw [upd_ne (by omega), upd_ne (by omega), upd_same]
  rfl
theorem cpE4_7 (hA : cOKN σ A N) {U : cU} {i : Nat} {x : Int32} (hi : i < N 4) (hx : x = 0 ∨ x = 1) : pZ (pU σ A N U) (aad A (100 * 4 + i)) 8 7 x = some (pU σ A N (utab U 4 (8 * i + 7) x)) := by
  have h9 := hN9 hA (j := 4) (by decide) (by decide)
  refine cpZ hA hx (V := (U.1, U.2, N)) (V' := ((utab U 4 (8 * i + 7) x).1, (utab U 4 (8 * i + 7) x).2, N)) (cE4_ hA hi) (Nat.le_of_ble_eq_true rfl) ?_ (cEl_oth (V := (U.1, U.2, N)) (t := 4) (w := 8) (k := 7) (Or.inr (Or.inr ⟨rfl, rfl⟩)) (by decide) (by omega))
  rw [cE4_ hA hi]
  show some (Sum.inr (8, [Value.int (upd (U.2 4) (8 * i + 7) x (8 * i)), Value.int (upd (U.2 4) (8 * i + 7) x (8 * i + 1)), Value.int (upd (U.2 4) (8 * i + 7) x (8 * i + 2)), Value.int (upd (U.2 4) (8 * i + 7) x (8 * i + 3)), Value.int (upd (U.2 4) (8 * i + 7) x (8 * i + 4)), Value.int (upd (U.2 4) (8 * i + 7) x (8 * i + 5)), Value.int (upd (U.2 4) (8 * i + 7) x (8 * i + 6)), Value.int (upd (U.2 4) (8 * i + 7) x (8 * i + 7))])) = _
  rw [upd_ne (by omega), upd_ne (by omega), upd_ne (by omega), upd_ne (by omega), upd_ne (by omega), upd_ne (by omega), upd_ne (by omega), upd_same]
  rfl
theorem csU0 (hA : cOKN σ A N) {U U' : cU} {i x : Int32} (h : uSt U 0 8 i x = some U') : sI (pU σ A N U) (aad A 5) i x = some (pU σ A N U') := by
  have h2 : vSt (U.1, U.2, N) 0 8 i x = some (U'.1, U'.2, N) := by
    unfold uSt at h
    unfold vSt
    split at h
    · cases h
    · next hc => cases h; exact if_neg hc
  exact csI hA (r := 5) (t := 0) (n := 8) (V := (U.1, U.2, N)) (V' := (U'.1, U'.2, N)) rfl h2 vts_0 vto_0
theorem csU5 (hA : cOKN σ A N) {U U' : cU} {i x : Int32} (h : uSt U 5 16 i x = some U') : sI (pU σ A N U) (aad A 6) i x = some (pU σ A N U') := by
  have h2 : vSt (U.1, U.2, N) 5 16 i x = some (U'.1, U'.2, N) := by
    unfold uSt at h
    unfold vSt
    split at h
    · cases h
    · next hc => cases h; exact if_neg hc
  exact csI hA (r := 6) (t := 5) (n := 16) (V := (U.1, U.2, N)) (V' := (U'.1, U'.2, N)) rfl h2 vts_5 vto_5
theorem csU6 (hA : cOKN σ A N) {U U' : cU} {i x : Int32} (h : uSt U 6 6 i x = some U') : sI (pU σ A N U) (aad A 7) i x = some (pU σ A N U') := by
  have h2 : vSt (U.1, U.2, N) 6 6 i x = some (U'.1, U'.2, N) := by
    unfold uSt at h
    unfold vSt
    split at h
    · cases h
    · next hc => cases h; exact if_neg hc
  exact csI hA (r := 7) (t := 6) (n := 6) (V := (U.1, U.2, N)) (V' := (U'.1, U'.2, N)) rfl h2 vts_6 vto_6
theorem csU7 (hA : cOKN σ A N) {U U' : cU} {i x : Int32} (h : uSt U 7 64 i x = some U') : sI (pU σ A N U) (aad A 8) i x = some (pU σ A N U') := by
  have h2 : vSt (U.1, U.2, N) 7 64 i x = some (U'.1, U'.2, N) := by
    unfold uSt at h
    unfold vSt
    split at h
    · cases h
    · next hc => cases h; exact if_neg hc
  exact csI hA (r := 8) (t := 7) (n := 64) (V := (U.1, U.2, N)) (V' := (U'.1, U'.2, N)) rfl h2 vts_7 vto_7
theorem csU8 (hA : cOKN σ A N) {U U' : cU} {i x : Int32} (h : uSt U 8 4096 i x = some U') : sI (pU σ A N U) (aad A 9) i x = some (pU σ A N U') := by
  have h2 : vSt (U.1, U.2, N) 8 4096 i x = some (U'.1, U'.2, N) := by
    unfold uSt at h
    unfold vSt
    split at h
    · cases h
    · next hc => cases h; exact if_neg hc
  exact csI hA (r := 9) (t := 8) (n := 4096) (V := (U.1, U.2, N)) (V' := (U'.1, U'.2, N)) rfl h2 vts_8 vto_8
theorem csU9 (hA : cOKN σ A N) {U U' : cU} {i x : Int32} (h : uSt U 9 4096 i x = some U') : sI (pU σ A N U) (aad A 10) i x = some (pU σ A N U') := by
  have h2 : vSt (U.1, U.2, N) 9 4096 i x = some (U'.1, U'.2, N) := by
    unfold uSt at h
    unfold vSt
    split at h
    · cases h
    · next hc => cases h; exact if_neg hc
  exact csI hA (r := 10) (t := 9) (n := 4096) (V := (U.1, U.2, N)) (V' := (U'.1, U'.2, N)) rfl h2 vts_9 vto_9
theorem uw01 (U : cU) : uw U = 0 ∨ uw U = 1 := by
  unfold uw
  split
  · exact Or.inl rfl
  · exact Or.inr rfl
theorem cnow {U U0 : cU} : cCt A (U.1, U.2, N) (9 + uw U0) = some (.inl (0, 4096, .inl (U.2 (8 + uw U0)))) := by
  rcases uw01 U0 with e | e <;> rw [e] <;> rfl
theorem cnext {U U0 : cU} : cCt A (U.1, U.2, N) (10 - uw U0) = some (.inl (0, 4096, .inl (U.2 (9 - uw U0)))) := by
  rcases uw01 U0 with e | e <;> rw [e] <;> rfl
theorem csU_now (hA : cOKN σ A N) {U U' U0 : cU} {i x : Int32} (h : uSt U (8 + uw U0) 4096 i x = some U') : sI (pU σ A N U) (aad A (9 + uw U0)) i x = some (pU σ A N U') := by
  rcases uw01 U0 with e | e <;> rw [e] at h ⊢
  · exact csU8 hA h
  · exact csU9 hA h
end ZHL
