/-! pure land: C9 D1 (see wip/D-94657w/pl) -/
/-! the invariant at the start, and the law's answer -/
def U00 : cU := (fun k => if k = 2 then 100 else if k = 5 then 1 else if k = 12 then -1 else 0, fun _ _ => 0)
def M00 : mS := (fun k => if k = 10 then -1 else 0, fun j => if j = 0 then upd (upd (upd (fun _ => 0) 6 100) 9 1) 10 (-1) else fun _ => 0)
def ad00 (B : Nat) : Nat → Nat := fun r => B + [0, 1, 7, 9, 10, 2, 15, 11, 12, 13, 14, 8, 3, 4, 5, 6].getD r 0
section ZC9
variable {σ : zS} {d : Nat}
theorem ad00_lt : ∀ r, r < 16 → [0, 1, 7, 9, 10, 2, 15, 11, 12, 13, 14, 8, 3, 4, 5, 6].getD r 0 < 16 := by decide
theorem ad00_inj : ∀ r, r < 16 → ∀ r', r' < 16 → [0, 1, 7, 9, 10, 2, 15, 11, 12, 13, 14, 8, 3, 4, 5, 6].getD r 0 = [0, 1, 7, 9, 10, 2, 15, 11, 12, 13, 14, 8, 3, 4, 5, 6].getD r' 0 → r = r' := by decide
theorem zal00 {r : Nat} (h : zal (fun _ => 0) (fun _ => false) r) : r < 16 := by
  rcases h with h | ⟨j, _, _, _, h⟩ | ⟨j, i, _, _, h, _⟩
  · exact h
  · cases h
  · exact absurd h (Nat.not_lt_zero i)
theorem RI00 : RI 0 (fun _ => 0) U00 :=
  ⟨Nat.zero_le _, Nat.zero_le _, Nat.zero_le _, Nat.zero_le _, Nat.zero_le _, rfl, ⟨0, Nat.zero_le _, rfl⟩, ⟨100, Nat.le_of_ble_eq_true rfl, rfl⟩, ⟨0, Nat.zero_le _, rfl⟩, ⟨0, Nat.zero_le _, rfl⟩, ⟨0, Nat.zero_le _, rfl⟩, fun _ _ => ⟨0, Nat.zero_le _, rfl⟩, fun i h => absurd h (Nat.not_lt_zero i), fun i h => absurd h (Nat.not_lt_zero i), fun i h => absurd h (Nat.not_lt_zero i), fun i h => absurd h (Nat.not_lt_zero i), Nat.zero_le _⟩
theorem RM00 : yRM (fun _ => 0) U00 (M00.2 0) :=
  ⟨rfl, rfl, rfl, rfl, rfl, rfl, rfl, rfl, rfl, rfl, fun h hh => by
    show (if 12 + h = 10 then _ else if 12 + h = 9 then _ else if 12 + h = 6 then _ else _) = (0 : Int32)
    rw [if_neg (by omega), if_neg (by omega), if_neg (by omega)], fun i h => absurd h (Nat.not_lt_zero i), fun i h => absurd h (Nat.not_lt_zero i), fun i h => absurd h (Nat.not_lt_zero i), fun i h => absurd h (Nat.not_lt_zero i)⟩
theorem Cs00 (hs : zbs σ = zn σ) (h0 : ∀ q, zn σ ≤ q → σ.1 q = none) (E : yEv σ) (hd : zk σ 1 = some d) : ∃ A, Cs (hzL σ (zfin (zn σ) d) 19855) A (fun _ => 0) U00 (mcl (zn σ + 16) (zn σ + 26)) ∧ aad A 0 = zn σ ∧ arf A 0 = none ∧ arf A 1 = none := by
  have hdb : d < zbs σ := (E.2 d hd).1
  have hzn : zn (hzL σ (zfin (zn σ) d) 19855) = zn σ + 27 := rfl
  obtain ⟨A, a1, a2, a3, a4, a5, a6, a7⟩ := Rp_mk (σ := hzL σ (zfin (zn σ) d) 19855) (N := fun _ => 0) (U := U00) (ad00 (zn σ)) (fun _ => d) (fun _ => 0) (fun _ => 0) (fun _ => none) (fun _ => false)
    (fun j _ _ => ⟨Nat.le_of_ble_eq_true rfl, Or.inr ⟨rfl, rfl, hdb⟩⟩)
    (fun r hr => by
      have h1 := ad00_lt r (zal00 hr)
      show zbs σ ≤ zn σ + _ ∧ zn σ + _ < zn σ + 27
      omega)
    (fun r r' hr hr' e => ad00_inj r (zal00 hr) r' (zal00 hr') (Nat.add_left_cancel e))
    (fun r hr => by
      have h16 := zal00 hr
      clear hr
      match r, h16 with
      | 0, _ => exact hz_at (i := 0)
      | 1, _ => exact hz_at (i := 1)
      | 2, _ => exact hz_at (i := 7)
      | 3, _ => exact hz_at (i := 9)
      | 4, _ => exact hz_at (i := 10)
      | 5, _ => exact hz_at (i := 2)
      | 6, _ => exact hz_at (i := 15)
      | 7, _ => exact hz_at (i := 11)
      | 8, _ => exact hz_at (i := 12)
      | 9, _ => exact hz_at (i := 13)
      | 10, _ => exact hz_at (i := 14)
      | 11, _ => exact hz_at (i := 8)
      | 12, _ => exact hz_at (i := 3)
      | 13, _ => exact hz_at (i := 4)
      | 14, _ => exact hz_at (i := 5)
      | 15, _ => exact hz_at (i := 6)
      | r + 16, h => exact absurd h (by omega))
    (fun q hq => by
      rw [hzn] at hq
      show (if q < zn σ then σ.1 q else (zfin (zn σ) d)[q - zn σ]?) = none
      rw [if_neg (by omega)]
      exact List.getElem?_eq_none (by show 27 ≤ _; omega))
    (by show zbs σ ≤ zn σ + 27; omega)
  refine ⟨A, ⟨a1, fun q hq => ⟨?_, fun r e => ?_⟩, fun j _ _ => Or.inr ?_⟩, ?_, ?_, ?_⟩
  · rw [hzn]
    rcases hq with ⟨h1, h2⟩ | rfl <;> omega
  · exfalso
    rcases Classical.em (zal (fun _ => 0) (fun _ => false) r) with h | h
    · have h1 := ad00_lt r (zal00 h)
      have h2 := (a2 r h).symm.trans e
      have h3 : zn σ + [0, 1, 7, 9, 10, 2, 15, 11, 12, 13, 14, 8, 3, 4, 5, 6].getD r 0 = q := h2
      rcases hq with ⟨h4, h5⟩ | rfl <;> omega
    · have h1 := a7 r h
      rw [hzn] at h1
      rcases hq with ⟨h4, h5⟩ | rfl <;> omega
  · rw [a3]
    exact hd
  · exact a2 0 (Or.inl (by omega))
  · rw [a6]
  · rw [a6]
theorem hz_St {l : List zOb} {k : Nat} (hb : zbs σ ≤ zn σ) (h1 : l.length ≤ zc σ) (h2 : k ≤ zz σ) : ySt σ (hzL σ l k) (fun _ => False) l.length k :=
  ⟨rfl, rfl, Nat.le_add_right _ _, fun q hq => by
    show (if q < zn σ then σ.1 q else _) = _
    rcases hq with h | h
    · exact h.elim
    · rw [if_pos (Nat.lt_of_lt_of_le h hb)], by show zc σ ≤ zc σ - l.length + l.length; omega, by show zz σ ≤ zz σ - k + k; omega⟩
theorem start_J9 (hs : zbs σ = zn σ) (h0 : ∀ q, zn σ ≤ q → σ.1 q = none) (E : yEv σ) (K : zLk σ) (hd : zk σ 1 = some d) (hc : 64 * 18000 + 30 ≤ zc σ) (hz : 64 * 85000 + 30000 ≤ zz σ) : J9 64 0 (hzL σ (zfin (zn σ) d) 19855) (zn σ) (zn σ + 16) (zn σ + 26) := by
  obtain ⟨A, C, c1, c2, c3⟩ := Cs00 hs h0 E hd
  have T : ySt σ (hzL σ (zfin (zn σ) d) 19855) (fun _ => False) 27 19855 := hz_St (by omega) (by show 27 ≤ zc σ; omega) (by omega)
  have mc : mcO (hzL σ (zfin (zn σ) d) 19855) (zn σ + 16) M00 := ⟨hz_at (i := 16), fun j hj => by
    match j, hj with
    | 0, _ => exact hz_at (i := 17)
    | 1, _ => exact hz_at (i := 18)
    | 2, _ => exact hz_at (i := 19)
    | 3, _ => exact hz_at (i := 20)
    | 4, _ => exact hz_at (i := 21)
    | 5, _ => exact hz_at (i := 22)
    | 6, _ => exact hz_at (i := 23)
    | 7, _ => exact hz_at (i := 24)
    | 8, _ => exact hz_at (i := 25)
    | j + 9, h => exact absurd h (by omega)⟩
  obtain ⟨g1, g2⟩ := mcO_rM mc
  have I : Iv 0 0 (hzL σ (zfin (zn σ) d) 19855) A (fun _ => 0) U00 (mcl (zn σ + 16) (zn σ + 26)) (fun _ => False) M00 :=
    ⟨C, fun q h => h.elim, Ev_St E T, zLk_St K T, ⟨d, hd⟩, RI00, RM00,
      ⟨⟨false, fun _ => none, ⟨by rw [c3]; rfl, fun _ => False, fun q h => h.elim, fun a ha => by rw [c3] at ha; cases ha⟩, Or.inl ⟨rfl, rfl⟩⟩, fun _ => rfl, fun a ha => by rw [c3] at ha; cases ha⟩,
      ⟨rfl, rfl, ⟨0, rfl⟩, rfl, fun _ => 256, ⟨⟨Nat.zero_le _, fun p h => absurd h (Nat.not_lt_zero p), fun _ _ => rfl⟩, fun p h => absurd h (Nat.not_lt_zero p)⟩, fun k h => absurd h (Nat.not_lt_zero k)⟩, Or.inl ⟨c2, rfl⟩, Or.inl rfl, Or.inl rfl⟩
  refine ⟨0, A, fun _ => 0, U00, _, _, Iv_M I g1, c1, g2, by show zbs σ ≤ _; omega, fun q hq => ⟨hq, fun h => h⟩, ⟨_, hz_at (i := 26)⟩, by show zbs σ ≤ _; omega, by omega, ?_, ?_⟩
  · show 64 * 18000 + 60 * 0 ≤ zc σ - 27
    omega
  · show 64 * 85000 + 600 * 0 ≤ zz σ - 19855
    omega
end ZC9
/-! the law answers 1 -/
section ZD1
variable {σ : zS} {L : Nat} {xs : Nat → Int32}
theorem zSv_lit {ad : Nat → Nat × Nat} {ta fa : Nat → Nat} {vt vf da mi i : Nat} {fm us su : Option Nat} (h : i < 23) : zSv ad ta fa vt vf da mi fm us su (100 + i) = some (ad i).1 := by
  unfold zSv
  rw [if_pos (show 100 ≤ 100 + i ∧ 100 + i < 123 by omega), Nat.add_sub_cancel_left]
theorem law_one (hL : L ≤ 384) (hS : zStart σ) : ∃ σ', f_L_law L xs σ = some (1, σ') := by
  obtain ⟨ad, ta, fa, vt, vf, da, mi, B, fm, us, su, e, h1, h2⟩ := hS
  have ev : zsv σ = zSv ad ta fa vt vf da mi fm us su := by rw [e]
  have eb : zbs σ = B := by rw [e]
  have en : zn σ = B := by rw [e]
  have ec : zc σ = 1200384 := by rw [e]
  have ez : zz σ = 5489834 := by rw [e]
  clear e
  have at_ : ∀ a o, zPc ad ta fa vt vf da a o → a < zbs σ ∧ σ.1 a = some o := fun a o h => ⟨by rw [eb]; exact (h2 a o (h1 a o h)).1, h1 a o h⟩
  have h0 : ∀ q, zn σ ≤ q → σ.1 q = none := by
    intro q hq
    cases hc : σ.1 q with
    | none => rfl
    | some o =>
      have := (h2 q o hc).1
      omega
  have pA : ∀ i, i < 23 → (ad i).1 < zbs σ ∧ σ.1 (ad i).1 = some (.inr (121, [.ref (ad i).2, .int 0])) := fun i hi => at_ _ _ (Or.inl ⟨i, hi, rfl, rfl⟩)
  have pB : ∀ i, i < 23 → (ad i).2 < zbs σ ∧ σ.1 (ad i).2 = some (.inl (101, (zTb i).length, .inl (fun j => (zTb i).getD j 0))) := fun i hi => at_ _ _ (Or.inr (Or.inl ⟨i, hi, rfl, rfl⟩))
  have pT : ∀ i, i < 6 → ta i < zbs σ ∧ σ.1 (ta i) = some (.inr (150, [.int (Int32.ofNat i), .ref (ad (zTagX.getD i 0)).1])) := fun i hi => at_ _ _ (Or.inr (Or.inr (Or.inl ⟨i, hi, rfl, rfl⟩)))
  have pF : ∀ i, i < 4 → fa i < zbs σ ∧ σ.1 (fa i) = some (.inr (151, [.int (Int32.ofNat i), .ref (ad (zFactX.getD i 0)).1])) := fun i hi => at_ _ _ (Or.inr (Or.inr (Or.inr (Or.inl ⟨i, hi, rfl, rfl⟩))))
  have pV : vt < zbs σ ∧ σ.1 vt = _ := at_ vt _ (Or.inr (Or.inr (Or.inr (Or.inr (Or.inl ⟨rfl, rfl⟩)))))
  have pW : vf < zbs σ ∧ σ.1 vf = _ := at_ vf _ (Or.inr (Or.inr (Or.inr (Or.inr (Or.inr (Or.inl ⟨rfl, rfl⟩))))))
  have pD : da < zbs σ ∧ σ.1 da = _ := at_ da _ (Or.inr (Or.inr (Or.inr (Or.inr (Or.inr (Or.inr ⟨rfl, rfl⟩))))))
  have hl : ∀ i, i < 23 → zsv σ (100 + i) = some (ad i).1 := fun i hi => by rw [ev]; exact zSv_lit hi
  have hd : zk σ 1 = some da := by show zsv σ 1 = _; rw [ev]; rfl
  have hE : yEv σ := ⟨⟨mi, by show zsv σ 0 = _; rw [ev]; rfl⟩, fun d h => by
    have : da = d := Option.some.inj (hd.symm.trans h)
    subst this
    exact pD⟩
  have hLit : zLit σ := fun i hi => ⟨(ad i).1, (ad i).2, _, hl i hi, (pA i hi).1, (pB i hi).1, (pA i hi).2, (pB i hi).2, fun _ _ => rfl⟩
  have hK : zLk σ := ⟨hLit, ta, fa, vt, vf, fun i => (ad i).1, hl, by show zsv σ 5 = _; rw [ev]; rfl, by show zsv σ 6 = _; rw [ev]; rfl, by show zsv σ 14 = _; rw [ev]; rfl, by show zsv σ 15 = _; rw [ev]; rfl, pV.1, pW.1, pV.2, pW.2, fun i hi => pT i hi, fun i hi => pF i hi⟩
  have hJ := start_J9 (by rw [eb, en]) h0 hE hK hd (by rw [ec]; decide) (by rw [ez]; decide)
  rw [ini_law h0 (by rw [eb, en]; exact Nat.le_refl _) hd (by rw [ec]; decide) (by rw [ez]; decide)]
  exact run_all hL hJ
end ZD1
