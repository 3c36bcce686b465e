/-! pure land: Z9 A1 A2 (see wip/D-94657w/pl) -/
/-! the draft of a world that a text builds -/
def Dr (σ : zS) (z : Nat) (Q : Nat → Prop) (D : cA) (N : Nat → Nat) (U : cU) : Prop := yWd σ D N U ∧ ∀ r, wrl r → zal N (zow D) r → z ≤ aad D r ∨ (300 ≤ r ∧ r < 400 ∧ Q (aad D r))
section ZZ9
variable {σ σ' σ'' τ : zS} {D D' : cA} {N N' : Nat → Nat} {U U' : cU} {Q : Nat → Prop} {o rd tp n p s m d a b q z l e cap c va : Nat} {tl ft : Int32} {g : Nat → Int32} {T : Nat → Nat}
theorem Lv_t {a' b' : Nat} (h : Lv σ σ' z rd a b) (h' : Lv σ' σ'' z rd a' b') : Lv σ σ'' z rd (a + a') (b + b') := by
  obtain ⟨h1, h2, h3, h4, h5, h6⟩ := h
  obtain ⟨g1, g2, g3, g4, g5, g6⟩ := h'
  exact ⟨fun q q1 q2 => (g1 q q1 q2).trans (h1 q q1 q2), g2.trans h2, g3.trans h3, by omega, by omega, by omega⟩
theorem Lv_le {a' b' : Nat} (h : Lv σ τ z rd a b) (h1 : a ≤ a') (h2 : b ≤ b') : Lv σ τ z rd a' b' := ⟨h.1, h.2.1, h.2.2.1, h.2.2.2.1, by have := h.2.2.2.2.1; omega, by have := h.2.2.2.2.2; omega⟩
theorem Lv_Sp (h : Sp σ τ rd a b) (hz : z ≤ zn σ) : Lv σ τ z rd a b := ⟨fun q h1 h2 => h.1 q (by omega) h2, h.2⟩
theorem Lv_r : Lv σ σ z rd 0 0 := ⟨fun _ _ _ => rfl, rfl, rfl, Nat.le_refl _, Nat.le_refl _, Nat.le_refl _⟩
/-- a world's cells are no reader -/
theorem cCt_no2 {A : cA} {V : cV} {fs : List Value} : ∀ r, wrl r → ¬ cCt A V r = some (.inr (2, fs)) := by
  intro r hr h
  have ea : ∀ j, ¬ cEa A V j = some (.inr (2, fs)) := fun j h => by
    unfold cEa at h
    by_cases z : aer A j = aad A (15 + j)
    · rw [if_pos z] at h; cases h
    · rw [if_neg z] at h; cases h
  match r, hr, h with
  | 0, hr, _ => unfold wrl at hr; omega
  | 1, _, h => cases h
  | 2, hr, _ => unfold wrl at hr; omega
  | 3, hr, _ => unfold wrl at hr; omega
  | 4, hr, _ => unfold wrl at hr; omega
  | 5, _, h => cases h
  | 6, hr, _ => unfold wrl at hr; omega
  | 7, hr, _ => unfold wrl at hr; omega
  | 8, hr, _ => unfold wrl at hr; omega
  | 9, hr, _ => unfold wrl at hr; omega
  | 10, hr, _ => unfold wrl at hr; omega
  | 11, hr, _ => unfold wrl at hr; omega
  | 12, _, h => cases h
  | 13, _, h => cases h
  | 14, _, h => cases h
  | 15, _, h => cases h
  | 16, _, h => exact ea 1 h
  | 17, _, h => exact ea 2 h
  | 18, _, h => exact ea 3 h
  | 19, _, h => exact ea 4 h
  | r + 20, _, h =>
    have h' : (if r < 80 then none else cEl A V ((r + 20) / 100) ((r + 20) % 100)) = some (.inr (2, fs)) := h
    by_cases z : r < 80
    · rw [if_pos z] at h'; cases h'
    · rw [if_neg z] at h'
      generalize (r + 20) / 100 = j at h'
      generalize (r + 20) % 100 = i at h'
      unfold cEl at h'
      by_cases y : i < V.2.2 j
      · rw [if_pos y] at h'
        match j, h' with
        | 0, h' => cases h'
        | 1, h' => cases h'
        | 2, h' => cases h'
        | 3, h' => cases h'
        | 4, h' => cases h'
        | j + 5, h' => cases h'
      · rw [if_neg y] at h'; cases h'
theorem Wd_rd (yW : yWd σ D N U) (h : yRd σ rd tp tl ft g n p m d) : ∀ r, wrl r → zal N (zow D) r → aad D r ≠ rd := by
  intro r hr hz e
  have h1 := (yW.1 r hr hz).2.2
  rw [e, h.1] at h1
  exact cCt_no2 r hr h1.symm
theorem Dr_Sp (yW : Dr σ z Q D N U) (h : yRd σ rd tp tl ft g n p m d) (hs : Sp σ τ rd a b) : Dr τ z Q D N U := ⟨Wd_keep yW.1 (fun r h1 h2 => hs.1 _ (yW.1.1 r h1 h2).2.1 (Wd_rd yW.1 h r h1 h2)) hs.2.1 hs.2.2.1 hs.2.2.2.1, yW.2⟩
/-- a scalar of the world is written -/
theorem Wd_w1 (yW : yWd σ D N U) {k : Nat} (hk : k < 4) (x : Int32) : ∃ τ, pI σ (aad D 1) 1 k x = some τ ∧ yWd τ D N (uset U k x) ∧ (∀ q, q ≠ aad D 1 → τ.1 q = σ.1 q) ∧ τ.2 = σ.2 := by
  have z1 : zal N (zow D) 1 := Or.inl (by omega)
  have w1 : wrl 1 := Or.inl rfl
  obtain ⟨b1, b2, b3⟩ := yW.1 1 w1 z1
  have row := Wd_1 yW
  have pi : pI σ (aad D 1) 1 k x = some (zset σ (aad D 1) (.inr (1, [Value.int (U.1 0), .int (U.1 1), .int (U.1 2), .int (U.1 3), .int (U.1 4), .int (U.1 5), .int (U.1 6), .ref (aad D 5), .ref (aad D 12), .ref (aad D 13), .ref (aad D 14), .ref (aad D 15), va_rf (arf D 1)].set k (.int x)))) := pI_of row (Nat.lt_of_lt_of_le hk (Nat.le_of_ble_eq_true rfl)) b1
  refine ⟨_, pi, ⟨fun r hr hz => ?_, yW.2.1, yW.2.2⟩, fun q hq => if_neg hq, rfl⟩
  obtain ⟨c1, c2, c3⟩ := yW.1 r hr hz
  refine ⟨c1, c2, ?_⟩
  by_cases y : r = 1
  · subst y
    refine zs_at.trans ?_
    rcases (show k = 0 ∨ k = 1 ∨ k = 2 ∨ k = 3 by omega) with rfl | rfl | rfl | rfl <;> rfl
  · have hne : aad D r ≠ aad D 1 := fun e => y (yW.2.1 r 1 hr w1 hz z1 e)
    refine ((if_neg hne : (zset σ (aad D 1) _).1 (aad D r) = σ.1 (aad D r)).trans c3).trans ?_
    match r, hr, y with
    | 0, hr, _ => unfold wrl at hr; omega
    | 1, _, y => exact absurd rfl y
    | 2, hr, _ => unfold wrl at hr; omega
    | 3, hr, _ => unfold wrl at hr; omega
    | 4, hr, _ => unfold wrl at hr; omega
    | 5, _, _ => rfl
    | 6, hr, _ => unfold wrl at hr; omega
    | 7, hr, _ => unfold wrl at hr; omega
    | 8, hr, _ => unfold wrl at hr; omega
    | 9, hr, _ => unfold wrl at hr; omega
    | 10, hr, _ => unfold wrl at hr; omega
    | 11, hr, _ => unfold wrl at hr; omega
    | 12, _, _ => rfl
    | 13, _, _ => rfl
    | 14, _, _ => rfl
    | 15, _, _ => rfl
    | 16, _, _ => rfl
    | 17, _, _ => rfl
    | 18, _, _ => rfl
    | 19, _, _ => rfl
    | r + 20, _, _ => rfl
/-- a debt of the world is written -/
theorem Wd_w5 (yW : yWd σ D N U) {i : Nat} (hi : i < 8) (x : Int32) : ∃ τ, sI σ (aad D 5) (nI i) x = some τ ∧ yWd τ D N (utab U 0 i x) ∧ (∀ q, q ≠ aad D 5 → τ.1 q = σ.1 q) ∧ τ.2 = σ.2 := by
  have z5 : zal N (zow D) 5 := Or.inl (by omega)
  have w5 : wrl 5 := Or.inr (Or.inl rfl)
  obtain ⟨b1, b2, b3⟩ := yW.1 5 w5 z5
  have b3' : σ.1 (aad D 5) = some (.inl (0, 8, .inl (U.2 0))) := b3
  refine ⟨_, sI_of b3' hi (by omega) b1, ⟨fun r hr hz => ?_, yW.2.1, yW.2.2⟩, fun q hq => if_neg hq, rfl⟩
  obtain ⟨c1, c2, c3⟩ := yW.1 r hr hz
  refine ⟨c1, c2, ?_⟩
  by_cases y : r = 5
  · subst y
    exact zs_at
  · have hne : aad D r ≠ aad D 5 := fun e => y (yW.2.1 r 5 hr w5 hz z5 e)
    refine ((if_neg hne : (zset σ (aad D 5) _).1 (aad D r) = σ.1 (aad D r)).trans c3).trans ?_
    match r, hr, y with
    | 0, hr, _ => unfold wrl at hr; omega
    | 1, _, y => rfl
    | 2, hr, _ => unfold wrl at hr; omega
    | 3, hr, _ => unfold wrl at hr; omega
    | 4, hr, _ => unfold wrl at hr; omega
    | 5, _, y => exact absurd rfl y
    | 6, hr, _ => unfold wrl at hr; omega
    | 7, hr, _ => unfold wrl at hr; omega
    | 8, hr, _ => unfold wrl at hr; omega
    | 9, hr, _ => unfold wrl at hr; omega
    | 10, hr, _ => unfold wrl at hr; omega
    | 11, hr, _ => unfold wrl at hr; omega
    | 12, _, _ => rfl
    | 13, _, _ => rfl
    | 14, _, _ => rfl
    | 15, _, _ => rfl
    | 16, _, _ => rfl
    | 17, _, _ => rfl
    | 18, _, _ => rfl
    | 19, _, _ => rfl
    | r + 20, _, _ => rfl
/-- rows behind the last one are nobody's -/
theorem Wd_U (yW : yWd σ D N U) (h1 : ∀ k, k < 7 → U'.1 k = U.1 k) (h0 : U'.2 0 = U.2 0) (hr : ∀ j i, 1 ≤ j → j ≤ 4 → i < N j → cEl D (U'.1, U'.2, N) j i = cEl D (U.1, U.2, N) j i) : yWd σ D N U' := by
  refine ⟨fun r hw hz => ?_, yW.2⟩
  obtain ⟨c1, c2, c3⟩ := yW.1 r hw hz
  refine ⟨c1, c2, c3.trans ?_⟩
  match r, hw with
  | 0, hr => unfold wrl at hr; omega
  | 1, _ =>
    show some (Sum.inr (1, [Value.int (U.1 0), .int (U.1 1), .int (U.1 2), .int (U.1 3), .int (U.1 4), .int (U.1 5), .int (U.1 6), .ref (aad D 5), .ref (aad D 12), .ref (aad D 13), .ref (aad D 14), .ref (aad D 15), va_rf (arf D 1)])) = some (Sum.inr (1, [Value.int (U'.1 0), .int (U'.1 1), .int (U'.1 2), .int (U'.1 3), .int (U'.1 4), .int (U'.1 5), .int (U'.1 6), .ref (aad D 5), .ref (aad D 12), .ref (aad D 13), .ref (aad D 14), .ref (aad D 15), va_rf (arf D 1)]))
    rw [h1 0 (by omega), h1 1 (by omega), h1 2 (by omega), h1 3 (by omega), h1 4 (by omega), h1 5 (by omega), h1 6 (by omega)]
  | 2, hr => unfold wrl at hr; omega
  | 3, hr => unfold wrl at hr; omega
  | 4, hr => unfold wrl at hr; omega
  | 5, _ =>
    show some (Sum.inl (0, 8, Sum.inl (U.2 0))) = some (Sum.inl (0, 8, Sum.inl (U'.2 0)))
    rw [h0]
  | 6, hr => unfold wrl at hr; omega
  | 7, hr => unfold wrl at hr; omega
  | 8, hr => unfold wrl at hr; omega
  | 9, hr => unfold wrl at hr; omega
  | 10, hr => unfold wrl at hr; omega
  | 11, hr => unfold wrl at hr; omega
  | 12, _ => rfl
  | 13, _ => rfl
  | 14, _ => rfl
  | 15, _ => rfl
  | 16, _ => rfl
  | 17, _ => rfl
  | 18, _ => rfl
  | 19, _ => rfl
  | r + 20, _ =>
    show (if r < 80 then none else cEl D (U.1, U.2, N) ((r + 20) / 100) ((r + 20) % 100)) = (if r < 80 then none else cEl D (U'.1, U'.2, N) ((r + 20) / 100) ((r + 20) % 100))
    by_cases y : r < 80
    · rw [if_pos y, if_pos y]
    · rw [if_neg y, if_neg y]
      by_cases x : (r + 20) % 100 < N ((r + 20) / 100)
      · by_cases w : (r + 20) / 100 ≤ 4
        · exact (hr _ _ (by omega) w x).symm
        · obtain ⟨j, hj⟩ : ∃ j, (r + 20) / 100 = j + 5 := ⟨(r + 20) / 100 - 5, by omega⟩
          rw [hj]
          unfold cEl
          show (if _ < N (j + 5) then none else none) = (if _ < N (j + 5) then none else none)
          rfl
      · unfold cEl
        show (if (r + 20) % 100 < N ((r + 20) / 100) then _ else none) = (if (r + 20) % 100 < N ((r + 20) / 100) then _ else none)
        rw [if_neg x, if_neg x]
/-- an object goes to the end of a list of the draft -/
theorem Dr_add {j x ci : Nat} {fs : List Value} (j1 : 1 ≤ j) (j4 : j ≤ 4) (yW : Dr σ z Q D N U) (E : yEv σ) (h : yRd σ rd tp tl ft g n p m d) (hrz : rd < z) (htz : tp < z) (hzn : z ≤ zn σ) (hxs : σ.1 x = some (.inr (ci, fs))) (hxz : z ≤ x) (hxn : x < zn σ) (hzb : zbs σ ≤ z) (hxa : ∀ r, wrl r → zal N (zow D) r → aad D r ≠ x) (hn : N j < 60)
    (h1 : ∀ k, k < 7 → U'.1 k = U.1 k) (h0 : U'.2 0 = U.2 0) (hr : ∀ j i, 1 ≤ j → j ≤ 4 → i < N j → cEl D (U'.1, U'.2, N) j i = cEl D (U.1, U.2, N) j i) (ho : cEl D (U'.1, U'.2, Nj N j (N j + 1)) j (N j) = some (.inr (ci, fs))) (hc : 1 ≤ zc σ ∧ 90 ≤ zz σ) :
    ∃ σ' D', f_J2_add (aad D (11 + j)) (some x) σ = some (1, σ') ∧ Dr σ' z Q D' (Nj N j (N j + 1)) U' ∧ yRd σ' rd tp tl ft g n p m d ∧ Lv σ σ' z rd 1 90 ∧ aad D' 1 = aad D 1 ∧ arf D' = arf D := by
  have hbz := h.2.2.2.2.2.2.1
  have W1 : yWd σ D N U' := Wd_U yW.1 h1 h0 hr
  obtain ⟨σ', D', a1, a2, a3, a4, a5, a6, a7, a8, a9, a10, a11, a12, a13, a14, a15⟩ := Wd_add j1 j4 W1 E hbz h.2.2.2.2.2.2.2 hxs (by omega) hxn hxa hn ho hc
  -- the old cells
  have K : ∀ q, q < z → σ'.1 q = σ.1 q := by
    intro q hq
    by_cases y : ∃ r, wrl r ∧ zal N (zow D) r ∧ q = aad D r
    · obtain ⟨r, hw, hz, rfl⟩ := y
      rcases yW.2 r hw hz with h3 | ⟨h3, h4, h5⟩
      · omega
      · obtain ⟨i, rfl⟩ : ∃ i, r = 100 * 3 + i := ⟨r - 300, by omega⟩
        have hi : i < N 3 := by
          rcases hz with hz | ⟨k, k1, k4, hz, -⟩ | ⟨k, i', k1, k4, k5, k6, k7⟩
          · omega
          · omega
          · have : k = 3 := by omega
            subst this
            have : i' = i := by omega
            subst this
            exact k5
        have hd : aad D' (100 * 3 + i) = aad D (100 * 3 + i) := a12 3 i (by omega) (by omega) hi
        have hz' : zal (Nj N j (N j + 1)) (zow D') (100 * 3 + i) := Or.inr (Or.inr ⟨3, i, by omega, by omega, by
          by_cases y : j = 3
          · subst y; rw [Nj_at]; omega
          · rw [Nj_no (fun e => y e.symm)]; exact hi, by omega, rfl⟩)
        have c2 := (a2.1 _ hw hz').2.2
        have c1 := (W1.1 _ hw hz).2.2
        rw [hd] at c2
        rw [c1, c2, cEl_at (by omega) (by omega), cEl_at (by omega) (by omega)]
        unfold cEl
        have hi' : i < Nj N j (N j + 1) 3 := by
          by_cases y : j = 3
          · subst y; rw [Nj_at]; omega
          · rw [Nj_no (fun e => y e.symm)]; exact hi
        show (if i < Nj N j (N j + 1) 3 then some (Sum.inr (10, [Value.int (U'.2 3 (2 * i)), .int (U'.2 3 (2 * i + 1))])) else none) = (if i < N 3 then some (Sum.inr (10, [Value.int (U'.2 3 (2 * i)), .int (U'.2 3 (2 * i + 1))])) else none)
        rw [if_pos hi, if_pos hi']
    · exact a9 q (by omega) (fun r hw hz e => y ⟨r, hw, hz, e⟩)
  refine ⟨σ', D', a1, ⟨a2, fun r hw hz => ?_⟩, ?_, ⟨fun q q1 _ => K q q1, a3, a4, a5, a7, a8⟩, a10 1 (by omega), a11⟩
  · rcases a14 r hw hz with ⟨y1, y2⟩ | ⟨y1, y2⟩ | ⟨y1, y2⟩
    · rw [y2]; exact yW.2 r hw y1
    · rw [y2]; exact Or.inl hxz
    · exact Or.inl (by omega)
  · obtain ⟨r1, r2, r3, r4, r5, r6, r7, r8⟩ := h
    exact ⟨(K rd hrz).trans r1, (K tp htz).trans r2, r3, by rw [a4]; exact r4, by omega, by omega, by omega, a6⟩
end ZZ9
/-- a line's work in the heap -/
def Ln (σ : zS) (z rd tp : Nat) (tl ft : Int32) (g : Nat → Int32) (T : Nat → Nat) (n : Nat) (D : cA) (Q : Nat → Prop) (p : Nat) (fo : Option ((Unit ⊕ Nat) × zS)) (r : pR9 NU9) : Prop := match r with
  | .inl e => ∃ τ q d', fo = some (.inr 5, τ) ∧ yRd τ rd tp tl ft g n q e d' ∧ Lv σ τ z rd (60 * (n - p) + 1000) (600 * (n - p) + 6000)
  | .inr (X, q) => ∃ τ D' m', fo = some (.inl (), τ) ∧ yRd τ rd tp tl ft g n q m' 0 ∧ Dr τ z Q D' X.1 X.2 ∧ aad D' 1 = aad D 1 ∧ arf D' = arf D ∧ Lv σ τ z rd (60 * (q - p) + 2 * lnL T q) (600 * (q - p) + 10 * lnL T q)
section ZA1
variable {σ σ' σ'' τ : zS} {D D' : cA} {N N' : Nat → Nat} {U U' : cU} {Q : Nat → Prop} {o rd tp n p s m d a b q z l e cap c va : Nat} {tl ft : Int32} {g : Nat → Int32} {T : Nat → Nat}
/-- a thrown Wrong ends a line -/
theorem Ln_wrong (h : yRd σ rd tp tl ft g n q m d) {σ0 : zS} {a b : Nat} (hL : Lv σ0 σ z rd a b) (ha : a + 1 ≤ 60 * (n - p) + 1000) (hb : b + 6 ≤ 600 * (n - p) + 6000) (hzn : z ≤ zn σ) (hr : 1 ≤ zc σ ∧ 6 ≤ zz σ) : ∀ {fo : Option ((Unit ⊕ Nat) × zS)}, (fo = zb2 (f_X3_wrong rd σ) fun r16 σ17 => r16.bind fun a18 => zif (zcl σ17 a18 = 9) <| some (.inr 5, σ17)) → Ln σ0 z rd tp tl ft g T n D Q p fo (.inl m) := by
  intro fo hfo
  obtain ⟨τ, w, w1, w2, w3, w4⟩ := f_wrong h hr
  refine ⟨τ, q, d, ?_, w3, Lv_le (Lv_t hL (Lv_Sp w4 hzn)) (by omega) (by omega)⟩
  rw [hfo, zb2_eq w1, bd_at, zif_t w2]
/-- a number -/
theorem f_num (h : yRd σ rd tp tl ft g n p m d) (hT : TB g T n) (hp : p ≤ n) {ylo hi : Nat} {hI : Int32} (hlo : ylo ≤ 1) (hhi : ∀ v, v < 1000000 → (nI v ≤ hI ↔ v < hi)) (hr : 1 ≤ zc σ ∧ 6 ≤ zz σ) : match pFig ylo hi 3 T p with
    | .inl e => ∃ τ q, f_X3_number rd (nI ylo) hI σ = some (.inr 5, τ) ∧ yRd τ rd tp tl ft g n q e d ∧ Sp σ τ rd 1 6
    | .inr (v, q) => ∃ τ, f_X3_number rd (nI ylo) hI σ = some (.inl (nI v), τ) ∧ yRd τ rd tp tl ft g n q (sk T p) d ∧ Sp σ τ rd 0 0 := by
  have F := f_fig h hT hp (ylo := ylo) (hi := hi) (dg := 3) (hI := hI) hlo (by omega) hhi hr
  generalize pFig ylo hi 3 T p = R at F
  match R, F with
  | .inl e, F =>
    obtain ⟨τ, q, f1, f2, f3⟩ := F
    refine ⟨τ, q, ?_, f2, f3⟩
    have f1' : f_X3_figures rd (nI ylo) hI 3 σ = some (.inr 5, τ) := f1
    unfold f_X3_number
    rw [zif_t (Rd_cl h), zbt_er f1']
  | .inr (v, q), F =>
    obtain ⟨τ, f1, f2, f3⟩ := F
    refine ⟨τ, ?_, f2, f3⟩
    have f1' : f_X3_figures rd (nI ylo) hI 3 σ = some (.inl (nI v), τ) := f1
    unfold f_X3_number
    rw [zif_t (Rd_cl h), zbt_eq f1']
theorem Rd_ne (h : yRd σ rd tp tl ft g n p m d) {x : Nat} (hx : z ≤ x) (hrz : rd < z) (htz : tp < z) (h1 : ∀ q, q ≠ x → τ.1 q = σ.1 q) (h2 : τ.2 = σ.2) (hxn : x < zn σ) : yRd τ rd tp tl ft g n p m d := by
  obtain ⟨r1, r2, r3, r4, r5, r6, r7, r8⟩ := h
  have en : zn τ = zn σ := congrArg (fun w => w.2.2.1) h2
  have eb : zbs τ = zbs σ := congrArg (fun w => w.2.1) h2
  exact ⟨by rw [h1 _ (by omega)]; exact r1, by rw [h1 _ (by omega)]; exact r2, r3, by omega, by omega, by omega, by omega, fun q hq => by rw [h1 q (by omega)]; exact r8 q (by omega)⟩
theorem Lv_ne {x : Nat} (hx : z ≤ x) (h1 : ∀ q, q ≠ x → τ.1 q = σ.1 q) (h2 : τ.2 = σ.2) : Lv σ τ z rd 0 0 := by
  have en : zn τ = zn σ := congrArg (fun w => w.2.2.1) h2
  have eb : zbs τ = zbs σ := congrArg (fun w => w.2.1) h2
  have ev : zsv τ = zsv σ := congrArg (fun w => w.1) h2
  have ec : zc τ = zc σ := congrArg (fun w => w.2.2.2.1) h2
  have ez : zz τ = zz σ := congrArg (fun w => w.2.2.2.2) h2
  exact ⟨fun q q1 _ => h1 q (by omega), ev, eb, by omega, by omega, by omega⟩
/-- where a world's own cells lie -/
theorem Dr_z (yW : Dr σ z Q D N U) {r : Nat} (hr : r = 1 ∨ r = 5 ∨ (12 ≤ r ∧ r < 16)) : z ≤ aad D r ∧ aad D r < zn σ := by
  have hw : wrl r := by unfold wrl; omega
  have hz : zal N (zow D) r := Or.inl (by omega)
  refine ⟨?_, (yW.1.1 r hw hz).2.1⟩
  rcases yW.2 r hw hz with h | ⟨h1, h2, h3⟩
  · exact h
  · omega
/-- a line that isn't one -/
theorem f_pNo (h : yRd σ rd tp tl ft g n p s 0) (hzn : z ≤ zn σ) (hz : 1 ≤ zc σ ∧ 6 ≤ zz σ) : Ln σ z rd tp tl ft g T n D Q p (f_X1_peopleLine_235 o (some (aad D 1)) (some rd) (-1) σ) (.inl s) := by
  refine Ln_wrong h Lv_r (by omega) (by omega) hzn hz ?_
  unfold f_X1_peopleLine_235
  rw [if_pos (by decide), bd_at, zif_t (Rd_cl h)]
theorem zal_0 {k r : Nat} {ow : Nat → Bool} (h : zal (Nj N 0 k) ow r) : zal N ow r := by
  rcases h with hz | hz | ⟨j, i, j1, j4, hi, hr⟩
  · exact Or.inl hz
  · exact Or.inr (Or.inl hz)
  · exact Or.inr (Or.inr ⟨j, i, j1, j4, by
      rw [Nj_no (by omega)] at hi
      exact hi, hr⟩)
/-- a house -/
theorem f_pHo (C : Cx σ o rd) (h : yRd σ rd tp tl ft g n p s 0) (hT : TB g T n) (hp : p ≤ n) (yW : Dr σ z Q D N U) (I : RI c N U) (hrz : rd < z) (htz : tp < z) (hzn : z ≤ zn σ) (hz : 1 ≤ zc σ ∧ 6 ≤ zz σ) : Ln σ z rd tp tl ft g T n D Q p (f_X1_peopleLine_235 o (some (aad D 1)) (some rd) 0 σ) (pHo T N U s p) := by
  have n0 := RI_n0 I
  have hou := RI_hou I
  have row := Wd_1 yW.1
  have g1 : gI σ (aad D 1) 1 1 = some (nI (N 0)) := gI_of row (k := 1) (v := nI (N 0)) (by rw [hou]; rfl) rfl
  have g7 : gR σ (aad D 1) 1 7 = some (some (aad D 5)) := gR_of row (k := 7) (q := some (aad D 5)) rfl rfl
  have hx : (nI (N 0) = 8) = (N 0 = 8) := nI_inj (b := 8) (by omega) (by omega)
  unfold f_X1_peopleLine_235 pHo
  rw [if_neg (by decide), if_pos rfl, bd_at, ybind_eq g1]
  by_cases y : N 0 = 8
  · rw [if_pos y, if_neg (show ¬ ¬ nI (N 0) = 8 from fun q => q (hx.mpr y)), bd_at, zif_t (Rd_cl h)]
    exact Ln_wrong h Lv_r (by omega) (by omega) hzn hz rfl
  · rw [if_neg y, if_pos (show ¬ nI (N 0) = 8 from fun q => y (hx.mp q)), ybind_eq g7, ybind_eq g1, bd_at, zif_t (Rd_cl h)]
    have F := f_fig h hT hp (ylo := 0) (hi := 100000) (dg := 5) (hI := 99999) (by omega) (by omega) (fun v hv => hhi_l (k := 99999) (by omega) hv) hz
    have FB := pFig_b hT.1 hp (ylo := 0) (hi := 100000) (dg := 5)
    generalize pFig 0 100000 5 T p = R at F FB
    match R, F, FB with
    | .inl e, F, _ =>
      obtain ⟨τ, q, f1, f2, f3⟩ := F
      have f1' : f_X3_figures rd 0 99999 5 σ = some (.inr 5, τ) := f1
      rw [zbt_er f1']
      exact ⟨τ, q, 0, rfl, f2, Lv_le (Lv_Sp f3 hzn) (by omega) (by omega)⟩
    | .inr (v, q), F, FB =>
      obtain ⟨σ1, f1, f2, f3⟩ := F
      have hpq : p < q := FB.1
      have f1' : f_X3_figures rd 0 99999 5 σ = some (.inl (nI v), σ1) := f1
      have n1 := f3.2.2.2.1
      have W1 := Dr_Sp yW h f3
      obtain ⟨σ2, w1, w2, w3, w4⟩ := Wd_w5 W1.1 (i := N 0) (by omega) (nI v)
      have z5 := Dr_z W1 (r := 5) (by omega)
      have z1 := Dr_z W1 (r := 1) (by omega)
      have R2 := Rd_ne f2 z5.1 hrz htz w3 w4 z5.2
      have g1' : gI σ2 (aad D 1) 1 1 = some (nI (N 0)) := gI_of (Wd_1 w2) (k := 1) (v := nI (N 0)) (by show _ = some (Value.int (nI (N 0))); rw [← hou]; rfl) rfl
      have en : zn σ2 = zn σ1 := congrArg (fun w => w.2.2.1) w4
      obtain ⟨σ3, v1, v2, v3, v4⟩ := Wd_w1 w2 (k := 1) (by omega) (nI (N 0 + 1))
      have R3 := Rd_ne R2 z1.1 hrz htz v3 v4 (by omega)
      have fin : yWd σ3 D (hoU N U v).1 (hoU N U v).2 := by
        refine ⟨fun r hw hz => ?_, fun r r' a b k1 k2 => v2.2.1 r r' a b (zal_0 k1) (zal_0 k2), fun j j1 j4 => ?_⟩
        · have hz' : zal N (zow D) r := zal_0 hz
          obtain ⟨c1, c2, c3⟩ := v2.1 r hw hz'
          refine ⟨c1, c2, c3.trans ?_⟩
          match r, hw with
          | 0, hr => unfold wrl at hr; omega
          | 1, _ => rfl
          | 2, hr => unfold wrl at hr; omega
          | 3, hr => unfold wrl at hr; omega
          | 4, hr => unfold wrl at hr; omega
          | 5, _ => rfl
          | 6, hr => unfold wrl at hr; omega
          | 7, hr => unfold wrl at hr; omega
          | 8, hr => unfold wrl at hr; omega
          | 9, hr => unfold wrl at hr; omega
          | 10, hr => unfold wrl at hr; omega
          | 11, hr => unfold wrl at hr; omega
          | 12, _ => rfl
          | 13, _ => rfl
          | 14, _ => rfl
          | 15, _ => rfl
          | 16, _ => rfl
          | 17, _ => rfl
          | 18, _ => rfl
          | 19, _ => rfl
          | r + 20, _ =>
            show (if r < 80 then none else cEl D _ ((r + 20) / 100) ((r + 20) % 100)) = (if r < 80 then none else cEl D _ ((r + 20) / 100) ((r + 20) % 100))
            by_cases x : r < 80
            · rw [if_pos x, if_pos x]
            · rw [if_neg x, if_neg x]
              have hj : (r + 20) / 100 ≠ 0 := by omega
              unfold cEl
              show (if _ < N ((r + 20) / 100) then _ else none) = (if _ < Nj N 0 (N 0 + 1) ((r + 20) / 100) then _ else none)
              rw [Nj_no hj]
              rfl
        · have e : (hoU N U v).1 j = N j := Nj_no (by omega)
          rw [e]
          exact v2.2.2 j j1 j4
      have e3 : zsv σ3 = zsv σ2 := congrArg (fun w => w.1) v4
      rw [zbt_eq f1', bd_at, ybind_eq w1, ybind_eq g1', nI_1, ybind_eq v1]
      exact ⟨σ3, D, _, rfl, R3, ⟨fin, fun r hw hz => yW.2 r hw (zal_0 hz)⟩, rfl, rfl, Lv_le (Lv_t (Lv_Sp f3 hzn) (Lv_t (Lv_ne z5.1 w3 w4) (Lv_ne z1.1 v3 v4))) (by omega) (by omega)⟩
/-- limit and rest -/
theorem f_pLR (h : yRd σ rd tp tl ft g n p s 0) (hT : TB g T n) (hp : p ≤ n) (yW : Dr σ z Q D N U) (hrz : rd < z) (htz : tp < z) (hzn : z ≤ zn σ) (hz : 1 ≤ zc σ ∧ 6 ≤ zz σ) : Ln σ z rd tp tl ft g T n D Q p (f_X1_peopleLine_235 o (some (aad D 1)) (some rd) 6 σ) (pLm T N U p) ∧ Ln σ z rd tp tl ft g T n D Q p (f_X1_peopleLine_235 o (some (aad D 1)) (some rd) 7 σ) (pRs T N U p) := by
  constructor
  · unfold f_X1_peopleLine_235 pLm
    rw [if_neg (by decide), if_neg (by decide), if_neg (by decide), if_neg (by decide), if_neg (by decide), if_neg (by decide), if_neg (by decide), if_pos rfl, bd_at, zif_t (Rd_cl h)]
    have F := f_num h hT hp (ylo := 1) (hi := 1000) (hI := 999) (by omega) (fun v hv => hhi_l (k := 999) (by omega) hv) hz
    have FB := pFig_b hT.1 hp (ylo := 1) (hi := 1000) (dg := 3)
    generalize pFig 1 1000 3 T p = R at F FB
    match R, F, FB with
    | .inl e, F, _ =>
      obtain ⟨τ, q, f1, f2, f3⟩ := F
      have f1' : f_X3_number rd 1 999 σ = some (.inr 5, τ) := f1
      rw [zbt_er f1']
      exact ⟨τ, q, 0, rfl, f2, Lv_le (Lv_Sp f3 hzn) (by omega) (by omega)⟩
    | .inr (v, q), F, FB =>
      obtain ⟨σ1, f1, f2, f3⟩ := F
      have hpq : p < q := FB.1
      have f1' : f_X3_number rd 1 999 σ = some (.inl (nI v), σ1) := f1
      have W1 := Dr_Sp yW h f3
      have z1 := Dr_z W1 (r := 1) (by omega)
      obtain ⟨σ3, v1, v2, v3, v4⟩ := Wd_w1 W1.1 (k := 2) (by omega) (nI v)
      rw [zbt_eq f1', bd_at, ybind_eq v1]
      exact ⟨σ3, D, _, rfl, Rd_ne f2 z1.1 hrz htz v3 v4 z1.2, ⟨v2, yW.2⟩, rfl, rfl, Lv_le (Lv_t (Lv_Sp f3 hzn) (Lv_ne z1.1 v3 v4)) (by omega) (by omega)⟩
  · unfold f_X1_peopleLine_235 pRs
    rw [if_neg (by decide), if_neg (by decide), if_neg (by decide), if_neg (by decide), if_neg (by decide), if_neg (by decide), if_neg (by decide), if_neg (by decide), if_pos rfl, bd_at, zif_t (Rd_cl h)]
    have F := f_num h hT hp (ylo := 0) (hi := 4) (hI := 3) (by omega) (fun v hv => hhi_l (k := 3) (by omega) hv) hz
    have FB := pFig_b hT.1 hp (ylo := 0) (hi := 4) (dg := 3)
    generalize pFig 0 4 3 T p = R at F FB
    match R, F, FB with
    | .inl e, F, _ =>
      obtain ⟨τ, q, f1, f2, f3⟩ := F
      have f1' : f_X3_number rd 0 3 σ = some (.inr 5, τ) := f1
      rw [zbt_er f1']
      exact ⟨τ, q, 0, rfl, f2, Lv_le (Lv_Sp f3 hzn) (by omega) (by omega)⟩
    | .inr (v, q), F, FB =>
      obtain ⟨σ1, f1, f2, f3⟩ := F
      have hpq : p < q := FB.1
      have f1' : f_X3_number rd 0 3 σ = some (.inl (nI v), σ1) := f1
      have W1 := Dr_Sp yW h f3
      have z1 := Dr_z W1 (r := 1) (by omega)
      obtain ⟨σ3, v1, v2, v3, v4⟩ := Wd_w1 W1.1 (k := 3) (by omega) (nI v)
      rw [zbt_eq f1', bd_at, ybind_eq v1]
      exact ⟨σ3, D, _, rfl, Rd_ne f2 z1.1 hrz htz v3 v4 z1.2, ⟨v2, yW.2⟩, rfl, rfl, Lv_le (Lv_t (Lv_Sp f3 hzn) (Lv_ne z1.1 v3 v4)) (by omega) (by omega)⟩
end ZA1
section ZA2
variable {σ σ' σ'' τ : zS} {D D' : cA} {N N' : Nat → Nat} {U U' : cU} {Q : Nat → Prop} {o rd tp n p s m d a b q z l e cap c va : Nat} {tl ft : Int32} {g : Nat → Int32} {T : Nat → Nat}
theorem cEl_tu {v : Nat} : ∀ j i, 1 ≤ j → j ≤ 4 → i < N j → cEl D ((tuU N U v).2.1, (tuU N U v).2.2, N) j i = cEl D (U.1, U.2, N) j i := by
  intro j i h1 h4 hi
  have : j = 1 ∨ j = 2 ∨ j = 3 ∨ j = 4 := by omega
  rcases this with rfl | rfl | rfl | rfl
  · rfl
  · have r0 : (tuU N U v).2.2 2 (3 * i) = _ := tu_row (N := N) (U := U) i 0 (by omega)
    have r1 := tu_row (N := N) (U := U) i 1 (by omega) (v := v)
    have r2 := tu_row (N := N) (U := U) i 2 (by omega) (v := v)
    unfold cEl
    show (if i < N 2 then some (Sum.inr (7, [Value.int ((tuU N U v).2.2 2 (3 * i)), .int ((tuU N U v).2.2 2 (3 * i + 1)), .int ((tuU N U v).2.2 2 (3 * i + 2))])) else none) = _
    rw [r0, r1, r2, if_neg (show ¬ i = N 2 by omega), if_neg (show ¬ i = N 2 by omega), if_neg (show ¬ i = N 2 by omega)]
    rfl
  · rfl
  · rfl
theorem cEl_wk {so a h w : Nat} : ∀ j i, 1 ≤ j → j ≤ 4 → i < N j → cEl D ((wkU N U so a h w).2.1, (wkU N U so a h w).2.2, N) j i = cEl D (U.1, U.2, N) j i := by
  intro j i h1 h4 hi
  have : j = 1 ∨ j = 2 ∨ j = 3 ∨ j = 4 := by omega
  rcases this with rfl | rfl | rfl | rfl
  · have r0 : (wkU N U so a h w).2.2 1 (4 * i) = _ := wk_row (N := N) (U := U) i 0 (by omega)
    have r1 := wk_row (N := N) (U := U) i 1 (by omega) (so := so) (a := a) (h := h) (z := w)
    have r2 := wk_row (N := N) (U := U) i 2 (by omega) (so := so) (a := a) (h := h) (z := w)
    have r3 := wk_row (N := N) (U := U) i 3 (by omega) (so := so) (a := a) (h := h) (z := w)
    unfold cEl
    show (if i < N 1 then some (Sum.inr (6, [Value.int ((wkU N U so a h w).2.2 1 (4 * i)), .int ((wkU N U so a h w).2.2 1 (4 * i + 1)), .int ((wkU N U so a h w).2.2 1 (4 * i + 2)), .int ((wkU N U so a h w).2.2 1 (4 * i + 3))])) else none) = _
    rw [r0, r1, r2, r3, if_neg (show ¬ i = N 1 by omega), if_neg (show ¬ i = N 1 by omega), if_neg (show ¬ i = N 1 by omega), if_neg (show ¬ i = N 1 by omega)]
    rfl
  · rfl
  · rfl
  · rfl
theorem cEl_of {a b : Nat} : ∀ j i, 1 ≤ j → j ≤ 4 → i < N j → cEl D ((ofU N U a b).2.1, (ofU N U a b).2.2, N) j i = cEl D (U.1, U.2, N) j i := by
  intro j i h1 h4 hi
  have : j = 1 ∨ j = 2 ∨ j = 3 ∨ j = 4 := by omega
  rcases this with rfl | rfl | rfl | rfl
  · rfl
  · rfl
  · have r0 : (ofU N U a b).2.2 3 (2 * i) = _ := of_row (N := N) (U := U) i 0 (by omega)
    have r1 := of_row (N := N) (U := U) i 1 (by omega) (a := a) (b := b)
    unfold cEl
    show (if i < N 3 then some (Sum.inr (10, [Value.int ((ofU N U a b).2.2 3 (2 * i)), .int ((ofU N U a b).2.2 3 (2 * i + 1))])) else none) = _
    rw [r0, r1, if_neg (show ¬ i = N 3 by omega), if_neg (show ¬ i = N 3 by omega)]
    rfl
  · rfl
theorem Dr_ne (yW : Dr σ z Q D N U) {x : Nat} (hx : zn σ ≤ x) : ∀ r, wrl r → zal N (zow D) r → aad D r ≠ x := fun r h1 h2 e => by
  have := (yW.1.1 r h1 h2).2.1
  omega
theorem Dr_fill (yW : Dr σ z Q D N U) {x : Nat} (hx : ∀ r, wrl r → zal N (zow D) r → aad D r ≠ x) (h1 : ∀ q, q ≠ x → τ.1 q = σ.1 q) (h2 : τ.2 = σ.2) : Dr τ z Q D N U := by
  have en : zn τ = zn σ := congrArg (fun w => w.2.2.1) h2
  have eb : zbs τ = zbs σ := congrArg (fun w => w.2.1) h2
  have ev : zsv τ = zsv σ := congrArg (fun w => w.1) h2
  exact ⟨Wd_keep yW.1 (fun r a b => h1 _ (hx r a b)) ev eb (by omega), yW.2⟩
set_option maxRecDepth 4000 in
/-- a turn -/
theorem f_pTu (C : Cx σ o rd) (h : yRd σ rd tp tl ft g n p s 0) (hT : TB g T n) (hp : p ≤ n) (yW : Dr σ z Q D N U) (I : RI c N U) (hrz : rd < z) (htz : tp < z) (hzn : z ≤ zn σ) (hzb : zbs σ ≤ z) (hoz : o < z) (hz : 10 ≤ zc σ ∧ 200 ≤ zz σ) : Ln σ z rd tp tl ft g T n D Q p (f_X1_peopleLine_235 o (some (aad D 1)) (some rd) 5 σ) (pTu T N U s p) := by
  have n2 := RI_n2 I
  have hbz := h.2.2.2.2.2.2.1
  have hrb := h.2.2.2.1
  have row := Wd_1 yW.1
  have g9 : gR σ (aad D 1) 1 9 = some (some (aad D 13)) := gR_of row (k := 9) (q := some (aad D 13)) rfl rfl
  obtain ⟨sz, cl⟩ := Wd_size (j := 2) (by omega) (by omega) yW.1
  have hx : (nI (N 2) = 10) = (N 2 = 10) := nI_inj (b := 10) (by omega) (by omega)
  unfold f_X1_peopleLine_235 pTu
  rw [if_neg (by decide), if_neg (by decide), if_neg (by decide), if_neg (by decide), if_neg (by decide), if_neg (by decide), if_pos rfl, bd_at, ybind_eq g9, bd_at, zif_t cl, zb2_eq sz]
  by_cases y : N 2 = 10
  · rw [if_pos y, if_neg (show ¬ ¬ nI (N 2) = 10 from fun q => q (hx.mpr y)), bd_at, zif_t (Rd_cl h)]
    exact Ln_wrong h Lv_r (by omega) (by omega) hzn ⟨by omega, by omega⟩ rfl
  · rw [if_neg y, if_pos (show ¬ nI (N 2) = 10 from fun q => y (hx.mp q)), ybind_eq g9]
    obtain ⟨σ1, x1, x2, x3, x4, x5⟩ := new_obj (ci := 7) (fs := [.int 0, .int 0, .int 0]) h ⟨by omega, by show 3 ≤ _; omega⟩
    have c1 := x3.2.2.2.2.1
    have z1 : zz σ ≤ zz σ1 + 3 := x3.2.2.2.2.2
    have b1 := x3.2.2.1
    have n1 := x3.2.2.2.1
    have C1 := Cx_Sp C x3 hrb hbz
    have W1 := Dr_Sp yW h x3
    rw [zb2_eq x1, bd_at, zif_t (Rd_cl x2)]
    have F := f_num x2 hT hp (ylo := 1) (hi := 100) (hI := 99) (by omega) (fun v hv => hhi_l (k := 99) (by omega) hv) ⟨by omega, by omega⟩
    have FB := pFig_b hT.1 hp (ylo := 1) (hi := 100) (dg := 3)
    generalize pFig 1 100 3 T p = R at F FB
    match R, F, FB with
    | .inl e, F, _ =>
      obtain ⟨τ, q, f1, f2, f3⟩ := F
      have f1' : f_X3_number rd 1 99 σ1 = some (.inr 5, τ) := f1
      rw [zbt_er f1']
      exact ⟨τ, q, 0, rfl, f2, Lv_le (Lv_Sp (Sp_t x3 f3) hzn) (by omega) (by show 3 + 6 ≤ _; omega)⟩
    | .inr (v, q), F, FB =>
      obtain ⟨σ2, f1, f2, f3⟩ := F
      have hpq : p < q := FB.1
      have f1' : f_X3_number rd 1 99 σ1 = some (.inl (nI v), σ2) := f1
      have c2 := f3.2.2.2.2.1
      have z2 := f3.2.2.2.2.2
      have b2 := f3.2.2.1
      have n2' := f3.2.2.2.1
      have C2 := Cx_Sp C1 f3 (by omega) (by omega)
      have W2 := Dr_Sp W1 x2 f3
      have tob : σ2.1 (zn σ) = some (.inr (7, [.int 0, .int 0, .int 0])) := (f3.1 _ (by omega) (by omega)).trans x4
      have pi : pI σ2 (zn σ) 7 0 (nI v) = some (zset σ2 (zn σ) (.inr (7, [.int (nI v), .int 0, .int 0]))) := pI_of tob (Nat.le_of_ble_eq_true rfl) (by omega)
      have ei : f_X8_init (zn σ) (nI v) σ2 = some ((), zset σ2 (zn σ) (.inr (7, [.int (nI v), .int 0, .int 0]))) := by
        unfold f_X8_init
        rw [ybind_eq pi]
      have hne : ∀ r, wrl r → zal N (zow D) r → aad D r ≠ zn σ := Dr_ne yW (Nat.le_refl _)
      have W3 : Dr (zset σ2 (zn σ) (.inr (7, [.int (nI v), .int 0, .int 0]))) z Q D N U := Dr_fill W2 hne (fun q hq => if_neg hq) rfl
      have R3 : yRd (zset σ2 (zn σ) (.inr (7, [.int (nI v), .int 0, .int 0]))) rd tp tl ft g n q _ 0 := Rd_ne f2 (x := zn σ) hzn hrz htz (fun q hq => if_neg hq) rfl (by omega)
      have L3 : Lv σ2 (zset σ2 (zn σ) (.inr (7, [.int (nI v), .int 0, .int 0]))) z rd 0 0 := Lv_ne hzn (fun q hq => if_neg hq) rfl
      have C3 := Cx_z C2 L3.1 rfl rfl (Nat.le_refl _) (by omega) (by omega) hoz
      have cl3 : zcl (zset σ2 (zn σ) (.inr (7, [.int (nI v), .int 0, .int 0]))) (aad D 13) = 19 := (Wd_size (j := 2) (by omega) (by omega) W3.1).2
      obtain ⟨σ4, D', v1, v2, v3, v4, v5, v6⟩ := Dr_add (j := 2) (x := zn σ) (U' := (tuU N U v).2) (by omega) (by omega) W3 C3.2.2.1 R3 hrz htz (by show z ≤ zn σ2; omega) zs_at hzn (by show zn σ < zn σ2; omega) (by show zbs σ2 ≤ z; omega) hne (by omega) (fun k _ => rfl) rfl cEl_tu (by
        unfold cEl
        have hlt : N 2 < Nj N 2 (N 2 + 1) 2 := by rw [Nj_at]; omega
        have r0 : (tuU N U v).2.2 2 (3 * N 2) = _ := tu_row (N := N) (U := U) (N 2) 0 (by omega)
        have r1 := tu_row (N := N) (U := U) (N 2) 1 (by omega) (v := v)
        have r2 := tu_row (N := N) (U := U) (N 2) 2 (by omega) (v := v)
        show (if N 2 < Nj N 2 (N 2 + 1) 2 then some (Sum.inr (7, [Value.int ((tuU N U v).2.2 2 (3 * N 2)), .int ((tuU N U v).2.2 2 (3 * N 2 + 1)), .int ((tuU N U v).2.2 2 (3 * N 2 + 2))])) else none) = _
        rw [if_pos hlt, r0, r1, r2, if_pos (rfl : N 2 = N 2), if_pos (rfl : N 2 = N 2), if_pos (rfl : N 2 = N 2)]
        rfl) ⟨by show 1 ≤ zc σ2; omega, by show 90 ≤ zz σ2; omega⟩
      have v1' : f_J2_add (aad D 13) (some (zn σ)) (zset σ2 (zn σ) (.inr (7, [.int (nI v), .int 0, .int 0]))) = some (1, σ4) := v1
      rw [zbt_eq f1', zb2_eq ei, bd_at, zif_t cl3, zb2_eq v1']
      exact ⟨σ4, D', _, rfl, v3, v2, v5, v6, Lv_le (Lv_t (Lv_Sp (Sp_t x3 f3) hzn) (Lv_t L3 v4)) (by omega) (by show 3 + 0 + (0 + 90) ≤ _; omega)⟩
end ZA2
