/-! pure land: C7 C8 (see wip/D-94657w/pl) -/
/-! the yrun -/
section ZC7
variable {σ : zS} {c k o ot xa L9 : Nat} {xs9 : Nat → Int32} {v4 s0 s1 s2 s3 s4 s5 : Int32} {rec23 : Int32 → zS → Option (Int32 × zS)}
theorem J9_no (HJ : J9 (k + 1) c σ xa o ot) : J9 k (c + 200) σ xa o ot := by
  obtain ⟨L, A, N, U, S, D, H, h1, h2, h3, h4, h5, h6, h7, h8, h9⟩ := HJ
  exact ⟨L, A, N, U, S, D, Iv_mono H (by omega), h1, h2, h3, h4, h5, h6, h7, roomK (z2 := zc σ) (L' := L) (a := 0) h8 (by omega) (by omega), roomK (z2 := zz σ) (L' := L) (a := 0) h9 (by omega) (by omega)⟩
theorem LW_all (HJ : J9 (k + 1) c σ xa o ot) (hc : c < 800000) (hlt : ¬ (Int32.ofNat L9) - 6 < v4) (e0 : zsl L9 xs9 v4 = some s0) (e1 : zsl L9 xs9 (v4 + 1) = some s1) (e2 : zsl L9 xs9 (v4 + 2) = some s2) (e3 : zsl L9 xs9 (v4 + 3) = some s3) (e4 : zsl L9 xs9 (v4 + 4) = some s4) (e5 : zsl L9 xs9 (v4 + 5) = some s5) : ∃ σ3, J9 k (c + 200) σ3 xa o ot ∧ f_L_law_23_b L9 xs9 (some xa) (some o) (some ot) rec23 v4 σ = rec23 (v4 + 6) σ3 := by
  unfold f_L_law_23_b
  rw [if_neg hlt, ybind_eq e0]
  generalize s0 &&& 31 = w
  by_cases hr : w.toInt < 0 ∨ 28 < w.toInt
  · rw [if_pos hr]
    exact ⟨σ, J9_no HJ, rfl⟩
  rw [if_neg hr]
  by_cases h0 : w = 0
  · rw [if_pos h0]
    exact LW_feed HJ hc e1 e2 e3 e4 e5
  rw [if_neg h0]
  by_cases h1 : w = 1
  · rw [if_pos h1]
    exact LW_end HJ hc e1 e2 e3 e4 e5
  rw [if_neg h1]
  by_cases h2 : w = 2
  · rw [if_pos h2]
    exact LW_people HJ hc e1 e2 e3 e4 e5
  rw [if_neg h2]
  by_cases h3 : w = 3
  · rw [if_pos h3]
    exact LW_law HJ hc e1 e2 e3 e4 e5
  rw [if_neg h3]
  by_cases h4 : w = 4
  · rw [if_pos h4]
    exact LW_fault HJ hc e1 e2 e3 e4 e5
  rw [if_neg h4]
  by_cases h5 : w = 5
  · rw [if_pos h5]
    exact LW_house HJ hc e1 e2 e3 e4 e5
  rw [if_neg h5]
  by_cases h6 : w = 6
  · rw [if_pos h6]
    exact LW_walker HJ hc e1 e2 e3 e4 e5
  rw [if_neg h6]
  by_cases h7 : w = 7
  · rw [if_pos h7]
    exact LW_turn HJ hc e1 e2 e3 e4 e5
  rw [if_neg h7]
  by_cases h8 : w = 8
  · rw [if_pos h8]
    exact LW_entry HJ hc e1 e2 e3 e4 e5
  rw [if_neg h8]
  by_cases h9 : w = 9
  · rw [if_pos h9]
    exact LW_counts HJ hc e1 e2 e3 e4 e5
  rw [if_neg h9]
  by_cases h10 : w = 10
  · rw [if_pos h10]
    exact LW_walk HJ hc e1 e2 e3 e4 e5
  rw [if_neg h10]
  by_cases h11 : w = 11
  · rw [if_pos h11]
    exact LW_undo HJ hc e1 e2 e3 e4 e5
  rw [if_neg h11]
  by_cases h12 : w = 12
  · rw [if_pos h12]
    exact LW_days HJ hc e1 e2 e3 e4 e5
  rw [if_neg h12]
  by_cases h13 : w = 13
  · rw [if_pos h13]
    exact LW_pass HJ hc e1 e2 e3 e4 e5
  rw [if_neg h13]
  by_cases h14 : w = 14
  · rw [if_pos h14]
    exact LW_marry HJ hc e1 e2 e3 e4 e5
  rw [if_neg h14]
  by_cases h15 : w = 15
  · rw [if_pos h15]
    exact LW_mend HJ hc e1 e2 e3 e4 e5
  rw [if_neg h15]
  by_cases h16 : w = 16
  · rw [if_pos h16]
    exact LW_worn HJ hc e1 e2 e3 e4 e5
  rw [if_neg h16]
  by_cases h17 : w = 17
  · rw [if_pos h17]
    exact LW_missed HJ hc e1 e2 e3 e4 e5
  rw [if_neg h17]
  by_cases h18 : w = 18
  · rw [if_pos h18]
    exact LW_deal HJ hc e1 e2 e3 e4 e5
  rw [if_neg h18]
  by_cases h19 : w = 19
  · rw [if_pos h19]
    exact LW_plan HJ hc e1 e2 e3 e4 e5
  rw [if_neg h19]
  by_cases h20 : w = 20
  · rw [if_pos h20]
    exact LW_burn HJ hc e1 e2 e3 e4 e5
  rw [if_neg h20]
  by_cases h21 : w = 21
  · rw [if_pos h21]
    exact LW_span HJ hc e1 e2 e3 e4 e5
  rw [if_neg h21]
  by_cases h22 : w = 22
  · rw [if_pos h22]
    exact LW_proof HJ hc e1 e2 e3 e4 e5
  rw [if_neg h22]
  by_cases h23 : w = 23
  · rw [if_pos h23]
    exact LW_ways HJ hc e1 e2 e3 e4 e5
  rw [if_neg h23]
  by_cases h24 : w = 24
  · rw [if_pos h24]
    exact LW_live HJ hc e1 e2 e3 e4 e5
  rw [if_neg h24]
  by_cases h25 : w = 25
  · rw [if_pos h25]
    exact LW_seed HJ hc e1 e2 e3 e4 e5
  rw [if_neg h25]
  by_cases h26 : w = 26
  · rw [if_pos h26]
    exact LW_image HJ hc e1 e2 e3 e4 e5
  rw [if_neg h26]
  by_cases h27 : w = 27
  · rw [if_pos h27]
    exact LW_back HJ hc e1 e2 e3 e4 e5
  rw [if_neg h27]
  by_cases h28 : w = 28
  · rw [if_pos h28]
    exact LW_count HJ hc e1 e2 e3 e4 e5
  rw [if_neg h28]
  exfalso
  have t0 : w.toInt ≠ 0 := fun e => h0 (Int32.toInt_inj.1 e)
  have t1 : w.toInt ≠ 1 := fun e => h1 (Int32.toInt_inj.1 e)
  have t2 : w.toInt ≠ 2 := fun e => h2 (Int32.toInt_inj.1 e)
  have t3 : w.toInt ≠ 3 := fun e => h3 (Int32.toInt_inj.1 e)
  have t4 : w.toInt ≠ 4 := fun e => h4 (Int32.toInt_inj.1 e)
  have t5 : w.toInt ≠ 5 := fun e => h5 (Int32.toInt_inj.1 e)
  have t6 : w.toInt ≠ 6 := fun e => h6 (Int32.toInt_inj.1 e)
  have t7 : w.toInt ≠ 7 := fun e => h7 (Int32.toInt_inj.1 e)
  have t8 : w.toInt ≠ 8 := fun e => h8 (Int32.toInt_inj.1 e)
  have t9 : w.toInt ≠ 9 := fun e => h9 (Int32.toInt_inj.1 e)
  have t10 : w.toInt ≠ 10 := fun e => h10 (Int32.toInt_inj.1 e)
  have t11 : w.toInt ≠ 11 := fun e => h11 (Int32.toInt_inj.1 e)
  have t12 : w.toInt ≠ 12 := fun e => h12 (Int32.toInt_inj.1 e)
  have t13 : w.toInt ≠ 13 := fun e => h13 (Int32.toInt_inj.1 e)
  have t14 : w.toInt ≠ 14 := fun e => h14 (Int32.toInt_inj.1 e)
  have t15 : w.toInt ≠ 15 := fun e => h15 (Int32.toInt_inj.1 e)
  have t16 : w.toInt ≠ 16 := fun e => h16 (Int32.toInt_inj.1 e)
  have t17 : w.toInt ≠ 17 := fun e => h17 (Int32.toInt_inj.1 e)
  have t18 : w.toInt ≠ 18 := fun e => h18 (Int32.toInt_inj.1 e)
  have t19 : w.toInt ≠ 19 := fun e => h19 (Int32.toInt_inj.1 e)
  have t20 : w.toInt ≠ 20 := fun e => h20 (Int32.toInt_inj.1 e)
  have t21 : w.toInt ≠ 21 := fun e => h21 (Int32.toInt_inj.1 e)
  have t22 : w.toInt ≠ 22 := fun e => h22 (Int32.toInt_inj.1 e)
  have t23 : w.toInt ≠ 23 := fun e => h23 (Int32.toInt_inj.1 e)
  have t24 : w.toInt ≠ 24 := fun e => h24 (Int32.toInt_inj.1 e)
  have t25 : w.toInt ≠ 25 := fun e => h25 (Int32.toInt_inj.1 e)
  have t26 : w.toInt ≠ 26 := fun e => h26 (Int32.toInt_inj.1 e)
  have t27 : w.toInt ≠ 27 := fun e => h27 (Int32.toInt_inj.1 e)
  have t28 : w.toInt ≠ 28 := fun e => h28 (Int32.toInt_inj.1 e)
  omega
theorem zsl_at {i : Nat} (h : i < L9) (hL : L9 < 2 ^ 31) : zsl L9 xs9 (nI i) = some (xs9 i) := by
  unfold zsl
  rw [if_neg (nI_in h hL), nI_clamp (by omega)]
theorem run_lt {i : Nat} (hL : L9 ≤ 384) (hi : i ≤ 400) : (Int32.ofNat L9) - 6 < nI i ↔ L9 < i + 6 := by
  show nI L9 - nI 6 < nI i ↔ _
  by_cases h : 6 ≤ L9
  · obtain ⟨m, rfl⟩ : ∃ m, L9 = m + 6 := ⟨L9 - 6, by omega⟩
    rw [show nI (m + 6) - nI 6 = nI m by rw [← nI_add, Int32.add_sub_cancel], nI_ltI (by omega) (by omega)]
    omega
  · refine ⟨fun _ => by omega, fun _ => ?_⟩
    have h0 : nI L9 - nI 6 < 0 := by
      have : L9 = 0 ∨ L9 = 1 ∨ L9 = 2 ∨ L9 = 3 ∨ L9 = 4 ∨ L9 = 5 := by omega
      rcases this with rfl | rfl | rfl | rfl | rfl | rfl <;> decide
    exact Int32.lt_of_lt_of_le h0 (nI_pos' (by omega))
theorem run_from (hL : L9 ≤ 384) : ∀ m k i c σ, k < m → i + k = 64 → c + 200 * k ≤ 20000 → J9 k c σ xa o ot → ∃ σ', zlp1 (f_L_law_23_b L9 xs9 (some xa) (some o) (some ot)) m (nI (6 * i)) σ = some (1, σ') := by
  intro m
  induction m with
  | zero => intro k i c σ h; omega
  | succ m ih =>
    intro k i c σ hk hi hc HJ
    rw [zlp1_s]
    by_cases hlt : (Int32.ofNat L9) - 6 < nI (6 * i)
    · refine ⟨σ, ?_⟩
      unfold f_L_law_23_b
      rw [if_pos hlt]
    · have h6 : ¬ L9 < 6 * i + 6 := fun z => hlt ((run_lt hL (by omega)).2 z)
      obtain ⟨k, rfl⟩ : ∃ k', k = k' + 1 := ⟨k - 1, by omega⟩
      have rd : ∀ j, j < 6 → zsl L9 xs9 (nI (6 * i) + nI j) = some (xs9 (6 * i + j)) := fun j hj => by
        rw [nI_add]
        exact zsl_at (by omega) (by omega)
      obtain ⟨σ3, J, e⟩ := LW_all (rec23 := zlp1 (f_L_law_23_b L9 xs9 (some xa) (some o) (some ot)) m) HJ (by omega) hlt (zsl_at (i := 6 * i) (by omega) (by omega)) (rd 1 (by omega)) (rd 2 (by omega)) (rd 3 (by omega)) (rd 4 (by omega)) (rd 5 (by omega))
      rw [e]
      have h7 : nI (6 * i) + 6 = nI (6 * (i + 1)) := (nI_add (6 * i) 6).trans (congrArg nI (by omega))
      rw [h7]
      exact ih k (i + 1) (c + 200) σ3 (by omega) (by omega) (by omega) J
theorem run_all (hL : L9 ≤ 384) (HJ : J9 64 0 σ xa o ot) : ∃ σ', f_L_law_23 L9 xs9 (some xa) (some o) (some ot) 0 σ = some (1, σ') := by
  unfold f_L_law_23
  exact run_from hL NN 64 0 0 σ (by decide) rfl (by omega) HJ
end ZC7
/-! the start: component, model and out array, cell by cell -/
def hzL (σ : zS) (l : List zOb) (k : Nat) : zS := (fun q => if q < zn σ then σ.1 q else l[q - zn σ]?, zsv σ, zbs σ, zn σ + l.length, zc σ - l.length, zz σ - k)
section ZC8
variable {σ : zS} {l : List zOb} {k i ci j n d : Nat} {fs : List Value} {β : Type} {R : Option β}
theorem hz_at : (hzL σ l k).1 (zn σ + i) = l[i]? := by
  show (if zn σ + i < zn σ then _ else l[zn σ + i - zn σ]?) = _
  rw [if_neg (by omega), Nat.add_sub_cancel_left]
theorem hz_new {o : zOb} (h1 : l.length + 1 ≤ zc σ) (h2 : k + n ≤ zz σ) : znew (hzL σ l k) o n = some (zn σ + l.length, hzL σ (l ++ [o]) (k + n)) := by
  unfold znew
  have hh : 1 ≤ zc (hzL σ l k) ∧ n ≤ zz (hzL σ l k) := ⟨by show 1 ≤ zc σ - l.length; omega, by show n ≤ zz σ - k; omega⟩
  rw [if_pos hh]
  refine congrArg some (Prod.ext rfl (Prod.ext (funext fun q => ?_) (Prod.ext rfl (Prod.ext rfl (Prod.ext ?_ (Prod.ext ?_ ?_))))))
  · show (if q = zn σ + l.length then some o else if q < zn σ then σ.1 q else l[q - zn σ]?) = if q < zn σ then σ.1 q else (l ++ [o])[q - zn σ]?
    by_cases a : q = zn σ + l.length
    · rw [if_pos a, if_neg (by omega), a, Nat.add_sub_cancel_left, List.getElem?_append_right (Nat.le_refl _), Nat.sub_self]
      rfl
    · rw [if_neg a]
      by_cases b : q < zn σ
      · rw [if_pos b, if_pos b]
      · rw [if_neg b, if_neg b]
        by_cases e : q - zn σ < l.length
        · rw [List.getElem?_append_left e]
        · rw [List.getElem?_eq_none (by omega), List.getElem?_eq_none (by rw [List.length_append]; show l.length + 1 ≤ _; omega)]
  · show zn σ + l.length + 1 = zn σ + (l ++ [o]).length
    rw [List.length_append]; rfl
  · show zc σ - l.length - 1 = zc σ - (l ++ [o]).length
    rw [List.length_append]; show _ = zc σ - (l.length + 1); omega
  · show zz σ - k - n = zz σ - (k + n)
    omega
theorem hz_set {o : zOb} (h : i < l.length) : zset (hzL σ l k) (zn σ + i) o = hzL σ (l.set i o) k := by
  refine Prod.ext (funext fun q => ?_) (Prod.ext rfl (Prod.ext rfl (Prod.ext ?_ (Prod.ext ?_ rfl))))
  · show (if q = zn σ + i then some o else if q < zn σ then σ.1 q else l[q - zn σ]?) = if q < zn σ then σ.1 q else (l.set i o)[q - zn σ]?
    by_cases a : q = zn σ + i
    · rw [if_pos a, if_neg (by omega), a, Nat.add_sub_cancel_left, List.getElem?_set_self h]
    · rw [if_neg a]
      by_cases b : q < zn σ
      · rw [if_pos b, if_pos b]
      · rw [if_neg b, if_neg b, List.getElem?_set_ne (by omega)]
  · show zn σ + l.length = zn σ + (l.set i o).length
    rw [List.length_set]
  · show zc σ - l.length = zc σ - (l.set i o).length
    rw [List.length_set]
theorem st_nO {K : Nat → zS → Option β} (h1 : l.length + 1 ≤ zc σ) (h2 : k + fs.length ≤ zz σ) (h : K (zn σ + l.length) (hzL σ (l ++ [.inr (ci, fs)]) (k + fs.length)) = R) : zb2 (znewO (hzL σ l k) ci fs) K = R := by
  unfold znewO
  rw [zb2_eq (hz_new h1 h2)]
  exact h
theorem st_nI {K : Nat → zS → Option β} (hn : n ≤ 65536) (h1 : l.length + 1 ≤ zc σ) (h2 : k + n ≤ zz σ) (h : K (zn σ + l.length) (hzL σ (l ++ [.inl (0, n, .inl (fun _ => 0))]) (k + n)) = R) : zb2 (znewI (hzL σ l k) (nI n)) K = R := by
  unfold znewI
  rw [nI_clamp (by omega), if_neg (fun w => w.elim (nI_pos (by omega)) (by omega)), zb2_eq (hz_new h1 h2)]
  exact h
theorem st_nB {K : Nat → zS → Option β} (hn : n ≤ 65536) (h1 : l.length + 1 ≤ zc σ) (h2 : k + n ≤ zz σ) (h : K (zn σ + l.length) (hzL σ (l ++ [.inl (1, n, .inl (fun _ => 0))]) (k + n)) = R) : zb2 (znewB (hzL σ l k) (nI n)) K = R := by
  unfold znewB
  rw [nI_clamp (by omega), if_neg (fun w => w.elim (nI_pos (by omega)) (by omega)), zb2_eq (hz_new h1 h2)]
  exact h
theorem st_nJ {K : Nat → zS → Option β} (hn : n ≤ 65536) (h1 : l.length + 1 ≤ zc σ) (h2 : k + n ≤ zz σ) (h : K (zn σ + l.length) (hzL σ (l ++ [.inl (2, n, .inr (.inl (fun _ => 0)))]) (k + n)) = R) : zb2 (znewJ (hzL σ l k) (nI n)) K = R := by
  unfold znewJ
  rw [nI_clamp (by omega), if_neg (fun w => w.elim (nI_pos (by omega)) (by omega)), zb2_eq (hz_new h1 h2)]
  exact h
theorem st_len {o : zOb} (h : l[i]? = some o) : i < l.length := by
  by_cases a : i < l.length
  · exact a
  · rw [List.getElem?_eq_none (by omega)] at h
    cases h
theorem st_pR {r : Option Nat} {K : zS → Option β} (hb : zbs σ ≤ zn σ) (h1 : l[i]? = some (.inr (ci, fs))) (h2 : j < fs.length) (h : K (hzL σ (l.set i (.inr (ci, fs.set j (va_rf r)))) k) = R) : (pR (hzL σ l k) (zn σ + i) ci j r).bind K = R := by
  have e : pR (hzL σ l k) (zn σ + i) ci j r = _ := pF_of (hz_at.trans h1) h2 (Nat.le_trans hb (Nat.le_add_right _ _))
  rw [ybind_eq e, hz_set (st_len h1)]
  exact h
theorem st_pI {r : Int32} {K : zS → Option β} (hb : zbs σ ≤ zn σ) (h1 : l[i]? = some (.inr (ci, fs))) (h2 : j < fs.length) (h : K (hzL σ (l.set i (.inr (ci, fs.set j (.int r)))) k) = R) : (pI (hzL σ l k) (zn σ + i) ci j r).bind K = R := by
  have e : pI (hzL σ l k) (zn σ + i) ci j r = _ := pI_of (hz_at.trans h1) h2 (Nat.le_trans hb (Nat.le_add_right _ _))
  rw [ybind_eq e, hz_set (st_len h1)]
  exact h
theorem st_gR {q : Option Nat} {K : Option Nat → Option β} (h1 : l[i]? = some (.inr (ci, fs))) (h2 : fs[j]? = some (va_rf q)) (h9 : ci % 100 = ci) (h : K q = R) : (gR (hzL σ l k) (zn σ + i) ci j).bind K = R := by
  rw [ybind_eq (gR_of (hz_at.trans h1) h2 h9)]
  exact h
theorem st_sI {m : Nat} {f : Nat → Int32} {x : Int32} {K : zS → Option β} (hb : zbs σ ≤ zn σ) (h1 : l[i]? = some (.inl (0, n, .inl f))) (h2 : m < n) (h3 : n < 2 ^ 31) (h : K (hzL σ (l.set i (.inl (0, n, .inl (upd f m x)))) k) = R) : (sI (hzL σ l k) (zn σ + i) (nI m) x).bind K = R := by
  rw [ybind_eq (sI_of (hz_at.trans h1) h2 h3 (Nat.le_trans hb (Nat.le_add_right _ _))), hz_set (st_len h1)]
  exact h
theorem sx_nI {l' : List zOb} {K : Nat → zS → Option β} (hn : n ≤ 65536) (h1 : l.length + 1 ≤ zc σ) (h2 : k + n ≤ zz σ) (hi : l.length = i) (hl : l ++ [.inl (0, n, .inl (fun _ => 0))] = l') (h : K (zn σ + i) (hzL σ l' (k + n)) = R) : zb2 (znewI (hzL σ l k) (nI n)) K = R := by
  subst hi hl
  exact st_nI hn h1 h2 h
theorem sx_pR {l' : List zOb} {r : Option Nat} {K : zS → Option β} (hb : zbs σ ≤ zn σ) (h1 : l[i]? = some (.inr (ci, fs))) (h2 : j < fs.length) (hl : l.set i (.inr (ci, fs.set j (va_rf r))) = l') (h : K (hzL σ l' k) = R) : (pR (hzL σ l k) (zn σ + i) ci j r).bind K = R := by
  subst hl
  exact st_pR hb h1 h2 h
theorem sx_pI {l' : List zOb} {r : Int32} {K : zS → Option β} (hb : zbs σ ≤ zn σ) (h1 : l[i]? = some (.inr (ci, fs))) (h2 : j < fs.length) (hl : l.set i (.inr (ci, fs.set j (.int r))) = l') (h : K (hzL σ l' k) = R) : (pI (hzL σ l k) (zn σ + i) ci j r).bind K = R := by
  subst hl
  exact st_pI hb h1 h2 h
theorem sx_sI {l' : List zOb} {m : Nat} {f : Nat → Int32} {x : Int32} {K : zS → Option β} (hb : zbs σ ≤ zn σ) (h1 : l[i]? = some (.inl (0, n, .inl f))) (h2 : m < n) (h3 : n < 2 ^ 31) (hl : l.set i (.inl (0, n, .inl (upd f m x))) = l') (h : K (hzL σ l' k) = R) : (sI (hzL σ l k) (zn σ + i) (nI m) x).bind K = R := by
  subst hl
  exact st_sI hb h1 h2 h3 h
theorem st_f {f : zS → Option (Unit × zS)} {τ : zS} {K : Unit → zS → Option β} {s : zS} (h : f s = some ((), τ)) (h2 : K () τ = R) : zb2 (f s) K = R := by
  rw [zb2_eq h]
  exact h2
theorem ini_L8 (hb : zbs σ ≤ zn σ) (hd : zk σ 1 = some d) (hc : 30 ≤ zc σ) (hz : 30000 ≤ zz σ) : f_J2_init (zn σ + 3) (hzL σ [.inr (0, [.null, .null, .null, .null, .null, .null, .int 0]), .inr (1, [.int 0, .int 0, .int (100), .int 0, .int 0, .int (1), .int 0, .ref (zn σ + 2), .null, .null, .null, .null, .null]), .inl (0, 8, .inl (fun _ => 0)), .inr (19, [.int 0, .null, .int 0])] 31) = some ((), hzL σ [.inr (0, [.null, .null, .null, .null, .null, .null, .int 0]), .inr (1, [.int 0, .int 0, .int (100), .int 0, .int 0, .int (1), .int 0, .ref (zn σ + 2), .null, .null, .null, .null, .null]), .inl (0, 8, .inl (fun _ => 0)), .inr (19, [.int 0, .ref d, .int 0])] 31) := by
  have hd' : ∀ l k, zk (hzL σ l k) 1 = some d := fun _ _ => hd
  unfold f_J2_init f_J1_init f_J0_init
  refine st_f (f := fun s => (zb2 (some ((), s)) fun _ σ2 => (pI σ2 (zn σ + 3) 19 0 0).bind fun σ3 => some ((), σ3))) (τ := hzL σ [.inr (0, [.null, .null, .null, .null, .null, .null, .int 0]), .inr (1, [.int 0, .int 0, .int (100), .int 0, .int 0, .int (1), .int 0, .ref (zn σ + 2), .null, .null, .null, .null, .null]), .inl (0, 8, .inl (fun _ => 0)), .inr (19, [.int 0, .null, .int 0])] 31) (st_pI (i := 3) hb rfl (Nat.le_of_ble_eq_true rfl) rfl) ?_
  rw [hd', zl_at]
  exact st_pR (i := 3) hb rfl (Nat.le_of_ble_eq_true rfl) rfl
theorem ini_L9 (hb : zbs σ ≤ zn σ) (hd : zk σ 1 = some d) (hc : 30 ≤ zc σ) (hz : 30000 ≤ zz σ) : f_J2_init (zn σ + 4) (hzL σ [.inr (0, [.null, .null, .null, .null, .null, .null, .int 0]), .inr (1, [.int 0, .int 0, .int (100), .int 0, .int 0, .int (1), .int 0, .ref (zn σ + 2), .ref (zn σ + 3), .null, .null, .null, .null]), .inl (0, 8, .inl (fun _ => 0)), .inr (19, [.int 0, .ref d, .int 0]), .inr (19, [.int 0, .null, .int 0])] 34) = some ((), hzL σ [.inr (0, [.null, .null, .null, .null, .null, .null, .int 0]), .inr (1, [.int 0, .int 0, .int (100), .int 0, .int 0, .int (1), .int 0, .ref (zn σ + 2), .ref (zn σ + 3), .null, .null, .null, .null]), .inl (0, 8, .inl (fun _ => 0)), .inr (19, [.int 0, .ref d, .int 0]), .inr (19, [.int 0, .ref d, .int 0])] 34) := by
  have hd' : ∀ l k, zk (hzL σ l k) 1 = some d := fun _ _ => hd
  unfold f_J2_init f_J1_init f_J0_init
  refine st_f (f := fun s => (zb2 (some ((), s)) fun _ σ2 => (pI σ2 (zn σ + 4) 19 0 0).bind fun σ3 => some ((), σ3))) (τ := hzL σ [.inr (0, [.null, .null, .null, .null, .null, .null, .int 0]), .inr (1, [.int 0, .int 0, .int (100), .int 0, .int 0, .int (1), .int 0, .ref (zn σ + 2), .ref (zn σ + 3), .null, .null, .null, .null]), .inl (0, 8, .inl (fun _ => 0)), .inr (19, [.int 0, .ref d, .int 0]), .inr (19, [.int 0, .null, .int 0])] 34) (st_pI (i := 4) hb rfl (Nat.le_of_ble_eq_true rfl) rfl) ?_
  rw [hd', zl_at]
  exact st_pR (i := 4) hb rfl (Nat.le_of_ble_eq_true rfl) rfl
theorem ini_L10 (hb : zbs σ ≤ zn σ) (hd : zk σ 1 = some d) (hc : 30 ≤ zc σ) (hz : 30000 ≤ zz σ) : f_J2_init (zn σ + 5) (hzL σ [.inr (0, [.null, .null, .null, .null, .null, .null, .int 0]), .inr (1, [.int 0, .int 0, .int (100), .int 0, .int 0, .int (1), .int 0, .ref (zn σ + 2), .ref (zn σ + 3), .ref (zn σ + 4), .null, .null, .null]), .inl (0, 8, .inl (fun _ => 0)), .inr (19, [.int 0, .ref d, .int 0]), .inr (19, [.int 0, .ref d, .int 0]), .inr (19, [.int 0, .null, .int 0])] 37) = some ((), hzL σ [.inr (0, [.null, .null, .null, .null, .null, .null, .int 0]), .inr (1, [.int 0, .int 0, .int (100), .int 0, .int 0, .int (1), .int 0, .ref (zn σ + 2), .ref (zn σ + 3), .ref (zn σ + 4), .null, .null, .null]), .inl (0, 8, .inl (fun _ => 0)), .inr (19, [.int 0, .ref d, .int 0]), .inr (19, [.int 0, .ref d, .int 0]), .inr (19, [.int 0, .ref d, .int 0])] 37) := by
  have hd' : ∀ l k, zk (hzL σ l k) 1 = some d := fun _ _ => hd
  unfold f_J2_init f_J1_init f_J0_init
  refine st_f (f := fun s => (zb2 (some ((), s)) fun _ σ2 => (pI σ2 (zn σ + 5) 19 0 0).bind fun σ3 => some ((), σ3))) (τ := hzL σ [.inr (0, [.null, .null, .null, .null, .null, .null, .int 0]), .inr (1, [.int 0, .int 0, .int (100), .int 0, .int 0, .int (1), .int 0, .ref (zn σ + 2), .ref (zn σ + 3), .ref (zn σ + 4), .null, .null, .null]), .inl (0, 8, .inl (fun _ => 0)), .inr (19, [.int 0, .ref d, .int 0]), .inr (19, [.int 0, .ref d, .int 0]), .inr (19, [.int 0, .null, .int 0])] 37) (st_pI (i := 5) hb rfl (Nat.le_of_ble_eq_true rfl) rfl) ?_
  rw [hd', zl_at]
  exact st_pR (i := 5) hb rfl (Nat.le_of_ble_eq_true rfl) rfl
theorem ini_L11 (hb : zbs σ ≤ zn σ) (hd : zk σ 1 = some d) (hc : 30 ≤ zc σ) (hz : 30000 ≤ zz σ) : f_J2_init (zn σ + 6) (hzL σ [.inr (0, [.null, .null, .null, .null, .null, .null, .int 0]), .inr (1, [.int 0, .int 0, .int (100), .int 0, .int 0, .int (1), .int 0, .ref (zn σ + 2), .ref (zn σ + 3), .ref (zn σ + 4), .ref (zn σ + 5), .null, .null]), .inl (0, 8, .inl (fun _ => 0)), .inr (19, [.int 0, .ref d, .int 0]), .inr (19, [.int 0, .ref d, .int 0]), .inr (19, [.int 0, .ref d, .int 0]), .inr (19, [.int 0, .null, .int 0])] 40) = some ((), hzL σ [.inr (0, [.null, .null, .null, .null, .null, .null, .int 0]), .inr (1, [.int 0, .int 0, .int (100), .int 0, .int 0, .int (1), .int 0, .ref (zn σ + 2), .ref (zn σ + 3), .ref (zn σ + 4), .ref (zn σ + 5), .null, .null]), .inl (0, 8, .inl (fun _ => 0)), .inr (19, [.int 0, .ref d, .int 0]), .inr (19, [.int 0, .ref d, .int 0]), .inr (19, [.int 0, .ref d, .int 0]), .inr (19, [.int 0, .ref d, .int 0])] 40) := by
  have hd' : ∀ l k, zk (hzL σ l k) 1 = some d := fun _ _ => hd
  unfold f_J2_init f_J1_init f_J0_init
  refine st_f (f := fun s => (zb2 (some ((), s)) fun _ σ2 => (pI σ2 (zn σ + 6) 19 0 0).bind fun σ3 => some ((), σ3))) (τ := hzL σ [.inr (0, [.null, .null, .null, .null, .null, .null, .int 0]), .inr (1, [.int 0, .int 0, .int (100), .int 0, .int 0, .int (1), .int 0, .ref (zn σ + 2), .ref (zn σ + 3), .ref (zn σ + 4), .ref (zn σ + 5), .null, .null]), .inl (0, 8, .inl (fun _ => 0)), .inr (19, [.int 0, .ref d, .int 0]), .inr (19, [.int 0, .ref d, .int 0]), .inr (19, [.int 0, .ref d, .int 0]), .inr (19, [.int 0, .null, .int 0])] 40) (st_pI (i := 6) hb rfl (Nat.le_of_ble_eq_true rfl) rfl) ?_
  rw [hd', zl_at]
  exact st_pR (i := 6) hb rfl (Nat.le_of_ble_eq_true rfl) rfl
theorem ini_X2 (hb : zbs σ ≤ zn σ) (hd : zk σ 1 = some d) (hc : 30 ≤ zc σ) (hz : 30000 ≤ zz σ) : f_X2_init (zn σ + 1) (hzL σ [.inr (0, [.null, .null, .null, .null, .null, .null, .int 0]), .inr (1, [.int 0, .int 0, .int 0, .int 0, .int 0, .int 0, .int 0, .null, .null, .null, .null, .null, .null])] 20) = some ((), hzL σ [.inr (0, [.null, .null, .null, .null, .null, .null, .int 0]), .inr (1, [.int 0, .int 0, .int (100), .int 0, .int 0, .int (1), .int 0, .ref (zn σ + 2), .ref (zn σ + 3), .ref (zn σ + 4), .ref (zn σ + 5), .ref (zn σ + 6), .null]), .inl (0, 8, .inl (fun _ => 0)), .inr (19, [.int 0, .ref d, .int 0]), .inr (19, [.int 0, .ref d, .int 0]), .inr (19, [.int 0, .ref d, .int 0]), .inr (19, [.int 0, .ref d, .int 0])] 40) := by
  unfold f_X2_init
  refine st_pI (i := 1) hb rfl (Nat.le_of_ble_eq_true rfl) ?_
  refine st_pI (i := 1) hb rfl (Nat.le_of_ble_eq_true rfl) ?_
  refine st_nI (n := 8) (Nat.le_of_ble_eq_true rfl) (Nat.le_trans (Nat.le_of_ble_eq_true rfl) hc) (Nat.le_trans (Nat.le_of_ble_eq_true rfl) hz) ?_
  refine st_pR (i := 1) hb rfl (Nat.le_of_ble_eq_true rfl) ?_
  refine st_nO (Nat.le_trans (Nat.le_of_ble_eq_true rfl) hc) (Nat.le_trans (Nat.le_of_ble_eq_true rfl) hz) ?_
  refine st_f (ini_L8 hb hd hc hz) ?_
  refine st_pR (i := 1) hb rfl (Nat.le_of_ble_eq_true rfl) ?_
  refine st_nO (Nat.le_trans (Nat.le_of_ble_eq_true rfl) hc) (Nat.le_trans (Nat.le_of_ble_eq_true rfl) hz) ?_
  refine st_f (ini_L9 hb hd hc hz) ?_
  refine st_pR (i := 1) hb rfl (Nat.le_of_ble_eq_true rfl) ?_
  refine st_nO (Nat.le_trans (Nat.le_of_ble_eq_true rfl) hc) (Nat.le_trans (Nat.le_of_ble_eq_true rfl) hz) ?_
  refine st_f (ini_L10 hb hd hc hz) ?_
  refine st_pR (i := 1) hb rfl (Nat.le_of_ble_eq_true rfl) ?_
  refine st_nO (Nat.le_trans (Nat.le_of_ble_eq_true rfl) hc) (Nat.le_trans (Nat.le_of_ble_eq_true rfl) hz) ?_
  refine st_f (ini_L11 hb hd hc hz) ?_
  refine st_pR (i := 1) hb rfl (Nat.le_of_ble_eq_true rfl) ?_
  rfl
theorem ini_X3 (hb : zbs σ ≤ zn σ) (hd : zk σ 1 = some d) (hc : 30 ≤ zc σ) (hz : 30000 ≤ zz σ) : f_X3_init (zn σ + 7) (hzL σ [.inr (0, [.ref (zn σ + 1), .null, .null, .null, .null, .null, .int 0]), .inr (1, [.int 0, .int 0, .int (100), .int 0, .int 0, .int (1), .int 0, .ref (zn σ + 2), .ref (zn σ + 3), .ref (zn σ + 4), .ref (zn σ + 5), .ref (zn σ + 6), .null]), .inl (0, 8, .inl (fun _ => 0)), .inr (19, [.int 0, .ref d, .int 0]), .inr (19, [.int 0, .ref d, .int 0]), .inr (19, [.int 0, .ref d, .int 0]), .inr (19, [.int 0, .ref d, .int 0]), .inr (2, [.null, .int 0, .int 0, .int 0, .int 0, .int 0, .int 0])] 47) = some ((), hzL σ [.inr (0, [.ref (zn σ + 1), .null, .null, .null, .null, .null, .int 0]), .inr (1, [.int 0, .int 0, .int (100), .int 0, .int 0, .int (1), .int 0, .ref (zn σ + 2), .ref (zn σ + 3), .ref (zn σ + 4), .ref (zn σ + 5), .ref (zn σ + 6), .null]), .inl (0, 8, .inl (fun _ => 0)), .inr (19, [.int 0, .ref d, .int 0]), .inr (19, [.int 0, .ref d, .int 0]), .inr (19, [.int 0, .ref d, .int 0]), .inr (19, [.int 0, .ref d, .int 0]), .inr (2, [.ref (zn σ + 8), .int 0, .int 0, .int 0, .int 0, .int (-1), .int 0]), .inl (1, 400, .inl (fun _ => 0))] 447) := by
  unfold f_X3_init
  refine st_nB (n := 400) (Nat.le_of_ble_eq_true rfl) (Nat.le_trans (Nat.le_of_ble_eq_true rfl) hc) (Nat.le_trans (Nat.le_of_ble_eq_true rfl) hz) ?_
  refine st_pR (i := 7) hb rfl (Nat.le_of_ble_eq_true rfl) ?_
  refine st_pI (i := 7) hb rfl (Nat.le_of_ble_eq_true rfl) ?_
  rfl
theorem ini_X4 (hb : zbs σ ≤ zn σ) (hd : zk σ 1 = some d) (hc : 30 ≤ zc σ) (hz : 30000 ≤ zz σ) : f_X4_init (zn σ + 9) (hzL σ [.inr (0, [.ref (zn σ + 1), .null, .ref (zn σ + 7), .null, .null, .null, .int 0]), .inr (1, [.int 0, .int 0, .int (100), .int 0, .int 0, .int (1), .int 0, .ref (zn σ + 2), .ref (zn σ + 3), .ref (zn σ + 4), .ref (zn σ + 5), .ref (zn σ + 6), .null]), .inl (0, 8, .inl (fun _ => 0)), .inr (19, [.int 0, .ref d, .int 0]), .inr (19, [.int 0, .ref d, .int 0]), .inr (19, [.int 0, .ref d, .int 0]), .inr (19, [.int 0, .ref d, .int 0]), .inr (2, [.ref (zn σ + 8), .int 0, .int 0, .int 0, .int 0, .int (-1), .int 0]), .inl (1, 400, .inl (fun _ => 0)), .inr (3, [.int 0, .int 0, .int 0, .int 0, .int 0, .int 0, .int 0])] 454) = some ((), hzL σ [.inr (0, [.ref (zn σ + 1), .null, .ref (zn σ + 7), .null, .null, .null, .int 0]), .inr (1, [.int 0, .int 0, .int (100), .int 0, .int 0, .int (1), .int 0, .ref (zn σ + 2), .ref (zn σ + 3), .ref (zn σ + 4), .ref (zn σ + 5), .ref (zn σ + 6), .null]), .inl (0, 8, .inl (fun _ => 0)), .inr (19, [.int 0, .ref d, .int 0]), .inr (19, [.int 0, .ref d, .int 0]), .inr (19, [.int 0, .ref d, .int 0]), .inr (19, [.int 0, .ref d, .int 0]), .inr (2, [.ref (zn σ + 8), .int 0, .int 0, .int 0, .int 0, .int (-1), .int 0]), .inl (1, 400, .inl (fun _ => 0)), .inr (3, [.int 0, .int 0, .int 0, .int 0, .int 0, .int 0, .int 0])] 454) := by
  unfold f_X4_init
  rfl
theorem ini_X5 (hb : zbs σ ≤ zn σ) (hd : zk σ 1 = some d) (hc : 30 ≤ zc σ) (hz : 30000 ≤ zz σ) : f_X5_init (zn σ + 10) (some (zn σ)) (hzL σ [.inr (0, [.ref (zn σ + 1), .null, .ref (zn σ + 7), .ref (zn σ + 9), .null, .null, .int 0]), .inr (1, [.int 0, .int 0, .int (100), .int 0, .int 0, .int (1), .int 0, .ref (zn σ + 2), .ref (zn σ + 3), .ref (zn σ + 4), .ref (zn σ + 5), .ref (zn σ + 6), .null]), .inl (0, 8, .inl (fun _ => 0)), .inr (19, [.int 0, .ref d, .int 0]), .inr (19, [.int 0, .ref d, .int 0]), .inr (19, [.int 0, .ref d, .int 0]), .inr (19, [.int 0, .ref d, .int 0]), .inr (2, [.ref (zn σ + 8), .int 0, .int 0, .int 0, .int 0, .int (-1), .int 0]), .inl (1, 400, .inl (fun _ => 0)), .inr (3, [.int 0, .int 0, .int 0, .int 0, .int 0, .int 0, .int 0]), .inr (4, [.null, .null, .null, .null, .int 0, .int 0, .int 0, .int 0, .null])] 463) = some ((), hzL σ [.inr (0, [.ref (zn σ + 1), .null, .ref (zn σ + 7), .ref (zn σ + 9), .null, .null, .int 0]), .inr (1, [.int 0, .int 0, .int (100), .int 0, .int 0, .int (1), .int 0, .ref (zn σ + 2), .ref (zn σ + 3), .ref (zn σ + 4), .ref (zn σ + 5), .ref (zn σ + 6), .null]), .inl (0, 8, .inl (fun _ => 0)), .inr (19, [.int 0, .ref d, .int 0]), .inr (19, [.int 0, .ref d, .int 0]), .inr (19, [.int 0, .ref d, .int 0]), .inr (19, [.int 0, .ref d, .int 0]), .inr (2, [.ref (zn σ + 8), .int 0, .int 0, .int 0, .int 0, .int (-1), .int 0]), .inl (1, 400, .inl (fun _ => 0)), .inr (3, [.int 0, .int 0, .int 0, .int 0, .int 0, .int 0, .int 0]), .inr (4, [.ref (zn σ + 11), .ref (zn σ + 12), .ref (zn σ + 13), .ref (zn σ + 14), .int 0, .int 0, .int 0, .int 0, .ref (zn σ)]), .inl (0, 6, .inl (fun _ => 0)), .inl (0, 64, .inl (fun _ => 0)), .inl (0, 4096, .inl (fun _ => 0)), .inl (0, 4096, .inl (fun _ => 0))] 8725) := by
  unfold f_X5_init
  refine st_pR (i := 10) hb rfl (Nat.le_of_ble_eq_true rfl) ?_
  refine st_nI (n := 6) (Nat.le_of_ble_eq_true rfl) (Nat.le_trans (Nat.le_of_ble_eq_true rfl) hc) (Nat.le_trans (Nat.le_of_ble_eq_true rfl) hz) ?_
  refine st_pR (i := 10) hb rfl (Nat.le_of_ble_eq_true rfl) ?_
  refine st_nI (n := 64) (Nat.le_of_ble_eq_true rfl) (Nat.le_trans (Nat.le_of_ble_eq_true rfl) hc) (Nat.le_trans (Nat.le_of_ble_eq_true rfl) hz) ?_
  refine st_pR (i := 10) hb rfl (Nat.le_of_ble_eq_true rfl) ?_
  refine st_nI (n := 4096) (Nat.le_of_ble_eq_true rfl) (Nat.le_trans (Nat.le_of_ble_eq_true rfl) hc) (Nat.le_trans (Nat.le_of_ble_eq_true rfl) hz) ?_
  refine st_pR (i := 10) hb rfl (Nat.le_of_ble_eq_true rfl) ?_
  refine st_nI (n := 4096) (Nat.le_of_ble_eq_true rfl) (Nat.le_trans (Nat.le_of_ble_eq_true rfl) hc) (Nat.le_trans (Nat.le_of_ble_eq_true rfl) hz) ?_
  refine st_pR (i := 10) hb rfl (Nat.le_of_ble_eq_true rfl) ?_
  rfl
theorem ini_X1 (hb : zbs σ ≤ zn σ) (hd : zk σ 1 = some d) (hc : 30 ≤ zc σ) (hz : 30000 ≤ zz σ) : f_X1_init (zn σ + 0) (hzL σ [.inr (0, [.null, .null, .null, .null, .null, .null, .int 0])] 7) = some ((), hzL σ [.inr (0, [.ref (zn σ + 1), .null, .ref (zn σ + 7), .ref (zn σ + 9), .ref (zn σ + 10), .ref (zn σ + 15), .int 0]), .inr (1, [.int 0, .int 0, .int (100), .int 0, .int 0, .int (1), .int 0, .ref (zn σ + 2), .ref (zn σ + 3), .ref (zn σ + 4), .ref (zn σ + 5), .ref (zn σ + 6), .null]), .inl (0, 8, .inl (fun _ => 0)), .inr (19, [.int 0, .ref d, .int 0]), .inr (19, [.int 0, .ref d, .int 0]), .inr (19, [.int 0, .ref d, .int 0]), .inr (19, [.int 0, .ref d, .int 0]), .inr (2, [.ref (zn σ + 8), .int 0, .int 0, .int 0, .int 0, .int (-1), .int 0]), .inl (1, 400, .inl (fun _ => 0)), .inr (3, [.int 0, .int 0, .int 0, .int 0, .int 0, .int 0, .int 0]), .inr (4, [.ref (zn σ + 11), .ref (zn σ + 12), .ref (zn σ + 13), .ref (zn σ + 14), .int 0, .int 0, .int 0, .int 0, .ref (zn σ)]), .inl (0, 6, .inl (fun _ => 0)), .inl (0, 64, .inl (fun _ => 0)), .inl (0, 4096, .inl (fun _ => 0)), .inl (0, 4096, .inl (fun _ => 0)), .inl (0, 16, .inl (fun _ => 0))] 8741) := by
  unfold f_X1_init
  refine st_nO (Nat.le_trans (Nat.le_of_ble_eq_true rfl) hc) (Nat.le_trans (Nat.le_of_ble_eq_true rfl) hz) ?_
  refine st_f (ini_X2 hb hd hc hz) ?_
  refine st_pR (i := 0) hb rfl (Nat.le_of_ble_eq_true rfl) ?_
  refine st_nO (Nat.le_trans (Nat.le_of_ble_eq_true rfl) hc) (Nat.le_trans (Nat.le_of_ble_eq_true rfl) hz) ?_
  refine st_f (ini_X3 hb hd hc hz) ?_
  refine st_pR (i := 0) hb rfl (Nat.le_of_ble_eq_true rfl) ?_
  refine st_nO (Nat.le_trans (Nat.le_of_ble_eq_true rfl) hc) (Nat.le_trans (Nat.le_of_ble_eq_true rfl) hz) ?_
  refine st_f (ini_X4 hb hd hc hz) ?_
  refine st_pR (i := 0) hb rfl (Nat.le_of_ble_eq_true rfl) ?_
  refine st_nO (Nat.le_trans (Nat.le_of_ble_eq_true rfl) hc) (Nat.le_trans (Nat.le_of_ble_eq_true rfl) hz) ?_
  refine st_f (ini_X5 hb hd hc hz) ?_
  refine st_pR (i := 0) hb rfl (Nat.le_of_ble_eq_true rfl) ?_
  refine st_nI (n := 16) (Nat.le_of_ble_eq_true rfl) (Nat.le_trans (Nat.le_of_ble_eq_true rfl) hc) (Nat.le_trans (Nat.le_of_ble_eq_true rfl) hz) ?_
  refine st_pR (i := 0) hb rfl (Nat.le_of_ble_eq_true rfl) ?_
  rfl
theorem ini_X6 (hb : zbs σ ≤ zn σ) (hd : zk σ 1 = some d) (hc : 30 ≤ zc σ) (hz : 30000 ≤ zz σ) : f_X6_init (zn σ + 16) (hzL σ [.inr (0, [.ref (zn σ + 1), .null, .ref (zn σ + 7), .ref (zn σ + 9), .ref (zn σ + 10), .ref (zn σ + 15), .int 0]), .inr (1, [.int 0, .int 0, .int (100), .int 0, .int 0, .int (1), .int 0, .ref (zn σ + 2), .ref (zn σ + 3), .ref (zn σ + 4), .ref (zn σ + 5), .ref (zn σ + 6), .null]), .inl (0, 8, .inl (fun _ => 0)), .inr (19, [.int 0, .ref d, .int 0]), .inr (19, [.int 0, .ref d, .int 0]), .inr (19, [.int 0, .ref d, .int 0]), .inr (19, [.int 0, .ref d, .int 0]), .inr (2, [.ref (zn σ + 8), .int 0, .int 0, .int 0, .int 0, .int (-1), .int 0]), .inl (1, 400, .inl (fun _ => 0)), .inr (3, [.int 0, .int 0, .int 0, .int 0, .int 0, .int 0, .int 0]), .inr (4, [.ref (zn σ + 11), .ref (zn σ + 12), .ref (zn σ + 13), .ref (zn σ + 14), .int 0, .int 0, .int 0, .int 0, .ref (zn σ)]), .inl (0, 6, .inl (fun _ => 0)), .inl (0, 64, .inl (fun _ => 0)), .inl (0, 4096, .inl (fun _ => 0)), .inl (0, 4096, .inl (fun _ => 0)), .inl (0, 16, .inl (fun _ => 0)), .inr (5, [.int 0, .null, .null, .int 0, .null, .null, .int 0, .int 0, .int 0, .int 0, .int 0, .int 0, .null, .int 0, .int 0, .int 0, .int 0, .null, .int 0, .null, .null, .null, .int 0, .int 0, .int 0])] 8766) = some ((), hzL σ [.inr (0, [.ref (zn σ + 1), .null, .ref (zn σ + 7), .ref (zn σ + 9), .ref (zn σ + 10), .ref (zn σ + 15), .int 0]), .inr (1, [.int 0, .int 0, .int (100), .int 0, .int 0, .int (1), .int 0, .ref (zn σ + 2), .ref (zn σ + 3), .ref (zn σ + 4), .ref (zn σ + 5), .ref (zn σ + 6), .null]), .inl (0, 8, .inl (fun _ => 0)), .inr (19, [.int 0, .ref d, .int 0]), .inr (19, [.int 0, .ref d, .int 0]), .inr (19, [.int 0, .ref d, .int 0]), .inr (19, [.int 0, .ref d, .int 0]), .inr (2, [.ref (zn σ + 8), .int 0, .int 0, .int 0, .int 0, .int (-1), .int 0]), .inl (1, 400, .inl (fun _ => 0)), .inr (3, [.int 0, .int 0, .int 0, .int 0, .int 0, .int 0, .int 0]), .inr (4, [.ref (zn σ + 11), .ref (zn σ + 12), .ref (zn σ + 13), .ref (zn σ + 14), .int 0, .int 0, .int 0, .int 0, .ref (zn σ)]), .inl (0, 6, .inl (fun _ => 0)), .inl (0, 64, .inl (fun _ => 0)), .inl (0, 4096, .inl (fun _ => 0)), .inl (0, 4096, .inl (fun _ => 0)), .inl (0, 16, .inl (fun _ => 0)), .inr (5, [.int 0, .ref (zn σ + 17), .ref (zn σ + 18), .int 0, .ref (zn σ + 19), .ref (zn σ + 20), .int 0, .int 0, .int 0, .int 0, .int (-1), .int 0, .ref (zn σ + 21), .int 0, .int 0, .int 0, .int 0, .ref (zn σ + 22), .int 0, .ref (zn σ + 23), .ref (zn σ + 24), .ref (zn σ + 25), .int 0, .int 0, .int 0]), .inl (0, 942, .inl (upd (upd (upd (fun _ => 0) 6 (100)) 9 (1)) 10 (-1))), .inl (0, 942, .inl (fun _ => 0)), .inl (0, 542, .inl (fun _ => 0)), .inl (0, 400, .inl (fun _ => 0)), .inl (0, 4, .inl (fun _ => 0)), .inl (0, 6, .inl (fun _ => 0)), .inl (0, 4096, .inl (fun _ => 0)), .inl (0, 4096, .inl (fun _ => 0)), .inl (0, 60, .inl (fun _ => 0))] 19854) := by
  unfold f_X6_init
  refine sx_nI (n := 942) (i := 17) (l' := [.inr (0, [.ref (zn σ + 1), .null, .ref (zn σ + 7), .ref (zn σ + 9), .ref (zn σ + 10), .ref (zn σ + 15), .int 0]), .inr (1, [.int 0, .int 0, .int (100), .int 0, .int 0, .int (1), .int 0, .ref (zn σ + 2), .ref (zn σ + 3), .ref (zn σ + 4), .ref (zn σ + 5), .ref (zn σ + 6), .null]), .inl (0, 8, .inl (fun _ => 0)), .inr (19, [.int 0, .ref d, .int 0]), .inr (19, [.int 0, .ref d, .int 0]), .inr (19, [.int 0, .ref d, .int 0]), .inr (19, [.int 0, .ref d, .int 0]), .inr (2, [.ref (zn σ + 8), .int 0, .int 0, .int 0, .int 0, .int (-1), .int 0]), .inl (1, 400, .inl (fun _ => 0)), .inr (3, [.int 0, .int 0, .int 0, .int 0, .int 0, .int 0, .int 0]), .inr (4, [.ref (zn σ + 11), .ref (zn σ + 12), .ref (zn σ + 13), .ref (zn σ + 14), .int 0, .int 0, .int 0, .int 0, .ref (zn σ)]), .inl (0, 6, .inl (fun _ => 0)), .inl (0, 64, .inl (fun _ => 0)), .inl (0, 4096, .inl (fun _ => 0)), .inl (0, 4096, .inl (fun _ => 0)), .inl (0, 16, .inl (fun _ => 0)), .inr (5, [.int 0, .null, .null, .int 0, .null, .null, .int 0, .int 0, .int 0, .int 0, .int 0, .int 0, .null, .int 0, .int 0, .int 0, .int 0, .null, .int 0, .null, .null, .null, .int 0, .int 0, .int 0]), .inl (0, 942, .inl (fun _ => 0))]) (Nat.le_of_ble_eq_true rfl) (Nat.le_trans (Nat.le_of_ble_eq_true rfl) hc) (Nat.le_trans (Nat.le_of_ble_eq_true rfl) hz) rfl rfl ?_
  refine sx_pR (i := 16) (l' := [.inr (0, [.ref (zn σ + 1), .null, .ref (zn σ + 7), .ref (zn σ + 9), .ref (zn σ + 10), .ref (zn σ + 15), .int 0]), .inr (1, [.int 0, .int 0, .int (100), .int 0, .int 0, .int (1), .int 0, .ref (zn σ + 2), .ref (zn σ + 3), .ref (zn σ + 4), .ref (zn σ + 5), .ref (zn σ + 6), .null]), .inl (0, 8, .inl (fun _ => 0)), .inr (19, [.int 0, .ref d, .int 0]), .inr (19, [.int 0, .ref d, .int 0]), .inr (19, [.int 0, .ref d, .int 0]), .inr (19, [.int 0, .ref d, .int 0]), .inr (2, [.ref (zn σ + 8), .int 0, .int 0, .int 0, .int 0, .int (-1), .int 0]), .inl (1, 400, .inl (fun _ => 0)), .inr (3, [.int 0, .int 0, .int 0, .int 0, .int 0, .int 0, .int 0]), .inr (4, [.ref (zn σ + 11), .ref (zn σ + 12), .ref (zn σ + 13), .ref (zn σ + 14), .int 0, .int 0, .int 0, .int 0, .ref (zn σ)]), .inl (0, 6, .inl (fun _ => 0)), .inl (0, 64, .inl (fun _ => 0)), .inl (0, 4096, .inl (fun _ => 0)), .inl (0, 4096, .inl (fun _ => 0)), .inl (0, 16, .inl (fun _ => 0)), .inr (5, [.int 0, .ref (zn σ + 17), .null, .int 0, .null, .null, .int 0, .int 0, .int 0, .int 0, .int 0, .int 0, .null, .int 0, .int 0, .int 0, .int 0, .null, .int 0, .null, .null, .null, .int 0, .int 0, .int 0]), .inl (0, 942, .inl (fun _ => 0))]) hb rfl (Nat.le_of_ble_eq_true rfl) rfl ?_
  refine sx_nI (n := 942) (i := 18) (l' := [.inr (0, [.ref (zn σ + 1), .null, .ref (zn σ + 7), .ref (zn σ + 9), .ref (zn σ + 10), .ref (zn σ + 15), .int 0]), .inr (1, [.int 0, .int 0, .int (100), .int 0, .int 0, .int (1), .int 0, .ref (zn σ + 2), .ref (zn σ + 3), .ref (zn σ + 4), .ref (zn σ + 5), .ref (zn σ + 6), .null]), .inl (0, 8, .inl (fun _ => 0)), .inr (19, [.int 0, .ref d, .int 0]), .inr (19, [.int 0, .ref d, .int 0]), .inr (19, [.int 0, .ref d, .int 0]), .inr (19, [.int 0, .ref d, .int 0]), .inr (2, [.ref (zn σ + 8), .int 0, .int 0, .int 0, .int 0, .int (-1), .int 0]), .inl (1, 400, .inl (fun _ => 0)), .inr (3, [.int 0, .int 0, .int 0, .int 0, .int 0, .int 0, .int 0]), .inr (4, [.ref (zn σ + 11), .ref (zn σ + 12), .ref (zn σ + 13), .ref (zn σ + 14), .int 0, .int 0, .int 0, .int 0, .ref (zn σ)]), .inl (0, 6, .inl (fun _ => 0)), .inl (0, 64, .inl (fun _ => 0)), .inl (0, 4096, .inl (fun _ => 0)), .inl (0, 4096, .inl (fun _ => 0)), .inl (0, 16, .inl (fun _ => 0)), .inr (5, [.int 0, .ref (zn σ + 17), .null, .int 0, .null, .null, .int 0, .int 0, .int 0, .int 0, .int 0, .int 0, .null, .int 0, .int 0, .int 0, .int 0, .null, .int 0, .null, .null, .null, .int 0, .int 0, .int 0]), .inl (0, 942, .inl (fun _ => 0)), .inl (0, 942, .inl (fun _ => 0))]) (Nat.le_of_ble_eq_true rfl) (Nat.le_trans (Nat.le_of_ble_eq_true rfl) hc) (Nat.le_trans (Nat.le_of_ble_eq_true rfl) hz) rfl rfl ?_
  refine sx_pR (i := 16) (l' := [.inr (0, [.ref (zn σ + 1), .null, .ref (zn σ + 7), .ref (zn σ + 9), .ref (zn σ + 10), .ref (zn σ + 15), .int 0]), .inr (1, [.int 0, .int 0, .int (100), .int 0, .int 0, .int (1), .int 0, .ref (zn σ + 2), .ref (zn σ + 3), .ref (zn σ + 4), .ref (zn σ + 5), .ref (zn σ + 6), .null]), .inl (0, 8, .inl (fun _ => 0)), .inr (19, [.int 0, .ref d, .int 0]), .inr (19, [.int 0, .ref d, .int 0]), .inr (19, [.int 0, .ref d, .int 0]), .inr (19, [.int 0, .ref d, .int 0]), .inr (2, [.ref (zn σ + 8), .int 0, .int 0, .int 0, .int 0, .int (-1), .int 0]), .inl (1, 400, .inl (fun _ => 0)), .inr (3, [.int 0, .int 0, .int 0, .int 0, .int 0, .int 0, .int 0]), .inr (4, [.ref (zn σ + 11), .ref (zn σ + 12), .ref (zn σ + 13), .ref (zn σ + 14), .int 0, .int 0, .int 0, .int 0, .ref (zn σ)]), .inl (0, 6, .inl (fun _ => 0)), .inl (0, 64, .inl (fun _ => 0)), .inl (0, 4096, .inl (fun _ => 0)), .inl (0, 4096, .inl (fun _ => 0)), .inl (0, 16, .inl (fun _ => 0)), .inr (5, [.int 0, .ref (zn σ + 17), .ref (zn σ + 18), .int 0, .null, .null, .int 0, .int 0, .int 0, .int 0, .int 0, .int 0, .null, .int 0, .int 0, .int 0, .int 0, .null, .int 0, .null, .null, .null, .int 0, .int 0, .int 0]), .inl (0, 942, .inl (fun _ => 0)), .inl (0, 942, .inl (fun _ => 0))]) hb rfl (Nat.le_of_ble_eq_true rfl) rfl ?_
  refine sx_nI (n := 542) (i := 19) (l' := [.inr (0, [.ref (zn σ + 1), .null, .ref (zn σ + 7), .ref (zn σ + 9), .ref (zn σ + 10), .ref (zn σ + 15), .int 0]), .inr (1, [.int 0, .int 0, .int (100), .int 0, .int 0, .int (1), .int 0, .ref (zn σ + 2), .ref (zn σ + 3), .ref (zn σ + 4), .ref (zn σ + 5), .ref (zn σ + 6), .null]), .inl (0, 8, .inl (fun _ => 0)), .inr (19, [.int 0, .ref d, .int 0]), .inr (19, [.int 0, .ref d, .int 0]), .inr (19, [.int 0, .ref d, .int 0]), .inr (19, [.int 0, .ref d, .int 0]), .inr (2, [.ref (zn σ + 8), .int 0, .int 0, .int 0, .int 0, .int (-1), .int 0]), .inl (1, 400, .inl (fun _ => 0)), .inr (3, [.int 0, .int 0, .int 0, .int 0, .int 0, .int 0, .int 0]), .inr (4, [.ref (zn σ + 11), .ref (zn σ + 12), .ref (zn σ + 13), .ref (zn σ + 14), .int 0, .int 0, .int 0, .int 0, .ref (zn σ)]), .inl (0, 6, .inl (fun _ => 0)), .inl (0, 64, .inl (fun _ => 0)), .inl (0, 4096, .inl (fun _ => 0)), .inl (0, 4096, .inl (fun _ => 0)), .inl (0, 16, .inl (fun _ => 0)), .inr (5, [.int 0, .ref (zn σ + 17), .ref (zn σ + 18), .int 0, .null, .null, .int 0, .int 0, .int 0, .int 0, .int 0, .int 0, .null, .int 0, .int 0, .int 0, .int 0, .null, .int 0, .null, .null, .null, .int 0, .int 0, .int 0]), .inl (0, 942, .inl (fun _ => 0)), .inl (0, 942, .inl (fun _ => 0)), .inl (0, 542, .inl (fun _ => 0))]) (Nat.le_of_ble_eq_true rfl) (Nat.le_trans (Nat.le_of_ble_eq_true rfl) hc) (Nat.le_trans (Nat.le_of_ble_eq_true rfl) hz) rfl rfl ?_
  refine sx_pR (i := 16) (l' := [.inr (0, [.ref (zn σ + 1), .null, .ref (zn σ + 7), .ref (zn σ + 9), .ref (zn σ + 10), .ref (zn σ + 15), .int 0]), .inr (1, [.int 0, .int 0, .int (100), .int 0, .int 0, .int (1), .int 0, .ref (zn σ + 2), .ref (zn σ + 3), .ref (zn σ + 4), .ref (zn σ + 5), .ref (zn σ + 6), .null]), .inl (0, 8, .inl (fun _ => 0)), .inr (19, [.int 0, .ref d, .int 0]), .inr (19, [.int 0, .ref d, .int 0]), .inr (19, [.int 0, .ref d, .int 0]), .inr (19, [.int 0, .ref d, .int 0]), .inr (2, [.ref (zn σ + 8), .int 0, .int 0, .int 0, .int 0, .int (-1), .int 0]), .inl (1, 400, .inl (fun _ => 0)), .inr (3, [.int 0, .int 0, .int 0, .int 0, .int 0, .int 0, .int 0]), .inr (4, [.ref (zn σ + 11), .ref (zn σ + 12), .ref (zn σ + 13), .ref (zn σ + 14), .int 0, .int 0, .int 0, .int 0, .ref (zn σ)]), .inl (0, 6, .inl (fun _ => 0)), .inl (0, 64, .inl (fun _ => 0)), .inl (0, 4096, .inl (fun _ => 0)), .inl (0, 4096, .inl (fun _ => 0)), .inl (0, 16, .inl (fun _ => 0)), .inr (5, [.int 0, .ref (zn σ + 17), .ref (zn σ + 18), .int 0, .ref (zn σ + 19), .null, .int 0, .int 0, .int 0, .int 0, .int 0, .int 0, .null, .int 0, .int 0, .int 0, .int 0, .null, .int 0, .null, .null, .null, .int 0, .int 0, .int 0]), .inl (0, 942, .inl (fun _ => 0)), .inl (0, 942, .inl (fun _ => 0)), .inl (0, 542, .inl (fun _ => 0))]) hb rfl (Nat.le_of_ble_eq_true rfl) rfl ?_
  refine sx_nI (n := 400) (i := 20) (l' := [.inr (0, [.ref (zn σ + 1), .null, .ref (zn σ + 7), .ref (zn σ + 9), .ref (zn σ + 10), .ref (zn σ + 15), .int 0]), .inr (1, [.int 0, .int 0, .int (100), .int 0, .int 0, .int (1), .int 0, .ref (zn σ + 2), .ref (zn σ + 3), .ref (zn σ + 4), .ref (zn σ + 5), .ref (zn σ + 6), .null]), .inl (0, 8, .inl (fun _ => 0)), .inr (19, [.int 0, .ref d, .int 0]), .inr (19, [.int 0, .ref d, .int 0]), .inr (19, [.int 0, .ref d, .int 0]), .inr (19, [.int 0, .ref d, .int 0]), .inr (2, [.ref (zn σ + 8), .int 0, .int 0, .int 0, .int 0, .int (-1), .int 0]), .inl (1, 400, .inl (fun _ => 0)), .inr (3, [.int 0, .int 0, .int 0, .int 0, .int 0, .int 0, .int 0]), .inr (4, [.ref (zn σ + 11), .ref (zn σ + 12), .ref (zn σ + 13), .ref (zn σ + 14), .int 0, .int 0, .int 0, .int 0, .ref (zn σ)]), .inl (0, 6, .inl (fun _ => 0)), .inl (0, 64, .inl (fun _ => 0)), .inl (0, 4096, .inl (fun _ => 0)), .inl (0, 4096, .inl (fun _ => 0)), .inl (0, 16, .inl (fun _ => 0)), .inr (5, [.int 0, .ref (zn σ + 17), .ref (zn σ + 18), .int 0, .ref (zn σ + 19), .null, .int 0, .int 0, .int 0, .int 0, .int 0, .int 0, .null, .int 0, .int 0, .int 0, .int 0, .null, .int 0, .null, .null, .null, .int 0, .int 0, .int 0]), .inl (0, 942, .inl (fun _ => 0)), .inl (0, 942, .inl (fun _ => 0)), .inl (0, 542, .inl (fun _ => 0)), .inl (0, 400, .inl (fun _ => 0))]) (Nat.le_of_ble_eq_true rfl) (Nat.le_trans (Nat.le_of_ble_eq_true rfl) hc) (Nat.le_trans (Nat.le_of_ble_eq_true rfl) hz) rfl rfl ?_
  refine sx_pR (i := 16) (l' := [.inr (0, [.ref (zn σ + 1), .null, .ref (zn σ + 7), .ref (zn σ + 9), .ref (zn σ + 10), .ref (zn σ + 15), .int 0]), .inr (1, [.int 0, .int 0, .int (100), .int 0, .int 0, .int (1), .int 0, .ref (zn σ + 2), .ref (zn σ + 3), .ref (zn σ + 4), .ref (zn σ + 5), .ref (zn σ + 6), .null]), .inl (0, 8, .inl (fun _ => 0)), .inr (19, [.int 0, .ref d, .int 0]), .inr (19, [.int 0, .ref d, .int 0]), .inr (19, [.int 0, .ref d, .int 0]), .inr (19, [.int 0, .ref d, .int 0]), .inr (2, [.ref (zn σ + 8), .int 0, .int 0, .int 0, .int 0, .int (-1), .int 0]), .inl (1, 400, .inl (fun _ => 0)), .inr (3, [.int 0, .int 0, .int 0, .int 0, .int 0, .int 0, .int 0]), .inr (4, [.ref (zn σ + 11), .ref (zn σ + 12), .ref (zn σ + 13), .ref (zn σ + 14), .int 0, .int 0, .int 0, .int 0, .ref (zn σ)]), .inl (0, 6, .inl (fun _ => 0)), .inl (0, 64, .inl (fun _ => 0)), .inl (0, 4096, .inl (fun _ => 0)), .inl (0, 4096, .inl (fun _ => 0)), .inl (0, 16, .inl (fun _ => 0)), .inr (5, [.int 0, .ref (zn σ + 17), .ref (zn σ + 18), .int 0, .ref (zn σ + 19), .ref (zn σ + 20), .int 0, .int 0, .int 0, .int 0, .int 0, .int 0, .null, .int 0, .int 0, .int 0, .int 0, .null, .int 0, .null, .null, .null, .int 0, .int 0, .int 0]), .inl (0, 942, .inl (fun _ => 0)), .inl (0, 942, .inl (fun _ => 0)), .inl (0, 542, .inl (fun _ => 0)), .inl (0, 400, .inl (fun _ => 0))]) hb rfl (Nat.le_of_ble_eq_true rfl) rfl ?_
  refine sx_pI (i := 16) (l' := [.inr (0, [.ref (zn σ + 1), .null, .ref (zn σ + 7), .ref (zn σ + 9), .ref (zn σ + 10), .ref (zn σ + 15), .int 0]), .inr (1, [.int 0, .int 0, .int (100), .int 0, .int 0, .int (1), .int 0, .ref (zn σ + 2), .ref (zn σ + 3), .ref (zn σ + 4), .ref (zn σ + 5), .ref (zn σ + 6), .null]), .inl (0, 8, .inl (fun _ => 0)), .inr (19, [.int 0, .ref d, .int 0]), .inr (19, [.int 0, .ref d, .int 0]), .inr (19, [.int 0, .ref d, .int 0]), .inr (19, [.int 0, .ref d, .int 0]), .inr (2, [.ref (zn σ + 8), .int 0, .int 0, .int 0, .int 0, .int (-1), .int 0]), .inl (1, 400, .inl (fun _ => 0)), .inr (3, [.int 0, .int 0, .int 0, .int 0, .int 0, .int 0, .int 0]), .inr (4, [.ref (zn σ + 11), .ref (zn σ + 12), .ref (zn σ + 13), .ref (zn σ + 14), .int 0, .int 0, .int 0, .int 0, .ref (zn σ)]), .inl (0, 6, .inl (fun _ => 0)), .inl (0, 64, .inl (fun _ => 0)), .inl (0, 4096, .inl (fun _ => 0)), .inl (0, 4096, .inl (fun _ => 0)), .inl (0, 16, .inl (fun _ => 0)), .inr (5, [.int 0, .ref (zn σ + 17), .ref (zn σ + 18), .int 0, .ref (zn σ + 19), .ref (zn σ + 20), .int 0, .int 0, .int 0, .int 0, .int (-1), .int 0, .null, .int 0, .int 0, .int 0, .int 0, .null, .int 0, .null, .null, .null, .int 0, .int 0, .int 0]), .inl (0, 942, .inl (fun _ => 0)), .inl (0, 942, .inl (fun _ => 0)), .inl (0, 542, .inl (fun _ => 0)), .inl (0, 400, .inl (fun _ => 0))]) hb rfl (Nat.le_of_ble_eq_true rfl) rfl ?_
  refine sx_nI (n := 4) (i := 21) (l' := [.inr (0, [.ref (zn σ + 1), .null, .ref (zn σ + 7), .ref (zn σ + 9), .ref (zn σ + 10), .ref (zn σ + 15), .int 0]), .inr (1, [.int 0, .int 0, .int (100), .int 0, .int 0, .int (1), .int 0, .ref (zn σ + 2), .ref (zn σ + 3), .ref (zn σ + 4), .ref (zn σ + 5), .ref (zn σ + 6), .null]), .inl (0, 8, .inl (fun _ => 0)), .inr (19, [.int 0, .ref d, .int 0]), .inr (19, [.int 0, .ref d, .int 0]), .inr (19, [.int 0, .ref d, .int 0]), .inr (19, [.int 0, .ref d, .int 0]), .inr (2, [.ref (zn σ + 8), .int 0, .int 0, .int 0, .int 0, .int (-1), .int 0]), .inl (1, 400, .inl (fun _ => 0)), .inr (3, [.int 0, .int 0, .int 0, .int 0, .int 0, .int 0, .int 0]), .inr (4, [.ref (zn σ + 11), .ref (zn σ + 12), .ref (zn σ + 13), .ref (zn σ + 14), .int 0, .int 0, .int 0, .int 0, .ref (zn σ)]), .inl (0, 6, .inl (fun _ => 0)), .inl (0, 64, .inl (fun _ => 0)), .inl (0, 4096, .inl (fun _ => 0)), .inl (0, 4096, .inl (fun _ => 0)), .inl (0, 16, .inl (fun _ => 0)), .inr (5, [.int 0, .ref (zn σ + 17), .ref (zn σ + 18), .int 0, .ref (zn σ + 19), .ref (zn σ + 20), .int 0, .int 0, .int 0, .int 0, .int (-1), .int 0, .null, .int 0, .int 0, .int 0, .int 0, .null, .int 0, .null, .null, .null, .int 0, .int 0, .int 0]), .inl (0, 942, .inl (fun _ => 0)), .inl (0, 942, .inl (fun _ => 0)), .inl (0, 542, .inl (fun _ => 0)), .inl (0, 400, .inl (fun _ => 0)), .inl (0, 4, .inl (fun _ => 0))]) (Nat.le_of_ble_eq_true rfl) (Nat.le_trans (Nat.le_of_ble_eq_true rfl) hc) (Nat.le_trans (Nat.le_of_ble_eq_true rfl) hz) rfl rfl ?_
  refine sx_pR (i := 16) (l' := [.inr (0, [.ref (zn σ + 1), .null, .ref (zn σ + 7), .ref (zn σ + 9), .ref (zn σ + 10), .ref (zn σ + 15), .int 0]), .inr (1, [.int 0, .int 0, .int (100), .int 0, .int 0, .int (1), .int 0, .ref (zn σ + 2), .ref (zn σ + 3), .ref (zn σ + 4), .ref (zn σ + 5), .ref (zn σ + 6), .null]), .inl (0, 8, .inl (fun _ => 0)), .inr (19, [.int 0, .ref d, .int 0]), .inr (19, [.int 0, .ref d, .int 0]), .inr (19, [.int 0, .ref d, .int 0]), .inr (19, [.int 0, .ref d, .int 0]), .inr (2, [.ref (zn σ + 8), .int 0, .int 0, .int 0, .int 0, .int (-1), .int 0]), .inl (1, 400, .inl (fun _ => 0)), .inr (3, [.int 0, .int 0, .int 0, .int 0, .int 0, .int 0, .int 0]), .inr (4, [.ref (zn σ + 11), .ref (zn σ + 12), .ref (zn σ + 13), .ref (zn σ + 14), .int 0, .int 0, .int 0, .int 0, .ref (zn σ)]), .inl (0, 6, .inl (fun _ => 0)), .inl (0, 64, .inl (fun _ => 0)), .inl (0, 4096, .inl (fun _ => 0)), .inl (0, 4096, .inl (fun _ => 0)), .inl (0, 16, .inl (fun _ => 0)), .inr (5, [.int 0, .ref (zn σ + 17), .ref (zn σ + 18), .int 0, .ref (zn σ + 19), .ref (zn σ + 20), .int 0, .int 0, .int 0, .int 0, .int (-1), .int 0, .ref (zn σ + 21), .int 0, .int 0, .int 0, .int 0, .null, .int 0, .null, .null, .null, .int 0, .int 0, .int 0]), .inl (0, 942, .inl (fun _ => 0)), .inl (0, 942, .inl (fun _ => 0)), .inl (0, 542, .inl (fun _ => 0)), .inl (0, 400, .inl (fun _ => 0)), .inl (0, 4, .inl (fun _ => 0))]) hb rfl (Nat.le_of_ble_eq_true rfl) rfl ?_
  refine sx_nI (n := 6) (i := 22) (l' := [.inr (0, [.ref (zn σ + 1), .null, .ref (zn σ + 7), .ref (zn σ + 9), .ref (zn σ + 10), .ref (zn σ + 15), .int 0]), .inr (1, [.int 0, .int 0, .int (100), .int 0, .int 0, .int (1), .int 0, .ref (zn σ + 2), .ref (zn σ + 3), .ref (zn σ + 4), .ref (zn σ + 5), .ref (zn σ + 6), .null]), .inl (0, 8, .inl (fun _ => 0)), .inr (19, [.int 0, .ref d, .int 0]), .inr (19, [.int 0, .ref d, .int 0]), .inr (19, [.int 0, .ref d, .int 0]), .inr (19, [.int 0, .ref d, .int 0]), .inr (2, [.ref (zn σ + 8), .int 0, .int 0, .int 0, .int 0, .int (-1), .int 0]), .inl (1, 400, .inl (fun _ => 0)), .inr (3, [.int 0, .int 0, .int 0, .int 0, .int 0, .int 0, .int 0]), .inr (4, [.ref (zn σ + 11), .ref (zn σ + 12), .ref (zn σ + 13), .ref (zn σ + 14), .int 0, .int 0, .int 0, .int 0, .ref (zn σ)]), .inl (0, 6, .inl (fun _ => 0)), .inl (0, 64, .inl (fun _ => 0)), .inl (0, 4096, .inl (fun _ => 0)), .inl (0, 4096, .inl (fun _ => 0)), .inl (0, 16, .inl (fun _ => 0)), .inr (5, [.int 0, .ref (zn σ + 17), .ref (zn σ + 18), .int 0, .ref (zn σ + 19), .ref (zn σ + 20), .int 0, .int 0, .int 0, .int 0, .int (-1), .int 0, .ref (zn σ + 21), .int 0, .int 0, .int 0, .int 0, .null, .int 0, .null, .null, .null, .int 0, .int 0, .int 0]), .inl (0, 942, .inl (fun _ => 0)), .inl (0, 942, .inl (fun _ => 0)), .inl (0, 542, .inl (fun _ => 0)), .inl (0, 400, .inl (fun _ => 0)), .inl (0, 4, .inl (fun _ => 0)), .inl (0, 6, .inl (fun _ => 0))]) (Nat.le_of_ble_eq_true rfl) (Nat.le_trans (Nat.le_of_ble_eq_true rfl) hc) (Nat.le_trans (Nat.le_of_ble_eq_true rfl) hz) rfl rfl ?_
  refine sx_pR (i := 16) (l' := [.inr (0, [.ref (zn σ + 1), .null, .ref (zn σ + 7), .ref (zn σ + 9), .ref (zn σ + 10), .ref (zn σ + 15), .int 0]), .inr (1, [.int 0, .int 0, .int (100), .int 0, .int 0, .int (1), .int 0, .ref (zn σ + 2), .ref (zn σ + 3), .ref (zn σ + 4), .ref (zn σ + 5), .ref (zn σ + 6), .null]), .inl (0, 8, .inl (fun _ => 0)), .inr (19, [.int 0, .ref d, .int 0]), .inr (19, [.int 0, .ref d, .int 0]), .inr (19, [.int 0, .ref d, .int 0]), .inr (19, [.int 0, .ref d, .int 0]), .inr (2, [.ref (zn σ + 8), .int 0, .int 0, .int 0, .int 0, .int (-1), .int 0]), .inl (1, 400, .inl (fun _ => 0)), .inr (3, [.int 0, .int 0, .int 0, .int 0, .int 0, .int 0, .int 0]), .inr (4, [.ref (zn σ + 11), .ref (zn σ + 12), .ref (zn σ + 13), .ref (zn σ + 14), .int 0, .int 0, .int 0, .int 0, .ref (zn σ)]), .inl (0, 6, .inl (fun _ => 0)), .inl (0, 64, .inl (fun _ => 0)), .inl (0, 4096, .inl (fun _ => 0)), .inl (0, 4096, .inl (fun _ => 0)), .inl (0, 16, .inl (fun _ => 0)), .inr (5, [.int 0, .ref (zn σ + 17), .ref (zn σ + 18), .int 0, .ref (zn σ + 19), .ref (zn σ + 20), .int 0, .int 0, .int 0, .int 0, .int (-1), .int 0, .ref (zn σ + 21), .int 0, .int 0, .int 0, .int 0, .ref (zn σ + 22), .int 0, .null, .null, .null, .int 0, .int 0, .int 0]), .inl (0, 942, .inl (fun _ => 0)), .inl (0, 942, .inl (fun _ => 0)), .inl (0, 542, .inl (fun _ => 0)), .inl (0, 400, .inl (fun _ => 0)), .inl (0, 4, .inl (fun _ => 0)), .inl (0, 6, .inl (fun _ => 0))]) hb rfl (Nat.le_of_ble_eq_true rfl) rfl ?_
  refine sx_nI (n := 4096) (i := 23) (l' := [.inr (0, [.ref (zn σ + 1), .null, .ref (zn σ + 7), .ref (zn σ + 9), .ref (zn σ + 10), .ref (zn σ + 15), .int 0]), .inr (1, [.int 0, .int 0, .int (100), .int 0, .int 0, .int (1), .int 0, .ref (zn σ + 2), .ref (zn σ + 3), .ref (zn σ + 4), .ref (zn σ + 5), .ref (zn σ + 6), .null]), .inl (0, 8, .inl (fun _ => 0)), .inr (19, [.int 0, .ref d, .int 0]), .inr (19, [.int 0, .ref d, .int 0]), .inr (19, [.int 0, .ref d, .int 0]), .inr (19, [.int 0, .ref d, .int 0]), .inr (2, [.ref (zn σ + 8), .int 0, .int 0, .int 0, .int 0, .int (-1), .int 0]), .inl (1, 400, .inl (fun _ => 0)), .inr (3, [.int 0, .int 0, .int 0, .int 0, .int 0, .int 0, .int 0]), .inr (4, [.ref (zn σ + 11), .ref (zn σ + 12), .ref (zn σ + 13), .ref (zn σ + 14), .int 0, .int 0, .int 0, .int 0, .ref (zn σ)]), .inl (0, 6, .inl (fun _ => 0)), .inl (0, 64, .inl (fun _ => 0)), .inl (0, 4096, .inl (fun _ => 0)), .inl (0, 4096, .inl (fun _ => 0)), .inl (0, 16, .inl (fun _ => 0)), .inr (5, [.int 0, .ref (zn σ + 17), .ref (zn σ + 18), .int 0, .ref (zn σ + 19), .ref (zn σ + 20), .int 0, .int 0, .int 0, .int 0, .int (-1), .int 0, .ref (zn σ + 21), .int 0, .int 0, .int 0, .int 0, .ref (zn σ + 22), .int 0, .null, .null, .null, .int 0, .int 0, .int 0]), .inl (0, 942, .inl (fun _ => 0)), .inl (0, 942, .inl (fun _ => 0)), .inl (0, 542, .inl (fun _ => 0)), .inl (0, 400, .inl (fun _ => 0)), .inl (0, 4, .inl (fun _ => 0)), .inl (0, 6, .inl (fun _ => 0)), .inl (0, 4096, .inl (fun _ => 0))]) (Nat.le_of_ble_eq_true rfl) (Nat.le_trans (Nat.le_of_ble_eq_true rfl) hc) (Nat.le_trans (Nat.le_of_ble_eq_true rfl) hz) rfl rfl ?_
  refine sx_pR (i := 16) (l' := [.inr (0, [.ref (zn σ + 1), .null, .ref (zn σ + 7), .ref (zn σ + 9), .ref (zn σ + 10), .ref (zn σ + 15), .int 0]), .inr (1, [.int 0, .int 0, .int (100), .int 0, .int 0, .int (1), .int 0, .ref (zn σ + 2), .ref (zn σ + 3), .ref (zn σ + 4), .ref (zn σ + 5), .ref (zn σ + 6), .null]), .inl (0, 8, .inl (fun _ => 0)), .inr (19, [.int 0, .ref d, .int 0]), .inr (19, [.int 0, .ref d, .int 0]), .inr (19, [.int 0, .ref d, .int 0]), .inr (19, [.int 0, .ref d, .int 0]), .inr (2, [.ref (zn σ + 8), .int 0, .int 0, .int 0, .int 0, .int (-1), .int 0]), .inl (1, 400, .inl (fun _ => 0)), .inr (3, [.int 0, .int 0, .int 0, .int 0, .int 0, .int 0, .int 0]), .inr (4, [.ref (zn σ + 11), .ref (zn σ + 12), .ref (zn σ + 13), .ref (zn σ + 14), .int 0, .int 0, .int 0, .int 0, .ref (zn σ)]), .inl (0, 6, .inl (fun _ => 0)), .inl (0, 64, .inl (fun _ => 0)), .inl (0, 4096, .inl (fun _ => 0)), .inl (0, 4096, .inl (fun _ => 0)), .inl (0, 16, .inl (fun _ => 0)), .inr (5, [.int 0, .ref (zn σ + 17), .ref (zn σ + 18), .int 0, .ref (zn σ + 19), .ref (zn σ + 20), .int 0, .int 0, .int 0, .int 0, .int (-1), .int 0, .ref (zn σ + 21), .int 0, .int 0, .int 0, .int 0, .ref (zn σ + 22), .int 0, .ref (zn σ + 23), .null, .null, .int 0, .int 0, .int 0]), .inl (0, 942, .inl (fun _ => 0)), .inl (0, 942, .inl (fun _ => 0)), .inl (0, 542, .inl (fun _ => 0)), .inl (0, 400, .inl (fun _ => 0)), .inl (0, 4, .inl (fun _ => 0)), .inl (0, 6, .inl (fun _ => 0)), .inl (0, 4096, .inl (fun _ => 0))]) hb rfl (Nat.le_of_ble_eq_true rfl) rfl ?_
  refine sx_nI (n := 4096) (i := 24) (l' := [.inr (0, [.ref (zn σ + 1), .null, .ref (zn σ + 7), .ref (zn σ + 9), .ref (zn σ + 10), .ref (zn σ + 15), .int 0]), .inr (1, [.int 0, .int 0, .int (100), .int 0, .int 0, .int (1), .int 0, .ref (zn σ + 2), .ref (zn σ + 3), .ref (zn σ + 4), .ref (zn σ + 5), .ref (zn σ + 6), .null]), .inl (0, 8, .inl (fun _ => 0)), .inr (19, [.int 0, .ref d, .int 0]), .inr (19, [.int 0, .ref d, .int 0]), .inr (19, [.int 0, .ref d, .int 0]), .inr (19, [.int 0, .ref d, .int 0]), .inr (2, [.ref (zn σ + 8), .int 0, .int 0, .int 0, .int 0, .int (-1), .int 0]), .inl (1, 400, .inl (fun _ => 0)), .inr (3, [.int 0, .int 0, .int 0, .int 0, .int 0, .int 0, .int 0]), .inr (4, [.ref (zn σ + 11), .ref (zn σ + 12), .ref (zn σ + 13), .ref (zn σ + 14), .int 0, .int 0, .int 0, .int 0, .ref (zn σ)]), .inl (0, 6, .inl (fun _ => 0)), .inl (0, 64, .inl (fun _ => 0)), .inl (0, 4096, .inl (fun _ => 0)), .inl (0, 4096, .inl (fun _ => 0)), .inl (0, 16, .inl (fun _ => 0)), .inr (5, [.int 0, .ref (zn σ + 17), .ref (zn σ + 18), .int 0, .ref (zn σ + 19), .ref (zn σ + 20), .int 0, .int 0, .int 0, .int 0, .int (-1), .int 0, .ref (zn σ + 21), .int 0, .int 0, .int 0, .int 0, .ref (zn σ + 22), .int 0, .ref (zn σ + 23), .null, .null, .int 0, .int 0, .int 0]), .inl (0, 942, .inl (fun _ => 0)), .inl (0, 942, .inl (fun _ => 0)), .inl (0, 542, .inl (fun _ => 0)), .inl (0, 400, .inl (fun _ => 0)), .inl (0, 4, .inl (fun _ => 0)), .inl (0, 6, .inl (fun _ => 0)), .inl (0, 4096, .inl (fun _ => 0)), .inl (0, 4096, .inl (fun _ => 0))]) (Nat.le_of_ble_eq_true rfl) (Nat.le_trans (Nat.le_of_ble_eq_true rfl) hc) (Nat.le_trans (Nat.le_of_ble_eq_true rfl) hz) rfl rfl ?_
  refine sx_pR (i := 16) (l' := [.inr (0, [.ref (zn σ + 1), .null, .ref (zn σ + 7), .ref (zn σ + 9), .ref (zn σ + 10), .ref (zn σ + 15), .int 0]), .inr (1, [.int 0, .int 0, .int (100), .int 0, .int 0, .int (1), .int 0, .ref (zn σ + 2), .ref (zn σ + 3), .ref (zn σ + 4), .ref (zn σ + 5), .ref (zn σ + 6), .null]), .inl (0, 8, .inl (fun _ => 0)), .inr (19, [.int 0, .ref d, .int 0]), .inr (19, [.int 0, .ref d, .int 0]), .inr (19, [.int 0, .ref d, .int 0]), .inr (19, [.int 0, .ref d, .int 0]), .inr (2, [.ref (zn σ + 8), .int 0, .int 0, .int 0, .int 0, .int (-1), .int 0]), .inl (1, 400, .inl (fun _ => 0)), .inr (3, [.int 0, .int 0, .int 0, .int 0, .int 0, .int 0, .int 0]), .inr (4, [.ref (zn σ + 11), .ref (zn σ + 12), .ref (zn σ + 13), .ref (zn σ + 14), .int 0, .int 0, .int 0, .int 0, .ref (zn σ)]), .inl (0, 6, .inl (fun _ => 0)), .inl (0, 64, .inl (fun _ => 0)), .inl (0, 4096, .inl (fun _ => 0)), .inl (0, 4096, .inl (fun _ => 0)), .inl (0, 16, .inl (fun _ => 0)), .inr (5, [.int 0, .ref (zn σ + 17), .ref (zn σ + 18), .int 0, .ref (zn σ + 19), .ref (zn σ + 20), .int 0, .int 0, .int 0, .int 0, .int (-1), .int 0, .ref (zn σ + 21), .int 0, .int 0, .int 0, .int 0, .ref (zn σ + 22), .int 0, .ref (zn σ + 23), .ref (zn σ + 24), .null, .int 0, .int 0, .int 0]), .inl (0, 942, .inl (fun _ => 0)), .inl (0, 942, .inl (fun _ => 0)), .inl (0, 542, .inl (fun _ => 0)), .inl (0, 400, .inl (fun _ => 0)), .inl (0, 4, .inl (fun _ => 0)), .inl (0, 6, .inl (fun _ => 0)), .inl (0, 4096, .inl (fun _ => 0)), .inl (0, 4096, .inl (fun _ => 0))]) hb rfl (Nat.le_of_ble_eq_true rfl) rfl ?_
  refine sx_nI (n := 60) (i := 25) (l' := [.inr (0, [.ref (zn σ + 1), .null, .ref (zn σ + 7), .ref (zn σ + 9), .ref (zn σ + 10), .ref (zn σ + 15), .int 0]), .inr (1, [.int 0, .int 0, .int (100), .int 0, .int 0, .int (1), .int 0, .ref (zn σ + 2), .ref (zn σ + 3), .ref (zn σ + 4), .ref (zn σ + 5), .ref (zn σ + 6), .null]), .inl (0, 8, .inl (fun _ => 0)), .inr (19, [.int 0, .ref d, .int 0]), .inr (19, [.int 0, .ref d, .int 0]), .inr (19, [.int 0, .ref d, .int 0]), .inr (19, [.int 0, .ref d, .int 0]), .inr (2, [.ref (zn σ + 8), .int 0, .int 0, .int 0, .int 0, .int (-1), .int 0]), .inl (1, 400, .inl (fun _ => 0)), .inr (3, [.int 0, .int 0, .int 0, .int 0, .int 0, .int 0, .int 0]), .inr (4, [.ref (zn σ + 11), .ref (zn σ + 12), .ref (zn σ + 13), .ref (zn σ + 14), .int 0, .int 0, .int 0, .int 0, .ref (zn σ)]), .inl (0, 6, .inl (fun _ => 0)), .inl (0, 64, .inl (fun _ => 0)), .inl (0, 4096, .inl (fun _ => 0)), .inl (0, 4096, .inl (fun _ => 0)), .inl (0, 16, .inl (fun _ => 0)), .inr (5, [.int 0, .ref (zn σ + 17), .ref (zn σ + 18), .int 0, .ref (zn σ + 19), .ref (zn σ + 20), .int 0, .int 0, .int 0, .int 0, .int (-1), .int 0, .ref (zn σ + 21), .int 0, .int 0, .int 0, .int 0, .ref (zn σ + 22), .int 0, .ref (zn σ + 23), .ref (zn σ + 24), .null, .int 0, .int 0, .int 0]), .inl (0, 942, .inl (fun _ => 0)), .inl (0, 942, .inl (fun _ => 0)), .inl (0, 542, .inl (fun _ => 0)), .inl (0, 400, .inl (fun _ => 0)), .inl (0, 4, .inl (fun _ => 0)), .inl (0, 6, .inl (fun _ => 0)), .inl (0, 4096, .inl (fun _ => 0)), .inl (0, 4096, .inl (fun _ => 0)), .inl (0, 60, .inl (fun _ => 0))]) (Nat.le_of_ble_eq_true rfl) (Nat.le_trans (Nat.le_of_ble_eq_true rfl) hc) (Nat.le_trans (Nat.le_of_ble_eq_true rfl) hz) rfl rfl ?_
  refine sx_pR (i := 16) (l' := [.inr (0, [.ref (zn σ + 1), .null, .ref (zn σ + 7), .ref (zn σ + 9), .ref (zn σ + 10), .ref (zn σ + 15), .int 0]), .inr (1, [.int 0, .int 0, .int (100), .int 0, .int 0, .int (1), .int 0, .ref (zn σ + 2), .ref (zn σ + 3), .ref (zn σ + 4), .ref (zn σ + 5), .ref (zn σ + 6), .null]), .inl (0, 8, .inl (fun _ => 0)), .inr (19, [.int 0, .ref d, .int 0]), .inr (19, [.int 0, .ref d, .int 0]), .inr (19, [.int 0, .ref d, .int 0]), .inr (19, [.int 0, .ref d, .int 0]), .inr (2, [.ref (zn σ + 8), .int 0, .int 0, .int 0, .int 0, .int (-1), .int 0]), .inl (1, 400, .inl (fun _ => 0)), .inr (3, [.int 0, .int 0, .int 0, .int 0, .int 0, .int 0, .int 0]), .inr (4, [.ref (zn σ + 11), .ref (zn σ + 12), .ref (zn σ + 13), .ref (zn σ + 14), .int 0, .int 0, .int 0, .int 0, .ref (zn σ)]), .inl (0, 6, .inl (fun _ => 0)), .inl (0, 64, .inl (fun _ => 0)), .inl (0, 4096, .inl (fun _ => 0)), .inl (0, 4096, .inl (fun _ => 0)), .inl (0, 16, .inl (fun _ => 0)), .inr (5, [.int 0, .ref (zn σ + 17), .ref (zn σ + 18), .int 0, .ref (zn σ + 19), .ref (zn σ + 20), .int 0, .int 0, .int 0, .int 0, .int (-1), .int 0, .ref (zn σ + 21), .int 0, .int 0, .int 0, .int 0, .ref (zn σ + 22), .int 0, .ref (zn σ + 23), .ref (zn σ + 24), .ref (zn σ + 25), .int 0, .int 0, .int 0]), .inl (0, 942, .inl (fun _ => 0)), .inl (0, 942, .inl (fun _ => 0)), .inl (0, 542, .inl (fun _ => 0)), .inl (0, 400, .inl (fun _ => 0)), .inl (0, 4, .inl (fun _ => 0)), .inl (0, 6, .inl (fun _ => 0)), .inl (0, 4096, .inl (fun _ => 0)), .inl (0, 4096, .inl (fun _ => 0)), .inl (0, 60, .inl (fun _ => 0))]) hb rfl (Nat.le_of_ble_eq_true rfl) rfl ?_
  refine st_gR (i := 16) (q := some (zn σ + 17)) rfl rfl rfl ?_
  rw [bd_at]
  refine sx_sI (i := 17) (m := 6) (l' := [.inr (0, [.ref (zn σ + 1), .null, .ref (zn σ + 7), .ref (zn σ + 9), .ref (zn σ + 10), .ref (zn σ + 15), .int 0]), .inr (1, [.int 0, .int 0, .int (100), .int 0, .int 0, .int (1), .int 0, .ref (zn σ + 2), .ref (zn σ + 3), .ref (zn σ + 4), .ref (zn σ + 5), .ref (zn σ + 6), .null]), .inl (0, 8, .inl (fun _ => 0)), .inr (19, [.int 0, .ref d, .int 0]), .inr (19, [.int 0, .ref d, .int 0]), .inr (19, [.int 0, .ref d, .int 0]), .inr (19, [.int 0, .ref d, .int 0]), .inr (2, [.ref (zn σ + 8), .int 0, .int 0, .int 0, .int 0, .int (-1), .int 0]), .inl (1, 400, .inl (fun _ => 0)), .inr (3, [.int 0, .int 0, .int 0, .int 0, .int 0, .int 0, .int 0]), .inr (4, [.ref (zn σ + 11), .ref (zn σ + 12), .ref (zn σ + 13), .ref (zn σ + 14), .int 0, .int 0, .int 0, .int 0, .ref (zn σ)]), .inl (0, 6, .inl (fun _ => 0)), .inl (0, 64, .inl (fun _ => 0)), .inl (0, 4096, .inl (fun _ => 0)), .inl (0, 4096, .inl (fun _ => 0)), .inl (0, 16, .inl (fun _ => 0)), .inr (5, [.int 0, .ref (zn σ + 17), .ref (zn σ + 18), .int 0, .ref (zn σ + 19), .ref (zn σ + 20), .int 0, .int 0, .int 0, .int 0, .int (-1), .int 0, .ref (zn σ + 21), .int 0, .int 0, .int 0, .int 0, .ref (zn σ + 22), .int 0, .ref (zn σ + 23), .ref (zn σ + 24), .ref (zn σ + 25), .int 0, .int 0, .int 0]), .inl (0, 942, .inl (upd (fun _ => 0) 6 (100))), .inl (0, 942, .inl (fun _ => 0)), .inl (0, 542, .inl (fun _ => 0)), .inl (0, 400, .inl (fun _ => 0)), .inl (0, 4, .inl (fun _ => 0)), .inl (0, 6, .inl (fun _ => 0)), .inl (0, 4096, .inl (fun _ => 0)), .inl (0, 4096, .inl (fun _ => 0)), .inl (0, 60, .inl (fun _ => 0))]) hb rfl (Nat.le_of_ble_eq_true rfl) (Nat.le_of_ble_eq_true rfl) rfl ?_
  refine st_gR (i := 16) (q := some (zn σ + 17)) rfl rfl rfl ?_
  rw [bd_at]
  refine sx_sI (i := 17) (m := 9) (l' := [.inr (0, [.ref (zn σ + 1), .null, .ref (zn σ + 7), .ref (zn σ + 9), .ref (zn σ + 10), .ref (zn σ + 15), .int 0]), .inr (1, [.int 0, .int 0, .int (100), .int 0, .int 0, .int (1), .int 0, .ref (zn σ + 2), .ref (zn σ + 3), .ref (zn σ + 4), .ref (zn σ + 5), .ref (zn σ + 6), .null]), .inl (0, 8, .inl (fun _ => 0)), .inr (19, [.int 0, .ref d, .int 0]), .inr (19, [.int 0, .ref d, .int 0]), .inr (19, [.int 0, .ref d, .int 0]), .inr (19, [.int 0, .ref d, .int 0]), .inr (2, [.ref (zn σ + 8), .int 0, .int 0, .int 0, .int 0, .int (-1), .int 0]), .inl (1, 400, .inl (fun _ => 0)), .inr (3, [.int 0, .int 0, .int 0, .int 0, .int 0, .int 0, .int 0]), .inr (4, [.ref (zn σ + 11), .ref (zn σ + 12), .ref (zn σ + 13), .ref (zn σ + 14), .int 0, .int 0, .int 0, .int 0, .ref (zn σ)]), .inl (0, 6, .inl (fun _ => 0)), .inl (0, 64, .inl (fun _ => 0)), .inl (0, 4096, .inl (fun _ => 0)), .inl (0, 4096, .inl (fun _ => 0)), .inl (0, 16, .inl (fun _ => 0)), .inr (5, [.int 0, .ref (zn σ + 17), .ref (zn σ + 18), .int 0, .ref (zn σ + 19), .ref (zn σ + 20), .int 0, .int 0, .int 0, .int 0, .int (-1), .int 0, .ref (zn σ + 21), .int 0, .int 0, .int 0, .int 0, .ref (zn σ + 22), .int 0, .ref (zn σ + 23), .ref (zn σ + 24), .ref (zn σ + 25), .int 0, .int 0, .int 0]), .inl (0, 942, .inl (upd (upd (fun _ => 0) 6 (100)) 9 (1))), .inl (0, 942, .inl (fun _ => 0)), .inl (0, 542, .inl (fun _ => 0)), .inl (0, 400, .inl (fun _ => 0)), .inl (0, 4, .inl (fun _ => 0)), .inl (0, 6, .inl (fun _ => 0)), .inl (0, 4096, .inl (fun _ => 0)), .inl (0, 4096, .inl (fun _ => 0)), .inl (0, 60, .inl (fun _ => 0))]) hb rfl (Nat.le_of_ble_eq_true rfl) (Nat.le_of_ble_eq_true rfl) rfl ?_
  refine st_gR (i := 16) (q := some (zn σ + 17)) rfl rfl rfl ?_
  rw [bd_at]
  refine sx_sI (i := 17) (m := 10) (l' := [.inr (0, [.ref (zn σ + 1), .null, .ref (zn σ + 7), .ref (zn σ + 9), .ref (zn σ + 10), .ref (zn σ + 15), .int 0]), .inr (1, [.int 0, .int 0, .int (100), .int 0, .int 0, .int (1), .int 0, .ref (zn σ + 2), .ref (zn σ + 3), .ref (zn σ + 4), .ref (zn σ + 5), .ref (zn σ + 6), .null]), .inl (0, 8, .inl (fun _ => 0)), .inr (19, [.int 0, .ref d, .int 0]), .inr (19, [.int 0, .ref d, .int 0]), .inr (19, [.int 0, .ref d, .int 0]), .inr (19, [.int 0, .ref d, .int 0]), .inr (2, [.ref (zn σ + 8), .int 0, .int 0, .int 0, .int 0, .int (-1), .int 0]), .inl (1, 400, .inl (fun _ => 0)), .inr (3, [.int 0, .int 0, .int 0, .int 0, .int 0, .int 0, .int 0]), .inr (4, [.ref (zn σ + 11), .ref (zn σ + 12), .ref (zn σ + 13), .ref (zn σ + 14), .int 0, .int 0, .int 0, .int 0, .ref (zn σ)]), .inl (0, 6, .inl (fun _ => 0)), .inl (0, 64, .inl (fun _ => 0)), .inl (0, 4096, .inl (fun _ => 0)), .inl (0, 4096, .inl (fun _ => 0)), .inl (0, 16, .inl (fun _ => 0)), .inr (5, [.int 0, .ref (zn σ + 17), .ref (zn σ + 18), .int 0, .ref (zn σ + 19), .ref (zn σ + 20), .int 0, .int 0, .int 0, .int 0, .int (-1), .int 0, .ref (zn σ + 21), .int 0, .int 0, .int 0, .int 0, .ref (zn σ + 22), .int 0, .ref (zn σ + 23), .ref (zn σ + 24), .ref (zn σ + 25), .int 0, .int 0, .int 0]), .inl (0, 942, .inl (upd (upd (upd (fun _ => 0) 6 (100)) 9 (1)) 10 (-1))), .inl (0, 942, .inl (fun _ => 0)), .inl (0, 542, .inl (fun _ => 0)), .inl (0, 400, .inl (fun _ => 0)), .inl (0, 4, .inl (fun _ => 0)), .inl (0, 6, .inl (fun _ => 0)), .inl (0, 4096, .inl (fun _ => 0)), .inl (0, 4096, .inl (fun _ => 0)), .inl (0, 60, .inl (fun _ => 0))]) hb rfl (Nat.le_of_ble_eq_true rfl) (Nat.le_of_ble_eq_true rfl) rfl ?_
  rfl
def zfin (B d : Nat) : List zOb := [.inr (0, [.ref (B + 1), .null, .ref (B + 7), .ref (B + 9), .ref (B + 10), .ref (B + 15), .int 0]), .inr (1, [.int 0, .int 0, .int (100), .int 0, .int 0, .int (1), .int 0, .ref (B + 2), .ref (B + 3), .ref (B + 4), .ref (B + 5), .ref (B + 6), .null]), .inl (0, 8, .inl (fun _ => 0)), .inr (19, [.int 0, .ref d, .int 0]), .inr (19, [.int 0, .ref d, .int 0]), .inr (19, [.int 0, .ref d, .int 0]), .inr (19, [.int 0, .ref d, .int 0]), .inr (2, [.ref (B + 8), .int 0, .int 0, .int 0, .int 0, .int (-1), .int 0]), .inl (1, 400, .inl (fun _ => 0)), .inr (3, [.int 0, .int 0, .int 0, .int 0, .int 0, .int 0, .int 0]), .inr (4, [.ref (B + 11), .ref (B + 12), .ref (B + 13), .ref (B + 14), .int 0, .int 0, .int 0, .int 0, .ref (B)]), .inl (0, 6, .inl (fun _ => 0)), .inl (0, 64, .inl (fun _ => 0)), .inl (0, 4096, .inl (fun _ => 0)), .inl (0, 4096, .inl (fun _ => 0)), .inl (0, 16, .inl (fun _ => 0)), .inr (5, [.int 0, .ref (B + 17), .ref (B + 18), .int 0, .ref (B + 19), .ref (B + 20), .int 0, .int 0, .int 0, .int 0, .int (-1), .int 0, .ref (B + 21), .int 0, .int 0, .int 0, .int 0, .ref (B + 22), .int 0, .ref (B + 23), .ref (B + 24), .ref (B + 25), .int 0, .int 0, .int 0]), .inl (0, 942, .inl (upd (upd (upd (fun _ => 0) 6 (100)) 9 (1)) 10 (-1))), .inl (0, 942, .inl (fun _ => 0)), .inl (0, 542, .inl (fun _ => 0)), .inl (0, 400, .inl (fun _ => 0)), .inl (0, 4, .inl (fun _ => 0)), .inl (0, 6, .inl (fun _ => 0)), .inl (0, 4096, .inl (fun _ => 0)), .inl (0, 4096, .inl (fun _ => 0)), .inl (0, 60, .inl (fun _ => 0)), .inl (2, 1, .inr (.inl (fun _ => 0)))]
theorem ini_law {L : Nat} {xs : Nat → Int32} (h0 : ∀ q, zn σ ≤ q → σ.1 q = none) (hb : zbs σ ≤ zn σ) (hd : zk σ 1 = some d) (hc : 30 ≤ zc σ) (hz : 30000 ≤ zz σ) : f_L_law L xs σ = f_L_law_23 L xs (some (zn σ)) (some (zn σ + 16)) (some (zn σ + 26)) 0 (hzL σ (zfin (zn σ) d) 19855) := by
  have e0 : σ = hzL σ [] 0 := by
    refine Prod.ext (funext fun q => ?_) rfl
    show σ.1 q = if q < zn σ then σ.1 q else [][q - zn σ]?
    by_cases a : q < zn σ
    · rw [if_pos a]
    · rw [if_neg a, h0 q (by omega)]
      rfl
  have e1 : f_L_law L xs σ = f_L_law L xs (hzL σ [] 0) := congrArg _ e0
  rw [e1]
  unfold f_L_law
  refine st_nO (Nat.le_trans (Nat.le_of_ble_eq_true rfl) hc) (Nat.le_trans (Nat.le_of_ble_eq_true rfl) hz) ?_
  refine st_f (ini_X1 hb hd hc hz) ?_
  refine st_nO (Nat.le_trans (Nat.le_of_ble_eq_true rfl) hc) (Nat.le_trans (Nat.le_of_ble_eq_true rfl) hz) ?_
  refine st_f (ini_X6 hb hd hc hz) ?_
  refine st_nJ (n := 1) (Nat.le_of_ble_eq_true rfl) (Nat.le_trans (Nat.le_of_ble_eq_true rfl) hc) (Nat.le_trans (Nat.le_of_ble_eq_true rfl) hz) ?_
  rfl
end ZC8
