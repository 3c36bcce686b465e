/-! pure land: X1 Y8 Y9 Z1 (see wip/D-94657w/pl) -/
theorem sw8 (x : BitVec 32) (k : Nat) (hk : k ≤ 24) : (BitVec.sshiftRight x k).setWidth 8 = (x >>> k).setWidth 8 := by
  apply BitVec.eq_of_getLsbD_eq
  intro i hi
  rw [BitVec.getLsbD_setWidth, BitVec.getLsbD_setWidth, BitVec.getLsbD_sshiftRight, BitVec.getLsbD_ushiftRight]
  have h1 : ¬ 32 ≤ i := by omega
  have h2 : k + i < 32 := by omega
  simp [hi, h2, h1]
theorem by_tr : ∀ t, t < 256 → ((nI t).toInt8.toInt32).toInt8.toInt32 = if t < 128 then nI t else (Int32.ofInt ((t : Int) - 256)) := by decide +kernel
theorem by_ng : ∀ t : Nat, t < 256 → 128 ≤ t → (Int32.ofInt ((t : Int) - 256)) < 0 := by decide +kernel
theorem by_cmp (v s : Int32) (k : Nat) (hk : k ≤ 24) (hs : (s.toBitVec.smod 32).toNat = k) : (v >>> s).toInt8 = (nI (v.toBitVec.toNat / 2 ^ k % 256)).toInt8 := by
  apply Int8.toBitVec_inj.mp
  show (v >>> s).toBitVec.signExtend 8 = (nI (v.toBitVec.toNat / 2 ^ k % 256)).toBitVec.signExtend 8
  rw [BitVec.signExtend_eq_setWidth_of_le _ (by omega), BitVec.signExtend_eq_setWidth_of_le _ (by omega), Int32.toBitVec_shiftRight]
  show (BitVec.sshiftRight v.toBitVec (s.toBitVec.smod 32).toNat).setWidth 8 = _
  rw [hs, sw8 _ k hk]
  apply BitVec.eq_of_toNat_eq
  rw [BitVec.toNat_setWidth, BitVec.toNat_setWidth, BitVec.toNat_ushiftRight, Nat.shiftRight_eq_div_pow]
  show _ = (BitVec.ofNat 32 (v.toBitVec.toNat / 2 ^ k % 256)).toNat % 2 ^ 8
  rw [BitVec.toNat_ofNat]
  omega
/-- the byte at a shift, on both sides -/
theorem by_both (v : Int32) (r : Nat) (hr : r < 4) : ∃ t, t < 256 ∧ (((v.toUInt32 >>> ((24 - 8 * nI r : Int32).toUInt32 &&& Int32.toUInt32 31)).toInt32) &&& 255) = nI t ∧ ((t < 128 ∧ ((v >>> ((24 - 8 * nI r) &&& 31)).toInt8.toInt32).toInt8.toInt32 = nI t) ∨ (128 ≤ t ∧ ((v >>> ((24 - 8 * nI r) &&& 31)).toInt8.toInt32).toInt8.toInt32 < 0)) := by
  have hv : v = nI v.toBitVec.toNat := by
    apply Int32.toBitVec_inj.mp
    show v.toBitVec = BitVec.ofNat 32 v.toBitVec.toNat
    rw [BitVec.ofNat_toNat]; simp
  have hlt : v.toBitVec.toNat < 2 ^ 32 := v.toBitVec.isLt
  have key : ∀ k : Nat, k ≤ 24 → ∀ s : Int32, (((s &&& 31)).toBitVec.smod 32).toNat = k → ((s.toUInt32 &&& Int32.toUInt32 31).toBitVec % 32).toNat = k → ∃ t, t < 256 ∧ (((v.toUInt32 >>> (s.toUInt32 &&& Int32.toUInt32 31)).toInt32) &&& 255) = nI t ∧ ((t < 128 ∧ ((v >>> (s &&& 31)).toInt8.toInt32).toInt8.toInt32 = nI t) ∨ (128 ≤ t ∧ ((v >>> (s &&& 31)).toInt8.toInt32).toInt8.toInt32 < 0)) := by
    intro k hk s h1 h2
    refine ⟨v.toBitVec.toNat / 2 ^ k % 256, Nat.mod_lt _ (by decide), ?_, ?_⟩
    · have e1 := pk_ushrN hlt s k h2
      rw [← hv] at e1
      rw [e1]
      exact pk_andN (Nat.lt_of_le_of_lt (Nat.div_le_self _ _) hlt) 8 rfl
    · rw [by_cmp v _ k hk h1]
      have h3 := by_tr (v.toBitVec.toNat / 2 ^ k % 256) (Nat.mod_lt _ (by decide))
      rw [h3]
      by_cases z : v.toBitVec.toNat / 2 ^ k % 256 < 128
      · rw [if_pos z]; exact Or.inl ⟨z, rfl⟩
      · rw [if_neg z]; exact Or.inr ⟨by omega, by_ng _ (Nat.mod_lt _ (by decide)) (by omega)⟩
  rcases (show r = 0 ∨ r = 1 ∨ r = 2 ∨ r = 3 by omega) with rfl | rfl | rfl | rfl
  · exact key 24 (by omega) (24 - 8 * nI 0) (by decide) (by decide)
  · exact key 16 (by omega) (24 - 8 * nI 1) (by decide) (by decide)
  · exact key 8 (by omega) (24 - 8 * nI 2) (by decide) (by decide)
  · exact key 0 (by omega) (24 - 8 * nI 3) (by decide) (by decide)
/-! the tape -/
def pv9 (p1 p2 p3 p4 p5 : Int32) (i : Nat) : Int32 := if i < 4 then p1 else if i < 8 then p2 else if i < 12 then p3 else if i < 16 then p4 else p5
def by1 (p1 p2 p3 p4 p5 : Int32) (i : Nat) : Int32 := ((pv9 p1 p2 p3 p4 p5 i >>> ((24 - 8 * nI (i % 4)) &&& 31)).toInt8.toInt32).toInt8.toInt32
def by2 (p1 p2 p3 p4 p5 : Int32) (i : Nat) : Int32 := (((pv9 p1 p2 p3 p4 p5 i).toUInt32 >>> ((24 - 8 * nI (i % 4) : Int32).toUInt32 &&& Int32.toUInt32 31)).toInt32) &&& 255
theorem by_pv (p1 p2 p3 p4 p5 : Int32) (i : Nat) : ∃ t, t < 256 ∧ by2 p1 p2 p3 p4 p5 i = nI t ∧ ((t < 128 ∧ by1 p1 p2 p3 p4 p5 i = nI t) ∨ (128 ≤ t ∧ by1 p1 p2 p3 p4 p5 i < 0)) := by_both _ _ (Nat.mod_lt _ (by omega))
section ZY8
variable {σ σ' σ'' τ : zS} {A A' B : cA} {N N' : Nat → Nat} {U U' : cU} {S S' D D' : Nat → Prop} {c L : Nat} {M M' : mS} {m m' : Nat → Int32} {p1 p2 p3 p4 p5 : Int32}
/-- the model's tape with i bytes more -/
def fdM (M : mS) (p1 p2 p3 p4 p5 : Int32) (L i : Nat) : mS := (fun k => if k = 0 then 0 else if k = 6 then nI (L + i) else M.1 k, fun q => if q = 3 then (fun k => if L ≤ k ∧ k < L + i then by2 p1 p2 p3 p4 p5 (k - L) else M.2 3 k) else M.2 q)
theorem fdM_0 (h : M.1 6 = nI L) : fdM M p1 p2 p3 p4 p5 L 0 = mset M 0 0 := by
  refine Prod.ext (funext fun k => ?_) (funext fun q => ?_)
  · show (if k = 0 then 0 else if k = 6 then nI (L + 0) else M.1 k) = if k = 0 then 0 else M.1 k
    by_cases z : k = 6
    · subst z; exact h.symm
    · rw [if_neg z]
  · show (if q = 3 then (fun k => if L ≤ k ∧ k < L + 0 then by2 p1 p2 p3 p4 p5 (k - L) else M.2 3 k) else M.2 q) = M.2 q
    by_cases z : q = 3
    · rw [if_pos z, z]
      exact funext fun k => if_neg (by omega)
    · rw [if_neg z]
theorem fdM_s (i : Nat) : mset (mj (fdM M p1 p2 p3 p4 p5 L i) 3 (L + i) (by2 p1 p2 p3 p4 p5 i)) 6 (nI (L + i) + 1) = fdM M p1 p2 p3 p4 p5 L (i + 1) := by
  refine Prod.ext (funext fun k => ?_) (funext fun q => ?_)
  · show (if k = 6 then nI (L + i) + 1 else if k = 0 then 0 else if k = 6 then nI (L + i) else M.1 k) = if k = 0 then 0 else if k = 6 then nI (L + (i + 1)) else M.1 k
    by_cases z : k = 6
    · subst z; exact nI_1 _
    · rw [if_neg z, if_neg z, if_neg z]
  · show (if q = 3 then upd ((fdM M p1 p2 p3 p4 p5 L i).2 3) (L + i) (by2 p1 p2 p3 p4 p5 i) else if q = 3 then _ else M.2 q) = if q = 3 then (fun k => if L ≤ k ∧ k < L + (i + 1) then by2 p1 p2 p3 p4 p5 (k - L) else M.2 3 k) else M.2 q
    by_cases z : q = 3
    · rw [if_pos z, if_pos z]
      funext k
      by_cases y : k = L + i
      · subst y
        rw [upd_at, if_pos (by omega), show L + i - L = i by omega]
      · rw [upd_no y]
        show (if L ≤ k ∧ k < L + i then by2 p1 p2 p3 p4 p5 (k - L) else M.2 3 k) = _
        by_cases x : L ≤ k ∧ k < L + i
        · rw [if_pos x, if_pos (by omega)]
        · rw [if_neg x, if_neg (by omega)]
    · rw [if_neg z, if_neg z, if_neg z]
theorem g_feed1 (h6 : M.1 6 = nI L) (hL : L + 20 ≤ 400) : g_X6_feed p1 p2 p3 p4 p5 M = some (nI (L + 20), fdM M p1 p2 p3 p4 p5 L 20) := by
  have s76 : ∀ i, i < 20 → ∀ rf, g_X6_feed_76 rf p1 p2 p3 p4 p5 (nI i) (pv9 p1 p2 p3 p4 p5 i) (fdM M p1 p2 p3 p4 p5 L i) = rf (nI (i + 1)) (fdM M p1 p2 p3 p4 p5 L (i + 1)) := by
    intro i hi rf
    unfold g_X6_feed_76
    have e6 : (fdM M p1 p2 p3 p4 p5 L i).1 6 = nI (L + i) := rfl
    have er : nI i - nI i / 4 * 4 = nI (i % 4) := pk_rem (d := 4) (by omega) (by omega) (by omega)
    have ev : (((pv9 p1 p2 p3 p4 p5 i).toUInt32 >>> ((24 - (8 * (nI i - nI i / 4 * 4)) : Int32).toUInt32 &&& Int32.toUInt32 31)).toInt32) &&& 255 = by2 p1 p2 p3 p4 p5 i := by rw [er]; rfl
    rw [ev, e6, mj_set (j := 3) (show L + i < 400 by omega), bd_at, zl_at]
    show zl (nI i + 1) (fun x4 => rf x4 (mset (mj (fdM M p1 p2 p3 p4 p5 L i) 3 (L + i) (by2 p1 p2 p3 p4 p5 i)) 6 (nI (L + i) + 1))) = _
    rw [zl_at, nI_1, fdM_s]
  have q := zlp1_it (F := g_X6_feed_23_b p1 p2 p3 p4 p5) (n := 20) (R := some (nI (L + 20), fdM M p1 p2 p3 p4 p5 L 20)) (fun i => nI i) (fun i => fdM M p1 p2 p3 p4 p5 L i) (fun i rf hi => ?_) (fun rf => ?_) NN (NN_lt (by omega))
  · have hle : (M.1 6) + 20 ≤ 400 := by rw [h6, show (20 : Int32) = nI 20 from rfl, nI_add, show (400 : Int32) = nI 400 from rfl]; exact nI_le (by omega) (by omega)
    unfold g_X6_feed g_X6_feed_23
    rw [zl_at]
    show (if (M.1 6) + 20 ≤ 400 then _ else _) = _
    rw [if_pos hle, ← fdM_0 (p1 := p1) (p2 := p2) (p3 := p3) (p4 := p4) (p5 := p5) h6]
    exact q
  · show g_X6_feed_23_b p1 p2 p3 p4 p5 rf (nI i) (fdM M p1 p2 p3 p4 p5 L i) = rf (nI (i + 1)) (fdM M p1 p2 p3 p4 p5 L (i + 1))
    have s := s76 i hi rf
    unfold g_X6_feed_23_b
    rw [show (20 : Int32) = nI 20 from rfl, nleF hi (by omega), show (4 : Int32) = nI 4 from rfl, show (8 : Int32) = nI 8 from rfl, show (12 : Int32) = nI 12 from rfl, show (16 : Int32) = nI 16 from rfl]
    by_cases a : i < 4
    · rw [nleF a (by omega)]
      have e : pv9 p1 p2 p3 p4 p5 i = p1 := if_pos a
      rw [e] at s; exact s
    · rw [if_pos (nI_le (by omega) (by omega))]
      by_cases b : i < 8
      · rw [nleF b (by omega)]
        have e : pv9 p1 p2 p3 p4 p5 i = p2 := (if_neg a).trans (if_pos b)
        rw [e] at s; exact s
      · rw [if_pos (nI_le (by omega) (by omega))]
        by_cases d : i < 12
        · rw [nleF d (by omega)]
          have e : pv9 p1 p2 p3 p4 p5 i = p3 := (if_neg a).trans ((if_neg b).trans (if_pos d))
          rw [e] at s; exact s
        · rw [if_pos (nI_le (by omega) (by omega))]
          by_cases f : i < 16
          · rw [nleF f (by omega)]
            have e : pv9 p1 p2 p3 p4 p5 i = p4 := (if_neg a).trans ((if_neg b).trans ((if_neg d).trans (if_pos f)))
            rw [e] at s; exact s
          · rw [if_pos (nI_le (by omega) (by omega))]
            have e : pv9 p1 p2 p3 p4 p5 i = p5 := (if_neg a).trans ((if_neg b).trans ((if_neg d).trans (if_neg f)))
            rw [e] at s; exact s
  · show g_X6_feed_23_b p1 p2 p3 p4 p5 rf (nI 20) (fdM M p1 p2 p3 p4 p5 L 20) = _
    unfold g_X6_feed_23_b
    rw [if_pos (show (20 : Int32) ≤ nI 20 from Int32.le_refl _)]
    rfl
theorem g_feed0 (h6 : M.1 6 = nI L) (hL : ¬ L + 20 ≤ 400) (hL4 : L ≤ 400) : g_X6_feed p1 p2 p3 p4 p5 M = some (-1, mset M 0 0) := by
  have hle : ¬ (M.1 6) + 20 ≤ 400 := by rw [h6, show (20 : Int32) = nI 20 from rfl, nI_add, show (400 : Int32) = nI 400 from rfl, nI_leI (by omega) (by omega)]; exact hL
  unfold g_X6_feed
  rw [zl_at]
  show (if (M.1 6) + 20 ≤ 400 then _ else _) = _
  rw [if_neg hle]
/-- the component's tape with i bytes more -/
def fdU (U : cU) (p1 p2 p3 p4 p5 : Int32) (L i : Nat) : cU := (fun k => if k = 8 then nI (L + i) else U.1 k, fun t => if t = 10 then (fun k => if L ≤ k ∧ k < L + i then by1 p1 p2 p3 p4 p5 (k - L) else U.2 10 k) else U.2 t)
theorem fdU_0 (h : U.1 8 = nI L) : fdU U p1 p2 p3 p4 p5 L 0 = U := by
  refine Prod.ext (funext fun k => ?_) (funext fun q => ?_)
  · show (if k = 8 then nI (L + 0) else U.1 k) = U.1 k
    by_cases z : k = 8
    · subst z; exact h.symm
    · rw [if_neg z]
  · show (if q = 10 then (fun k => if L ≤ k ∧ k < L + 0 then by1 p1 p2 p3 p4 p5 (k - L) else U.2 10 k) else U.2 q) = U.2 q
    by_cases z : q = 10
    · rw [if_pos z, z]
      exact funext fun k => if_neg (by omega)
    · rw [if_neg z]
theorem fdU_s (i : Nat) : uset (utab (fdU U p1 p2 p3 p4 p5 L i) 10 (L + i) (by1 p1 p2 p3 p4 p5 i)) 8 (nI (L + i) + 1) = fdU U p1 p2 p3 p4 p5 L (i + 1) := by
  refine Prod.ext (funext fun k => ?_) (funext fun q => ?_)
  · show (if k = 8 then nI (L + i) + 1 else if k = 8 then nI (L + i) else U.1 k) = if k = 8 then nI (L + (i + 1)) else U.1 k
    by_cases z : k = 8
    · rw [if_pos z, if_pos z]; exact nI_1 _
    · rw [if_neg z, if_neg z, if_neg z]
  · show (if q = 10 then upd ((fdU U p1 p2 p3 p4 p5 L i).2 10) (L + i) (by1 p1 p2 p3 p4 p5 i) else if q = 10 then _ else U.2 q) = if q = 10 then (fun k => if L ≤ k ∧ k < L + (i + 1) then by1 p1 p2 p3 p4 p5 (k - L) else U.2 10 k) else U.2 q
    by_cases z : q = 10
    · rw [if_pos z, if_pos z]
      funext k
      by_cases y : k = L + i
      · subst y
        rw [upd_at, if_pos (by omega), show L + i - L = i by omega]
      · rw [upd_no y]
        show (if L ≤ k ∧ k < L + i then by1 p1 p2 p3 p4 p5 (k - L) else U.2 10 k) = _
        by_cases x : L ≤ k ∧ k < L + i
        · rw [if_pos x, if_pos (by omega)]
        · rw [if_neg x, if_neg (by omega)]
    · rw [if_neg z, if_neg z, if_neg z]
/-- a byte goes on the tape -/
theorem csB (hA : cOKN σ A N) {i : Nat} {x y : Int32} (hi : i < 400) (hy : x.toInt8.toInt32 = y) : sB (pU σ A N U) (aad A 11) (nI i) x = some (pU σ A N (utab U 10 i y)) := by
  unfold sB
  have h1 : (pU σ A N U).1 (aad A 11) = some (.inl (1, 400, .inl (U.2 10))) := pC_ad (V := (U.1, U.2, N)) hA 11
  rw [h1]
  have hall : 1 = 1 ∧ ¬ (nI i < 0 ∨ 400 ≤ (nI i).toNatClampNeg) ∧ zbs (pU σ A N U) ≤ aad A 11 := ⟨rfl, nI_in hi (by omega), hA.2.1 11⟩
  refine (if_pos hall).trans ?_
  rw [nI_clamp (by omega), hy]
  exact congrArg some (czset (V := (U.1, U.2, N)) (V' := ((utab U 10 i y).1, (utab U 10 i y).2, N)) hA rfl (vto_10 (V := (U.1, U.2, N)) i y))
theorem pI8 (hA : cOKN σ A N) (x : Int32) : pI (pU σ A N U) (aad A 2) 2 1 x = some (pU σ A N (uset U 8 x)) := cpF (V := (U.1, U.2, N)) (V' := ((uset U 8 x).1, (uset U 8 x).2, N)) hA (r := 2) rfl (Nat.le_of_ble_eq_true rfl) rfl (vso_8 (V := (U.1, U.2, N)))
end ZY8
section ZY9
variable {σ σ' σ'' τ : zS} {A A' B : cA} {N N' : Nat → Nat} {U U' : cU} {S S' D D' : Nat → Prop} {c L : Nat} {M M' : mS} {m m' : Nat → Int32} {p1 p2 p3 p4 p5 : Int32}
theorem cCt_no5 {V : cV} {f : Nat → Int32} : ∀ r, ¬ cCt A V r = some (.inl (0, 5, .inl f))
  | 0, h => by cases h
  | 1, h => by cases h
  | 2, h => by cases h
  | 3, h => by cases h
  | 4, h => by cases h
  | 5, h => by cases h
  | 6, h => by cases h
  | 7, h => by cases h
  | 8, h => by cases h
  | 9, h => by cases h
  | 10, h => by cases h
  | 11, h => by cases h
  | 12, h => by cases h
  | 13, h => by cases h
  | 14, h => by cases h
  | 15, h => by cases h
  | 16, h => by
    have h' : cEa A V 1 = some (.inl (0, 5, .inl f)) := h
    unfold cEa at h'
    by_cases z : aer A 1 = aad A (15 + 1)
    · rw [if_pos z] at h'; cases h'
    · rw [if_neg z] at h'; cases h'
  | 17, h => by
    have h' : cEa A V 2 = some (.inl (0, 5, .inl f)) := h
    unfold cEa at h'
    by_cases z : aer A 2 = aad A (15 + 2)
    · rw [if_pos z] at h'; cases h'
    · rw [if_neg z] at h'; cases h'
  | 18, h => by
    have h' : cEa A V 3 = some (.inl (0, 5, .inl f)) := h
    unfold cEa at h'
    by_cases z : aer A 3 = aad A (15 + 3)
    · rw [if_pos z] at h'; cases h'
    · rw [if_neg z] at h'; cases h'
  | 19, h => by
    have h' : cEa A V 4 = some (.inl (0, 5, .inl f)) := h
    unfold cEa at h'
    by_cases z : aer A 4 = aad A (15 + 4)
    · rw [if_pos z] at h'; cases h'
    · rw [if_neg z] at h'; cases h'
  | r + 20, h => by
    have h' : (if r < 80 then none else cEl A V ((r + 20) / 100) ((r + 20) % 100)) = some (.inl (0, 5, .inl f)) := h
    by_cases z : r < 80
    · rw [if_pos z] at h'; cases h'
    · rw [if_neg z] at h'
      generalize (r + 20) / 100 = j at h'
      generalize (r + 20) % 100 = i at h'
      unfold cEl at h'
      by_cases y : i < V.2.2 j
      · rw [if_pos y] at h'
        match j, h' with
        | 0, h' => cases h'
        | 1, h' => cases h'
        | 2, h' => cases h'
        | 3, h' => cases h'
        | 4, h' => cases h'
        | j + 5, h' => cases h'
      · rw [if_neg y] at h'; cases h'
theorem sI_of {q k i : Nat} {f : Nat → Int32} {x : Int32} (h : σ.1 q = some (.inl (0, k, .inl f))) (hi : i < k) (hk : k < 2 ^ 31) (hb : zbs σ ≤ q) : sI σ q (nI i) x = some (zset σ q (.inl (0, k, .inl (upd f i x)))) := by
  unfold sI
  rw [h]
  have hall : 0 = 0 ∧ ¬ (nI i < 0 ∨ k ≤ (nI i).toNatClampNeg) ∧ zbs σ ≤ q := ⟨rfl, nI_in hi hk, hb⟩
  refine (if_pos hall).trans ?_
  rw [nI_clamp (by omega)]
theorem znewI_at {k : Nat} (hk : k ≤ 65536) (hc : 1 ≤ zc σ ∧ k ≤ zz σ) : znewI σ (nI k) = some (zn σ, (zup σ.1 (zn σ) (.inl (0, k, .inl (fun _ => 0))), zsv σ, zbs σ, zn σ + 1, zc σ - 1, zz σ - k)) := by
  have h1 : ¬ (nI k < 0 ∨ 65536 < (nI k).toNatClampNeg) := by
    intro q
    rcases q with q | q
    · exact nI_pos (by omega) q
    · rw [nI_clamp (by omega)] at q; omega
  unfold znewI znew
  rw [if_neg h1, nI_clamp (by omega), if_pos hc]
/-- the bytes go on the tape -/
theorem f_add (C : Cs σ A N U S) (h8 : U.1 8 = nI L) (hL : L + 20 ≤ 400) {a2 : Nat} {f : Nat → Int32} (ha : σ.1 a2 = some (.inl (0, 5, .inl f))) (hf : ∀ i, i < 20 → f (i / 4) = pv9 p1 p2 p3 p4 p5 i) : f_X3_add (aad A 2) (some a2) σ = some (nI (L + 20), pU σ A N (fdU U p1 p2 p3 p4 p5 L 20)) := by
  have hA : cOKN σ A N := C.1.1
  let st : Nat → zS := fun i => pU σ A N (fdU U p1 p2 p3 p4 p5 L i)
  have h0 : st 0 = σ := by
    show pU σ A N (fdU U p1 p2 p3 p4 p5 L 0) = σ
    rw [fdU_0 h8]; exact Cs_id C
  have hiv : ainv A a2 = none := by
    cases e : ainv A a2 with
    | none => rfl
    | some r =>
      have h1 := C.1.1.2.2.2 a2 r e
      have h2 := C.1.2.1 r
      rw [h1, ha] at h2
      exact absurd h2.symm (cCt_no5 r)
  have ha2 : ∀ i, (st i).1 a2 = some (.inl (0, 5, .inl f)) := by
    intro i
    show (match ainv A a2 with
      | some r => cCt A ((fdU U p1 p2 p3 p4 p5 L i).1, (fdU U p1 p2 p3 p4 p5 L i).2, N) r
      | none => σ.1 a2) = _
    rw [hiv]; exact ha
  have row2 : ∀ i, (st i).1 (aad A 2) = cCt A ((fdU U p1 p2 p3 p4 p5 L i).1, (fdU U p1 p2 p3 p4 p5 L i).2, N) 2 := fun i => pC_ad (V := ((fdU U p1 p2 p3 p4 p5 L i).1, (fdU U p1 p2 p3 p4 p5 L i).2, N)) hA 2
  have gt : ∀ i, gR (st i) (aad A 2) 2 0 = some (some (aad A 11)) := fun i => gR_of (row2 i) (k := 0) (q := some (aad A 11)) rfl rfl
  have gl : ∀ i, gI (st i) (aad A 2) 2 1 = some (nI (L + i)) := fun i => gI_of (row2 i) (k := 1) (v := nI (L + i)) rfl rfl
  have step : ∀ j, j < 20 → ∀ r, j % 4 = r → ∀ rec23 v3 v4 fu, zlp1 (f_X3_add_39_b (aad A 2) rec23 (some a2) v3 v4 (pv9 p1 p2 p3 p4 p5 j)) (fu + 1) (24 - 8 * nI r) (st j) = zlp1 (f_X3_add_39_b (aad A 2) rec23 (some a2) v3 v4 (pv9 p1 p2 p3 p4 p5 j)) fu (24 - 8 * nI r + -8) (st (j + 1)) := by
    intro j hj r hr rec23 v3 v4 fu
    show f_X3_add_39_b _ _ _ _ _ _ (zlp1 (f_X3_add_39_b (aad A 2) rec23 (some a2) v3 v4 (pv9 p1 p2 p3 p4 p5 j)) fu) _ _ = _
    generalize zlp1 (f_X3_add_39_b (aad A 2) rec23 (some a2) v3 v4 (pv9 p1 p2 p3 p4 p5 j)) fu = rf
    have hneg : ¬ (24 - 8 * nI r : Int32) < 0 := by
      have hr4 : r < 4 := by omega
      rcases (show r = 0 ∨ r = 1 ∨ r = 2 ∨ r = 3 by omega) with rfl | rfl | rfl | rfl <;> decide
    have hs : sB (st j) (aad A 11) (nI (L + j)) ((pv9 p1 p2 p3 p4 p5 j >>> ((24 - 8 * nI r) &&& 31)).toInt8.toInt32) = some (pU σ A N (utab (fdU U p1 p2 p3 p4 p5 L j) 10 (L + j) (by1 p1 p2 p3 p4 p5 j))) := csB hA (by omega) (by unfold by1; rw [hr])
    have hg : gI (pU σ A N (utab (fdU U p1 p2 p3 p4 p5 L j) 10 (L + j) (by1 p1 p2 p3 p4 p5 j))) (aad A 2) 2 1 = some (nI (L + j)) := gI_of (pC_ad (V := ((utab (fdU U p1 p2 p3 p4 p5 L j) 10 (L + j) (by1 p1 p2 p3 p4 p5 j)).1, (utab (fdU U p1 p2 p3 p4 p5 L j) 10 (L + j) (by1 p1 p2 p3 p4 p5 j)).2, N)) hA 2) (k := 1) (v := nI (L + j)) rfl rfl
    have hp := pI8 (σ := σ) (U := utab (fdU U p1 p2 p3 p4 p5 L j) 10 (L + j) (by1 p1 p2 p3 p4 p5 j)) hA (nI (L + j) + 1)
    rw [fdU_s] at hp
    unfold f_X3_add_39_b
    rw [if_neg hneg, ybind_eq (gt j), ybind_eq (gl j), bd_at, ybind_eq hs, ybind_eq hg, ybind_eq hp, zl_at]
  have inner : ∀ i, i < 5 → ∀ rec23, f_X3_add_39 (aad A 2) rec23 (some a2) (nI 5) (nI i) (f i) 24 (st (4 * i)) = rec23 (nI (i + 1)) (st (4 * (i + 1))) := by
    intro i hi rec23
    have q0 : pv9 p1 p2 p3 p4 p5 (4 * i) = f i := by rw [← hf (4 * i) (by omega), show 4 * i / 4 = i by omega]
    have q1 : pv9 p1 p2 p3 p4 p5 (4 * i + 1) = f i := by rw [← hf (4 * i + 1) (by omega), show (4 * i + 1) / 4 = i by omega]
    have q2 : pv9 p1 p2 p3 p4 p5 (4 * i + 2) = f i := by rw [← hf (4 * i + 2) (by omega), show (4 * i + 2) / 4 = i by omega]
    have q3 : pv9 p1 p2 p3 p4 p5 (4 * i + 3) = f i := by rw [← hf (4 * i + 3) (by omega), show (4 * i + 3) / 4 = i by omega]
    have s0 := step (4 * i) (by omega) 0 (by omega) rec23 (nI 5) (nI i)
    have s1 := step (4 * i + 1) (by omega) 1 (by omega) rec23 (nI 5) (nI i)
    have s2 := step (4 * i + 2) (by omega) 2 (by omega) rec23 (nI 5) (nI i)
    have s3 := step (4 * i + 3) (by omega) 3 (by omega) rec23 (nI 5) (nI i)
    rw [q0] at s0
    rw [q1] at s1
    rw [q2] at s2
    rw [q3] at s3
    have e0 : (24 : Int32) = 24 - 8 * nI 0 := by decide
    have e1 : (24 - 8 * nI 0 + -8 : Int32) = 24 - 8 * nI 1 := by decide
    have e2 : (24 - 8 * nI 1 + -8 : Int32) = 24 - 8 * nI 2 := by decide
    have e3 : (24 - 8 * nI 2 + -8 : Int32) = 24 - 8 * nI 3 := by decide
    have key : ∀ fu, zlp1 (f_X3_add_39_b (aad A 2) rec23 (some a2) (nI 5) (nI i) (f i)) (fu + 5) 24 (st (4 * i)) = rec23 (nI (i + 1)) (st (4 * (i + 1))) := by
      intro fu
      rw [e0, s0 (fu + 4), e1, s1 (fu + 3), e2, s2 (fu + 2), e3, s3 (fu + 1)]
      show f_X3_add_39_b _ _ _ _ _ _ (zlp1 (f_X3_add_39_b (aad A 2) rec23 (some a2) (nI 5) (nI i) (f i)) fu) _ _ = _
      generalize zlp1 (f_X3_add_39_b (aad A 2) rec23 (some a2) (nI 5) (nI i) (f i)) fu = rf
      unfold f_X3_add_39_b
      rw [if_pos (show (24 - 8 * nI 3 + -8 : Int32) < 0 by decide), zl_at, nI_1, show 4 * i + 3 + 1 = 4 * (i + 1) by omega]
    exact key 99995
  have q := zlp1_it (F := f_X3_add_23_b (aad A 2) (some a2) (nI 5)) (n := 5) (R := some (nI (L + 20), st 20)) (fun i => nI i) (fun i => st (4 * i)) (fun i rf hi => ?_) (fun rf => ?_) NN (NN_lt (by omega))
  · have g8 : gI σ (aad A 2) 2 1 = some (nI L) := by
      have := gl 0
      rw [h0, Nat.add_zero] at this
      exact this
    have e20 : nI L + 20 ≤ 400 := by rw [show (20 : Int32) = nI 20 from rfl, nI_add, show (400 : Int32) = nI 400 from rfl]; exact nI_le (by omega) (by omega)
    unfold f_X3_add f_X3_add_23
    rw [ybind_eq g8, if_pos e20, bd_at, ybind_eq (aln_of ha)]
    have q' : zlp1 (f_X3_add_23_b (aad A 2) (some a2) (nI 5)) NN (nI 0) (st 0) = some (nI (L + 20), st 20) := q
    rw [h0] at q'
    exact q'
  · show f_X3_add_23_b (aad A 2) (some a2) (nI 5) rf (nI i) (st (4 * i)) = rf (nI (i + 1)) (st (4 * (i + 1)))
    unfold f_X3_add_23_b
    rw [nleF hi (by omega), bd_at, ybind_eq (lI_of (ha2 (4 * i)) (d := 0) rfl hi (by omega)), inner i hi]
  · show f_X3_add_23_b (aad A 2) (some a2) (nI 5) rf (nI 5) (st (4 * 5)) = _
    unfold f_X3_add_23_b
    rw [if_pos (Int32.le_refl _), ybind_eq (gl 20)]
end ZY9
section ZZ1
variable {σ σ' σ'' τ : zS} {A A' B : cA} {N N' : Nat → Nat} {U U' : cU} {S S' D D' : Nat → Prop} {c L : Nat} {M M' : mS} {m m' : Nat → Int32} {p1 p2 p3 p4 p5 : Int32}
/-- bytes come -/
theorem F_feed (H : Iv c L σ A N U S D M) (hz : 1 ≤ zc σ ∧ 5 ≤ zz σ) : ∃ v σ' A' U' M' L', f_X1_feed (aad A 0) p1 p2 p3 p4 p5 σ = some (v, σ') ∧ g_X6_feed p1 p2 p3 p4 p5 M = some (v, M') ∧ Iv c L' σ' A' N U' S D M' ∧ L' ≤ L + 20 ∧ ySt σ σ' S 1 5 ∧ (∀ r, r < 16 → aad A' r = aad A r) := by
  obtain ⟨C, hDS, E, K, ⟨d, hd⟩, I, R, LW, ⟨r1, r2, ⟨k0, r4⟩, r5, T, hT, r6⟩, IM, BZ⟩ := H
  have hn := hT.1.1
  have hbz := C.1.2.2.2.1
  have e1 : znewI σ (nI 5) = some (zn σ, (zup σ.1 (zn σ) (.inl (0, 5, .inl (fun _ => 0))), zsv σ, zbs σ, zn σ + 1, zc σ - 1, zz σ - 5)) := znewI_at (by omega) hz
  let τ0 : zS := (zup σ.1 (zn σ) (.inl (0, 5, .inl (fun _ => 0))), zsv σ, zbs σ, zn σ + 1, zc σ - 1, zz σ - 5)
  let f0 : Nat → Int32 := fun _ => 0
  let f1 := upd f0 0 p1
  let f2 := upd f1 1 p2
  let f3 := upd f2 2 p3
  let f4 := upd f3 3 p4
  let f5 := upd f4 4 p5
  have t0 : τ0.1 (zn σ) = some (.inl (0, 5, .inl f0)) := if_pos rfl
  have hb' : zbs τ0 ≤ zn σ := hbz
  have i1 : sI τ0 (zn σ) (nI 0) p1 = some (zset τ0 (zn σ) (.inl (0, 5, .inl f1))) := sI_of t0 (by omega) (by omega) hb'
  have i2 : sI (zset τ0 (zn σ) (.inl (0, 5, .inl f1))) (zn σ) (nI 1) p2 = some (zset τ0 (zn σ) (.inl (0, 5, .inl f2))) := (sI_of (zs_at (σ := τ0)) (by omega) (by omega) hb').trans (congrArg some zset2)
  have i3 : sI (zset τ0 (zn σ) (.inl (0, 5, .inl f2))) (zn σ) (nI 2) p3 = some (zset τ0 (zn σ) (.inl (0, 5, .inl f3))) := (sI_of (zs_at (σ := τ0)) (by omega) (by omega) hb').trans (congrArg some zset2)
  have i4 : sI (zset τ0 (zn σ) (.inl (0, 5, .inl f3))) (zn σ) (nI 3) p4 = some (zset τ0 (zn σ) (.inl (0, 5, .inl f4))) := (sI_of (zs_at (σ := τ0)) (by omega) (by omega) hb').trans (congrArg some zset2)
  have i5 : sI (zset τ0 (zn σ) (.inl (0, 5, .inl f4))) (zn σ) (nI 4) p5 = some (zset τ0 (zn σ) (.inl (0, 5, .inl f5))) := (sI_of (zs_at (σ := τ0)) (by omega) (by omega) hb').trans (congrArg some zset2)
  generalize hτ : zset τ0 (zn σ) (.inl (0, 5, .inl f5)) = τ at *
  have ht : τ.1 (zn σ) = some (.inl (0, 5, .inl f5)) := by rw [← hτ]; exact zs_at
  have ho : ∀ q, q ≠ zn σ → τ.1 q = σ.1 q := fun q hq => by rw [← hτ]; exact (if_neg hq).trans (if_neg hq)
  have h2 : τ.2 = (zsv σ, zbs σ, zn σ + 1, zc σ - 1, zz σ - 5) := by rw [← hτ]; rfl
  have tv : zsv τ = zsv σ := congrArg (fun w => w.1) h2
  have tb : zbs τ = zbs σ := congrArg (fun w => w.2.1) h2
  have tn : zn τ = zn σ + 1 := congrArg (fun w => w.2.2.1) h2
  have tc : zc τ = zc σ - 1 := congrArg (fun w => w.2.2.2.1) h2
  have tz : zz τ = zz σ - 5 := congrArg (fun w => w.2.2.2.2) h2
  obtain ⟨A1, C1, ha0, -, -, -, harf⟩ := Cs_more (τ := τ) C (fun q hq => ho q (by omega)) tv tb (by omega) (fun q hq => by
    rw [ho q (by omega)]
    exact C.1.2.2.1 q (by omega))
  have ha : ∀ r, r < 16 → aad A1 r = aad A r := fun r h => ha0 r (zal_some (A := A) (N := N) (U := U) (Or.inl h))
  have T1 : ySt σ τ S 1 5 := ⟨tv, tb, by omega, fun q hq => ho q (by
    rcases hq with h | h
    · have := (C.2.1 q h).1; omega
    · omega), by omega, by omega⟩
  have g02 : gR σ (aad A 0) 0 2 = some (some (aad A 2)) := gR_of (C.1.2.1 0) (k := 2) (q := some (aad A 2)) rfl rfl
  have cl2 : zcl τ (aad A 2) = 2 := by
    have := cl_of (C1.1.2.1 2) rfl
    rw [ha 2 (by omega)] at this
    exact this
  have head : f_X1_feed (aad A 0) p1 p2 p3 p4 p5 σ = zb2 (f_X3_add (aad A1 2) (some (zn σ)) τ) fun x11 σ12 => some (x11, σ12) := by
    have e1' : znewI σ 5 = some (zn σ, τ0) := e1
    have i1' : sI τ0 (zn σ) 0 p1 = _ := i1
    have i2' : sI (zset τ0 (zn σ) (.inl (0, 5, .inl f1))) (zn σ) 1 p2 = _ := i2
    have i3' : sI (zset τ0 (zn σ) (.inl (0, 5, .inl f2))) (zn σ) 2 p3 = _ := i3
    have i4' : sI (zset τ0 (zn σ) (.inl (0, 5, .inl f3))) (zn σ) 3 p4 = _ := i4
    have i5' : sI (zset τ0 (zn σ) (.inl (0, 5, .inl f4))) (zn σ) 4 p5 = _ := i5
    unfold f_X1_feed
    rw [ybind_eq g02, zb2_eq e1', ybind_eq i1', ybind_eq i2', ybind_eq i3', ybind_eq i4', ybind_eq i5', bd_at, zif_t cl2, ha 2 (by omega)]
  rw [head]
  by_cases hL : L + 20 ≤ 400
  · have fa := f_add (p1 := p1) (p2 := p2) (p3 := p3) (p4 := p4) (p5 := p5) C1 r1 hL ht (fun i hi => by
      have e5 : ∀ k, f5 k = if k = 4 then p5 else if k = 3 then p4 else if k = 2 then p3 else if k = 1 then p2 else if k = 0 then p1 else 0 := fun k => rfl
      rw [e5]
      unfold pv9
      by_cases a : i < 4
      · rw [if_neg (by omega), if_neg (by omega), if_neg (by omega), if_neg (by omega), if_pos (by omega), if_pos a]
      · rw [if_neg a]
        by_cases b : i < 8
        · rw [if_neg (by omega), if_neg (by omega), if_neg (by omega), if_pos (by omega), if_pos b]
        · rw [if_neg b]
          by_cases d : i < 12
          · rw [if_neg (by omega), if_neg (by omega), if_pos (by omega), if_pos d]
          · rw [if_neg d]
            by_cases f : i < 16
            · rw [if_neg (by omega), if_pos (by omega), if_pos f]
            · rw [if_pos (by omega), if_neg f])
    obtain ⟨C2, T2⟩ := Cs_pU (U' := fdU U p1 p2 p3 p4 p5 L 20) C1 rfl
    have TT := St_t T1 T2
    have hD := St_D TT hDS
    have m6 : (fdM M p1 p2 p3 p4 p5 L 20).1 6 = nI (L + 20) := rfl
    refine ⟨nI (L + 20), _, A1, fdU U p1 p2 p3 p4 p5 L 20, fdM M p1 p2 p3 p4 p5 L 20, L + 20, by rw [zb2_eq fa], g_feed1 r2 hL, ⟨C2, hDS, Ev_St E TT, zLk_St K TT, ⟨d, by show zsv _ 1 = _; rw [TT.1]; exact hd⟩, ?_, ?_, Lw_St LW hD (by rw [harf]) (fun _ h => h) (fun j _ => rfl), ⟨rfl, rfl, ⟨k0, r4⟩, r5, fun k => if k < L then T k else if k < L + 20 then (by2 p1 p2 p3 p4 p5 (k - L)).toNatClampNeg else 256, ?_, ?_⟩, Im_St IM hD (by rw [harf]) (fun _ h => h) rfl (fun j _ => rfl), BZ⟩, Nat.le_refl _, St_le TT (by omega) (by omega), ha⟩
    · unfold RI at I ⊢
      exact I
    · unfold yRM at R ⊢
      exact R
    · have tb : ∀ i, ∃ t, t < 256 ∧ (by2 p1 p2 p3 p4 p5 i).toNatClampNeg = t ∧ ((t < 128 ∧ by1 p1 p2 p3 p4 p5 i = nI t) ∨ (128 ≤ t ∧ by1 p1 p2 p3 p4 p5 i < 0)) := fun i => by
        obtain ⟨t, h1, h2, h3⟩ := by_pv p1 p2 p3 p4 p5 i
        exact ⟨t, h1, by rw [h2, nI_clamp (by omega)], h3⟩
      refine ⟨⟨hL, fun p hp => ?_, fun p hp => ?_⟩, fun p hp => ?_⟩
      · show (if p < L then T p else if p < L + 20 then (by2 p1 p2 p3 p4 p5 (p - L)).toNatClampNeg else 256) < 256
        by_cases a : p < L
        · rw [if_pos a]; exact hT.1.2.1 p a
        · rw [if_neg a, if_pos hp]
          obtain ⟨t, h1, h2, -⟩ := tb (p - L)
          omega
      · show (if p < L then T p else if p < L + 20 then (by2 p1 p2 p3 p4 p5 (p - L)).toNatClampNeg else 256) = 256
        rw [if_neg (by omega), if_neg (by omega)]
      · show ((if p < L then T p else if p < L + 20 then (by2 p1 p2 p3 p4 p5 (p - L)).toNatClampNeg else 256) < 128 ∧ (if L ≤ p ∧ p < L + 20 then by1 p1 p2 p3 p4 p5 (p - L) else U.2 10 p) = nI (if p < L then T p else if p < L + 20 then (by2 p1 p2 p3 p4 p5 (p - L)).toNatClampNeg else 256)) ∨ (128 ≤ (if p < L then T p else if p < L + 20 then (by2 p1 p2 p3 p4 p5 (p - L)).toNatClampNeg else 256) ∧ (if L ≤ p ∧ p < L + 20 then by1 p1 p2 p3 p4 p5 (p - L) else U.2 10 p) < 0)
        by_cases a : p < L
        · rw [if_pos a, if_neg (show ¬ (L ≤ p ∧ p < L + 20) by omega)]
          exact hT.2 p a
        · rw [if_neg a, if_pos hp, if_pos (show L ≤ p ∧ p < L + 20 by omega)]
          obtain ⟨t, h1, h2, h3⟩ := tb (p - L)
          rw [h2]; exact h3
    · intro k hk
      show (if L ≤ k ∧ k < L + 20 then by2 p1 p2 p3 p4 p5 (k - L) else M.2 3 k) = nI (if k < L then T k else if k < L + 20 then (by2 p1 p2 p3 p4 p5 (k - L)).toNatClampNeg else 256)
      by_cases a : k < L
      · rw [if_neg (by omega), if_pos a]; exact r6 k a
      · rw [if_pos (by omega), if_neg a, if_pos hk]
        obtain ⟨t, h1, h2, h3⟩ := by_pv p1 p2 p3 p4 p5 (k - L)
        rw [h2, nI_clamp (by omega)]
  · have g8 : gI τ (aad A1 2) 2 1 = some (nI L) := gI_of (C1.1.2.1 2) (k := 1) (v := nI L) (by rw [← r1]; rfl) rfl
    have e20 : ¬ nI L + 20 ≤ 400 := by rw [show (20 : Int32) = nI 20 from rfl, nI_add, show (400 : Int32) = nI 400 from rfl, nI_leI (by omega) (by omega)]; exact hL
    have fa : f_X3_add (aad A1 2) (some (zn σ)) τ = some (-1, τ) := by
      unfold f_X3_add
      rw [ybind_eq g8, if_neg e20]
    have hD := St_D T1 hDS
    refine ⟨-1, τ, A1, U, mset M 0 0, L, by rw [zb2_eq fa], g_feed0 r2 hL hn, ⟨C1, hDS, Ev_St E T1, zLk_St K T1, ⟨d, by show zsv _ 1 = _; rw [T1.1]; exact hd⟩, I, R, Lw_St LW hD (by rw [harf]) (fun _ h => h) (fun j _ => rfl), ⟨r1, r2, ⟨k0, r4⟩, r5, T, hT, r6⟩, Im_St IM hD (by rw [harf]) (fun _ h => h) rfl (fun j _ => rfl), BZ⟩, by omega, T1, ha⟩
/-- the tape is cut -/
theorem F_end (H : Iv c L σ A N U S D M) (p : Int32) : ∃ v σ' A' U' M' L', f_X1_end (aad A 0) p σ = some (v, σ') ∧ g_X6_end p M = some (v, M') ∧ Iv c L' σ' A' N U' S D M' ∧ L' ≤ L ∧ ySt σ σ' S 0 0 ∧ (∀ r, r < 16 → aad A' r = aad A r) := by
  have H0 := H
  obtain ⟨C, hDS, E, K, ⟨d, hd⟩, I, R, LW, ⟨r1, r2, ⟨k0, r4⟩, r5, T, hT, r6⟩, IM, BZ⟩ := H
  have hn := hT.1.1
  have cl2 : zcl σ (aad A 2) = 2 := cl_of (C.1.2.1 2) rfl
  have g02 : gR σ (aad A 0) 0 2 = some (some (aad A 2)) := gR_of (C.1.2.1 0) (k := 2) (q := some (aad A 2)) rfl rfl
  have g8 : gI σ (aad A 2) 2 1 = some (nI L) := gI_of (C.1.2.1 2) (k := 1) (v := nI L) (by rw [← r1]; rfl) rfl
  have IvT : Iv c L σ A N U S D (mset M 0 0) := ⟨C, hDS, E, K, ⟨d, hd⟩, I, R, LW, ⟨r1, r2, ⟨k0, r4⟩, r5, T, hT, r6⟩, IM, BZ⟩
  have m6 : (mset M 0 0).1 6 = nI L := r2
  by_cases hp : 0 ≤ p ∧ p ≤ nI L
  · obtain ⟨j, -, hj, rfl⟩ := x_in (a := 0) (b := L) (by omega) hp (by omega)
    have hp8 : pI σ (aad A 2) 2 1 (nI j) = some (pU σ A N (uset U 8 (nI j))) := by
      have := pI8 (σ := σ) (U := U) C.1.1 (nI j)
      rw [Cs_id C] at this
      exact this
    have fc : f_X3_cut (aad A 2) (nI j) σ = some (1, pU σ A N (uset U 8 (nI j))) := by
      unfold f_X3_cut
      rw [if_neg (nI_pos (by omega)), ybind_eq g8, if_pos hp.2, ybind_eq hp8]
    obtain ⟨C2, T2⟩ := Cs_pU (U' := uset U 8 (nI j)) C rfl
    have hD := St_D T2 hDS
    refine ⟨1, _, A, uset U 8 (nI j), mset (mset M 0 0) 6 (nI j), j, ?_, ?_, ⟨C2, hDS, Ev_St E T2, zLk_St K T2, ⟨d, by show zsv _ 1 = _; rw [T2.1]; exact hd⟩, ?_, ?_, Lw_St LW hD rfl (fun _ h => h) (fun j _ => rfl), ⟨rfl, rfl, ⟨k0, r4⟩, r5, fun k => if k < j then T k else 256, ?_, ?_⟩, Im_St IM hD rfl (fun _ h => h) rfl (fun j _ => rfl), BZ⟩, hj, T2, fun _ _ => rfl⟩
    · unfold f_X1_end
      rw [ybind_eq g02, bd_at, zif_t cl2, zb2_eq fc, zbo_ok (Or.inr rfl)]
    · unfold g_X6_end g_X6_isIn
      rw [zl_at, m6, if_neg (nI_pos (by omega)), if_neg (Int32.not_lt.mpr hp.2), zb2_at, if_pos kk1, zl_at]
    · unfold RI at I ⊢
      exact I
    · unfold yRM at R ⊢
      exact R
    · refine ⟨⟨by omega, fun p hp => ?_, fun p hp => ?_⟩, fun p hp => ?_⟩
      · show (if p < j then T p else 256) < 256
        rw [if_pos hp]; exact hT.1.2.1 p (by omega)
      · show (if p < j then T p else 256) = 256
        rw [if_neg (by omega)]
      · show ((if p < j then T p else 256) < 128 ∧ U.2 10 p = nI (if p < j then T p else 256)) ∨ (128 ≤ (if p < j then T p else 256) ∧ U.2 10 p < 0)
        rw [if_pos hp]; exact hT.2 p (by omega)
    · intro k hk
      show M.2 3 k = nI (if k < j then T k else 256)
      rw [if_pos hk]; exact r6 k (by omega)
  · refine ⟨0, σ, A, U, mset M 0 0, L, ?_, ?_, IvT, Nat.le_refl _, St_r, fun _ _ => rfl⟩
    · have fc : f_X3_cut (aad A 2) p σ = some (0, σ) := by
        unfold f_X3_cut
        by_cases z : p < 0
        · rw [if_pos z]
        · rw [if_neg z, ybind_eq g8, if_neg (fun q => hp ⟨Int32.not_lt.mp z, q⟩)]
      unfold f_X1_end
      rw [ybind_eq g02, bd_at, zif_t cl2, zb2_eq fc, zbo_ok (Or.inl rfl)]
    · unfold g_X6_end g_X6_isIn
      rw [zl_at, m6]
      by_cases z : p < 0
      · rw [if_pos z, zb2_at, if_neg kk0]
      · rw [if_neg z, if_pos (Int32.not_le.mp fun q => hp ⟨Int32.not_lt.mp z, q⟩), zb2_at, if_neg kk0]
/-- the latest fault -/
theorem F_fault (H : Iv c L σ A N U S D M) : ∃ v, f_X1_fault (aad A 0) σ = some (v, σ) ∧ g_X6_fault M = some (v, mset M 0 0) ∧ Iv c L σ A N U S D (mset M 0 0) := by
  obtain ⟨C, hDS, E, K, ⟨d, hd⟩, I, R, LW, ⟨r1, r2, ⟨k0, r4⟩, r5, T, hT, r6⟩, IM, BZ⟩ := H
  refine ⟨U.1 12, ?_, ?_, ⟨C, hDS, E, K, ⟨d, hd⟩, I, R, LW, ⟨r1, r2, ⟨k0, r4⟩, r5, T, hT, r6⟩, IM, BZ⟩⟩
  · have h := e_X1_fault (σ := σ) (A := A) (N := N) C.1.1 (U := U) (Rt := (U.1 12, U)) rfl
    rw [Cs_id C] at h
    exact h
  · unfold g_X6_fault
    rw [zl_at]
    show some (M.1 10, mset M 0 0) = _
    rw [r5]
end ZZ1
