/-! pure land: Z7 Z8 (see wip/D-94657w/pl) -/
section ZZ7
variable {T : Nat → Nat} {n p c s L : Nat} {N : Nat → Nat} {U : cU} {m m' : Nat → Int32} {M M2 M3 : mS} {d e x : Int32}
/-- what a text keeps of the numbers -/
def kpU (U U' : cU) : Prop := (∀ k, k ≠ 1 → k ≠ 2 → k ≠ 3 → U'.1 k = U.1 k) ∧ ∀ t, 4 ≤ t → U'.2 t = U.2 t
theorem kpU_r : kpU U U := ⟨fun _ _ _ _ => rfl, fun _ _ => rfl⟩
theorem kpU_t {U' U'' : cU} (h : kpU U U') (h' : kpU U' U'') : kpU U U'' := ⟨fun k a b d => (h'.1 k a b d).trans (h.1 k a b d), fun t ht => (h'.2 t ht).trans (h.2 t ht)⟩
def kpR (N : Nat → Nat) (U : cU) (r : pR9 NU9) : Prop := match r with
  | .inl _ => True
  | .inr (X, _) => kpU U X.2 ∧ X.1 4 = N 4
theorem kp_fig {ylo hi dg : Nat} {K : Nat → Nat → pR9 NU9} (hK : ∀ v q, kpR N U (K v q)) : kpR N U (match pFig ylo hi dg T p with
    | .inl e => .inl e
    | .inr (v, q) => K v q) := by
  generalize pFig ylo hi dg T p = r
  match r with
  | .inl e => exact True.intro
  | .inr (v, q) => exact hK v q
theorem kp_utab {t k : Nat} {x : Int32} (ht : t < 4) : kpU U (utab U t k x) := ⟨fun _ _ _ _ => rfl, fun q hq => if_neg (by omega)⟩
theorem kp_uset {k : Nat} {x : Int32} (hk : k = 1 ∨ k = 2 ∨ k = 3) : kpU U (uset U k x) := ⟨fun q a b d => if_neg (by omega), fun _ _ => rfl⟩
theorem kp_wk {so a h z q : Nat} : kpR N U (.inr (wkU N U so a h z, q)) := ⟨kpU_t (kpU_t (kpU_t (kp_utab (by omega)) (kp_utab (by omega))) (kp_utab (by omega))) (kp_utab (by omega)), rfl⟩
theorem kp_pWk {so s : Nat} : kpR N U (pWk T N U so s p) := by
  unfold pWk
  split
  · exact True.intro
  · refine kp_fig (fun v q => ?_)
    unfold pOf
    split
    · refine kp_fig (fun v2 q2 => ?_)
      unfold pZe
      split
      · exact kp_fig (fun v3 q3 => kp_wk)
      · exact kp_wk
    · exact True.intro
theorem kp_pPp : kpR N U (pPp T N U p) := by
  unfold pPp
  split
  · unfold pHo
    split
    · exact True.intro
    · exact kp_fig (fun v q => ⟨kpU_t (kp_utab (by omega)) (kp_uset (by omega)), rfl⟩)
  · split
    · exact kp_pWk
    · split
      · exact kp_pWk
      · split
        · exact kp_pWk
        · split
          · exact kp_pWk
          · split
            · unfold pTu
              split
              · exact True.intro
              · exact kp_fig (fun v q => ⟨kpU_t (kpU_t (kp_utab (by omega)) (kp_utab (by omega))) (kp_utab (by omega)), rfl⟩)
            · split
              · exact kp_fig (fun v q => ⟨kp_uset (by omega), rfl⟩)
              · split
                · exact kp_fig (fun v q => ⟨kp_uset (by omega), rfl⟩)
                · split
                  · unfold pOff
                    split
                    · exact True.intro
                    · refine kp_fig (fun v q => ?_)
                      unfold pFo
                      split
                      · exact kp_fig (fun v2 q2 => ⟨kpU_t (kp_utab (by omega)) (kp_utab (by omega)), rfl⟩)
                      · exact True.intro
                  · exact True.intro
theorem kp_pPt : ∀ k l (X : NU9) p, kpR X.1 X.2 (pPt T k l X p) := by
  intro k
  induction k with
  | zero => intro l X p; exact ⟨kpU_r, rfl⟩
  | succ k ih =>
    intro l X p
    unfold pPt
    split
    · exact True.intro
    · have h := kp_pPp (T := T) (N := X.1) (U := X.2) (p := p)
      generalize pPp T X.1 X.2 p = r at h
      match r, h with
      | .inl e, _ => exact True.intro
      | .inr (X', q), h =>
        show kpR X.1 X.2 (if T (sk T q) = 256 then .inr (X', sk T q) else if T (sk T q) = 59 then pPt T k (l + 1) X' (sk T q + 1) else .inl (sk T q))
        split
        · exact h
        · split
          · have h2 := ih (l + 1) X' (sk T q + 1)
            generalize pPt T k (l + 1) X' (sk T q + 1) = r2 at h2
            match r2, h2 with
            | .inl e, _ => exact True.intro
            | .inr (X2, q2), h2 => exact ⟨kpU_t h.1 h2.1, h2.2.trans h.2⟩
          · exact True.intro
theorem kp_pPe (X : NU9) : kpR X.1 X.2 (pPe T X) := by
  unfold pPe
  split
  · exact ⟨kpU_r, rfl⟩
  · exact kp_pPt 15 0 X 0
/-- the row is copied away -/
theorem g_pp2 {R : Option (Int32 × mS)} (hR : g_X6_people_2_b (zlp1 g_X6_people_2_b 0) (nI 542) (cpR M 2 0 542) = R) (hR' : ∀ rf, g_X6_people_2_b rf (nI 542) (cpR M 2 0 542) = R) : g_X6_people M = R := by
  unfold g_X6_people g_X6_people_2
  have q := zlp1_it (F := g_X6_people_2_b) (n := 542) (R := R) (fun i => nI i) (fun i => cpR M 2 0 i) (fun i rf hi => ?_) (fun rf => hR' rf) NN (NN_lt (by omega))
  · rw [cpR_0 2 0] at q
    exact q
  · show g_X6_people_2_b rf (nI i) (cpR M 2 0 i) = rf (nI (i + 1)) (cpR M 2 0 (i + 1))
    unfold g_X6_people_2_b
    rw [show (542 : Int32) = nI 542 from rfl, nleF hi (by omega), mL_n (j := 0) (show i < 942 by omega) (by omega), bd_at, mj_set (j := 2) (show i < 542 by omega), bd_at, zl_at, nI_1, cpR_s (by omega)]
/-- the row is copied back -/
theorem g_pp78 : ∃ M', g_X6_people_78 0 M = some (0, M') ∧ M'.1 = M.1 ∧ (∀ j, j ≠ 0 → M'.2 j = M.2 j) ∧ (∀ k, k < 542 → M'.2 0 k = M.2 2 k) ∧ ∀ k, 542 ≤ k → M'.2 0 k = M.2 0 k := by
  refine ⟨cpR M 0 2 542, ?_, rfl, fun j hj => if_neg hj, fun k hk => ?_, fun k hk => ?_⟩
  · unfold g_X6_people_78
    have q := zlp1_it (F := g_X6_people_78_b) (n := 542) (R := some (0, cpR M 0 2 542)) (fun i => nI i) (fun i => cpR M 0 2 i) (fun i rf hi => ?_) (fun rf => ?_) NN (NN_lt (by omega))
    · rw [cpR_0 0 2] at q
      exact q
    · show g_X6_people_78_b rf (nI i) (cpR M 0 2 i) = rf (nI (i + 1)) (cpR M 0 2 (i + 1))
      unfold g_X6_people_78_b
      rw [show (542 : Int32) = nI 542 from rfl, nleF hi (by omega), mL_n (j := 2) (show i < 542 by omega) (by omega), bd_at, mj_set (j := 0) (show i < 942 by omega), bd_at, zl_at, nI_1, cpR_s (by omega)]
    · show g_X6_people_78_b rf (nI 542) (cpR M 0 2 542) = _
      unfold g_X6_people_78_b
      rw [if_pos (show (542 : Int32) ≤ nI 542 from Int32.le_refl _)]
  · show (if 0 = 0 then (fun k => if k < 542 then M.2 2 k else M.2 0 k) else M.2 0) k = _
    rw [if_pos rfl, if_pos hk]
  · show (if 0 = 0 then (fun k => if k < 542 then M.2 2 k else M.2 0 k) else M.2 0) k = _
    rw [if_pos rfl, if_neg (by omega)]
/-- what the model's people leave as it was -/
def KP (M M' : mS) : Prop := M'.1 6 = 0 ∧ M'.1 3 = M.1 3 ∧ M'.1 14 = M.1 14 ∧ M'.1 15 = M.1 15 ∧ (∀ j, j ≠ 0 → j ≠ 2 → M'.2 j = M.2 j) ∧ ∀ k, (k = 10 ∨ k = 11 ∨ 542 ≤ k) → M'.2 0 k = M.2 0 k
theorem g_people (hT : Tx T L) (h6 : M.1 6 = nI L) (ht : ∀ k, k < L → M.2 3 k = nI (T k)) (I : RI c N U) (hc : c < 2 ^ 31) (R : yRM N U (M.2 0)) : match pPe T (N, U) with
    | .inl e => ∃ M', e ≤ L ∧ g_X6_people M = some (0, M') ∧ M'.1 0 = 1 ∧ M'.1 10 = nI e ∧ KP M M' ∧ (∀ k, k < 942 → M'.2 0 k = M.2 0 k)
    | .inr (X, _) => (U.1 0 = 10 → ∃ M', g_X6_people M = some (0, M') ∧ M'.1 0 = 2 ∧ M'.1 10 = -1 ∧ KP M M' ∧ (∀ k, k < 942 → M'.2 0 k = M.2 0 k)) ∧ (¬ U.1 0 = 10 → ∃ M', g_X6_people M = some (U.1 0 + 1, M') ∧ M'.1 0 = 0 ∧ M'.1 10 = -1 ∧ KP M M' ∧ RI c X.1 (uset X.2 0 (U.1 0 + 1)) ∧ yRM X.1 (uset X.2 0 (U.1 0 + 1)) (M'.2 0)) := by
  have hn := hT.1
  let Mb := cpR M 2 0 542
  have b0 : Mb.2 0 = M.2 0 := rfl
  have b2 : ∀ k, k < 542 → Mb.2 2 k = M.2 0 k := fun k hk => by
    show (if 2 = 2 then (fun k => if k < 542 then M.2 0 k else M.2 2 k) else M.2 2) k = _
    rw [if_pos rfl, if_pos hk]
  have tm : yTM (bgM Mb) T L := ⟨hT, h6, Or.inl ⟨rfl, ht⟩⟩
  have G := g_read0 (c := c) tm (N, U) I hc (by show yRM N U (Mb.2 0); rw [b0]; exact R)
  have K9 := kp_pPe (T := T) (N, U)
  rw [bgM_id] at G
  have head : ∀ rf, g_X6_people_2_b rf (nI 542) (cpR M 2 0 542) = zb2 (g_X6_read 0 (bgM Mb)) fun x3 M4 => if (M4.1 10) = (-1) then (mL M4 0 0).bind fun x5 => if ¬ x5 = 10 then g_X6_people_66 0 M4 else g_X6_people_66 2 M4 else g_X6_people_66 1 M4 := by
    intro rf
    unfold g_X6_people_2_b
    rw [if_pos (show (542 : Int32) ≤ nI 542 from Int32.le_refl _), g_begins, zb2_at]
  -- thrown: all is as it was
  have UNDO : ∀ (M2 : mS) (q e d : Int32) (t : Int32), FrM (bgM Mb) M2 → (t = 1 ∨ t = 2) → ∃ M', g_X6_people_66 t (m3 M2 q e d) = some (0, M') ∧ M'.1 0 = t ∧ M'.1 10 = e ∧ KP M M' ∧ ∀ k, k < 942 → M'.2 0 k = M.2 0 k := by
    intro M2 q e d t hf ht
    obtain ⟨M', a1, a2, a3, a4, a5⟩ := g_pp78 (M := mset (m3 M2 q e d) 0 t)
    have hall : ∀ k, M'.2 0 k = M.2 0 k := fun k => by
      rcases Nat.lt_or_ge k 542 with w | w
      · rw [a4 k w]
        show M2.2 2 k = _
        rw [hf.2.1 2 (by omega)]; exact b2 k w
      · rw [a5 k w]
        show M2.2 0 k = _
        rw [hf.2.2 k (by omega)]
        show Mb.2 0 k = _
        rw [b0]
    refine ⟨M', ?_, by rw [a2]; rfl, by rw [a2]; rfl, ⟨?_, ?_, ?_, ?_, fun j j0 j2 => ?_, fun k _ => hall k⟩, fun k _ => hall k⟩
    · unfold g_X6_people_66
      rw [zl_at, if_neg (show ¬ (mset (m3 M2 q e d) 0 t).1 0 ≤ 0 by
        show ¬ t ≤ 0
        rcases ht with rfl | rfl <;> decide), a1]
    · rw [a2]; show M2.1 6 = 0; rw [hf.1]; rfl
    · rw [a2]; show M2.1 3 = _; rw [hf.1]; rfl
    · rw [a2]; show M2.1 14 = _; rw [hf.1]; rfl
    · rw [a2]; show M2.1 15 = _; rw [hf.1]; rfl
    · rw [a3 j j0]
      show M2.2 j = _
      rw [hf.2.1 j j0]
      exact if_neg j2
  have hb : ∀ e, pPe T (N, U) = .inl e → True := fun _ _ => True.intro
  generalize pPe T (N, U) = r at G K9
  match r, G, K9 with
  | .inl e, G, _ =>
    obtain ⟨M2, v, q, d', he, hf, e1⟩ := G
    have hne := nI_ne1 (show e ≤ 1000 by omega)
    obtain ⟨M', u1, u2, u3, u4, u5⟩ := UNDO M2 (nI q) (nI e) d' 1 hf (Or.inl rfl)
    refine ⟨M', he, g_pp2 ?_ ?_, u2, u3, u4, u5⟩
    · rw [head, zb2_eq e1, if_neg (show ¬ (m3 M2 (nI q) (nI e) d').1 10 = -1 from hne), u1]
    · intro rf
      rw [head, zb2_eq e1, if_neg (show ¬ (m3 M2 (nI q) (nI e) d').1 10 = -1 from hne), u1]
  | .inr (X, q), G, K9 =>
    obtain ⟨M2, v, q0, hf, I2, R2, e1⟩ := G
    have k0 : X.2.1 0 = U.1 0 := K9.1.1 0 (by omega) (by omega) (by omega)
    have m0 : M2.2 0 0 = U.1 0 := (RM_m0 R2).trans k0
    have l0 : mL (m3 M2 q0 (-1) 0) 0 0 = some (U.1 0) := (m3_L (M := M2) (j := 0) (k := 0) (show 0 < 942 by omega) (by omega)).trans (congrArg some m0)
    refine ⟨fun h10 => ?_, fun h10 => ?_⟩
    · obtain ⟨M', u1, u2, u3, u4, u5⟩ := UNDO M2 q0 (-1) 0 2 hf (Or.inr rfl)
      have hd : ∀ rf, g_X6_people_2_b rf (nI 542) (cpR M 2 0 542) = some (0, M') := fun rf => by
        rw [head, zb2_eq e1, if_pos (show (m3 M2 q0 (-1) 0).1 10 = -1 from rfl), l0, bd_at, if_neg (fun q => q h10), u1]
      exact ⟨M', g_pp2 (hd _) hd, u2, u3, u4, u5⟩
    · obtain ⟨t, ht9, et⟩ := RI_txt I
      have ht10 : t < 10 := by
        rw [et] at h10
        have : ¬ t = 10 := fun q => h10 (by rw [q]; rfl)
        omega
      let M5 : mS := mset (m3 M2 q0 (-1) 0) 0 0
      have s0 : mSt M5 0 0 (U.1 0 + 1) = some (mj M5 0 0 (U.1 0 + 1)) := mj_set (j := 0) (k := 0) (show 0 < 942 by omega)
      have l5 : mL M5 0 0 = some (U.1 0) := l0
      have l6 : mL (mj M5 0 0 (U.1 0 + 1)) 0 0 = some (U.1 0 + 1) := (mL_n (M := mj M5 0 0 (U.1 0 + 1)) (j := 0) (k := 0) (show 0 < 942 by omega) (by omega)).trans (by rw [mj_0, if_pos rfl])
      have hd : ∀ rf, g_X6_people_2_b rf (nI 542) (cpR M 2 0 542) = some (U.1 0 + 1, mj M5 0 0 (U.1 0 + 1)) := fun rf => by
        rw [head, zb2_eq e1, if_pos (show (m3 M2 q0 (-1) 0).1 10 = -1 from rfl), l0, bd_at, if_pos h10]
        unfold g_X6_people_66
        rw [zl_at, if_pos (show M5.1 0 ≤ 0 from Int32.le_refl _), l5, bd_at, s0, bd_at, l6, bd_at]
      refine ⟨mj M5 0 0 (U.1 0 + 1), g_pp2 (hd _) hd, rfl, rfl, ⟨?_, ?_, ?_, ?_, fun j j0 j2 => ?_, fun k hk => ?_⟩, ?_, ?_⟩
      · show M2.1 6 = 0; rw [hf.1]; rfl
      · show M2.1 3 = _; rw [hf.1]; rfl
      · show M2.1 14 = _; rw [hf.1]; rfl
      · show M2.1 15 = _; rw [hf.1]; rfl
      · show (if j = 0 then _ else M2.2 j) = _
        rw [if_neg j0, hf.2.1 j j0]
        exact if_neg j2
      · rw [mj_0, if_neg (by omega)]
        show M2.2 0 k = _
        rw [hf.2.2 k (by omega)]
        show Mb.2 0 k = _
        rw [b0]
      · obtain ⟨n0, n1, n2, n3, n4, hou, txt, rest⟩ := I2
        exact ⟨n0, n1, n2, n3, n4, hou, by show bd 10 (U.1 0 + 1); rw [et, nI_1]; exact nI_bd (by omega), rest⟩
      · have hN : X.1 1 ≤ 12 ∧ X.1 2 ≤ 10 ∧ X.1 3 ≤ 12 ∧ X.1 4 ≤ 60 := ⟨RI_n1 I2, RI_n2 I2, RI_n3 I2, RI_n4 I2⟩
        have hr : ∀ k, (mj M5 0 0 (U.1 0 + 1)).2 0 k = if k = 0 then U.1 0 + 1 else M2.2 0 k := fun k => rfl
        obtain ⟨h0, h1, h2, h3, h4, h5, h6, h7, h8, h9, hh10, h11, h12, h13, h14⟩ := R2
        have hk : ∀ k, k ≠ 0 → (mj M5 0 0 (U.1 0 + 1)).2 0 k = M2.2 0 k := fun k hk => by rw [hr, if_neg hk]
        refine ⟨(hr 0).trans (if_pos rfl), (hk _ (by omega)).trans h1, (hk _ (by omega)).trans h2, (hk _ (by omega)).trans h3, (hk _ (by omega)).trans h4, (hk _ (by omega)).trans h5, (hk _ (by omega)).trans h6, (hk _ (by omega)).trans h7, (hk _ (by omega)).trans h8, (hk _ (by omega)).trans h9, fun i hi => (hk _ (by omega)).trans (hh10 i hi), fun i hi => ?_, fun i hi => ?_, fun i hi => ?_, fun i hi => ?_⟩
        · rw [hk _ (by omega), hk _ (by omega), hk _ (by omega), hk _ (by omega)]; exact h11 i hi
        · rw [hk _ (by omega), hk _ (by omega), hk _ (by omega)]; exact h12 i hi
        · rw [hk _ (by omega), hk _ (by omega)]; exact h13 i hi
        · rw [hk _ (by omega), hk _ (by omega), hk _ (by omega), hk _ (by omega), hk _ (by omega), hk _ (by omega), hk _ (by omega)]; exact h14 i hi
end ZZ7
/-- a String whose hash may be known -/
def St8 (σ : zS) (w v L : Nat) (f : Nat → Int32) : Prop := (∃ x y, σ.1 w = some (.inr (21, [.ref v, .int 0, .int x, .int y]))) ∧ σ.1 v = some (.inl (1, L, .inl f)) ∧ zbs σ ≤ w ∧ w < zn σ ∧ v < zn σ
def hsf (f : Nat → Int32) : Nat → Int32
  | 0 => 0
  | k + 1 => 31 * hsf f k + f k
theorem hsf_eq {f g : Nat → Int32} : ∀ k, (∀ i, i < k → f i = g i) → hsf f k = hsf g k := by
  intro k
  induction k with
  | zero => intro _; rfl
  | succ k ih =>
    intro h
    show 31 * hsf f k + f k = 31 * hsf g k + g k
    rw [ih (fun i hi => h i (by omega)), h k (by omega)]
def hcon (i : Nat) : Int32 := [99469088, 107866, 94631196, -1326158276, 1032691795, 3571837, 102976443, 3496916, 105650780].getD i 0
theorem hcon_eq : ∀ i, i < 9 → hsf (fun k => (zTb i).getD k 0) (zTb i).length = hcon i := by decide +kernel
section ZZ8
variable {σ σ' σ'' τ : zS} {o rd tp n p s m d a b q z l e cap c va : Nat} {tl ft : Int32} {g : Nat → Int32} {T : Nat → Nat}
/-- a word and a constant -/
theorem f_equals8 (hL : zLit σ) {i : Nat} (hi : i < 23) {w vw L ca : Nat} {f : Nat → Int32} (hw : St8 σ w vw L f) (hLn : L ≤ 400) (hca : zk σ (100 + i) = some ca) : f_J10_equals w (some ca) σ = some (if L = (zTb i).length ∧ ∀ k, k < (zTb i).length → f k = (zTb i).getD k 0 then 1 else 0, σ) := by
  obtain ⟨a, v, fc, e1, e2, e3, e4, e5, e6⟩ := hL i hi
  obtain ⟨⟨hx, hy, w1⟩, w2, w3, w4, w5⟩ := hw
  have hl := (zTb_ne i hi).2.1
  have ha : a = ca := by
    have : zsv σ (100 + i) = some ca := hca
    rw [e1] at this
    exact Option.some.inj this
  subst ha
  have hne : ¬ (some w = some a) := fun q => by have := Option.some.inj q; omega
  have c1 : zcl σ a = 21 := by unfold zcl; rw [e4]
  have c2 : zckC σ (some a) 21 = true := by
    show Nat.beq (zcl σ a) 21 = true
    rw [c1]; rfl
  have gfc : gI σ a 21 1 = some 0 := by unfold gI zfld; rw [e4]; rfl
  have grc : gR σ a 21 0 = some (some v) := by unfold gR zfld; rw [e4]; rfl
  have gfw : gI σ w 21 1 = some 0 := gI_of w1 rfl rfl
  have grw : gR σ w 21 0 = some (some vw) := gR_of w1 rfl rfl
  have eq : f_J12_equals (some vw) (some v) σ = some (if L = (zTb i).length ∧ ∀ k, k < (zTb i).length → f k = (zTb i).getD k 0 then 1 else 0, σ) := by
    unfold f_J12_equals
    rw [bd_at, ybind_eq (aln_of w2), bd_at, ybind_eq (aln_of e5)]
    by_cases z : L = (zTb i).length
    · rw [if_neg (show ¬ ¬ Int32.ofNat L = Int32.ofNat (zTb i).length from fun q => q (by rw [z]))]
      have H : ∀ j k fu, k + j = (zTb i).length → j < fu → (∀ k', k' < k → f k' = (zTb i).getD k' 0) → zlp1 (f_J12_equals_9_b (some vw) (some v)) fu (nI k) σ = some (if L = (zTb i).length ∧ ∀ k, k < (zTb i).length → f k = (zTb i).getD k 0 then 1 else 0, σ) := by
        intro j
        induction j with
        | zero =>
          intro k fu h1 h2 h3
          obtain ⟨fu, rfl⟩ : ∃ f', fu = f' + 1 := ⟨fu - 1, by omega⟩
          show f_J12_equals_9_b _ _ _ _ _ = _
          unfold f_J12_equals_9_b
          rw [bd_at, ybind_eq (aln_of w2), show Int32.ofNat L = nI L from rfl, if_pos (nI_le (by omega) (by omega)), if_pos ⟨z, fun k' hk' => h3 k' (by omega)⟩]
        | succ j ih =>
          intro k fu h1 h2 h3
          obtain ⟨fu, rfl⟩ : ∃ f', fu = f' + 1 := ⟨fu - 1, by omega⟩
          show f_J12_equals_9_b (some vw) (some v) (zlp1 (f_J12_equals_9_b (some vw) (some v)) fu) _ _ = _
          have ih' := ih (k + 1) fu
          generalize zlp1 (f_J12_equals_9_b (some vw) (some v)) fu = rf at ih'
          unfold f_J12_equals_9_b
          rw [bd_at, ybind_eq (aln_of w2), show Int32.ofNat L = nI L from rfl, nleF (show k < L by omega) (by omega), ybind_eq (lI_of w2 (d := 1) rfl (show k < L by omega) (by omega)), bd_at, ybind_eq (lI_of e5 (d := 1) rfl (show k < (zTb i).length by omega) (by omega)), e6 k (by omega)]
          by_cases y : f k = (zTb i).getD k 0
          · rw [if_pos y, zl_at, nI_1]
            exact ih' (by omega) (by omega) (fun k' hk' => by
              by_cases x : k' = k
              · rw [x]; exact y
              · exact h3 k' (by omega))
          · rw [if_neg y, if_neg (fun q => y (q.2 k (by omega)))]
      exact H (zTb i).length 0 NN (by omega) (NN_lt (by omega)) (fun k' hk' => absurd hk' (Nat.not_lt_zero _))
    · have : ¬ Int32.ofNat L = Int32.ofNat (zTb i).length := by
        show ¬ nI L = nI (zTb i).length
        rw [nI_inj (by omega) (by omega)]; exact z
      rw [if_pos this, if_neg (fun q => z q.1)]
  have e36 : f_J10_equals_36 w (some a) σ = some (if L = (zTb i).length ∧ ∀ k, k < (zTb i).length → f k = (zTb i).getD k 0 then 1 else 0, σ) := by
    unfold f_J10_equals_36
    rw [ybind_eq grw, bd_at, ybind_eq grc, zb2_eq eq]
    by_cases z : L = (zTb i).length ∧ ∀ k, k < (zTb i).length → f k = (zTb i).getD k 0
    · rw [if_pos z, if_neg kk1]
    · rw [if_neg z, if_pos rfl]
  unfold f_J10_equals
  rw [if_pos hne, bd_at, zif_t c1, if_neg kk1, zif_t c2, if_neg kk1, ybind_eq gfw, ybind_eq gfc, if_neg kk0]
  exact e36

theorem let255 : ∀ t, t < 256 → nI t &&& 255 = nI t := by decide +kernel
/-- the hash of a word of letters -/
theorem f_hash {w v L : Nat} {f : Nat → Int32} (hw : St9 σ w v L f) (hL : L ≤ 400) (hf : ∀ k, k < L → ∃ t, t < 256 ∧ f k = nI t) : ∃ τ, f_J10_hashCode w σ = some (hsf f L, τ) ∧ St8 τ w v L f ∧ (∀ q, q ≠ w → τ.1 q = σ.1 q) ∧ τ.2 = σ.2 := by
  obtain ⟨w1, w2, w3, w4, w5⟩ := hw
  have wv : w ≠ v := fun e => by rw [e, w2] at w1; cases w1
  have h2 : gI σ w 21 2 = some 0 := gI_of w1 rfl rfl
  have h3 : gI σ w 21 3 = some 0 := gI_of w1 rfl rfl
  have h1 : gI σ w 21 1 = some 0 := gI_of w1 rfl rfl
  have h0 : gR σ w 21 0 = some (some v) := gR_of w1 rfl rfl
  have lat : f_J10_isLatin1 w σ = some (1, σ) := by
    unfold f_J10_isLatin1
    rw [if_neg kk1, ybind_eq h1, if_neg kk0]
  have h12 : f_J12_hashCode (some v) σ = some (hsf f L, σ) := by
    unfold f_J12_hashCode
    rw [bd_at, ybind_eq (aln_of w2), show Int32.ofNat L = nI L from rfl]
    by_cases z0 : L = 0
    · subst z0
      rw [if_pos (show nI 0 = 0 from rfl)]; rfl
    · have hne : ¬ nI L = 0 := by rw [show (0 : Int32) = nI 0 from rfl, nI_inj (by omega) (by omega)]; exact z0
      rw [if_neg hne]
      by_cases z1 : L = 1
      · subst z1
        obtain ⟨t, ht, et⟩ := hf 0 (by omega)
        have l0 : lI σ v 1 0 = some (f 0) := lI_of (i := 0) w2 (d := 1) rfl (by omega) (by omega)
        rw [if_pos (show nI 1 = 1 from rfl), ybind_eq l0, et, let255 t ht]
        have : hsf f 1 = nI t := by
          show 31 * 0 + f 0 = nI t
          rw [et]
          have : (31 * 0 : Int32) = 0 := by decide
          rw [this]; exact Int32.zero_add _
        rw [this]
      · have hne1 : ¬ nI L = 1 := by rw [show (1 : Int32) = nI 1 from rfl, nI_inj (by omega) (by omega)]; exact z1
        rw [if_neg hne1, ybind_eq (aln_of w2), show Int32.ofNat L = nI L from rfl]
        have ck : zckA σ (some v) 1 = true := by
          unfold zckA
          show (match σ.1 v with
            | some (.inl (u, _)) => Nat.beq u 1
            | _ => false) = true
          rw [w2]; rfl
        have hs : f_J5_signedHashCode 0 (some v) 0 (nI L) σ = some (hsf f L, σ) := by
          unfold f_J5_signedHashCode f_J5_signedHashCode_8
          rw [zl_at, show (0 : Int32) + nI L = nI L from Int32.zero_add _]
          have H : ∀ j k fu, k + j = L → j < fu → zlp2 (f_J5_signedHashCode_8_b (some v) (nI L)) fu (hsf f k) (nI k) σ = some (hsf f L, σ) := by
            intro j
            induction j with
            | zero =>
              intro k fu h1 h2
              obtain ⟨fu, rfl⟩ : ∃ f', fu = f' + 1 := ⟨fu - 1, by omega⟩
              show f_J5_signedHashCode_8_b _ _ _ _ _ _ = _
              unfold f_J5_signedHashCode_8_b
              have : k = L := by omega
              rw [this, if_pos (Int32.le_refl _)]
            | succ j ih =>
              intro k fu h1 h2
              obtain ⟨fu, rfl⟩ : ∃ f', fu = f' + 1 := ⟨fu - 1, by omega⟩
              show f_J5_signedHashCode_8_b (some v) (nI L) (zlp2 (f_J5_signedHashCode_8_b (some v) (nI L)) fu) _ _ _ = _
              have ih' := ih (k + 1) fu (by omega) (by omega)
              generalize zlp2 (f_J5_signedHashCode_8_b (some v) (nI L)) fu = rf at ih'
              obtain ⟨t, ht, et⟩ := hf k (by omega)
              have e255 : f k &&& 255 = f k := by rw [et, let255 t ht]
              unfold f_J5_signedHashCode_8_b
              rw [nleF (show k < L by omega) (by omega), bd_at, ybind_eq (lI_of w2 (d := 1) rfl (show k < L by omega) (by omega)), e255, zl_at, zl_at, nI_1]
              exact ih'
          exact H L 0 NN (by omega) (NN_lt (by omega))
        have hvv : f_J5_vectorizedHashCode (some v) 0 (nI L) 0 4 σ = some (hsf f L, σ) := by
          unfold f_J5_vectorizedHashCode
          rw [if_neg (by decide), if_pos rfl, zif_t ck, zb2_eq hs]
        rw [zb2_eq hvv]
  unfold f_J10_hashCode
  rw [ybind_eq h2, if_neg kk0, ybind_eq h3, if_neg kk0, zif_t (cl_of w1 rfl), zb2_eq lat, if_neg kk1, ybind_eq h0, zb2_eq h12]
  by_cases y : hsf f L = 0
  · have pz : pZ σ w 21 3 1 = some (zset σ w (.inr (21, [.ref v, .int 0, .int 0, .int 1]))) := pZ_of (Or.inr rfl) w1 (Nat.le_of_ble_eq_true rfl) w3
    rw [if_neg (fun q => q y), ybind_eq pz]
    exact ⟨_, rfl, ⟨⟨0, 1, zs_at⟩, (if_neg wv.symm).trans w2, w3, w4, w5⟩, fun q hq => if_neg hq, rfl⟩
  · have pi : pI σ w 21 2 (hsf f L) = some (zset σ w (.inr (21, [.ref v, .int 0, .int (hsf f L), .int 0]))) := pI_of w1 (Nat.le_of_ble_eq_true rfl) w3
    rw [if_pos y, ybind_eq pi]
    exact ⟨_, rfl, ⟨⟨_, 0, zs_at⟩, (if_neg wv.symm).trans w2, w3, w4, w5⟩, fun q hq => if_neg hq, rfl⟩
/-- the first word of a line is looked up -/
theorem f_disp (C : Cx σ o rd) (h : yRd σ rd tp tl ft g n p m d) (hT : TB g T n) (hp : p ≤ n) (hr : 450 ≤ zc σ ∧ 5100 ≤ zz σ) (p1 : Option Nat) : ∃ τ, yRd τ rd tp tl ft g n (we T (sk T p)) (sk T p) d ∧ Sp σ τ rd (4 + lnL T p) (24 + 5 * lnL T p) ∧ (∀ i, i < 9 → ywk i T (sk T p) = true → f_X1_peopleLine o p1 σ = f_X1_peopleLine_235 o p1 (some rd) (nI i) τ) ∧ ((∀ i, i < 9 → ¬ ywk i T (sk T p) = true) → f_X1_peopleLine o p1 σ = f_X1_peopleLine_235 o p1 (some rd) (-1) τ) := by
  have hn := hT.1.1
  have hbz := h.2.2.2.2.2.2.1
  have hrb := h.2.2.2.1
  obtain ⟨a1, a2, -, -⟩ := sk_spec hT.1 hp
  have ss := sk_sk hT.1 hp
  obtain ⟨b1, b2', -, b4⟩ := we_spec hT.1 a2
  obtain ⟨σ1, w, vw, f, x1, x2, x3, x4, x5, x6, x7⟩ := f_word h hT hp ⟨by omega, by omega⟩
  have hLn := lnL_le hT.1 hp
  have b1' := x3.2.2.1
  have C1 := Cx_Sp C x3 hrb hbz
  obtain ⟨τ, y1, y2, y3, y4⟩ := f_hash x4 (by omega) (fun k hk => ⟨T (sk T p + k), hT.1.2.1 _ (by omega), x5 k hk⟩)
  have en : zn τ = zn σ1 := congrArg (fun w => w.2.2.1) y4
  have ec : zc τ = zc σ1 := congrArg (fun w => w.2.2.2.1) y4
  have ez : zz τ = zz σ1 := congrArg (fun w => w.2.2.2.2) y4
  have ev : zsv τ = zsv σ1 := congrArg (fun w => w.1) y4
  have eb : zbs τ = zbs σ1 := congrArg (fun w => w.2.1) y4
  have n1 := x3.2.2.2.1
  have c1 := x3.2.2.2.2.1
  have z1 := x3.2.2.2.2.2
  have hrn := h.2.2.2.2.1
  have htn := h.2.2.2.2.2.1
  have Rτ : yRd τ rd tp tl ft g n (we T (sk T p)) (sk T p) d := by
    obtain ⟨r1, r2, r3, r4, r5, r6, r7, r8⟩ := x2
    exact ⟨by rw [y3 _ (by omega)]; exact r1, by rw [y3 _ (by omega)]; exact r2, r3, by omega, by omega, by omega, by omega, fun q hq => by rw [y3 q (by have := x4.2.2.2.1; omega)]; exact r8 q (by omega)⟩
  have Sτ : Sp σ τ rd (4 + lnL T p) (24 + 5 * lnL T p) := ⟨fun q h1 h2 => (y3 q (by omega)).trans (x3.1 q h1 h2), ev.trans x3.2.1, eb.trans b1', by omega, by show zc σ ≤ zc τ + (4 + (we T (sk T p) - sk T p)); omega, by show zz σ ≤ zz τ + (24 + 5 * (we T (sk T p) - sk T p)); omega⟩
  have Cτ := Cx_Sp C Sτ hrb hbz
  have clw : zcl σ1 w = 21 := cl_of x4.1 rfl
  have clτ : zcl τ w = 21 := by obtain ⟨⟨x, y, hh⟩, -⟩ := y2; exact cl_of hh rfl
  have hiff : ∀ i, i < 23 → ((we T (sk T p) - sk T p = (zTb i).length ∧ ∀ k, k < (zTb i).length → f k = (zTb i).getD k 0) ↔ ywk i T (sk T p) = true) := by
    intro i hi
    constructor
    · rintro ⟨q1, q2⟩
      exact decide_eq_true ⟨by omega, fun k hk => by rw [← x5 k (by omega)]; exact q2 k hk⟩
    · intro q
      obtain ⟨q1, q2⟩ := of_decide_eq_true q
      exact ⟨by omega, fun k hk => by rw [x5 k (by omega)]; exact q2 k hk⟩
  have hcon' : ∀ i, i < 9 → ywk i T (sk T p) = true → hsf f (we T (sk T p) - sk T p) = hcon i := by
    intro i hi hw
    obtain ⟨q1, q2⟩ := (hiff i (by omega)).mpr hw
    rw [q1, hsf_eq _ q2, hcon_eq i hi]
  have BR : ∀ i, i < 9 → ∃ ca, zk τ (100 + i) = some ca ∧ f_J10_equals w (some ca) τ = some (if ywk i T (sk T p) = true then 1 else 0, τ) := by
    intro i hi
    obtain ⟨ca, vca, fca, hca, -⟩ := Cτ.2.1.1 i (by omega)
    have hca' : zk τ (100 + i) = some ca := hca
    have eq := f_equals8 Cτ.2.1.1 (i := i) (by omega) y2 (by omega) hca'
    refine ⟨ca, hca', ?_⟩
    rw [eq]
    by_cases z : ywk i T (sk T p) = true
    · rw [if_pos z, if_pos ((hiff i (by omega)).mpr z)]
    · rw [if_neg z, if_neg (fun q => z ((hiff i (by omega)).mp q))]
  refine ⟨τ, Rτ, Sτ, ?_⟩
  generalize hH : hsf f (we T (sk T p) - sk T p) = H at y1 hcon'
  obtain ⟨c0, k0, e0⟩ := BR 0 (by omega)
  obtain ⟨c1', k1, e1⟩ := BR 1 (by omega)
  obtain ⟨c2, k2, e2⟩ := BR 2 (by omega)
  obtain ⟨c3, k3, e3⟩ := BR 3 (by omega)
  obtain ⟨c4', k4, e4⟩ := BR 4 (by omega)
  obtain ⟨c5, k5, e5⟩ := BR 5 (by omega)
  obtain ⟨c6, k6, e6⟩ := BR 6 (by omega)
  obtain ⟨c7, k7, e7⟩ := BR 7 (by omega)
  obtain ⟨c8, k8, e8⟩ := BR 8 (by omega)
  have head : f_X1_peopleLine o p1 σ = if H = (-1326158276) then (if (if ywk 3 T (sk T p) = true then (1 : Int32) else 0) = 0 then f_X1_peopleLine_235 o p1 (some rd) (-1) τ else f_X1_peopleLine_235 o p1 (some rd) 3 τ)
    else if H = 107866 then (if (if ywk 1 T (sk T p) = true then (1 : Int32) else 0) = 0 then f_X1_peopleLine_235 o p1 (some rd) (-1) τ else f_X1_peopleLine_235 o p1 (some rd) 1 τ)
    else if H = 3496916 then (if (if ywk 7 T (sk T p) = true then (1 : Int32) else 0) = 0 then f_X1_peopleLine_235 o p1 (some rd) (-1) τ else f_X1_peopleLine_235 o p1 (some rd) 7 τ)
    else if H = 3571837 then (if (if ywk 5 T (sk T p) = true then (1 : Int32) else 0) = 0 then f_X1_peopleLine_235 o p1 (some rd) (-1) τ else f_X1_peopleLine_235 o p1 (some rd) 5 τ)
    else if H = 94631196 then (if (if ywk 2 T (sk T p) = true then (1 : Int32) else 0) = 0 then f_X1_peopleLine_235 o p1 (some rd) (-1) τ else f_X1_peopleLine_235 o p1 (some rd) 2 τ)
    else if H = 99469088 then (if (if ywk 0 T (sk T p) = true then (1 : Int32) else 0) = 0 then f_X1_peopleLine_235 o p1 (some rd) (-1) τ else f_X1_peopleLine_235 o p1 (some rd) 0 τ)
    else if H = 102976443 then (if (if ywk 6 T (sk T p) = true then (1 : Int32) else 0) = 0 then f_X1_peopleLine_235 o p1 (some rd) (-1) τ else f_X1_peopleLine_235 o p1 (some rd) 6 τ)
    else if H = 105650780 then (if (if ywk 8 T (sk T p) = true then (1 : Int32) else 0) = 0 then f_X1_peopleLine_235 o p1 (some rd) (-1) τ else f_X1_peopleLine_235 o p1 (some rd) 8 τ)
    else if H = 1032691795 then (if (if ywk 4 T (sk T p) = true then (1 : Int32) else 0) = 0 then f_X1_peopleLine_235 o p1 (some rd) (-1) τ else f_X1_peopleLine_235 o p1 (some rd) 4 τ)
    else f_X1_peopleLine_235 o p1 (some rd) (-1) τ := by
    unfold f_X1_peopleLine
    rw [ybind_eq C.1.1, bd_at, zif_t (Rd_cl h), zb2_eq x1, bd_at, zif_t clw, zb2_eq y1, ybind_eq k0, ybind_eq k1, ybind_eq k2, ybind_eq k3, ybind_eq k4, ybind_eq k5, ybind_eq k6, ybind_eq k7, ybind_eq k8]
    simp only [zif_t clτ, zb2_eq e0, zb2_eq e1, zb2_eq e2, zb2_eq e3, zb2_eq e4, zb2_eq e5, zb2_eq e6, zb2_eq e7, zb2_eq e8]
  rw [head]
  refine ⟨fun i hi hw => ?_, fun hno => ?_⟩
  · have hx := hcon' i hi hw
    subst hx
    rcases (show i = 0 ∨ i = 1 ∨ i = 2 ∨ i = 3 ∨ i = 4 ∨ i = 5 ∨ i = 6 ∨ i = 7 ∨ i = 8 by omega) with rfl | rfl | rfl | rfl | rfl | rfl | rfl | rfl | rfl
    · rw [if_neg (by decide), if_neg (by decide), if_neg (by decide), if_neg (by decide), if_neg (by decide), if_pos (by decide), if_pos hw, if_neg kk1]; rfl
    · rw [if_neg (by decide), if_pos (by decide), if_pos hw, if_neg kk1]; rfl
    · rw [if_neg (by decide), if_neg (by decide), if_neg (by decide), if_neg (by decide), if_pos (by decide), if_pos hw, if_neg kk1]; rfl
    · rw [if_pos (by decide), if_pos hw, if_neg kk1]; rfl
    · rw [if_neg (by decide), if_neg (by decide), if_neg (by decide), if_neg (by decide), if_neg (by decide), if_neg (by decide), if_neg (by decide), if_neg (by decide), if_pos (by decide), if_pos hw, if_neg kk1]; rfl
    · rw [if_neg (by decide), if_neg (by decide), if_neg (by decide), if_pos (by decide), if_pos hw, if_neg kk1]; rfl
    · rw [if_neg (by decide), if_neg (by decide), if_neg (by decide), if_neg (by decide), if_neg (by decide), if_neg (by decide), if_pos (by decide), if_pos hw, if_neg kk1]; rfl
    · rw [if_neg (by decide), if_neg (by decide), if_pos (by decide), if_pos hw, if_neg kk1]; rfl
    · rw [if_neg (by decide), if_neg (by decide), if_neg (by decide), if_neg (by decide), if_neg (by decide), if_neg (by decide), if_neg (by decide), if_pos (by decide), if_pos hw, if_neg kk1]; rfl
  · rw [if_neg (hno 3 (by omega)), if_neg (hno 1 (by omega)), if_neg (hno 7 (by omega)), if_neg (hno 5 (by omega)), if_neg (hno 2 (by omega)), if_neg (hno 0 (by omega)), if_neg (hno 6 (by omega)), if_neg (hno 8 (by omega)), if_neg (hno 4 (by omega)), if_pos rfl, if_pos rfl, if_pos rfl, if_pos rfl, if_pos rfl, if_pos rfl, if_pos rfl, if_pos rfl, if_pos rfl]
    split <;> first | rfl | (split <;> first | rfl | (split <;> first | rfl | (split <;> first | rfl | (split <;> first | rfl | (split <;> first | rfl | (split <;> first | rfl | (split <;> first | rfl | (split <;> rfl))))))))
end ZZ8
