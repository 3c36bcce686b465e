/-! pure land: Z4 Z5 Z6 (see wip/D-94657w/pl) -/
/-! the model reads a line of the people -/
def FrM (M M2 : mS) : Prop := M2.1 = M.1 ∧ (∀ j, j ≠ 0 → M2.2 j = M.2 j) ∧ ∀ k, (k = 10 ∨ k = 11 ∨ 542 ≤ k) → M2.2 0 k = M.2 0 k
def Rp9 (M : mS) (d : Int32) (r : pR9 NU9) (go : Option (Unit × mS)) : Prop := match r with
  | .inl e => ∃ M2 q d', q ≤ 1000 ∧ FrM M M2 ∧ go = some ((), m3 M2 (nI q) (nI e) d')
  | .inr (X, q) => ∃ M2, FrM M M2 ∧ yRM X.1 X.2 (M2.2 0) ∧ go = some ((), m3 M2 (nI q) (-1) d)
section ZZ4
variable {T : Nat → Nat} {n p c s : Nat} {N : Nat → Nat} {U : cU} {m m' : Nat → Int32} {M M2 M3 : mS} {d e x : Int32}
theorem FrM_r : FrM M M := ⟨rfl, fun _ _ => rfl, fun _ _ => rfl⟩
theorem FrM_t (h : FrM M M2) (h' : FrM M2 M3) : FrM M M3 := ⟨h'.1.trans h.1, fun j hj => (h'.2.1 j hj).trans (h.2.1 j hj), fun k hk => (h'.2.2 k hk).trans (h.2.2 k hk)⟩
theorem FrM_mj {k : Nat} {x : Int32} (h1 : k ≠ 10) (h2 : k ≠ 11) (h3 : k < 542) : FrM M (mj M 0 k x) := ⟨rfl, fun j hj => if_neg hj, fun q hq => by
  show (if 0 = 0 then upd (M.2 0) k x else M.2 0) q = M.2 0 q
  rw [if_pos rfl, upd_no (by omega)]⟩
theorem TM_Fr (h : yTM M T n) (hF : FrM M M2) : yTM M2 T n := by
  obtain ⟨h1, h2, h3⟩ := h
  obtain ⟨f1, f2, f3⟩ := hF
  refine ⟨h1, by rw [f1]; exact h2, ?_⟩
  rcases h3 with ⟨a, b⟩ | ⟨a, b⟩
  · exact Or.inl ⟨by rw [f1]; exact a, fun p hp => by rw [f2 3 (by omega)]; exact b p hp⟩
  · exact Or.inr ⟨by rw [f1]; exact a, fun p hp => by rw [f3 _ (by omega)]; exact b p hp⟩
theorem m3_L {q e d : Int32} {j k : Nat} (hk : k < mAL j) (h9 : k < 100000) : mL (m3 M q e d) j (nI k) = some (M.2 j k) := mL_n hk h9
theorem m3_L1 {q e d : Int32} : mL (m3 M q e d) 0 1 = some (M.2 0 1) := m3_L (k := 1) (show 1 < 942 by omega) (by omega)
theorem m3_S {q e d x : Int32} {k : Nat} (hk : k < 942) : mSt (m3 M q e d) 0 (nI k) x = some (m3 (mj M 0 k x) q e d) := mj_set (j := 0) hk
theorem mj_0 {k q : Nat} {x : Int32} : (mj M 0 k x).2 0 q = if q = k then x else M.2 0 q := rfl
theorem g_must1 (h : yTM M T n) {i : Nat} (hi : i < 23) (hp : p ≤ n) (hw : ywk i T (sk T p) = true) : g_X6_must i (m3 M (nI p) (-1) d) = some ((), m3 M (nI (we T (sk T p))) (-1) d) := by
  unfold g_X6_must
  rw [if_neg (show ¬ ¬ (m3 M (nI p) (-1) d).1 10 = -1 from fun q => q rfl), g_has1 h hi hp hw, zb2_at, if_pos kk1]
theorem g_must0 (h : yTM M T n) {i : Nat} (hi : i < 23) (hp : p ≤ n) (hw : ¬ ywk i T (sk T p) = true) : g_X6_must i (m3 M (nI p) (-1) d) = some ((), m3 M (nI (sk T p)) (nI (sk T p)) d) := by
  unfold g_X6_must
  rw [if_neg (show ¬ ¬ (m3 M (nI p) (-1) d).1 10 = -1 from fun q => q rfl), g_has0 h hi hp hw, zb2_at, if_neg kk0, m3_9, g_wrong, zb2_at]
theorem g_must_err {i : Nat} (he : ¬ e = -1) : g_X6_must i (m3 M x e d) = some ((), m3 M x e d) := by
  unfold g_X6_must
  rw [if_pos (show ¬ (m3 M x e d).1 10 = -1 from he)]
theorem hhi_n {k v : Nat} (hk : k ≤ 1000000) (hv : v < 1000000) : nI v ≤ nI k - 1 ↔ v < k := by
  cases k with
  | zero =>
    refine ⟨fun q => ?_, fun q => by omega⟩
    have h0 : (0 : Int32) ≤ nI v := nI_pos' (by omega)
    have : (0 : Int32) ≤ nI 0 - 1 := Int32.le_trans h0 q
    exact absurd this (by decide)
  | succ k => rw [nI_pred, nI_leI (by omega) (by omega)]; omega
theorem comes_err {so : Int32} (he : ¬ e = -1) : g_X6_comes_16 so (m3 M x e d) = some ((), m3 M x e d) := by
  unfold g_X6_comes_16
  have h10 : (m3 M x e d).1 10 = e := rfl
  rw [show (0 : Int32) = nI 0 from rfl, g_fig_err he, zb2_at, g_must_err he, zb2_at, m3_L1, bd_at, g_fig_err he, zb2_at, if_pos (by rw [h10]; exact he)]
  unfold g_X6_comes_75 g_X6_comes_77
  rw [if_neg (by rw [h10]; exact he)]
/-- a walker is written -/
theorem g_c77 (I : RI c N U) (R : yRM N U (M.2 0)) (h8 : ¬ N 1 = 12) {so a h z q : Nat} : Rp9 M d (.inr (wkU N U so a h z, q)) (g_X6_comes_77 (nI so) (nI a) (nI h) (nI z) (m3 M (nI q) (-1) d)) := by
  have n1 := RI_n1 I
  have e2 : M.2 0 2 = nI (N 1) := RM_m2 R
  let n := N 1
  have en : N 1 = n := rfl
  let Ma := mj M 0 (20 + 4 * n + 0) (nI so)
  let Mb := mj Ma 0 (20 + 4 * n + 1) (nI a)
  let Mc := mj Mb 0 (20 + 4 * n + 2) (nI h)
  let Md := mj Mc 0 (20 + 4 * n + 3) (nI z)
  let Me := mj Md 0 2 (nI (n + 1))
  have hrow : ∀ k, Me.2 0 k = if k = 2 then nI (n + 1) else if k = 20 + 4 * n + 3 then nI z else if k = 20 + 4 * n + 2 then nI h else if k = 20 + 4 * n + 1 then nI a else if k = 20 + 4 * n + 0 then nI so else M.2 0 k := fun k => rfl
  have eD : Md.2 0 2 = nI n := by
    show (if 2 = 20 + 4 * n + 3 then nI z else if 2 = 20 + 4 * n + 2 then nI h else if 2 = 20 + 4 * n + 1 then nI a else if 2 = 20 + 4 * n + 0 then nI so else M.2 0 2) = nI n
    rw [if_neg (by omega), if_neg (by omega), if_neg (by omega), if_neg (by omega)]; exact e2
  have fr : FrM M Me := FrM_t (FrM_t (FrM_t (FrM_t (FrM_mj (by omega) (by omega) (by omega)) (FrM_mj (by omega) (by omega) (by omega))) (FrM_mj (by omega) (by omega) (by omega))) (FrM_mj (by omega) (by omega) (by omega))) (FrM_mj (by omega) (by omega) (by omega))
  refine ⟨Me, fr, RM_wk I R h8 (fun k _ => hrow k), ?_⟩
  unfold g_X6_comes_77
  rw [if_pos (show (m3 M (nI q) (-1) d).1 10 = -1 from rfl), show (2 : Int32) = nI 2 from rfl, m3_L (show 2 < mAL 0 by show 2 < 942; omega) (by omega), bd_at, e2, zl_at, show (20 : Int32) = nI 20 from rfl, show (4 : Int32) = nI 4 from rfl, nI_mul, nI_add, show (0 : Int32) = nI 0 from rfl, nI_add, m3_S (by omega), bd_at, show (1 : Int32) = nI 1 from rfl, nI_add, m3_S (by omega), bd_at, nI_add, m3_S (by omega), bd_at, show (3 : Int32) = nI 3 from rfl, nI_add, m3_S (by omega), bd_at, m3_L (show 2 < mAL 0 by show 2 < 942; omega) (by omega), bd_at]
  have eD' : (mj (mj (mj (mj M 0 (20 + 4 * N 1 + 0) (nI so)) 0 (20 + 4 * N 1 + 1) (nI a)) 0 (20 + 4 * N 1 + 2) (nI h)) 0 (20 + 4 * N 1 + 3) (nI z)).2 0 2 = nI (N 1) := eD
  rw [eD', nI_add, m3_S (by omega), bd_at]
/-- a walker is told -/
theorem g_c16 (h : yTM M T n) (hp : p ≤ n) (I : RI c N U) (R : yRM N U (M.2 0)) (h8 : ¬ N 1 = 12) {so : Nat} : Rp9 M d (match pFig 0 100 3 T p with
    | .inl e => .inl e
    | .inr (a, q) => pOf T N U so a q) (g_X6_comes_16 (nI so) (m3 M (nI p) (-1) d)) := by
  have hn := h.1.1
  have n0 := RI_n0 I
  have E := fun (q : Nat) (e : Nat) (he : e ≤ 1000) (d' : Int32) => nI_ne1 he
  have e1 : M.2 0 1 = nI (N 0) := RM_m1 R
  have F1 := g_fig (d := d) h (B := 1000) (by omega) hp (ylo := 0) (hi := 100) (dg := 3) (hI := 99) (by omega) (by omega) (fun v hv => by rw [show (99 : Int32) = nI 99 from rfl, nI_leI (by omega) (by omega)]; omega)
  have B1 := pFig_b h.1 hp (ylo := 0) (hi := 100) (dg := 3)
  have tail : ∀ {x : Int32} {e : Nat} {q : Nat} {d' : Int32}, e ≤ 1000 → (zb2 (g_X6_must 9 (m3 M (nI q) (nI e) d')) fun _ M6 => (mL M6 0 1).bind fun x7 => zb2 (g_X6_figures 0 (x7 - 1) 3 M6) fun x8 M9 => if ¬ (M9.1 10) = (-1) then g_X6_comes_75 (nI so) x x8 M9 else zb2 (g_X6_has 10 M9) fun x19 M20 => if x19 = 0 then g_X6_comes_75 (nI so) x x8 M20 else zb2 (g_X6_figures 0 100 3 M20) fun x21 M22 => g_X6_comes_77 (nI so) x x8 x21 M22) = some ((), m3 M (nI q) (nI e) d') := by
    intro x e q d' he
    have hne := nI_ne1 he
    have h10 : (m3 M (nI q) (nI e) d').1 10 = nI e := rfl
    rw [g_must_err hne, zb2_at, m3_L1, bd_at, show (0 : Int32) = nI 0 from rfl, g_fig_err hne, zb2_at, if_pos (by rw [h10]; exact hne)]
    unfold g_X6_comes_75 g_X6_comes_77
    rw [if_neg (by rw [h10]; exact hne)]
  unfold g_X6_comes_16
  generalize pFig 0 100 3 T p = r1 at F1 B1
  match r1, F1, B1 with
  | .inl e, F1, B1 =>
    have he : e ≤ n := B1
    obtain ⟨v, q, d', hq, f1⟩ := F1
    have f1' : g_X6_figures 0 99 3 (m3 M (nI p) (-1) d) = some (v, m3 M (nI q) (nI e) d') := f1
    rw [zb2_eq f1', tail (by omega)]
    exact ⟨M, q, d', hq, FrM_r, rfl⟩
  | .inr (a, q), F1, B1 =>
    have hq2 : q ≤ n := B1.2
    have f1' : g_X6_figures 0 99 3 (m3 M (nI p) (-1) d) = some (nI a, m3 M (nI q) (-1) d) := F1
    obtain ⟨a1, a2, -, -⟩ := sk_spec h.1 hq2
    rw [zb2_eq f1']
    show Rp9 M d (pOf T N U so a q) _
    unfold pOf
    by_cases z9 : ywk 9 T (sk T q) = true
    · rw [if_pos z9, g_must1 h (by omega) hq2 z9, zb2_at, m3_L1, bd_at, e1]
      have hb := wk_b h.1 (by omega) a2 z9
      have F2 := g_fig (d := d) h (B := 1000) (by omega) hb.2 (ylo := 0) (hi := N 0) (dg := 3) (hI := nI (N 0) - 1) (by omega) (by omega) (fun v hv => hhi_n (by omega) hv)
      have B2 := pFig_b h.1 hb.2 (ylo := 0) (hi := N 0) (dg := 3)
      generalize pFig 0 (N 0) 3 T (we T (sk T q)) = r2 at F2 B2
      match r2, F2, B2 with
      | .inl e, F2, B2 =>
        have he : e ≤ n := B2
        obtain ⟨v, q', d', hq', f2⟩ := F2
        have f2' : g_X6_figures 0 (nI (N 0) - 1) 3 (m3 M (nI (we T (sk T q))) (-1) d) = some (v, m3 M (nI q') (nI e) d') := f2
        have h10 : (m3 M (nI q') (nI e) d').1 10 = nI e := rfl
        have hne := nI_ne1 (show e ≤ 1000 by omega)
        rw [zb2_eq f2', if_pos (by rw [h10]; exact hne)]
        unfold g_X6_comes_75 g_X6_comes_77
        rw [if_neg (by rw [h10]; exact hne)]
        exact ⟨M, q', d', hq', FrM_r, rfl⟩
      | .inr (hh, q2), F2, B2 =>
        have hq3 : q2 ≤ n := B2.2
        have f2' : g_X6_figures 0 (nI (N 0) - 1) 3 (m3 M (nI (we T (sk T q))) (-1) d) = some (nI hh, m3 M (nI q2) (-1) d) := F2
        obtain ⟨b1, b2, -, -⟩ := sk_spec h.1 hq3
        rw [zb2_eq f2', if_neg (show ¬ ¬ (m3 M (nI q2) (-1) d).1 10 = -1 from fun q => q rfl)]
        show Rp9 M d (pZe T N U so a hh q2) _
        unfold pZe
        by_cases z10 : ywk 10 T (sk T q2) = true
        · rw [if_pos z10, g_has1 h (by omega) hq3 z10, zb2_at, if_neg kk1]
          have hb2 := wk_b h.1 (by omega) b2 z10
          have F3 := g_fig (d := d) h (B := 1000) (by omega) hb2.2 (ylo := 0) (hi := 101) (dg := 3) (hI := 100) (by omega) (by omega) (fun v hv => by rw [show (100 : Int32) = nI 100 from rfl, nI_leI (by omega) (by omega)]; omega)
          have B3 := pFig_b h.1 hb2.2 (ylo := 0) (hi := 101) (dg := 3)
          generalize pFig 0 101 3 T (we T (sk T q2)) = r3 at F3 B3
          match r3, F3, B3 with
          | .inl e, F3, B3 =>
            have he : e ≤ n := B3
            obtain ⟨v, q', d', hq', f3⟩ := F3
            have f3' : g_X6_figures 0 100 3 (m3 M (nI (we T (sk T q2))) (-1) d) = some (v, m3 M (nI q') (nI e) d') := f3
            have h10 : (m3 M (nI q') (nI e) d').1 10 = nI e := rfl
            have hne := nI_ne1 (show e ≤ 1000 by omega)
            rw [zb2_eq f3']
            unfold g_X6_comes_77
            rw [if_neg (by rw [h10]; exact hne)]
            exact ⟨M, q', d', hq', FrM_r, rfl⟩
          | .inr (z, q3), F3, B3 =>
            have f3' : g_X6_figures 0 100 3 (m3 M (nI (we T (sk T q2))) (-1) d) = some (nI z, m3 M (nI q3) (-1) d) := F3
            rw [zb2_eq f3']
            exact g_c77 I R h8
        · rw [if_neg z10, g_has0 h (by omega) hq3 z10, zb2_at, if_pos rfl]
          exact g_c77 (z := 50) I R h8
    · rw [if_neg z9, g_must0 h (by omega) hq2 z9]
      have hne := nI_ne1 (show sk T q ≤ 1000 by omega)
      have h10 : (m3 M (nI (sk T q)) (nI (sk T q)) d).1 10 = nI (sk T q) := rfl
      rw [zb2_at, m3_L1, bd_at, show (0 : Int32) = nI 0 from rfl, g_fig_err hne, zb2_at, if_pos (by rw [h10]; exact hne)]
      unfold g_X6_comes_75 g_X6_comes_77
      rw [if_neg (by rw [h10]; exact hne)]
      exact ⟨M, sk T q, d, by omega, FrM_r, rfl⟩
theorem g_comes (h : yTM M T n) (hp : p ≤ n) (hs : s ≤ n) (I : RI c N U) (R : yRM N U (M.2 0)) {so : Nat} : Rp9 M d (pWk T N U so s p) (g_X6_comes (nI so) (nI s) (m3 M (nI p) (-1) d)) := by
  have hn := h.1.1
  have n1 := RI_n1 I
  have e2 : M.2 0 2 = nI (N 1) := RM_m2 R
  unfold g_X6_comes pWk
  rw [show (2 : Int32) = nI 2 from rfl, m3_L (show 2 < mAL 0 by show 2 < 942; omega) (by omega), bd_at, e2]
  have hx : (nI (N 1) = 12) = (N 1 = 12) := nI_inj (b := 12) (by omega) (by omega)
  by_cases z : N 1 = 12
  · rw [if_pos z, if_neg (show ¬ ¬ nI (N 1) = 12 from fun q => q (hx.mpr z)), g_wrong, zb2_at, comes_err (nI_ne1 (by omega))]
    exact ⟨M, p, d, by omega, FrM_r, rfl⟩
  · rw [if_neg z, if_pos (show ¬ nI (N 1) = 12 from fun q => z (hx.mp q))]
    exact g_c16 h hp I R z
end ZZ4
section ZZ5
variable {T : Nat → Nat} {n p c s : Nat} {N : Nat → Nat} {U : cU} {m m' : Nat → Int32} {M M2 M3 : mS} {d e x : Int32}
/-- figures in the model, and what follows -/
theorem g_fig2 (h : yTM M T n) (hp : p ≤ n) {ylo hi dg : Nat} {hI : Int32} (hlo : ylo ≤ 1) (hdg : dg ≤ 5) (hhi : ∀ v, v < 1000000 → (nI v ≤ hI ↔ v < hi)) {K : Int32 → mS → Option (Unit × mS)} {r : Nat → Nat → pR9 NU9} (h1 : ∀ v q, ylo ≤ v → v < hi → q ≤ n → Rp9 M d (r v q) (K (nI v) (m3 M (nI q) (-1) d))) (h2 : ∀ v q e d', e ≤ n → q ≤ 1000 → ∃ M2 q2 d2, q2 ≤ 1000 ∧ FrM M M2 ∧ K v (m3 M (nI q) (nI e) d') = some ((), m3 M2 (nI q2) (nI e) d2)) :
    Rp9 M d (match pFig ylo hi dg T p with
    | .inl e => .inl e
    | .inr (v, q) => r v q) (zb2 (g_X6_figures (nI ylo) hI (nI dg) (m3 M (nI p) (-1) d)) K) := by
  have hn := h.1.1
  have F1 := g_fig (d := d) h (B := 1000) (by omega) hp (ylo := ylo) (hi := hi) (dg := dg) (hI := hI) hlo hdg hhi
  have B1 := pFig_b h.1 hp (ylo := ylo) (hi := hi) (dg := dg)
  have V := pFig_v (T := T) (p := p) (ylo := ylo) (hi := hi) (dg := dg)
  generalize pFig ylo hi dg T p = r1 at F1 B1 V
  match r1, F1, B1, V with
  | .inl e, F1, B1, _ =>
    obtain ⟨v, q, d', hq, f1⟩ := F1
    rw [zb2_eq f1]
    exact h2 v q e d' B1 hq
  | .inr (v, q), F1, B1, V =>
    have f1 : g_X6_figures (nI ylo) hI (nI dg) (m3 M (nI p) (-1) d) = some (nI v, m3 M (nI q) (-1) d) := F1
    rw [zb2_eq f1]
    exact h1 v q V.1 V.2 B1.2
theorem hhi_l {v k : Nat} (hk : k < 1000000) (hv : v < 1000000) : nI v ≤ nI k ↔ v < k + 1 := by rw [nI_leI (by omega) (by omega)]; omega
/-- a house -/
theorem g_ho34 (h : yTM M T n) (hp : p ≤ n) (I : RI c N U) (R : yRM N U (M.2 0)) (h8 : ¬ N 0 = 8) : Rp9 M d (match pFig 0 100000 5 T p with
    | .inl e => .inl e
    | .inr (v, q) => .inr (hoU N U v, q)) (g_X6_peopleLine_34 (m3 M (nI p) (-1) d)) := by
  have n0 := RI_n0 I
  have hn := h.1.1
  have e1 : M.2 0 1 = nI (N 0) := RM_m1 R
  unfold g_X6_peopleLine_34
  refine g_fig2 (ylo := 0) (hi := 100000) (dg := 5) (hI := 99999) h hp (by omega) (by omega) (fun v hv => hhi_l (k := 99999) (by omega) hv) (fun v q _ _ _ => ?_) (fun v q e d' he hq => ?_)
  · rw [if_pos (show (m3 M (nI q) (-1) d).1 10 = -1 from rfl), m3_L1, bd_at, e1, show (12 : Int32) = nI 12 from rfl, nI_add, m3_S (by omega), bd_at, m3_L1, bd_at]
    have e2 : (mj M 0 (12 + N 0) (nI v)).2 0 1 = nI (N 0) := by rw [mj_0, if_neg (by omega)]; exact e1
    have s1 : ∀ x, mSt (m3 (mj M 0 (12 + N 0) (nI v)) (nI q) (-1) d) 0 1 x = some (m3 (mj (mj M 0 (12 + N 0) (nI v)) 0 1 x) (nI q) (-1) d) := fun x => m3_S (k := 1) (by omega)
    rw [e2, nI_1, s1, bd_at]
    exact ⟨_, FrM_t (FrM_mj (by omega) (by omega) (by omega)) (FrM_mj (by omega) (by omega) (by omega)), RM_ho I R h8 (fun k _ => rfl), rfl⟩
  · have hne := nI_ne1 (show e ≤ 1000 by omega)
    rw [if_neg (show ¬ (m3 M (nI q) (nI e) d').1 10 = -1 from hne)]
    exact ⟨M, q, d', hq, FrM_r, rfl⟩
theorem ho34_err (he : ¬ e = -1) : g_X6_peopleLine_34 (m3 M x e d) = some ((), m3 M x e d) := by
  unfold g_X6_peopleLine_34
  rw [g_fig_err he, zb2_at, if_neg (show ¬ (m3 M x e d).1 10 = -1 from he)]
/-- a turn -/
theorem g_tu177 (h : yTM M T n) (hp : p ≤ n) (I : RI c N U) (hc : c < 2 ^ 31) (R : yRM N U (M.2 0)) (h8 : ¬ N 2 = 10) : Rp9 M d (match pFig 1 100 3 T p with
    | .inl e => .inl e
    | .inr (v, q) => .inr (tuU N U v, q)) (g_X6_peopleLine_177 (m3 M (nI p) (-1) d)) := by
  have n2 := RI_n2 I
  have hn := h.1.1
  have e3 : M.2 0 3 = nI (N 2) := RM_m3 R
  unfold g_X6_peopleLine_177
  refine g_fig2 (ylo := 1) (hi := 100) (dg := 3) (hI := 99) h hp (by omega) (by omega) (fun v hv => hhi_l (k := 99) (by omega) hv) (fun v q _ _ _ => ?_) (fun v q e d' he hq => ?_)
  · have l3 : ∀ (M : mS), mL (m3 M (nI q) (-1) d) 0 3 = some (M.2 0 3) := fun M => m3_L (k := 3) (show 3 < 942 by omega) (by omega)
    rw [if_pos (show (m3 M (nI q) (-1) d).1 10 = -1 from rfl), l3, bd_at, e3, zl_at, show (68 : Int32) + 3 * nI (N 2) = nI (68 + 3 * N 2) by rw [show (68 : Int32) = nI 68 from rfl, show (3 : Int32) = nI 3 from rfl, nI_mul, nI_add], show nI (68 + 3 * N 2) + 0 = nI (68 + 3 * N 2 + 0) from Int32.add_zero _, m3_S (by omega), bd_at, nI_1, m3_S (by omega), bd_at, show nI (68 + 3 * N 2) + 2 = nI (68 + 3 * N 2 + 2) from nI_add _ 2, m3_S (by omega), bd_at, l3, bd_at]
    have e2 : (mj (mj (mj M 0 (68 + 3 * N 2 + 0) (nI v)) 0 (68 + 3 * N 2 + 1) 0) 0 (68 + 3 * N 2 + 2) 0).2 0 3 = nI (N 2) := by rw [mj_0, if_neg (by omega), mj_0, if_neg (by omega), mj_0, if_neg (by omega)]; exact e3
    have s1 : ∀ (M : mS) x, mSt (m3 M (nI q) (-1) d) 0 3 x = some (m3 (mj M 0 3 x) (nI q) (-1) d) := fun M x => m3_S (k := 3) (by omega)
    rw [e2, nI_1, s1, bd_at]
    exact ⟨_, FrM_t (FrM_t (FrM_t (FrM_mj (by omega) (by omega) (by omega)) (FrM_mj (by omega) (by omega) (by omega))) (FrM_mj (by omega) (by omega) (by omega))) (FrM_mj (by omega) (by omega) (by omega)), RM_tu I hc R h8 (fun k _ => rfl), rfl⟩
  · have hne := nI_ne1 (show e ≤ 1000 by omega)
    rw [if_neg (show ¬ (m3 M (nI q) (nI e) d').1 10 = -1 from hne)]
    exact ⟨M, q, d', hq, FrM_r, rfl⟩
theorem tu177_err (he : ¬ e = -1) : g_X6_peopleLine_177 (m3 M x e d) = some ((), m3 M x e d) := by
  unfold g_X6_peopleLine_177
  rw [g_fig_err he, zb2_at, if_neg (show ¬ (m3 M x e d).1 10 = -1 from he)]
/-- an offer -/
theorem g_of326 (h : yTM M T n) (hp : p ≤ n) (I : RI c N U) (R : yRM N U (M.2 0)) (h8 : ¬ N 3 = 12) : Rp9 M d (match pFig 1 100000 5 T p with
    | .inl e => .inl e
    | .inr (a, q) => pFo T N U a q) (g_X6_peopleLine_326 (m3 M (nI p) (-1) d)) := by
  have n3 := RI_n3 I
  have hn := h.1.1
  have e5 : M.2 0 5 = nI (N 3) := RM_m5 R
  have err : ∀ (x : Int32) (q e : Nat) (d' : Int32), e ≤ 1000 → (zb2 (g_X6_figures 0 999 3 (m3 M (nI q) (nI e) d')) fun x39 M40 => if (M40.1 10) = (-1) then (mL M40 0 5).bind fun x41 => (mSt M40 0 (98 + (2 * x41)) x).bind fun M42 => (mL M42 0 5).bind fun x43 => (mSt M42 0 ((98 + (2 * x43)) + 1) x39).bind fun M44 => (mL M44 0 5).bind fun x45 => (mSt M44 0 5 (x45 + 1)).bind fun M46 => some ((), M46) else some ((), M40)) = some ((), m3 M (nI q) (nI e) d') := by
    intro x q e d' he
    have hne := nI_ne1 he
    rw [g_fig_err hne, zb2_at, if_neg (show ¬ (m3 M (nI q) (nI e) d').1 10 = -1 from hne)]
  unfold g_X6_peopleLine_326
  refine g_fig2 (ylo := 1) (hi := 100000) (dg := 5) (hI := 99999) h hp (by omega) (by omega) (fun v hv => hhi_l (k := 99999) (by omega) hv) (fun a q _ _ hq2 => ?_) (fun v q e d' he hq => ?_)
  · obtain ⟨a1, a2, -, -⟩ := sk_spec h.1 hq2
    unfold pFo
    by_cases z : ywk 11 T (sk T q) = true
    · have hb := wk_b h.1 (by omega) a2 z
      rw [if_pos z, g_must1 h (by omega) hq2 z, zb2_at]
      refine g_fig2 (ylo := 0) (hi := 1000) (dg := 3) (hI := 999) h hb.2 (by omega) (by omega) (fun v hv => hhi_l (k := 999) (by omega) hv) (fun b q' _ _ _ => ?_) (fun v q e d' he hq => ?_)
      · have l5 : ∀ (M : mS), mL (m3 M (nI q') (-1) d) 0 5 = some (M.2 0 5) := fun M => m3_L (k := 5) (show 5 < 942 by omega) (by omega)
        have a98 : (98 : Int32) + 2 * nI (N 3) = nI (98 + 2 * N 3) := by rw [show (98 : Int32) = nI 98 from rfl, show (2 : Int32) = nI 2 from rfl, nI_mul, nI_add]
        have e2 : (mj M 0 (98 + 2 * N 3) (nI a)).2 0 5 = nI (N 3) := by rw [mj_0, if_neg (by omega)]; exact e5
        have e2' : (mj (mj M 0 (98 + 2 * N 3) (nI a)) 0 (98 + 2 * N 3 + 1) (nI b)).2 0 5 = nI (N 3) := by rw [mj_0, if_neg (by omega)]; exact e2
        have s1 : ∀ (M : mS) x, mSt (m3 M (nI q') (-1) d) 0 5 x = some (m3 (mj M 0 5 x) (nI q') (-1) d) := fun M x => m3_S (k := 5) (by omega)
        rw [if_pos (show (m3 M (nI q') (-1) d).1 10 = -1 from rfl), l5, bd_at, e5, a98, m3_S (by omega), bd_at, l5, bd_at, e2, a98, nI_1, m3_S (by omega), bd_at, l5, bd_at, e2', nI_1, s1, bd_at]
        exact ⟨_, FrM_t (FrM_t (FrM_mj (by omega) (by omega) (by omega)) (FrM_mj (by omega) (by omega) (by omega))) (FrM_mj (by omega) (by omega) (by omega)), RM_of I R h8 (fun k _ => rfl), rfl⟩
      · have hne := nI_ne1 (show e ≤ 1000 by omega)
        rw [if_neg (show ¬ (m3 M (nI q) (nI e) d').1 10 = -1 from hne)]
        exact ⟨M, q, d', hq, FrM_r, rfl⟩
    · rw [if_neg z, g_must0 h (by omega) hq2 z, zb2_at, err _ _ _ _ (by omega)]
      exact ⟨M, sk T q, d, by omega, FrM_r, rfl⟩
  · have hne := nI_ne1 (show e ≤ 1000 by omega)
    rw [g_must_err hne, zb2_at, err _ _ _ _ (by omega)]
    exact ⟨M, q, d', hq, FrM_r, rfl⟩
theorem of326_err (he : ¬ e = -1) : g_X6_peopleLine_326 (m3 M x e d) = some ((), m3 M x e d) := by
  unfold g_X6_peopleLine_326
  rw [g_fig_err he, zb2_at, g_must_err he, zb2_at, g_fig_err he, zb2_at, if_neg (show ¬ (m3 M x e d).1 10 = -1 from he)]
theorem g_lm (h : yTM M T n) (hp : p ≤ n) (I : RI c N U) (R : yRM N U (M.2 0)) : Rp9 M d (pLm T N U p) (zb2 (g_X6_figures 1 999 3 (m3 M (nI p) (-1) d)) fun x52 M53 => (mSt M53 0 6 x52).bind fun M54 => some ((), M54)) := by
  have hn := h.1.1
  have s6 : ∀ (q e : Int32) (d x : Int32), mSt (m3 M q e d) 0 6 x = some (m3 (mj M 0 6 x) q e d) := fun q e d x => m3_S (k := 6) (by omega)
  unfold pLm
  refine g_fig2 (ylo := 1) (hi := 1000) (dg := 3) (hI := 999) h hp (by omega) (by omega) (fun v hv => hhi_l (k := 999) (by omega) hv) (fun v q _ _ _ => ?_) (fun v q e d' he hq => ?_)
  · rw [s6, bd_at]
    exact ⟨_, FrM_mj (by omega) (by omega) (by omega), RM_s I R 6 (Or.inl rfl) (x := nI v) (fun k _ => rfl) rfl (fun k _ hk => if_neg hk) rfl, rfl⟩
  · rw [s6, bd_at]
    exact ⟨_, q, d', hq, FrM_mj (by omega) (by omega) (by omega), rfl⟩
theorem g_rs (h : yTM M T n) (hp : p ≤ n) (I : RI c N U) (R : yRM N U (M.2 0)) : Rp9 M d (pRs T N U p) (zb2 (g_X6_figures 0 3 3 (m3 M (nI p) (-1) d)) fun x52 M53 => (mSt M53 0 7 x52).bind fun M54 => some ((), M54)) := by
  have hn := h.1.1
  have s7 : ∀ (q e : Int32) (d x : Int32), mSt (m3 M q e d) 0 7 x = some (m3 (mj M 0 7 x) q e d) := fun q e d x => m3_S (k := 7) (by omega)
  unfold pRs
  refine g_fig2 (ylo := 0) (hi := 4) (dg := 3) (hI := 3) h hp (by omega) (by omega) (fun v hv => hhi_l (k := 3) (by omega) hv) (fun v q _ _ _ => ?_) (fun v q e d' he hq => ?_)
  · rw [s7, bd_at]
    exact ⟨_, FrM_mj (by omega) (by omega) (by omega), RM_s I R 7 (Or.inr rfl) (x := nI v) (fun k _ => rfl) rfl (fun k _ hk => if_neg hk) rfl, rfl⟩
  · rw [s7, bd_at]
    exact ⟨_, q, d', hq, FrM_mj (by omega) (by omega) (by omega), rfl⟩
theorem Rp9_u {r : pR9 NU9} {go : Option (Unit × mS)} (h : Rp9 M d r go) : Rp9 M d r (zb2 go fun _ M9 => some ((), M9)) := by
  match r, h with
  | .inl e, h =>
    obtain ⟨M2, q, d', h1, h2, h3⟩ := h
    exact ⟨M2, q, d', h1, h2, by rw [zb2_eq h3]⟩
  | .inr (X, q), h =>
    obtain ⟨M2, h1, h2, h3⟩ := h
    exact ⟨M2, h1, h2, by rw [zb2_eq h3]⟩
/-- a line of the people -/
theorem g_pLine (h : yTM M T n) (hp : p ≤ n) (I : RI c N U) (hc : c < 2 ^ 31) (R : yRM N U (M.2 0)) : Rp9 M d (pPp T N U p) (g_X6_peopleLine (m3 M (nI p) (-1) d)) := by
  have hn := h.1.1
  obtain ⟨a1, a2, -, -⟩ := sk_spec h.1 hp
  have ss := sk_sk h.1 hp
  unfold g_X6_peopleLine pPp
  rw [g_skip h hp, zb2_at, m3_9, zl_at]
  generalize sk T p = s at *
  have H1 : ∀ i, i < 23 → ywk i T s = true → g_X6_has i (m3 M (nI s) (-1) d) = some (1, m3 M (nI (we T s)) (-1) d) ∧ we T s ≤ n := fun i hi hw => by
    have := g_has1 (e := -1) (d := d) h hi a2 (by rw [ss]; exact hw)
    rw [ss] at this
    exact ⟨this, (wk_b h.1 hi a2 hw).2⟩
  have H0 : ∀ i, i < 23 → ¬ ywk i T s = true → g_X6_has i (m3 M (nI s) (-1) d) = some (0, m3 M (nI s) (-1) d) := fun i hi hw => by
    have := g_has0 (e := -1) (d := d) h hi a2 (by rw [ss]; exact hw)
    rw [ss] at this
    exact this
  by_cases z : ywk 0 T s = true
  · obtain ⟨k1, k2⟩ := H1 0 (by omega) z
    have n0 := RI_n0 I
    have e1 : M.2 0 1 = nI (N 0) := RM_m1 R
    have hx : (nI (N 0) = 8) = (N 0 = 8) := nI_inj (b := 8) (by omega) (by omega)
    rw [if_pos z, k1, zb2_at, if_neg kk1, m3_L1, bd_at, e1]
    unfold pHo
    by_cases y : N 0 = 8
    · rw [if_pos y, if_neg (show ¬ ¬ nI (N 0) = 8 from fun q => q (hx.mpr y)), g_wrong, zb2_at, ho34_err (nI_ne1 (by omega))]
      exact ⟨M, we T s, d, by omega, FrM_r, rfl⟩
    · rw [if_neg y, if_pos (show ¬ nI (N 0) = 8 from fun q => y (hx.mp q))]
      exact g_ho34 h k2 I R y
  rw [if_neg z, H0 0 (by omega) z, zb2_at, if_pos rfl]
  by_cases z : ywk 1 T s = true
  · obtain ⟨k1, k2⟩ := H1 1 (by omega) z
    rw [if_pos z, k1, zb2_at, if_neg kk1]
    exact Rp9_u (g_comes (so := 0) h k2 a2 I R)
  rw [if_neg z, H0 1 (by omega) z, zb2_at, if_pos rfl]
  by_cases z : ywk 2 T s = true
  · obtain ⟨k1, k2⟩ := H1 2 (by omega) z
    rw [if_pos z, k1, zb2_at, if_neg kk1]
    exact Rp9_u (g_comes (so := 1) h k2 a2 I R)
  rw [if_neg z, H0 2 (by omega) z, zb2_at, if_pos rfl]
  by_cases z : ywk 3 T s = true
  · obtain ⟨k1, k2⟩ := H1 3 (by omega) z
    rw [if_pos z, k1, zb2_at, if_neg kk1]
    exact Rp9_u (g_comes (so := 2) h k2 a2 I R)
  rw [if_neg z, H0 3 (by omega) z, zb2_at, if_pos rfl]
  by_cases z : ywk 4 T s = true
  · obtain ⟨k1, k2⟩ := H1 4 (by omega) z
    rw [if_pos z, k1, zb2_at, if_neg kk1]
    exact Rp9_u (g_comes (so := 3) h k2 a2 I R)
  rw [if_neg z, H0 4 (by omega) z, zb2_at, if_pos rfl]
  by_cases z : ywk 5 T s = true
  · obtain ⟨k1, k2⟩ := H1 5 (by omega) z
    have n2 := RI_n2 I
    have e3 : M.2 0 3 = nI (N 2) := RM_m3 R
    have hx : (nI (N 2) = 10) = (N 2 = 10) := nI_inj (b := 10) (by omega) (by omega)
    have l3 : mL (m3 M (nI (we T s)) (-1) d) 0 3 = some (M.2 0 3) := m3_L (k := 3) (show 3 < 942 by omega) (by omega)
    rw [if_pos z, k1, zb2_at, if_neg kk1, l3, bd_at, e3]
    unfold pTu
    by_cases y : N 2 = 10
    · rw [if_pos y, if_neg (show ¬ ¬ nI (N 2) = 10 from fun q => q (hx.mpr y)), g_wrong, zb2_at, tu177_err (nI_ne1 (by omega))]
      exact ⟨M, we T s, d, by omega, FrM_r, rfl⟩
    · rw [if_neg y, if_pos (show ¬ nI (N 2) = 10 from fun q => y (hx.mp q))]
      exact g_tu177 h k2 I hc R y
  rw [if_neg z, H0 5 (by omega) z, zb2_at, if_pos rfl]
  by_cases z : ywk 6 T s = true
  · obtain ⟨k1, k2⟩ := H1 6 (by omega) z
    rw [if_pos z, k1, zb2_at, if_neg kk1]
    exact g_lm h k2 I R
  rw [if_neg z, H0 6 (by omega) z, zb2_at, if_pos rfl]
  by_cases z : ywk 7 T s = true
  · obtain ⟨k1, k2⟩ := H1 7 (by omega) z
    rw [if_pos z, k1, zb2_at, if_neg kk1]
    exact g_rs h k2 I R
  rw [if_neg z, H0 7 (by omega) z, zb2_at, if_pos rfl]
  by_cases z : ywk 8 T s = true
  · obtain ⟨k1, k2⟩ := H1 8 (by omega) z
    have n3 := RI_n3 I
    have e5 : M.2 0 5 = nI (N 3) := RM_m5 R
    have hx : (nI (N 3) = 12) = (N 3 = 12) := nI_inj (b := 12) (by omega) (by omega)
    have l5 : mL (m3 M (nI (we T s)) (-1) d) 0 5 = some (M.2 0 5) := m3_L (k := 5) (show 5 < 942 by omega) (by omega)
    rw [if_pos z, k1, zb2_at, if_neg kk1, l5, bd_at, e5]
    unfold pOff
    by_cases y : N 3 = 12
    · rw [if_pos y, if_neg (show ¬ ¬ nI (N 3) = 12 from fun q => q (hx.mpr y)), g_wrong, zb2_at, of326_err (nI_ne1 (by omega))]
      exact ⟨M, we T s, d, by omega, FrM_r, rfl⟩
    · rw [if_neg y, if_pos (show ¬ nI (N 3) = 12 from fun q => y (hx.mp q))]
      exact g_of326 h k2 I R y
  rw [if_neg z, H0 8 (by omega) z, zb2_at, if_pos rfl, m3_9, g_wrong, zb2_at]
  exact ⟨M, s, d, by omega, FrM_r, rfl⟩
end ZZ5
section ZZ6
variable {T : Nat → Nat} {n p c s : Nat} {N : Nat → Nat} {U : cU} {m m' : Nat → Int32} {M M2 M3 : mS} {d e x : Int32}
theorem rd_stop0 {fu : Nat} {v : Int32} : zlp2 (g_X6_read_23_b 0) (fu + 1) 0 v M = some (v, M) := by
  show g_X6_read_23_b 0 _ 0 v M = _
  unfold g_X6_read_23_b
  rw [if_pos rfl]
theorem rd_stopE {fu : Nat} {v q d : Int32} (he : ¬ e = -1) : zlp2 (g_X6_read_23_b 0) (fu + 1) 1 v (m3 M q e d) = some (v, m3 M q e d) := by
  show g_X6_read_23_b 0 _ 1 v _ = _
  unfold g_X6_read_23_b
  rw [if_neg (show ¬ (1 : Int32) = 0 from kk1), if_pos (show ¬ (m3 M q e d).1 10 = -1 from he)]
/-- behind an error the loop ends -/
theorem rd_80E (h : yTM M T n) {fu q : Nat} {v d : Int32} (hq : q ≤ 1000) (he : ¬ e = -1) : ∃ q', q' ≤ 1000 ∧ g_X6_read_80 (zlp2 (g_X6_read_23_b 0) (fu + 1)) 0 1 v (m3 M (nI q) e d) = some (v + 1, m3 M (nI q') e d) := by
  obtain ⟨q', h1, h2⟩ := g_skipE (e := e) (d := d) h hq
  refine ⟨q', h1, ?_⟩
  unfold g_X6_read_80 g_X6_read_106
  rw [zl_at, zb2_eq h2, if_pos (show ¬ (m3 M (nI q') e d).1 10 = -1 from he), rd_stop0]
theorem g_rdP : ∀ k l (X : NU9) p fu (M : mS), l + k = 15 → k + 1 < fu → p ≤ n → yTM M T n → RI c X.1 X.2 → c < 2 ^ 31 → yRM X.1 X.2 (M.2 0) → match pPt T k l X p with
    | .inl e => ∃ M2 v q d', e ≤ n ∧ FrM M M2 ∧ zlp2 (g_X6_read_23_b 0) fu 1 (nI l) (m3 M (nI p) (-1) 0) = some (v, m3 M2 (nI q) (nI e) d')
    | .inr (X', _) => k = 0 ∨ ∃ M2 v q0, FrM M M2 ∧ RI c X'.1 X'.2 ∧ yRM X'.1 X'.2 (M2.2 0) ∧ zlp2 (g_X6_read_23_b 0) fu 1 (nI l) (m3 M (nI p) (-1) 0) = some (v, m3 M2 q0 (-1) 0) := by
  intro k
  induction k with
  | zero => intro l X p fu M h1 h2 h3 h I hc R; exact Or.inl rfl
  | succ k ih =>
    intro l X p fu M h1 h2 hp h I hc R
    obtain ⟨fu, rfl⟩ : ∃ f', fu = f' + 2 := ⟨fu - 2, by omega⟩
    have hn := h.1.1
    obtain ⟨a1, a2, -, -⟩ := sk_spec h.1 hp
    have ss := sk_sk h.1 hp
    have head : zlp2 (g_X6_read_23_b 0) (fu + 2) 1 (nI l) (m3 M (nI p) (-1) 0) = g_X6_read_51 (zlp2 (g_X6_read_23_b 0) (fu + 1)) 0 1 (nI l) (nI l) 14 (m3 M (nI (sk T p)) (-1) 0) := by
      show g_X6_read_23_b 0 (zlp2 (g_X6_read_23_b 0) (fu + 1)) 1 (nI l) _ = _
      generalize zlp2 (g_X6_read_23_b 0) (fu + 1) = rf
      unfold g_X6_read_23_b
      rw [if_neg kk1, if_neg (show ¬ ¬ (m3 M (nI p) (-1) 0).1 10 = -1 from fun q => q rfl), g_skip h hp, zb2_at, if_pos rfl]
    rw [head]
    unfold g_X6_read_51 pPt
    have hx : (nI l = 14) = (l = 14) := nI_inj (b := 14) (by omega) (by omega)
    by_cases z : l = 14
    · have hne := nI_ne1 (show sk T p ≤ 1000 by omega)
      obtain ⟨q', e1, e2⟩ := rd_80E (fu := fu) (v := nI l) (d := 0) h (show sk T p ≤ 1000 by omega) hne
      rw [if_neg (show ¬ ¬ nI l = 14 from fun q => q (hx.mpr z)), if_pos z, m3_9, g_wrong, zb2_at, e2]
      exact ⟨M, _, q', 0, a2, FrM_r, rfl⟩
    rw [if_pos (show ¬ nI l = 14 from fun q => z (hx.mp q)), if_pos rfl, if_neg z]
    have F := g_pLine (d := 0) h a2 I hc R
    have FB := pPp_b h.1 a2 I hc
    have eqp : pPp T X.1 X.2 (sk T p) = pPp T X.1 X.2 p := by unfold pPp; rw [ss]
    rw [eqp] at F FB
    generalize pPp T X.1 X.2 p = r at F FB
    match r, F, FB with
    | .inl e, F, FB =>
      obtain ⟨M2, q, d', hq, hf, e1⟩ := F
      have he : e ≤ n := FB
      obtain ⟨q', e3, e4⟩ := rd_80E (fu := fu) (v := nI l) (d := d') (TM_Fr h hf) hq (nI_ne1 (show e ≤ 1000 by omega))
      rw [zb2_eq e1, e4]
      exact ⟨M2, _, q', d', he, hf, rfl⟩
    | .inr (X', q), F, FB =>
      obtain ⟨M2, hf, R2, e1⟩ := F
      have hq1 : sk T p < q := FB.1
      have hq2 : q ≤ n := FB.2.1
      have I2 : RI c X'.1 X'.2 := FB.2.2
      have h9 := TM_Fr h hf
      obtain ⟨b1, b2, -, -⟩ := sk_spec h.1 hq2
      have sq := sk_sk h.1 hq2
      rw [zb2_eq e1]
      show match (if T (sk T q) = 256 then .inr (X', sk T q) else if T (sk T q) = 59 then pPt T k (l + 1) X' (sk T q + 1) else .inl (sk T q) : pR9 NU9) with
        | .inl e => _
        | .inr (X', q) => _
      have h8 : (m3 M2 (nI (sk T q)) (-1) 0).1 8 = nI n := h9.2.1
      unfold g_X6_read_80
      rw [zl_at, g_skip h9 hq2, zb2_at, if_neg (show ¬ ¬ (m3 M2 (nI (sk T q)) (-1) 0).1 10 = -1 from fun q => q rfl), m3_9, h8]
      by_cases y : T (sk T q) = 256
      · have hnn : sk T q = n := by
          rcases Nat.lt_or_ge (sk T q) n with w | w
          · have := h.1.2.1 _ w; omega
          · omega
        rw [if_pos y, if_neg (show ¬ ¬ nI (sk T q) = nI n from fun q => q (by rw [hnn]))]
        unfold g_X6_read_106
        rw [rd_stop0]
        exact Or.inr ⟨M2, _, _, hf, I2, R2, rfl⟩
      · have hne : ¬ nI (sk T q) = nI n := by
          rw [nI_inj (by omega) (by omega)]
          intro w
          exact y (h.1.2.2 _ (by omega))
        rw [if_neg y, if_pos hne]
        have gs := g_sign (e := -1) (d := 0) h9 (c := 59) (by omega) b2
        rw [sq] at gs
        have gs' : g_X6_isSign 59 (m3 M2 (nI (sk T q)) (-1) 0) = _ := gs
        rw [zb2_eq gs']
        by_cases w : T (sk T q) = 59
        · have hlt := Tx_in h.1 (by omega) w
          rw [if_pos w, if_pos w, if_neg kk1, m3_9, nI_1, m3_s9, zl_at, nI_1]
          have key := ih (l + 1) X' (sk T q + 1) (fu + 1) M2 (by omega) (by omega) (by omega) h9 I2 hc R2
          generalize pPt T k (l + 1) X' (sk T q + 1) = r2 at key ⊢
          match r2, key with
          | .inl e, key =>
            obtain ⟨M3, v, q', d', k1, k2, k3⟩ := key
            exact ⟨M3, v, q', d', k1, FrM_t hf k2, k3⟩
          | .inr (X3, q3), key =>
            rcases key with key | ⟨M3, v, q', k2, k3, k4, k5⟩
            · omega
            · exact Or.inr ⟨M3, v, q', FrM_t hf k2, k3, k4, k5⟩
        · rw [if_neg w, if_neg w, if_pos rfl, m3_9, g_wrong, zb2_at, rd_stopE (nI_ne1 (by omega))]
          exact ⟨M2, _, sk T q, 0, b2, hf, rfl⟩
/-- the model reads the people -/
theorem g_read0 (h : yTM M T n) (X : NU9) (I : RI c X.1 X.2) (hc : c < 2 ^ 31) (R : yRM X.1 X.2 (M.2 0)) : match pPe T X with
    | .inl e => ∃ M2 v q d', e ≤ n ∧ FrM M M2 ∧ g_X6_read 0 (m3 M 0 (-1) 0) = some (v, m3 M2 (nI q) (nI e) d')
    | .inr (X', _) => ∃ M2 v q0, FrM M M2 ∧ RI c X'.1 X'.2 ∧ yRM X'.1 X'.2 (M2.2 0) ∧ g_X6_read 0 (m3 M 0 (-1) 0) = some (v, m3 M2 q0 (-1) 0) := by
  have hn := h.1.1
  obtain ⟨a1, a2, -, -⟩ := sk_spec h.1 (Nat.zero_le n)
  have ss := sk_sk h.1 (Nat.zero_le n)
  have h8 : (m3 M (nI (sk T 0)) (-1) 0).1 8 = nI n := h.2.1
  unfold g_X6_read pPe g_X6_read_20 g_X6_read_23
  rw [show (0 : Int32) = nI 0 from rfl, g_skip h (Nat.zero_le n), zb2_at, m3_9]
  have h8' : (m3 M (nI (sk T 0)) (-1) (nI 0)).1 8 = nI n := h.2.1
  rw [h8']
  by_cases z : T (sk T 0) = 256
  · have hnn : sk T 0 = n := by
      rcases Nat.lt_or_ge (sk T 0) n with w | w
      · have := h.1.2.1 _ w; omega
      · omega
    rw [if_pos z, hnn, if_pos (Int32.le_refl _)]
    exact ⟨M, 0, nI n, FrM_r, I, R, rd_stop0 (fu := 99999)⟩
  · have hlt : sk T 0 < n := by
      rcases Nat.lt_or_ge (sk T 0) n with w | w
      · exact w
      · exact absurd (h.1.2.2 _ w) z
    rw [if_neg z, nleF hlt (by omega)]
    have key := g_rdP (T := T) 15 0 X (sk T 0) NN M (by omega) (NN_lt (by omega)) a2 h I hc R
    have e0 : pPt T 15 0 X (sk T 0) = pPt T 15 0 X 0 := by
      unfold pPt
      have eqp : pPp T X.1 X.2 (sk T 0) = pPp T X.1 X.2 0 := by unfold pPp; rw [ss]
      rw [eqp, ss]
    rw [e0] at key
    generalize pPt T 15 0 X 0 = r at key
    match r, key with
    | .inl e, key =>
      obtain ⟨M2, v, q, d', k1, k2, k3⟩ := key
      exact ⟨M2, v, q, d', k1, k2, k3⟩
    | .inr (X', q), key =>
      rcases key with key | ⟨M2, v, q0, k1, k2, k3, k4⟩
      · cases key
      · exact ⟨M2, v, q0, k1, k2, k3, k4⟩
end ZZ6
