/-! pure land: A3 A4 (see wip/D-94657w/pl) -/
section ZA3
variable {σ σ' σ'' τ : zS} {D D' : cA} {N N' : Nat → Nat} {U U' : cU} {Q : Nat → Prop} {o rd tp n p s m d a b q z l e cap c va : Nat} {tl ft : Int32} {g : Nat → Int32} {T : Nat → Nat}
/-- a word that must come -/
theorem f_wordIs (C : Cx σ o rd) (h : yRd σ rd tp tl ft g n p m d) (hT : TB g T n) (hp : p ≤ n) {i : Nat} (hi : i < 23) (hr : 410 ≤ zc σ ∧ 5000 ≤ zz σ) : ∃ (τ : zS) (w ca : Nat), f_X3_word rd σ = some (some w, τ) ∧ zk τ (100 + i) = some ca ∧ zcl τ w = 21 ∧ f_J10_equals w (some ca) τ = some (if ywk i T (sk T p) = true then 1 else 0, τ) ∧ yRd τ rd tp tl ft g n (we T (sk T p)) (sk T p) d ∧ Sp σ τ rd (4 + lnL T p) (24 + 5 * lnL T p) := by
  have hn := hT.1.1
  obtain ⟨a1, a2, -, -⟩ := sk_spec hT.1 hp
  obtain ⟨b1, b2, -, -⟩ := we_spec hT.1 a2
  obtain ⟨σ1, w, vw, f, x1, x2, x3, x4, x5, x6, x7⟩ := f_word h hT hp hr
  have C1 := Cx_Sp C x3 h.2.2.2.1 h.2.2.2.2.2.2.1
  obtain ⟨ca, vca, fca, hca, -⟩ := C1.2.1.1 i hi
  have hca' : zk σ1 (100 + i) = some ca := hca
  have eq := f_equals C1.2.1.1 hi x4 (by omega) hca'
  have hiff : (we T (sk T p) - sk T p = (zTb i).length ∧ ∀ k, k < (zTb i).length → f k = (zTb i).getD k 0) ↔ ywk i T (sk T p) = true := by
    constructor
    · rintro ⟨q1, q2⟩
      exact decide_eq_true ⟨by omega, fun k hk => by rw [← x5 k (by omega)]; exact q2 k hk⟩
    · intro q
      obtain ⟨q1, q2⟩ := of_decide_eq_true q
      exact ⟨by omega, fun k hk => by rw [x5 k (by omega)]; exact q2 k hk⟩
  refine ⟨σ1, w, ca, x1, hca', cl_of x4.1 rfl, ?_, x2, x3⟩
  rw [eq]
  by_cases y : ywk i T (sk T p) = true
  · rw [if_pos y, if_pos (hiff.mpr y)]
  · rw [if_neg y, if_neg (fun q => y (hiff.mp q))]
/-- a walker is written and listed -/
theorem f_wk95 (C : Cx σ o rd) (h : yRd σ rd tp tl ft g n q m 0) (yW : Dr σ z Q D N U) (hrz : rd < z) (htz : tp < z) (hzn : z ≤ zn σ) (hzb : zbs σ ≤ z) (hoz : o < z) (hN : N 1 < 12) {x so a' hh zz' : Nat} (hx : σ.1 x = some (.inr (6, [.int 0, .int 0, .int 0, .int 0]))) (hxz : z ≤ x) (hxn : x < zn σ) (hne : ∀ r, wrl r → zal N (zow D) r → aad D r ≠ x) (hz : 1 ≤ zc σ ∧ 90 ≤ zz σ) :
    ∃ τ D', f_X1_walkerTold_95 o (some (aad D 12)) (some x) (some x) (nI so) (nI a') (nI hh) (nI zz') σ = some (.inl (), τ) ∧ yRd τ rd tp tl ft g n q m 0 ∧ Dr τ z Q D' (wkU N U so a' hh zz').1 (wkU N U so a' hh zz').2 ∧ aad D' 1 = aad D 1 ∧ arf D' = arf D ∧ Lv σ τ z rd 1 90 := by
  have hb : zbs σ ≤ x := by omega
  have p1 : pI σ x 6 0 (nI so) = some (zset σ x (.inr (6, [.int (nI so), .int 0, .int 0, .int 0]))) := pI_of hx (Nat.le_of_ble_eq_true rfl) hb
  have p2 : pI (zset σ x (.inr (6, [.int (nI so), .int 0, .int 0, .int 0]))) x 6 1 (nI a') = some (zset σ x (.inr (6, [.int (nI so), .int (nI a'), .int 0, .int 0]))) := (pI_of (zs_at (σ := σ)) (Nat.le_of_ble_eq_true rfl) hb).trans (congrArg some zset2)
  have p3 : pI (zset σ x (.inr (6, [.int (nI so), .int (nI a'), .int 0, .int 0]))) x 6 3 (nI hh) = some (zset σ x (.inr (6, [.int (nI so), .int (nI a'), .int 0, .int (nI hh)]))) := (pI_of (zs_at (σ := σ)) (Nat.le_of_ble_eq_true rfl) hb).trans (congrArg some zset2)
  have p4 : pI (zset σ x (.inr (6, [.int (nI so), .int (nI a'), .int 0, .int (nI hh)]))) x 6 2 (nI zz') = some (zset σ x (.inr (6, [.int (nI so), .int (nI a'), .int (nI zz'), .int (nI hh)]))) := (pI_of (zs_at (σ := σ)) (Nat.le_of_ble_eq_true rfl) hb).trans (congrArg some zset2)
  have ei : f_X7_init x (nI so) (nI a') (nI hh) (nI zz') σ = some ((), zset σ x (.inr (6, [.int (nI so), .int (nI a'), .int (nI zz'), .int (nI hh)]))) := by
    unfold f_X7_init
    rw [ybind_eq p1, ybind_eq p2, ybind_eq p3, ybind_eq p4]
  have W3 : Dr (zset σ x (.inr (6, [.int (nI so), .int (nI a'), .int (nI zz'), .int (nI hh)]))) z Q D N U := Dr_fill yW hne (fun q hq => if_neg hq) rfl
  have R3 : yRd (zset σ x (.inr (6, [.int (nI so), .int (nI a'), .int (nI zz'), .int (nI hh)]))) rd tp tl ft g n q m 0 := Rd_ne h hxz hrz htz (fun q hq => if_neg hq) rfl hxn
  have L3 : Lv σ (zset σ x (.inr (6, [.int (nI so), .int (nI a'), .int (nI zz'), .int (nI hh)]))) z rd 0 0 := Lv_ne hxz (fun q hq => if_neg hq) rfl
  have C3 := Cx_z C L3.1 rfl rfl (Nat.le_refl _) hzb h.2.2.2.1 hoz
  have cl3 : zcl (zset σ x (.inr (6, [.int (nI so), .int (nI a'), .int (nI zz'), .int (nI hh)]))) (aad D 12) = 19 := (Wd_size (j := 1) (by omega) (by omega) W3.1).2
  obtain ⟨σ4, D', v1, v2, v3, v4, v5, v6⟩ := Dr_add (j := 1) (x := x) (U' := (wkU N U so a' hh zz').2) (by omega) (by omega) W3 C3.2.2.1 R3 hrz htz hzn zs_at hxz hxn hzb hne (by omega) (fun k _ => rfl) rfl cEl_wk (by
    unfold cEl
    have hlt : N 1 < Nj N 1 (N 1 + 1) 1 := by rw [Nj_at]; omega
    have r0 : (wkU N U so a' hh zz').2.2 1 (4 * N 1) = _ := wk_row (N := N) (U := U) (N 1) 0 (by omega)
    have r1 := wk_row (N := N) (U := U) (N 1) 1 (by omega) (so := so) (a := a') (h := hh) (z := zz')
    have r2 := wk_row (N := N) (U := U) (N 1) 2 (by omega) (so := so) (a := a') (h := hh) (z := zz')
    have r3 := wk_row (N := N) (U := U) (N 1) 3 (by omega) (so := so) (a := a') (h := hh) (z := zz')
    show (if N 1 < Nj N 1 (N 1 + 1) 1 then some (Sum.inr (6, [Value.int ((wkU N U so a' hh zz').2.2 1 (4 * N 1)), .int ((wkU N U so a' hh zz').2.2 1 (4 * N 1 + 1)), .int ((wkU N U so a' hh zz').2.2 1 (4 * N 1 + 2)), .int ((wkU N U so a' hh zz').2.2 1 (4 * N 1 + 3))])) else none) = _
    rw [if_pos hlt, r0, r1, r2, r3, if_pos (rfl : N 1 = N 1), if_pos (rfl : N 1 = N 1), if_pos (rfl : N 1 = N 1), if_pos (rfl : N 1 = N 1)]
    rfl) hz
  have v1' : f_J2_add (aad D 12) (some x) (zset σ x (.inr (6, [.int (nI so), .int (nI a'), .int (nI zz'), .int (nI hh)]))) = some (1, σ4) := v1
  refine ⟨σ4, D', ?_, v3, v2, v5, v6, Lv_le (Lv_t L3 v4) (by omega) (by omega)⟩
  unfold f_X1_walkerTold_95
  rw [bd_at, zb2_eq ei, bd_at, zif_t cl3, zb2_eq v1']
set_option maxRecDepth 8000 in
/-- a walker -/
theorem f_pWk (C : Cx σ o rd) (h : yRd σ rd tp tl ft g n p s 0) (hT : TB g T n) (hp : p ≤ n) (yW : Dr σ z Q D N U) (I : RI c N U) (hrz : rd < z) (htz : tp < z) (hzn : z ≤ zn σ) (hzb : zbs σ ≤ z) (hoz : o < z) (hz : 60 * (n - p) + 1000 ≤ zc σ ∧ 600 * (n - p) + 7000 ≤ zz σ) {so : Nat} : Ln σ z rd tp tl ft g T n D Q p (f_X1_walkerTold o (some (aad D 1)) (nI so) σ) (pWk T N U so s p) := by
  have n0 := RI_n0 I
  have n1 := RI_n1 I
  have hou := RI_hou I
  have hbz := h.2.2.2.2.2.2.1
  have hrb := h.2.2.2.1
  have row := Wd_1 yW.1
  have g8 : gR σ (aad D 1) 1 8 = some (some (aad D 12)) := gR_of row (k := 8) (q := some (aad D 12)) rfl rfl
  obtain ⟨sz, cl⟩ := Wd_size (j := 1) (by omega) (by omega) yW.1
  have hx : (nI (N 1) = 12) = (N 1 = 12) := nI_inj (b := 12) (by omega) (by omega)
  unfold f_X1_walkerTold pWk
  rw [ybind_eq C.1.1, bd_at, ybind_eq g8, bd_at, zif_t cl, zb2_eq sz]
  by_cases y : N 1 = 12
  · rw [if_pos y, if_neg (show ¬ ¬ nI (N 1) = 12 from fun q => q (hx.mpr y)), bd_at, zif_t (Rd_cl h)]
    exact Ln_wrong h Lv_r (by omega) (by omega) hzn ⟨by omega, by omega⟩ rfl
  rw [if_neg y, if_pos (show ¬ nI (N 1) = 12 from fun q => y (hx.mp q)), bd_at, zif_t (Rd_cl h)]
  have F := f_num h hT hp (ylo := 0) (hi := 100) (hI := 99) (by omega) (fun v hv => hhi_l (k := 99) (by omega) hv) ⟨by omega, by omega⟩
  have FB := pFig_b hT.1 hp (ylo := 0) (hi := 100) (dg := 3)
  generalize pFig 0 100 3 T p = R at F FB
  match R, F, FB with
  | .inl e, F, _ =>
    obtain ⟨τ, q, f1, f2, f3⟩ := F
    have f1' : f_X3_number rd 0 99 σ = some (.inr 5, τ) := f1
    rw [zbt_er f1']
    exact ⟨τ, q, 0, rfl, f2, Lv_le (Lv_Sp f3 hzn) (by omega) (by omega)⟩
  | .inr (a', q), F, FB =>
    obtain ⟨σ1, f1, f2, f3⟩ := F
    have hpq : p < q := FB.1
    have hqn : q ≤ n := FB.2
    have f1' : f_X3_number rd 0 99 σ = some (.inl (nI a'), σ1) := f1
    have c1 := f3.2.2.2.2.1
    have z1 := f3.2.2.2.2.2
    have b1 := f3.2.2.1
    have m1 := f3.2.2.2.1
    have C1 := Cx_Sp C f3 hrb hbz
    have W1 := Dr_Sp yW h f3
    obtain ⟨a1, a2, -, -⟩ := sk_spec hT.1 hqn
    have hLq := lnL_le hT.1 hqn
    obtain ⟨σ2, w, ca, w1, w2, w3, w4, w5, w6⟩ := f_wordIs C1 f2 hT hqn (i := 9) (by omega) ⟨by omega, by omega⟩
    have w2' : zk σ2 109 = some ca := w2
    have c2 := w6.2.2.2.2.1
    have z2 := w6.2.2.2.2.2
    have b2 := w6.2.2.1
    have m2 := w6.2.2.2.1
    have C2 := Cx_Sp C1 w6 (by omega) (by omega)
    have W2 := Dr_Sp W1 f2 w6
    have S2 := Sp_t f3 w6
    rw [zbt_eq f1', zif_t (Rd_cl f2), zb2_eq w1, ybind_eq w2', bd_at, zif_t w3, zb2_eq w4]
    show Ln σ z rd tp tl ft g T n D Q p _ (pOf T N U so a' q)
    unfold pOf
    by_cases z9 : ywk 9 T (sk T q) = true
    · rw [if_pos z9, if_pos kk1, if_pos z9]
      have hwb := wk_b hT.1 (by omega) a2 z9
      have hL2 : lnL T q = 2 := by
        have := lnL_wk z9 (sk_sk hT.1 hqn)
        rw [lnL_sk hT.1 hqn] at this
        exact this
      have g1 : gI σ2 (aad D 1) 1 1 = some (nI (N 0)) := gI_of (Wd_1 W2.1) (k := 1) (v := nI (N 0)) (by rw [hou]; rfl) rfl
      rw [ybind_eq g1, zif_t (Rd_cl w5)]
      have F2 := f_num w5 hT hwb.2 (ylo := 0) (hi := N 0) (hI := nI (N 0) - 1) (by omega) (fun v hv => hhi_n (by omega) hv) ⟨by omega, by omega⟩
      have FB2 := pFig_b hT.1 hwb.2 (ylo := 0) (hi := N 0) (dg := 3)
      generalize hp2 : we T (sk T q) = p2 at *
      generalize pFig 0 (N 0) 3 T p2 = R2 at F2 FB2
      match R2, F2, FB2 with
      | .inl e, F2, _ =>
        obtain ⟨τ, q', k1, k2, k3⟩ := F2
        have k1' : f_X3_number rd 0 (nI (N 0) - 1) σ2 = some (.inr 5, τ) := k1
        rw [zbt_er k1']
        exact ⟨τ, q', 0, rfl, k2, Lv_le (Lv_Sp (Sp_t S2 k3) hzn) (by omega) (by omega)⟩
      | .inr (hh, q2), F2, FB2 =>
        obtain ⟨σ3, k1, k2, k3⟩ := F2
        have hpq2 : p2 < q2 := FB2.1
        have hqn2 : q2 ≤ n := FB2.2
        have k1' : f_X3_number rd 0 (nI (N 0) - 1) σ2 = some (.inl (nI hh), σ3) := k1
        have c3 := k3.2.2.2.2.1
        have z3 := k3.2.2.2.2.2
        have b3 := k3.2.2.1
        have m3' := k3.2.2.2.1
        have C3 := Cx_Sp C2 k3 (by omega) (by omega)
        have W3 := Dr_Sp W2 w5 k3
        have S3 := Sp_t S2 k3
        have g8' : gR σ3 (aad D 1) 1 8 = some (some (aad D 12)) := gR_of (Wd_1 W3.1) (k := 8) (q := some (aad D 12)) rfl rfl
        obtain ⟨σ4, x1, x2, x3, x4, x5⟩ := new_obj (ci := 6) (fs := [.int 0, .int 0, .int 0, .int 0]) k2 ⟨by omega, by show 4 ≤ _; omega⟩
        have yc4 := x3.2.2.2.2.1
        have z4 : zz σ3 ≤ zz σ4 + 4 := x3.2.2.2.2.2
        have b4 := x3.2.2.1
        have m4 := x3.2.2.2.1
        have C4 := Cx_Sp C3 x3 (by omega) (by omega)
        have W4 := Dr_Sp W3 k2 x3
        have S4 := Sp_t S3 x3
        have hne : ∀ r, wrl r → zal N (zow D) r → aad D r ≠ zn σ3 := Dr_ne W3 (Nat.le_refl _)
        obtain ⟨cb, vcb, fcb, hcb, -⟩ := C4.2.1.1 10 (by omega)
        have hcb' : zk σ4 110 = some cb := hcb
        obtain ⟨d1, d2, -, -⟩ := sk_spec hT.1 hqn2
        have hLq2 := lnL_le hT.1 hqn2
        obtain ⟨P1, P0⟩ := f_passes x2 hT hqn2 C4.2.1.1 (i := 10) (by omega) hcb' ⟨by omega, by omega⟩
        have hLd : we T (sk T q2) - sk T q2 = lnL T q2 := rfl
        rw [hLd] at P1 P0
        rw [zbt_eq k1', ybind_eq g8', zb2_eq x1, ybind_eq hcb', zif_t (Rd_cl x2)]
        show Ln σ z rd tp tl ft g T n D Q p _ (pZe T N U so a' hh q2)
        unfold pZe
        by_cases zZ : ywk 10 T (sk T q2) = true
        · obtain ⟨σ5, t1, t2, t3⟩ := P1 zZ
          have hwb2 := wk_b hT.1 (by omega) d2 zZ
          have hL4 : lnL T q2 = 4 := by
            have := lnL_wk zZ (sk_sk hT.1 hqn2)
            rw [lnL_sk hT.1 hqn2] at this
            exact this
          have c5 := t3.2.2.2.2.1
          have z5 := t3.2.2.2.2.2
          have b5 := t3.2.2.1
          have m5 := t3.2.2.2.1
          have C5 := Cx_Sp C4 t3 (by omega) (by omega)
          have W5 := Dr_Sp W4 x2 t3
          have S5 := Sp_t S4 t3
          rw [if_pos zZ, zb2_eq t1, if_neg kk1, zif_t (Rd_cl t2)]
          have F3 := f_num t2 hT hwb2.2 (ylo := 0) (hi := 101) (hI := 100) (by omega) (fun v hv => hhi_l (k := 100) (by omega) hv) ⟨by omega, by omega⟩
          have FB3 := pFig_b hT.1 hwb2.2 (ylo := 0) (hi := 101) (dg := 3)
          generalize hp3 : we T (sk T q2) = p3 at *
          generalize pFig 0 101 3 T p3 = R3 at F3 FB3
          match R3, F3, FB3 with
          | .inl e, F3, _ =>
            obtain ⟨τ, q', j1, j2, j3⟩ := F3
            have j1' : f_X3_number rd 0 100 σ5 = some (.inr 5, τ) := j1
            rw [zbt_er j1']
            exact ⟨τ, q', 0, rfl, j2, Lv_le (Lv_Sp (Sp_t S5 j3) hzn) (by omega) (by show 0 + (24 + 5 * lnL T q) + 0 + 4 + (24 + 5 * lnL T q2) + 6 ≤ _; omega)⟩
          | .inr (zv, q3), F3, FB3 =>
            obtain ⟨σ6, j1, j2, j3⟩ := F3
            have hpq3 : p3 < q3 := FB3.1
            have j1' : f_X3_number rd 0 100 σ5 = some (.inl (nI zv), σ6) := j1
            have c6 := j3.2.2.2.2.1
            have z6 := j3.2.2.2.2.2
            have b6 := j3.2.2.1
            have m6 := j3.2.2.2.1
            have C6 := Cx_Sp C5 j3 (by omega) (by omega)
            have W6 := Dr_Sp W5 t2 j3
            have S6 := Sp_t S5 j3
            have S36 := Sp_t t3 j3
            have tob : σ6.1 (zn σ3) = some (.inr (6, [.int 0, .int 0, .int 0, .int 0])) := (S36.1 _ (by omega) (by have := k2.2.2.2.2.1; omega)).trans x4
            obtain ⟨τ, D', u1, u2, u3, u4, u5, u6⟩ := f_wk95 (z := z) (so := so) (a' := a') (hh := hh) (zz' := zv) C6 j2 W6 hrz htz (by omega) (by omega) hoz (by omega) tob (by omega) (by omega) hne ⟨by omega, by omega⟩
            rw [zbt_eq j1']
            exact ⟨τ, D', _, u1, u2, u3, u4, u5, Lv_le (Lv_t (Lv_Sp S6 hzn) u6) (by omega) (by show 0 + (24 + 5 * lnL T q) + 0 + 4 + (24 + 5 * lnL T q2) + 0 + 90 ≤ _; omega)⟩
        · obtain ⟨σ5, t1, t2, t3⟩ := P0 zZ
          have c5 := t3.2.2.2.2.1
          have z5 := t3.2.2.2.2.2
          have b5 := t3.2.2.1
          have m5 := t3.2.2.2.1
          have C5 := Cx_Sp C4 t3 (by omega) (by omega)
          have W5 := Dr_Sp W4 x2 t3
          have S5 := Sp_t S4 t3
          have tob : σ5.1 (zn σ3) = some (.inr (6, [.int 0, .int 0, .int 0, .int 0])) := (t3.1 _ (by omega) (by have := k2.2.2.2.2.1; omega)).trans x4
          obtain ⟨τ, D', u1, u2, u3, u4, u5, u6⟩ := f_wk95 (z := z) (so := so) (a' := a') (hh := hh) (zz' := 50) C5 t2 W5 hrz htz (by omega) (by omega) hoz (by omega) tob (by omega) (by omega) hne ⟨by omega, by omega⟩
          have hLs := lnL_sk hT.1 hqn2
          rw [if_neg zZ, zb2_eq t1, if_pos rfl]
          exact ⟨τ, D', _, u1, u2, u3, u4, u5, Lv_le (Lv_t (Lv_Sp S5 hzn) u6) (by rw [hLs]; omega) (by rw [hLs]; show 0 + (24 + 5 * lnL T q) + 0 + 4 + (24 + 5 * lnL T q2) + 90 ≤ _; omega)⟩
    · rw [if_neg z9, if_neg kk0, if_neg z9, zif_t (Rd_cl w5)]
      exact Ln_wrong w5 (Lv_Sp S2 hzn) (by omega) (by omega) (by omega) ⟨by omega, by omega⟩ rfl
end ZA3
section ZA4
variable {σ σ' σ'' τ : zS} {D D' : cA} {N N' : Nat → Nat} {U U' : cU} {Q : Nat → Prop} {o rd tp n p s m d a b q z l e cap c va : Nat} {tl ft : Int32} {g : Nat → Int32} {T : Nat → Nat}
set_option maxRecDepth 8000 in
/-- an offer -/
theorem f_pOff (C : Cx σ o rd) (h : yRd σ rd tp tl ft g n p s 0) (hT : TB g T n) (hp : p ≤ n) (yW : Dr σ z Q D N U) (I : RI c N U) (hrz : rd < z) (htz : tp < z) (hzn : z ≤ zn σ) (hzb : zbs σ ≤ z) (hoz : o < z) (hz : 60 * (n - p) + 1000 ≤ zc σ ∧ 600 * (n - p) + 7000 ≤ zz σ) : Ln σ z rd tp tl ft g T n D Q p (f_X1_offerTold o (some (aad D 1)) σ) (pOff T N U s p) := by
  have n3 := RI_n3 I
  have hbz := h.2.2.2.2.2.2.1
  have hrb := h.2.2.2.1
  have row := Wd_1 yW.1
  have g10 : gR σ (aad D 1) 1 10 = some (some (aad D 14)) := gR_of row (k := 10) (q := some (aad D 14)) rfl rfl
  obtain ⟨sz, cl⟩ := Wd_size (j := 3) (by omega) (by omega) yW.1
  have hx : (nI (N 3) = 12) = (N 3 = 12) := nI_inj (b := 12) (by omega) (by omega)
  unfold f_X1_offerTold pOff
  rw [ybind_eq C.1.1, bd_at, ybind_eq g10, bd_at, zif_t cl, zb2_eq sz]
  by_cases y : N 3 = 12
  · rw [if_pos y, if_neg (show ¬ ¬ nI (N 3) = 12 from fun q => q (hx.mpr y)), bd_at, zif_t (Rd_cl h)]
    exact Ln_wrong h Lv_r (by omega) (by omega) hzn ⟨by omega, by omega⟩ rfl
  rw [if_neg y, if_pos (show ¬ nI (N 3) = 12 from fun q => y (hx.mp q)), bd_at, zif_t (Rd_cl h)]
  have F := f_fig h hT hp (ylo := 1) (hi := 100000) (dg := 5) (hI := 99999) (by omega) (by omega) (fun v hv => hhi_l (k := 99999) (by omega) hv) ⟨by omega, by omega⟩
  have FB := pFig_b hT.1 hp (ylo := 1) (hi := 100000) (dg := 5)
  generalize pFig 1 100000 5 T p = R at F FB
  match R, F, FB with
  | .inl e, F, _ =>
    obtain ⟨τ, q, f1, f2, f3⟩ := F
    have f1' : f_X3_figures rd 1 99999 5 σ = some (.inr 5, τ) := f1
    rw [zbt_er f1']
    exact ⟨τ, q, 0, rfl, f2, Lv_le (Lv_Sp f3 hzn) (by omega) (by omega)⟩
  | .inr (a', q), F, FB =>
    obtain ⟨σ1, f1, f2, f3⟩ := F
    have hpq : p < q := FB.1
    have hqn : q ≤ n := FB.2
    have f1' : f_X3_figures rd 1 99999 5 σ = some (.inl (nI a'), σ1) := f1
    have c1 := f3.2.2.2.2.1
    have z1 := f3.2.2.2.2.2
    have b1 := f3.2.2.1
    have m1 := f3.2.2.2.1
    have C1 := Cx_Sp C f3 hrb hbz
    have W1 := Dr_Sp yW h f3
    obtain ⟨a1, a2, -, -⟩ := sk_spec hT.1 hqn
    have hLq := lnL_le hT.1 hqn
    obtain ⟨σ2, w, ca, w1, w2, w3, w4, w5, w6⟩ := f_wordIs C1 f2 hT hqn (i := 11) (by omega) ⟨by omega, by omega⟩
    have w2' : zk σ2 111 = some ca := w2
    have c2 := w6.2.2.2.2.1
    have z2 := w6.2.2.2.2.2
    have b2 := w6.2.2.1
    have m2 := w6.2.2.2.1
    have C2 := Cx_Sp C1 w6 (by omega) (by omega)
    have W2 := Dr_Sp W1 f2 w6
    have S2 := Sp_t f3 w6
    rw [zbt_eq f1', zif_t (Rd_cl f2), zb2_eq w1, ybind_eq w2', bd_at, zif_t w3, zb2_eq w4]
    show Ln σ z rd tp tl ft g T n D Q p _ (pFo T N U a' q)
    unfold pFo
    by_cases z9 : ywk 11 T (sk T q) = true
    · rw [if_pos z9, if_pos kk1, if_pos z9]
      have hwb := wk_b hT.1 (by omega) a2 z9
      have hL2 : lnL T q = 3 := by
        have := lnL_wk z9 (sk_sk hT.1 hqn)
        rw [lnL_sk hT.1 hqn] at this
        exact this
      have g10' : gR σ2 (aad D 1) 1 10 = some (some (aad D 14)) := gR_of (Wd_1 W2.1) (k := 10) (q := some (aad D 14)) rfl rfl
      obtain ⟨σ3, x1, x2, x3, x4, x5⟩ := new_obj (ci := 10) (fs := [.int 0, .int 0]) w5 ⟨by omega, by show 2 ≤ _; omega⟩
      have c3 := x3.2.2.2.2.1
      have z3 : zz σ2 ≤ zz σ3 + 2 := x3.2.2.2.2.2
      have b3 := x3.2.2.1
      have m3' := x3.2.2.2.1
      have C3 := Cx_Sp C2 x3 (by omega) (by omega)
      have W3 := Dr_Sp W2 w5 x3
      have S3 := Sp_t S2 x3
      have hne : ∀ r, wrl r → zal N (zow D) r → aad D r ≠ zn σ2 := Dr_ne W2 (Nat.le_refl _)
      rw [ybind_eq g10', zb2_eq x1, zif_t (Rd_cl x2)]
      have F2 := f_num x2 hT hwb.2 (ylo := 0) (hi := 1000) (hI := 999) (by omega) (fun v hv => hhi_l (k := 999) (by omega) hv) ⟨by omega, by omega⟩
      have FB2 := pFig_b hT.1 hwb.2 (ylo := 0) (hi := 1000) (dg := 3)
      generalize hp2 : we T (sk T q) = p2 at *
      generalize pFig 0 1000 3 T p2 = R2 at F2 FB2
      match R2, F2, FB2 with
      | .inl e, F2, _ =>
        obtain ⟨τ, q', k1, k2, k3⟩ := F2
        have k1' : f_X3_number rd 0 999 σ3 = some (.inr 5, τ) := k1
        rw [zbt_er k1']
        exact ⟨τ, q', 0, rfl, k2, Lv_le (Lv_Sp (Sp_t S3 k3) hzn) (by omega) (by show 0 + (24 + 5 * lnL T q) + 2 + 6 ≤ _; omega)⟩
      | .inr (b', q2), F2, FB2 =>
        obtain ⟨σ4, k1, k2, k3⟩ := F2
        have hpq2 : p2 < q2 := FB2.1
        have k1' : f_X3_number rd 0 999 σ3 = some (.inl (nI b'), σ4) := k1
        have yc4 := k3.2.2.2.2.1
        have z4 := k3.2.2.2.2.2
        have b4 := k3.2.2.1
        have m4 := k3.2.2.2.1
        have C4 := Cx_Sp C3 k3 (by omega) (by omega)
        have W4 := Dr_Sp W3 x2 k3
        have S4 := Sp_t S3 k3
        have tob : σ4.1 (zn σ2) = some (.inr (10, [.int 0, .int 0])) := (k3.1 _ (by omega) (by have := w5.2.2.2.2.1; omega)).trans x4
        have hb : zbs σ4 ≤ zn σ2 := by omega
        have p1 : pI σ4 (zn σ2) 10 0 (nI a') = some (zset σ4 (zn σ2) (.inr (10, [.int (nI a'), .int 0]))) := pI_of tob (Nat.le_of_ble_eq_true rfl) hb
        have p2' : pI (zset σ4 (zn σ2) (.inr (10, [.int (nI a'), .int 0]))) (zn σ2) 10 1 (nI b') = some (zset σ4 (zn σ2) (.inr (10, [.int (nI a'), .int (nI b')]))) := (pI_of (zs_at (σ := σ4)) (Nat.le_of_ble_eq_true rfl) hb).trans (congrArg some zset2)
        have ei : f_X11_init (zn σ2) (nI a') (nI b') σ4 = some ((), zset σ4 (zn σ2) (.inr (10, [.int (nI a'), .int (nI b')]))) := by
          unfold f_X11_init
          rw [ybind_eq p1, ybind_eq p2']
        have W5 : Dr (zset σ4 (zn σ2) (.inr (10, [.int (nI a'), .int (nI b')]))) z Q D N U := Dr_fill W4 hne (fun q hq => if_neg hq) rfl
        have R5 : yRd (zset σ4 (zn σ2) (.inr (10, [.int (nI a'), .int (nI b')]))) rd tp tl ft g n q2 _ 0 := Rd_ne k2 (x := zn σ2) (by omega) hrz htz (fun q hq => if_neg hq) rfl (by omega)
        have L5 : Lv σ4 (zset σ4 (zn σ2) (.inr (10, [.int (nI a'), .int (nI b')]))) z rd 0 0 := Lv_ne (x := zn σ2) (by omega) (fun q hq => if_neg hq) rfl
        have C5 := Cx_z C4 L5.1 rfl rfl (Nat.le_refl _) (by omega) (by omega) hoz
        have cl5 : zcl (zset σ4 (zn σ2) (.inr (10, [.int (nI a'), .int (nI b')]))) (aad D 14) = 19 := (Wd_size (j := 3) (by omega) (by omega) W5.1).2
        obtain ⟨σ6, D', v1, v2, v3, v4, v5, v6⟩ := Dr_add (j := 3) (x := zn σ2) (U' := (ofU N U a' b').2) (by omega) (by omega) W5 C5.2.2.1 R5 hrz htz (by show z ≤ zn σ4; omega) zs_at (by omega) (by show zn σ2 < zn σ4; omega) (by show zbs σ4 ≤ z; omega) hne (by omega) (fun k _ => rfl) rfl cEl_of (by
          unfold cEl
          have hlt : N 3 < Nj N 3 (N 3 + 1) 3 := by rw [Nj_at]; omega
          have r0 : (ofU N U a' b').2.2 3 (2 * N 3) = _ := of_row (N := N) (U := U) (N 3) 0 (by omega)
          have r1 := of_row (N := N) (U := U) (N 3) 1 (by omega) (a := a') (b := b')
          show (if N 3 < Nj N 3 (N 3 + 1) 3 then some (Sum.inr (10, [Value.int ((ofU N U a' b').2.2 3 (2 * N 3)), .int ((ofU N U a' b').2.2 3 (2 * N 3 + 1))])) else none) = _
          rw [if_pos hlt, r0, r1, if_pos (rfl : N 3 = N 3), if_pos (rfl : N 3 = N 3)]
          rfl) ⟨by show 1 ≤ zc σ4; omega, by show 90 ≤ zz σ4; omega⟩
        have v1' : f_J2_add (aad D 14) (some (zn σ2)) (zset σ4 (zn σ2) (.inr (10, [.int (nI a'), .int (nI b')]))) = some (1, σ6) := v1
        rw [zbt_eq k1', zb2_eq ei, bd_at, zif_t cl5, zb2_eq v1']
        exact ⟨σ6, D', _, rfl, v3, v2, v5, v6, Lv_le (Lv_t (Lv_Sp S4 hzn) (Lv_t L5 v4)) (by omega) (by show 0 + (24 + 5 * lnL T q) + 2 + 0 + (0 + 90) ≤ _; omega)⟩
    · rw [if_neg z9, if_neg kk0, if_neg z9, zif_t (Rd_cl w5)]
      exact Ln_wrong w5 (Lv_Sp S2 hzn) (by omega) (by omega) (by omega) ⟨by omega, by omega⟩ rfl
end ZA4
