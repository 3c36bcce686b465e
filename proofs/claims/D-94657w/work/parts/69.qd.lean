/-! pure land: A7 A8 (see wip/D-94657w/pl) -/
def cdP : Nat → Int32 := fun k => if k = 0 then 1 else 2
section ZA7
variable {σ σ' τ : zS} {A A' B D' : cA} {N N' : Nat → Nat} {U U' : cU} {S D : Nat → Prop} {c L : Nat} {M M' : mS} {m m' : Nat → Int32}
theorem pPt_sk {T : Nat → Nat} {n : Nat} (h : Tx T n) {k l : Nat} {X : NU9} {p : Nat} (hp : p ≤ n) : pPt T (k + 1) l X (sk T p) = pPt T (k + 1) l X p := by
  have ss := sk_sk h hp
  unfold pPt
  have eqp : pPp T X.1 X.2 (sk T p) = pPp T X.1 X.2 p := by unfold pPp; rw [ss]
  rw [eqp, ss]
set_option maxRecDepth 8000 in
/-- a text of the people -/
theorem f_pText {o rd tp n m z : Nat} {tl ft : Int32} {g : Nat → Int32} {T : Nat → Nat} {Q : Nat → Prop} {Dd : cA} (C : Cx σ o rd) (h : yRd σ rd tp tl ft g n 0 m 0) (hT : TB g T n) (hc : c < 2 ^ 31) (hrz : rd < z) (htz : tp < z) (hoz : o < z) (yW : Dr σ z Q Dd N U) (I : RI c N U) (hzn : z ≤ zn σ) (hzb : zbs σ ≤ z) (hz : 60 * n + 1100 ≤ zc σ ∧ 600 * n + 7100 ≤ zz σ) :
    match pPe T (N, U) with
    | .inl e => ∃ τ q d', f_X1_peopleText o (some (aad Dd 1)) σ = some (.inr 5, τ) ∧ yRd τ rd tp tl ft g n q e d' ∧ Lv σ τ z rd (60 * n + 1010) (600 * n + 6010)
    | .inr (X', _) => ∃ τ D' m' q', f_X1_peopleText o (some (aad Dd 1)) σ = some (.inl (), τ) ∧ yRd τ rd tp tl ft g n q' m' 0 ∧ Dr τ z Q D' X'.1 X'.2 ∧ aad D' 1 = aad Dd 1 ∧ arf D' = arf Dd ∧ Lv σ τ z rd (60 * n + 10) (600 * n + 10) := by
  have hn := hT.1.1
  obtain ⟨s1, s2, -, -⟩ := sk_spec hT.1 (Nat.zero_le n)
  obtain ⟨σ4, v1, v2, v3⟩ := f_isOver h hT (Nat.zero_le n)
  have yc4 := v3.2.2.2.2.1
  have z4 := v3.2.2.2.2.2
  have n4 := v3.2.2.2.1
  have b4 := v3.2.2.1
  have C4 := Cx_Sp C v3 h.2.2.2.1 h.2.2.2.2.2.2.1
  have W4 := Dr_Sp yW h v3
  unfold f_X1_peopleText pPe
  rw [ybind_eq C.1.1, bd_at, zif_t (Rd_cl h), zb2_eq v1]
  by_cases y : T (sk T 0) = 256
  · rw [if_pos y, if_pos y, if_neg kk1]
    exact ⟨σ4, Dd, _, _, rfl, v2, W4, rfl, rfl, Lv_le (Lv_Sp v3 hzn) (by omega) (by omega)⟩
  · rw [if_neg y, if_neg y, if_pos rfl]
    have key := f_pTextL (Q := Q) hT hc hrz htz hoz 15 0 (N, U) (sk T 0) (sk T 0) σ4 Dd NN (by omega) (by omega) s2 (NN_lt (by omega)) C4 v2 W4 I (by omega) (by omega) (by omega) (by omega)
    rw [pPt_sk hT.1 (Nat.zero_le n)] at key
    have hbd : ∀ X q, pPt T 15 0 (N, U) 0 = .inr (X, q) → q ≤ n := by
      have H : ∀ k l (X : NU9) p, p ≤ n → RI c X.1 X.2 → ∀ X3 q3, pPt T k l X p = .inr (X3, q3) → q3 ≤ n := by
        intro k
        induction k with
        | zero => intro l X p hp hI X3 q3 e; have e' : (.inr (X, p) : pR9 NU9) = .inr (X3, q3) := e; have := congrArg (fun z => z.2) (Sum.inr.inj e'); have e2 : p = q3 := this; omega
        | succ k ihk =>
          intro l X p hp hI X3 q3 e
          unfold pPt at e
          by_cases w : l = 14
          · rw [if_pos w] at e; cases e
          · rw [if_neg w] at e
            have FB := pPp_b hT.1 hp hI hc
            generalize pPp T X.1 X.2 p = r at FB e
            match r, FB, e with
            | .inl _, _, e => cases e
            | .inr (X4, q4), FB, e =>
              have j2 : q4 ≤ n := FB.2.1
              obtain ⟨i1, i2, -, -⟩ := sk_spec hT.1 j2
              have e' : (if T (sk T q4) = 256 then .inr (X4, sk T q4) else if T (sk T q4) = 59 then pPt T k (l + 1) X4 (sk T q4 + 1) else .inl (sk T q4) : pR9 NU9) = .inr (X3, q3) := e
              by_cases v : T (sk T q4) = 256
              · rw [if_pos v] at e'
                have := congrArg (fun z => z.2) (Sum.inr.inj e')
                have e2 : sk T q4 = q3 := this
                omega
              · rw [if_neg v] at e'
                by_cases v2 : T (sk T q4) = 59
                · rw [if_pos v2] at e'
                  have hlt := Tx_in hT.1 (by omega) v2
                  exact ihk (l + 1) X4 (sk T q4 + 1) (by omega) FB.2.2 X3 q3 e'
                · rw [if_neg v2] at e'; cases e'
      exact H 15 0 (N, U) 0 (Nat.zero_le n) I
    generalize pPt T 15 0 (N, U) 0 = r at key hbd
    match r, key, hbd with
    | .inl e, key, _ =>
      obtain ⟨τ, q, d', k1, k2, k3⟩ := key
      exact ⟨τ, q, d', k1, k2, Lv_le (Lv_t (Lv_Sp v3 hzn) k3) (by omega) (by omega)⟩
    | .inr (X', q), key, hbd =>
      have := hbd X' q rfl
      obtain ⟨τ, D', m', k1, k2, k3, k4, k5, k6⟩ := key
      exact ⟨τ, D', m', q, k1, k2, k3, k4, k5, Lv_le (Lv_t (Lv_Sp v3 hzn) k6) (by omega) (by omega)⟩
set_option maxRecDepth 8000 in
/-- a text of the people is told -/
theorem F_people (H : Iv c L σ A N U S D M) (hc : c < 1000000) (hz : 60 * L + 5000 ≤ zc σ ∧ 600 * L + 40000 ≤ zz σ) :
    ∃ r v σ' A' N' U' M', f_X1_people (aad A 0) σ = some (r, σ') ∧ g_X6_people M = some (v, M') ∧ yans cdP r v (M'.1 0) ∧ (∀ k, r = .inr k → k = 0 ∨ k = 1) ∧ Iv c 0 σ' A' N' U' S D M' ∧ ySt σ σ' S (60 * L + 2000) (600 * L + 30000) ∧ aad A' 0 = aad A 0 := by
  obtain ⟨C, hDS, E, K, ⟨d, hd⟩, I, R, LW, ⟨r1, r2, ⟨k0, r4⟩, r5, T, hT, r6⟩, IM, BZ⟩ := H
  have hn := hT.1.1
  obtain ⟨b1, C1, T1⟩ := F_begins C
  have E1 := Ev_St E T1
  have K1 := zLk_St K T1
  generalize hσ1 : pU σ A N (bgU U) = σ1 at *
  have hd1 : zk σ1 1 = some d := by show zsv σ1 1 = _; rw [T1.1]; exact hd
  have u9 : (bgU U).1 9 = nI L := r1
  have u11 : (bgU U).1 11 = nI k0 := r4
  have hR1 := Rd_of C1 (n := L) (p := 0) (k := k0) (d := 0) u9 rfl u11 rfl
  have X1 := Cx_of C1 E1 K1 hd1
  have hz1 : 60 * L + 5000 ≤ zc σ1 ∧ 600 * L + 40000 ≤ zz σ1 := by
    have := T1.2.2.2.2.1; have := T1.2.2.2.2.2
    omega
  have hb7 : ∀ k, k < 7 → (bgU U).1 k = U.1 k := fun k hk => by
    rcases (show k = 0 ∨ k = 1 ∨ k = 2 ∨ k = 3 ∨ k = 4 ∨ k = 5 ∨ k = 6 by omega) with rfl | rfl | rfl | rfl | rfl | rfl | rfl <;> rfl
  have Ib : RI c N (bgU U) := RI_u I hb7 rfl
  have Rb : yRM N (bgU U) (M.2 0) := RM_u R hb7 rfl
  -- the draft
  have W0 := Cs_Wd C1 E1 (RI_60 Ib)
  have hbz1 := C1.1.2.2.2.1
  obtain ⟨σ2, Dd, a1, a2, a3, a4, a5, a6, a7, a8, a9, a10, a11⟩ := X2_copy_spec E1 hbz1 C1.1.2.2.1 W0 hd1 (RI_zb Ib) ⟨by omega, by omega⟩
  have S12 : Sp σ1 σ2 (aad A 2) 400 20000 := ⟨fun q q1 _ => a4 q q1, a5, a6, a7, a9, a10⟩
  have hrb := hR1.2.2.2.1
  have R2 : yRd σ2 (aad A 2) (aad A 11) ((bgU U).1 8) ((bgU U).1 12) ((bgU U).2 10) L 0 k0 0 := Rd_keep hR1 a4 a6 a7 a8
  have X2 := Cx_Sp X1 S12 hrb hbz1
  have hrz := hR1.2.2.2.2.1
  have htz := hR1.2.2.2.2.2.1
  have hoz : aad A 0 < zn σ1 := X1.1.2.2.1
  let Q : Nat → Prop := fun q => ∃ r, 300 ≤ r ∧ r < 400 ∧ q = aad A r
  have D2 : Dr σ2 (zn σ1) Q Dd N (cpU (bgU U)) := ⟨a2, fun r h1 h2 => by
    rcases a3 r h1 h2 with h | ⟨h3, h4, h5⟩
    · exact Or.inl h.1
    · exact Or.inr ⟨h3, h4, r, h3, h4, h5⟩⟩
  have Ic : RI c N (cpU (bgU U)) := RI_cp Ib
  have Rc : yRM N (cpU (bgU U)) (M.2 0) := RM_cp Rb
  have F := f_pText (c := c) X2 R2 hT (by omega) hrz htz hoz D2 Ic a7 (by omega) ⟨by omega, by omega⟩
  have G := g_people hT.1 r2 r6 Ic (by omega) Rc
  have KP9 := kp_pPe (T := T) (N, cpU (bgU U))
  -- the head
  have g02 : gR σ (aad A 0) 0 2 = some (some (aad A 2)) := gR_of (C.1.2.1 0) (k := 2) (q := some (aad A 2)) rfl rfl
  have g00 : gR σ1 (aad A 0) 0 0 = some (some (aad A 1)) := gR_of (C1.1.2.1 0) (k := 0) (q := some (aad A 1)) rfl rfl
  have cl2 : zcl σ (aad A 2) = 2 := cl_of (C.1.2.1 2) rfl
  have cl1 : zcl σ1 (aad A 1) = 1 := cl_of (C1.1.2.1 1) rfl
  have cl0 : zcl σ2 (aad A 0) = 0 := X2.1.2.1
  have head : ∀ {fo : Option ((Unit ⊕ Nat) × zS)}, f_X1_peopleText (aad A 0) (some (aad Dd 1)) σ2 = fo → f_X1_people (aad A 0) σ = zbt fo (fun k9 σ9 => if k9 = 5 then zif (zcl σ9 (aad A 0) = 0) <| zbt (f_X1_fails (aad A 0) σ9) (fun k9 σ9 => some (.inr k9, σ9)) fun _ σ16 => f_X1_people_36 (aad A 0) (some (aad Dd 1)) σ16 else none) fun _ σ13 => (gR σ13 (aad A 0) 0 2).bind fun r28 => r28.bind fun a29 => (pI σ13 a29 2 5 (-1)).bind fun σ30 => f_X1_people_36 (aad A 0) (some (aad Dd 1)) σ30 := by
    intro fo hfo
    unfold f_X1_people
    rw [ybind_eq g02, bd_at, zif_t cl2, zb2_eq b1, ybind_eq g00, bd_at, zif_t cl1, zb2_eq a1, zif_t cl0, hfo]
  have KPM : ∀ {M' : mS}, KP M M' → (∀ k, k < 942 → M'.2 0 k = M.2 0 k) → yRM N U (M'.2 0) ∧ M'.1 6 = 0 ∧ M'.1 3 = M.1 3 ∧ Bz M' ∧ (∀ j, j < 942 → M'.2 1 j = M.2 1 j) ∧ (∀ j, (j = 10 ∨ j = 11 ∨ (542 ≤ j ∧ j < 942)) → M'.2 0 j = M.2 0 j) := by
    intro M' h1 h2
    obtain ⟨q1, q2, q3, q4, q5, q6⟩ := h1
    exact ⟨RM_congr I R (fun k hk => h2 k (by omega)), q1, q2, ⟨by rw [q3]; exact BZ.1, by rw [q4]; exact BZ.2⟩, fun j _ => by rw [q5 1 (by omega) (by omega)], fun j hj => q6 j (by omega)⟩
  -- the component behind the text, its world as it was
  have BACK : ∀ τ q m d' a b, yRd τ (aad A 2) (aad A 11) ((bgU U).1 8) ((bgU U).1 12) ((bgU U).2 10) L q m d' → Lv σ2 τ (zn σ1) (aad A 2) a b → ∃ A1, Cs τ A1 N (rdU (bgU U) q m d') S ∧ (∀ r, r < 16 → aad A1 r = aad A r) ∧ arf A1 = arf A ∧ ySt σ τ S (400 + a) (20000 + b) ∧ Sp σ1 τ (aad A 2) (400 + a) (20000 + b) := by
    intro τ q m d' a b f2 f3
    have SS : Sp σ1 τ (aad A 2) (400 + a) (20000 + b) := ⟨fun q q1 q2 => (f3.1 q q1 q2).trans (a4 q q1), f3.2.1.trans a5, f3.2.2.1.trans a6, by have := f3.2.2.2.1; omega, by have := f3.2.2.2.2.1; omega, by have := f3.2.2.2.2.2; omega⟩
    obtain ⟨A1, C2, ha, harf, T2⟩ := Cs_rd (S' := S) C1 u9 f2 SS (fun q hq => Or.inl hq)
    exact ⟨A1, C2, ha, harf, St_le (St_t T1 T2) (by omega) (by omega), SS⟩
  generalize hpr : pPe T (N, cpU (bgU U)) = P at F G KP9
  match P, F, G, KP9 with
  | .inl e, F, G, _ =>
    obtain ⟨τ, q, d', f1, f2, f3⟩ := F
    obtain ⟨M', he, m1, m2, m3', m4, m5⟩ := G
    obtain ⟨A1, C2, ha, harf, T2, -⟩ := BACK τ q e d' _ _ f2 f3
    obtain ⟨p1, C3, T3⟩ := F_pfault C2 (nI e)
    have z3 := T2.2.2.2.2
    have z33 := T3.2.2.2.2
    have w3 : 1 ≤ zc (pU τ A1 N (uset (rdU (bgU U) q e d') 12 (nI e))) ∧ 6 ≤ zz (pU τ A1 N (uset (rdU (bgU U) q e d') 12 (nI e))) := by omega
    obtain ⟨p2, C4, T4⟩ := F_zth C3 w3
    have TT := St_t T2 (St_t T3 T4)
    have g02' : gR τ (aad A 0) 0 2 = some (some (aad A 2)) := by
      have := gR_of (C2.1.2.1 0) (k := 2) (q := some (aad A1 2)) rfl rfl
      rw [ha 0 (by omega), ha 2 (by omega)] at this
      exact this
    have cl0' : zcl τ (aad A 0) = 0 := by
      have := cl_of (C2.1.2.1 0) rfl
      rw [ha 0 (by omega)] at this
      exact this
    have gm : gI τ (aad A 2) 2 4 = some (nI e) := by
      have := gI_of (C2.1.2.1 2) (k := 4) (v := nI e) rfl rfl
      rw [ha 2 (by omega)] at this
      exact this
    rw [ha 2 (by omega)] at p1
    obtain ⟨q1, q2, q3, q4, q5, q6⟩ := KPM m4 m5
    have hD := St_D TT hDS
    refine ⟨.inr 0, 0, _, A1, N, uset (rdU (bgU U) q e d') 12 (nI e), M', ?_, m1, m2, fun k hk => Or.inl (Sum.inr.inj hk).symm, ?_, St_le TT (by omega) (by omega), ha 0 (by omega)⟩
    · have yff : f_X1_fails (aad A 0) τ = some (.inr 0, zbm (pU τ A1 N (uset (rdU (bgU U) q e d') 12 (nI e)))) := by
        unfold f_X1_fails
        rw [ybind_eq g02', ybind_eq g02', bd_at, ybind_eq gm, bd_at, ybind_eq p1, ybind_eq p2]
      rw [head f1, zbt_er rfl, if_pos rfl, zif_t cl0', zbt_er yff]
    · refine ⟨C4, hDS, Ev_St E TT, zLk_St K TT, ⟨d, by show zsv _ 1 = _; rw [TT.1]; exact hd⟩, RI_u I (fun k hk => ?_) rfl, RM_u q1 (fun k hk => ?_) rfl, Lw_St LW hD (by rw [harf]) (fun _ h => h) (fun j hj => q6 j hj), ⟨rfl, q2, ⟨e, rfl⟩, m3'.symm, _, TB_0, fun k hk => absurd hk (Nat.not_lt_zero k)⟩, Im_St IM hD (by rw [harf]) (fun _ h => h) q3 q5, q4⟩
      · rcases (show k = 0 ∨ k = 1 ∨ k = 2 ∨ k = 3 ∨ k = 4 ∨ k = 5 ∨ k = 6 by omega) with rfl | rfl | rfl | rfl | rfl | rfl | rfl <;> rfl
      · rcases (show k = 0 ∨ k = 1 ∨ k = 2 ∨ k = 3 ∨ k = 4 ∨ k = 5 ∨ k = 6 by omega) with rfl | rfl | rfl | rfl | rfl | rfl | rfl <;> rfl
  | .inr (X, q), F, G, KP9 =>
    obtain ⟨τ, D', mk, q', f1, f2, f3, f4, f5, f6⟩ := F
    obtain ⟨A1, C2, ha, harf, T2, SS⟩ := BACK τ q' mk 0 _ _ f2 f6
    obtain ⟨p1, C3, T3⟩ := F_pfault C2 (-1)
    have e0 : aad A1 0 = aad A 0 := ha 0 (by omega)
    have e1 : aad A1 1 = aad A 1 := ha 1 (by omega)
    have e2 : aad A1 2 = aad A 2 := ha 2 (by omega)
    have g02' : gR τ (aad A 0) 0 2 = some (some (aad A 2)) := by
      have := gR_of (C2.1.2.1 0) (k := 2) (q := some (aad A1 2)) rfl rfl
      rw [e0, e2] at this
      exact this
    have p1z : pI τ (aad A1 2) 2 5 (-1) = some (zset τ (aad A1 2) (.inr (2, [.ref (aad A1 11), .int ((rdU (bgU U) q' mk 0).1 8), .int ((rdU (bgU U) q' mk 0).1 9), .int ((rdU (bgU U) q' mk 0).1 10), .int ((rdU (bgU U) q' mk 0).1 11), .int (-1), .int ((rdU (bgU U) q' mk 0).1 13)]))) := pI_of (C2.1.2.1 2) (Nat.le_of_ble_eq_true rfl) (C2.1.1.2.1 2)
    have hz3 : pU τ A1 N (uset (rdU (bgU U) q' mk 0) 12 (-1)) = zset τ (aad A1 2) (.inr (2, [.ref (aad A1 11), .int ((rdU (bgU U) q' mk 0).1 8), .int ((rdU (bgU U) q' mk 0).1 9), .int ((rdU (bgU U) q' mk 0).1 10), .int ((rdU (bgU U) q' mk 0).1 11), .int (-1), .int ((rdU (bgU U) q' mk 0).1 13)])) := Option.some.inj (p1.symm.trans p1z)
    have T23 := St_t T2 T3
    have z23 := T23.2.2.2.2
    generalize hτ3 : pU τ A1 N (uset (rdU (bgU U) q' mk 0) 12 (-1)) = τ3 at *
    have m3e : ∀ x, x ≠ aad A 2 → τ3.1 x = τ.1 x := fun x hx => by rw [hz3, e2]; exact if_neg hx
    have m32 : τ3.2 = τ.2 := by rw [hz3]; rfl
    have p1' : pI τ (aad A 2) 2 5 (-1) = some τ3 := by rw [← e2]; exact p1
    have g00' : gR τ3 (aad A 0) 0 0 = some (some (aad A 1)) := by
      have := gR_of (C3.1.2.1 0) (k := 0) (q := some (aad A1 1)) rfl rfl
      rw [e0, e1] at this
      exact this
    have g10' : gI τ3 (aad A 1) 1 0 = some (U.1 0) := by
      have := gI_of (C3.1.2.1 1) (k := 0) (v := U.1 0) rfl rfl
      rw [e1] at this
      exact this
    have hx0 : (cpU (bgU U)).1 0 = U.1 0 := rfl
    have kk0' : X.2.1 0 = U.1 0 := KP9.1.1 0 (by omega) (by omega) (by omega)
    have hrd7 : ∀ k, k < 7 → (uset (rdU (bgU U) q' mk 0) 12 (-1)).1 k = U.1 k := fun k hk => by
      rcases (show k = 0 ∨ k = 1 ∨ k = 2 ∨ k = 3 ∨ k = 4 ∨ k = 5 ∨ k = 6 by omega) with rfl | rfl | rfl | rfl | rfl | rfl | rfl <;> rfl
    by_cases h10 : U.1 0 = 10
    · obtain ⟨M', m1, m2, m3', m4, m5⟩ := G.1 h10
      obtain ⟨q1, q2, q3, q4, q5, q6⟩ := KPM m4 m5
      have w3 : 1 ≤ zc τ3 ∧ 6 ≤ zz τ3 := by omega
      obtain ⟨p2, C4, T4⟩ := F_zth C3 w3
      have TT := St_t T23 T4
      have hD := St_D TT hDS
      refine ⟨.inr 1, 0, _, A1, N, uset (rdU (bgU U) q' mk 0) 12 (-1), M', ?_, m1, m2, fun k hk => Or.inr (Sum.inr.inj hk).symm, ?_, St_le TT (by omega) (by omega), e0⟩
      · rw [head f1, zbt_eq rfl, ybind_eq g02', bd_at, ybind_eq p1']
        unfold f_X1_people_36
        rw [ybind_eq g00', bd_at, ybind_eq g10', if_neg (fun q => q h10), ybind_eq p2]
      · exact ⟨C4, hDS, Ev_St E TT, zLk_St K TT, ⟨d, by show zsv _ 1 = _; rw [TT.1]; exact hd⟩, RI_u I hrd7 rfl, RM_u q1 hrd7 rfl, Lw_St LW hD (by rw [harf]) (fun _ h => h) (fun j hj => q6 j hj), ⟨rfl, q2, ⟨mk, rfl⟩, m3'.symm, _, TB_0, fun k hk => absurd hk (Nat.not_lt_zero k)⟩, Im_St IM hD (by rw [harf]) (fun _ h => h) q3 q5, q4⟩
    · obtain ⟨M', m1, m2, m3', m4, m5, m6⟩ := G.2 h10
      -- the draft's texts
      have D3 : Dr τ3 (zn σ1) Q D' X.1 X.2 := by
        have en : zn τ3 = zn τ := congrArg (fun w => w.2.2.1) m32
        have eb : zbs τ3 = zbs τ := congrArg (fun w => w.2.1) m32
        have ev : zsv τ3 = zsv τ := congrArg (fun w => w.1) m32
        exact ⟨Wd_keep f3.1 (fun r h1 h2 => m3e _ (Wd_rd f3.1 f2 r h1 h2)) ev eb (by omega), f3.2⟩
      obtain ⟨τ4, v1, v2, v3, v4⟩ := Wd_w1 D3.1 (k := 0) (by omega) (U.1 0 + 1)
      have zD := Dr_z D3 (r := 1) (by omega)
      have g10d : gI τ3 (aad Dd 1) 1 0 = some (U.1 0) := by
        have := gI_of (Wd_1 D3.1) (k := 0) (v := X.2.1 0) rfl rfl
        rw [kk0', f4] at this
        exact this
      have nob : ∀ r, aad A1 r ≠ aad D' 1 := by
        intro r e
        have c1 := C3.1.2.1 r
        rw [e, Wd_1 D3.1] at c1
        have hr1 : r = 1 := by
          have ea : ∀ j fs, ¬ cEa A1 ((uset (rdU (bgU U) q' mk 0) 12 (-1)).1, (uset (rdU (bgU U) q' mk 0) 12 (-1)).2, N) j = some (.inr (1, fs)) := fun j fs h => by
            unfold cEa at h
            by_cases z : aer A1 j = aad A1 (15 + j)
            · rw [if_pos z] at h; cases h
            · rw [if_neg z] at h; cases h
          match r, c1 with
          | 0, c1 => cases c1
          | 1, _ => rfl
          | 2, c1 => cases c1
          | 3, c1 => cases c1
          | 4, c1 => cases c1
          | 5, c1 => cases c1
          | 6, c1 => cases c1
          | 7, c1 => cases c1
          | 8, c1 => cases c1
          | 9, c1 => cases c1
          | 10, c1 => cases c1
          | 11, c1 => cases c1
          | 12, c1 => cases c1
          | 13, c1 => cases c1
          | 14, c1 => cases c1
          | 15, c1 => cases c1
          | 16, c1 => exact absurd c1.symm (ea 1 _)
          | 17, c1 => exact absurd c1.symm (ea 2 _)
          | 18, c1 => exact absurd c1.symm (ea 3 _)
          | 19, c1 => exact absurd c1.symm (ea 4 _)
          | r + 20, c1 =>
            exfalso
            have c1' : some _ = (if r < 80 then none else cEl A1 _ ((r + 20) / 100) ((r + 20) % 100)) := c1
            by_cases z : r < 80
            · rw [if_pos z] at c1'; cases c1'
            · rw [if_neg z] at c1'
              generalize (r + 20) / 100 = j at c1'
              generalize (r + 20) % 100 = i at c1'
              unfold cEl at c1'
              by_cases y : i < N j
              · rw [if_pos y] at c1'
                match j, c1' with
                | 0, h' => cases h'
                | 1, h' => cases h'
                | 2, h' => cases h'
                | 3, h' => cases h'
                | 4, h' => cases h'
                | j + 5, h' => cases h'
              · rw [if_neg y] at c1'; cases c1'
        subst hr1
        have := Cs_lt C1 (r := 1) (Or.inl (by omega))
        omega
      have C4 : Cs τ4 A1 N (uset (rdU (bgU U) q' mk 0) 12 (-1)) S := Cs_out C3 (fun q => by
        by_cases z : q = aad D' 1
        · exact Or.inr (z ▸ ⟨nob, zD.2⟩)
        · exact Or.inl (v3 q z)) v4
      have hSz : ∀ q, S q → q < zn σ1 := fun q hq => (C1.2.1 q hq).1
      have T4 : ySt τ3 τ4 S 0 0 := by
        have en : zn τ4 = zn τ3 := congrArg (fun w => w.2.2.1) v4
        have eb : zbs τ4 = zbs τ3 := congrArg (fun w => w.2.1) v4
        have ev : zsv τ4 = zsv τ3 := congrArg (fun w => w.1) v4
        have ec : zc τ4 = zc τ3 := congrArg (fun w => w.2.2.2.1) v4
        have ez : zz τ4 = zz τ3 := congrArg (fun w => w.2.2.2.2) v4
        refine ⟨ev, eb, by omega, fun q hq => v3 q ?_, by omega, by omega⟩
        intro e
        rcases hq with h | h
        · have := hSz q h; omega
        · have := (v2.1 1 (Or.inl rfl) (Or.inl (by omega))).1
          omega
      have T24 := St_t T23 T4
      have E4 := Ev_St E T24
      -- the draft becomes the world
      have sep : ∀ r r', wrl r → zal X.1 (zow D') r → ¬ wrl r' → aad D' r ≠ aad A1 r' := by
        intro r r' h1 h2 h3 e
        have hr' : r' < 16 := by
          rcases Nat.lt_or_ge r' 12 with w | w
          · omega
          · exact absurd (Or.inr (Or.inr w)) h3
        have hlt := Cs_lt C1 (r := r') (Or.inl hr')
        rw [ha r' hr'] at e
        rcases D3.2 r h1 h2 with w | ⟨w1, w2, r0, w3, w4, w5⟩
        · omega
        · rw [w5] at e
          have := Cs_inj C1 e
          omega
      have hSD : ∀ r, wrl r → zal X.1 (zow D') r → S (aad D' r) → 300 ≤ r ∧ r < 400 := by
        intro r h1 h2 h3
        rcases D3.2 r h1 h2 with w | ⟨w1, w2, -⟩
        · have := hSz _ h3; omega
        · exact ⟨w1, w2⟩
      obtain ⟨A', j1, j2, j3, j4, j5, j6, j7⟩ := Cs_world C4 E4 v2 sep hSD
      have TT := St_t T24 j3
      have hD := St_D TT hDS
      rw [e0, f4] at j1
      have g00f : gR (zset τ4 (aad A1 0) (.inr (0, [.ref (aad D' 1), va_rf (arf A1 0), .ref (aad A1 2), .ref (aad A1 3), .ref (aad A1 4), .ref (aad A1 6), .int ((uset (rdU (bgU U) q' mk 0) 12 (-1)).1 7)]))) (aad A 0) 0 0 = some (some (aad D' 1)) := by
        have := gR_of (j2.1.2.1 0) (k := 0) (q := some (aad A' 1)) rfl rfl
        rw [j4, j7, e0] at this
        rw [e0]
        exact this
      have g10f : gI (zset τ4 (aad A1 0) (.inr (0, [.ref (aad D' 1), va_rf (arf A1 0), .ref (aad A1 2), .ref (aad A1 3), .ref (aad A1 4), .ref (aad A1 6), .int ((uset (rdU (bgU U) q' mk 0) 12 (-1)).1 7)]))) (aad D' 1) 1 0 = some (U.1 0 + 1) := by
        have := gI_of (j2.1.2.1 1) (k := 0) (v := U.1 0 + 1) rfl rfl
        rw [j7] at this
        exact this
      rw [f4, e0] at g00f
      rw [f4, e0] at g10f
      rw [e0] at j2 TT hD
      refine ⟨.inl (U.1 0 + 1), U.1 0 + 1, _, A', X.1, wdU (uset (rdU (bgU U) q' mk 0) 12 (-1)) (uset X.2 0 (U.1 0 + 1)), M', ?_, m1, ⟨m2, rfl⟩, fun k hk => (by cases hk), ?_, St_le TT (by omega) (by omega), j4.trans e0⟩
      · rw [head f1, zbt_eq rfl, ybind_eq g02', bd_at, ybind_eq p1']
        unfold f_X1_people_36
        rw [f4] at v1
        rw [ybind_eq g00', bd_at, ybind_eq g10', if_pos h10, bd_at, ybind_eq g10d, ybind_eq v1, ybind_eq j1]
        rw [e0] at *
        rw [ybind_eq g00f, bd_at, ybind_eq g10f, f4]
      · obtain ⟨q1, q2, q3, q4, q5, q6⟩ := m4
        refine ⟨j2, hDS, Ev_St E TT, zLk_St K TT, ⟨d, by show zsv _ 1 = _; rw [TT.1]; exact hd⟩, ?_, ?_, Lw_St LW hD (by rw [j6, f5, a11]) (fun _ h => h) (fun j hj => q6 j (by omega)), ⟨rfl, q1, ⟨mk, rfl⟩, m3'.symm, _, TB_0, fun k hk => absurd hk (Nat.not_lt_zero k)⟩, Im_St IM hD (by rw [j5, harf]) (fun _ h => h) q2 (fun j _ => by rw [q5 1 (by omega) (by omega)]), ⟨by rw [q3]; exact BZ.1, by rw [q4]; exact BZ.2⟩⟩
        · unfold RI at m5 ⊢
          exact m5
        · unfold yRM at m6 ⊢
          exact m6
end ZA7
section ZA8
variable {σ σ' τ : zS} {A A' B D' : cA} {N N' : Nat → Nat} {U U' : cU} {S D : Nat → Prop} {c L : Nat} {M M' : mS} {m m' : Nat → Int32}
/-- a count -/
theorem F_count (H : Iv c L σ A N U S D M) (p : Int32) : ∃ v, f_X1_count (aad A 0) p σ = some (v, σ) ∧ g_X6_count p M = some (v, mset M 0 0) ∧ Iv c L σ A N U S D (mset M 0 0) := by
  obtain ⟨C, hDS, E, K, ⟨d, hd⟩, I, R, LW, ⟨r1, r2, ⟨k0, r4⟩, r5, T, hT, r6⟩, IM, BZ⟩ := H
  refine ⟨cntV N U (M.2 0 10) p, ?_, op_countG I R p, ⟨C, hDS, E, K, ⟨d, hd⟩, I, R, LW, ⟨r1, r2, ⟨k0, r4⟩, r5, T, hT, r6⟩, IM, BZ⟩⟩
  have hid := Cs_id C
  have g00 : gR σ (aad A 0) 0 0 = some (some (aad A 1)) := gR_of (C.1.2.1 0) (k := 0) (q := some (aad A 1)) rfl rfl
  have row1 := C.1.2.1 1
  have cl0 : zcl σ (aad A 0) = 0 := cl_of (C.1.2.1 0) rfl
  have cl1 : zcl σ (aad A 1) = 1 := cl_of row1 rfl
  have hou := RI_hou I
  have SZ : ∀ j, 1 ≤ j → j ≤ 4 → f_J2_size (aad A (11 + j)) σ = some (nI (N j), σ) ∧ zcl σ (aad A (11 + j)) = 19 := by
    intro j j1 j4
    have h := C.1.2.1 (11 + j)
    rw [cCt_ls j1 j4] at h
    have h' : σ.1 (aad A (11 + j)) = some (.inr (19, [.int (amc A j), .ref (aer A j), .int (Int32.ofNat (N j))])) := h
    refine ⟨?_, cl_of h' rfl⟩
    unfold f_J2_size
    rw [ybind_eq (gI_of h' (k := 2) (v := nI (N j)) rfl rfl)]
  unfold f_X1_count cntV
  rw [ybind_eq g00]
  by_cases zr : p.toInt < 0 ∨ 12 < p.toInt
  · have hne : ∀ k : Int32, 0 ≤ k.toInt → k.toInt ≤ 12 → ¬ p = k := fun k h1 h2 e => by subst e; omega
    rw [if_pos zr, if_neg (hne 6 (by decide) (by decide)), if_neg (hne 11 (by decide) (by decide)), if_neg (hne 12 (by decide) (by decide)), if_neg (hne 0 (by decide) (by decide)), if_neg (hne 1 (by decide) (by decide)), if_neg (hne 2 (by decide) (by decide)), if_neg (hne 3 (by decide) (by decide)), if_neg (hne 4 (by decide) (by decide)), if_neg (hne 5 (by decide) (by decide)), if_neg (hne 7 (by decide) (by decide)), if_neg (hne 8 (by decide) (by decide)), if_neg (hne 9 (by decide) (by decide)), if_neg (hne 10 (by decide) (by decide))]
  rw [if_neg zr]
  by_cases z : p = 0
  · subst z
    rw [if_pos rfl, bd_at, ybind_eq (gI_of row1 (k := 1) (v := nI (N 0)) (by rw [← hou]; rfl) rfl)]
    rfl
  rw [if_neg z]
  by_cases z : p = 1
  · subst z
    obtain ⟨s1, s2⟩ := SZ 1 (by omega) (by omega)
    rw [if_pos rfl, bd_at, ybind_eq (gR_of row1 (k := 8) (q := some (aad A 12)) rfl rfl), bd_at, zif_t s2, zb2_eq s1]
    rfl
  rw [if_neg z]
  by_cases z : p = 2
  · subst z
    obtain ⟨s1, s2⟩ := SZ 2 (by omega) (by omega)
    rw [if_pos rfl, bd_at, ybind_eq (gR_of row1 (k := 9) (q := some (aad A 13)) rfl rfl), bd_at, zif_t s2, zb2_eq s1]
    rfl
  rw [if_neg z]
  by_cases z : p = 3
  · subst z
    rw [if_pos rfl, bd_at, ybind_eq (gI_of row1 (k := 0) (v := U.1 0) rfl rfl)]
    rfl
  rw [if_neg z]
  by_cases z : p = 4
  · subst z
    rw [if_pos rfl, bd_at]
    obtain ⟨-, l1, l2⟩ := LW
    cases hl : arf A 1 with
    | none =>
      have g12 : gR σ (aad A 1) 1 12 = some none := by
        have := gR_of row1 (k := 12) (q := arf A 1) rfl rfl
        rw [hl] at this; exact this
      rw [ybind_eq g12]
      show some ((-1 : Int32), σ) = _
      have := l1 hl
      show _ = some (M.2 0 10, σ)
      rw [this]
    | some a =>
      have g12 : gR σ (aad A 1) 1 12 = some (some a) := by
        have := gR_of row1 (k := 12) (q := arf A 1) rfl rfl
        rw [hl] at this; exact this
      obtain ⟨T', -, t2⟩ := l2 a hl
      obtain ⟨-, x, t3, t4, t5⟩ := t2 σ ⟨fun _ _ => rfl, rfl, rfl⟩
      rw [ybind_eq g12]
      show ((gR σ (aad A 1) 1 12).bind fun r21 => _) = _
      rw [ybind_eq g12, bd_at, ybind_eq t3, bd_at, zif_t t4, zb2_eq t5]
      rfl
  rw [if_neg z]
  by_cases z : p = 5
  · subst z
    obtain ⟨s1, s2⟩ := SZ 4 (by omega) (by omega)
    rw [if_pos rfl, bd_at, ybind_eq (gR_of row1 (k := 11) (q := some (aad A 15)) rfl rfl), bd_at, zif_t s2, zb2_eq s1]
    rfl
  rw [if_neg z]
  by_cases z : p = 6
  · subst z
    have hb := e_X2_burnt (σ := σ) (A := A) (N := N) C.1.1 (h_burntN I)
    rw [hid] at hb
    have hb' : f_X2_burnt (aad A 1) σ = some (nI (bu N U), σ) := hb
    rw [if_pos rfl, bd_at, zif_t cl1, zb2_eq hb', if_pos rfl]
  rw [if_neg z]
  by_cases z : p = 7
  · subst z
    rw [if_pos rfl, bd_at, ybind_eq (gI_of row1 (k := 4) (v := U.1 4) rfl rfl)]
    rfl
  rw [if_neg z]
  by_cases z : p = 8
  · subst z
    rw [if_pos rfl, bd_at, ybind_eq (gI_of row1 (k := 2) (v := U.1 2) rfl rfl)]
    rfl
  rw [if_neg z]
  by_cases z : p = 9
  · subst z
    rw [if_pos rfl, bd_at, ybind_eq (gI_of row1 (k := 3) (v := U.1 3) rfl rfl)]
    rfl
  rw [if_neg z]
  by_cases z : p = 10
  · subst z
    obtain ⟨s1, s2⟩ := SZ 3 (by omega) (by omega)
    rw [if_pos rfl, bd_at, ybind_eq (gR_of row1 (k := 10) (q := some (aad A 14)) rfl rfl), bd_at, zif_t s2, zb2_eq s1]
    rfl
  rw [if_neg z]
  by_cases z : p = 11
  · subst z
    have hb := e_X1_sum (σ := σ) (A := A) (N := N) C.1.1 (h_sum1 (RI_n4 I) (RI_n0 I) hou)
    have hb' : f_X1_sum (aad A 0) 1 σ = some (ysm (N 0) (fun e => U.2 0 e), σ) := by rw [hid] at hb; exact hb
    rw [if_pos rfl, zif_t cl0, zb2_eq hb']
    rfl
  rw [if_neg z]
  by_cases z : p = 12
  · subst z
    have hb := e_X1_sum (σ := σ) (A := A) (N := N) C.1.1 (h_sum0 (U := U) (RI_n4 I))
    have hb' : f_X1_sum (aad A 0) 0 σ = some (ysm (N 4) (fun e => U.2 4 (8 * e + 5)), σ) := by rw [hid] at hb; exact hb
    rw [if_pos rfl, zif_t cl0, zb2_eq hb']
    rfl
  exfalso
  rename_i z0 z1 z2 z3 z4 z5 z6 z7 z8 z9 z10 z11
  have hp : ∃ n, n ≤ 12 ∧ p = nI n := by
    have h1 : 0 ≤ p.toInt ∧ p.toInt ≤ 12 := by omega
    refine ⟨p.toInt.toNat, by omega, ?_⟩
    apply Int32.toInt_inj.mp
    rw [nI_toInt (by omega)]
    omega
  obtain ⟨n, hn, rfl⟩ := hp
  rcases (show n = 0 ∨ n = 1 ∨ n = 2 ∨ n = 3 ∨ n = 4 ∨ n = 5 ∨ n = 6 ∨ n = 7 ∨ n = 8 ∨ n = 9 ∨ n = 10 ∨ n = 11 ∨ n = 12 by omega) with rfl | rfl | rfl | rfl | rfl | rfl | rfl | rfl | rfl | rfl | rfl | rfl | rfl <;> contradiction
end ZA8
