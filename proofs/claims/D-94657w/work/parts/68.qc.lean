/-! pure land: A5 A6 (see wip/D-94657w/pl) -/
section ZA5
variable {σ σ' σ'' τ : zS} {D D' : cA} {N N' : Nat → Nat} {U U' : cU} {Q : Nat → Prop} {o rd tp n p s m d a b q z l e cap c va : Nat} {tl ft : Int32} {g : Nat → Int32} {T : Nat → Nat}
theorem Ln_zbt {fo : Option ((Unit ⊕ Nat) × zS)} {r : pR9 NU9} (h : Ln σ z rd tp tl ft g T n D Q p fo r) : Ln σ z rd tp tl ft g T n D Q p (zbt fo (fun k9 σ9 => some (.inr k9, σ9)) fun _ σ38 => some (.inl (), σ38)) r := by
  match r, h with
  | .inl e, h =>
    obtain ⟨τ, q, d', h1, h2⟩ := h
    exact ⟨τ, q, d', by rw [zbt_er h1], h2⟩
  | .inr (X, q), h =>
    obtain ⟨τ, D', m', h1, h2⟩ := h
    exact ⟨τ, D', m', by rw [zbt_eq h1], h2⟩
theorem Ln_wrap {p2 L9 : Nat} {fo fo' : Option ((Unit ⊕ Nat) × zS)} {r : pR9 NU9} (hT : Tx T n) (hs : Sp σ σ' rd (4 + L9) (24 + 5 * L9)) (hzn : z ≤ zn σ) (hL : 1 ≤ L9) (hp2 : p + L9 ≤ p2) (hn2 : p2 ≤ n) (hq : ∀ X q, r = .inr (X, q) → p2 < q) (hfo : fo' = fo) (h : Ln σ' z rd tp tl ft g T n D Q p2 fo r) : Ln σ z rd tp tl ft g T n D Q p fo' r := by
  subst hfo
  match r, h, hq with
  | .inl e, h, _ =>
    obtain ⟨τ, q, d', h1, h2, h3⟩ := h
    exact ⟨τ, q, d', h1, h2, Lv_le (Lv_t (Lv_Sp hs hzn) h3) (by omega) (by omega)⟩
  | .inr (X, q), h, hq =>
    have := hq X q rfl
    obtain ⟨τ, D', m', h1, h2, h3, h4, h5, h6⟩ := h
    exact ⟨τ, D', m', h1, h2, h3, h4, h5, Lv_le (Lv_t (Lv_Sp hs hzn) h6) (by omega) (by omega)⟩
theorem qP_lt {r : pR9 NU9} (h : qP c n p r) : ∀ X q, r = .inr (X, q) → p < q := fun X q e => by subst e; exact h.1
set_option maxRecDepth 8000 in
/-- a line -/
theorem f_pLine (C : Cx σ o rd) (h : yRd σ rd tp tl ft g n p m 0) (hT : TB g T n) (hp : p ≤ n) (yW : Dr σ z Q D N U) (I : RI c N U) (hc : c < 2 ^ 31) (hrz : rd < z) (htz : tp < z) (hzn : z ≤ zn σ) (hzb : zbs σ ≤ z) (hoz : o < z) (hz : 60 * (n - p) + 1000 ≤ zc σ ∧ 600 * (n - p) + 7000 ≤ zz σ) : Ln σ z rd tp tl ft g T n D Q p (f_X1_peopleLine o (some (aad D 1)) σ) (pPp T N U p) := by
  have hn := hT.1.1
  have hbz := h.2.2.2.2.2.2.1
  have hrb := h.2.2.2.1
  obtain ⟨a1, a2, -, -⟩ := sk_spec hT.1 hp
  have ss := sk_sk hT.1 hp
  obtain ⟨b1, b2, -, -⟩ := we_spec hT.1 a2
  have hL9 : lnL T p = we T (sk T p) - sk T p := rfl
  obtain ⟨τ, t1, t2, t3, t4⟩ := f_disp C h hT hp ⟨by omega, by omega⟩ (some (aad D 1))
  have c1 := t2.2.2.2.2.1
  have z1 := t2.2.2.2.2.2
  have e1 := t2.2.2.1
  have n1 := t2.2.2.2.1
  have C1 := Cx_Sp C t2 hrb hbz
  have W1 := Dr_Sp yW h t2
  have hLn := lnL_le hT.1 hp
  have FIN : ∀ i, i < 9 → ywk i T (sk T p) = true → ∀ {fo : Option ((Unit ⊕ Nat) × zS)} {r : pR9 NU9}, f_X1_peopleLine_235 o (some (aad D 1)) (some rd) (nI i) τ = fo → qP c n (we T (sk T p)) r → Ln τ z rd tp tl ft g T n D Q (we T (sk T p)) fo r → Ln σ z rd tp tl ft g T n D Q p (f_X1_peopleLine o (some (aad D 1)) σ) r := by
    intro i hi hw fo r h1 h2 h3
    have hwb := wk_b hT.1 (by omega) a2 hw
    exact Ln_wrap hT.1 t2 hzn (by omega) (by omega) hwb.2 (qP_lt h2) ((t3 i hi hw).trans h1) h3
  have WE : ∀ i, i < 9 → ywk i T (sk T p) = true → we T (sk T p) ≤ n ∧ p + lnL T p ≤ we T (sk T p) ∧ 1 ≤ lnL T p := fun i hi hw => by
    have hwb := wk_b hT.1 (show i < 23 by omega) a2 hw
    exact ⟨hwb.2, by omega, by omega⟩
  unfold pPp
  by_cases w0 : ywk 0 T (sk T p) = true
  · rw [if_pos w0]
    obtain ⟨k1, k2, k3⟩ := WE 0 (by omega) w0
    have P := f_pHo C1 t1 hT k1 W1 I hrz htz (by omega) ⟨by omega, by omega⟩
    have hq : qP c n (we T (sk T p)) (pHo T N U (sk T p) (we T (sk T p))) := by
      unfold pHo
      by_cases h8 : N 0 = 8
      · rw [if_pos h8]; exact a2
      · rw [if_neg h8]
        exact fig_then hT.1 k1 (by omega) (fun v q h1 h2 h3 h4 => ⟨h3, h4, RI_ho I h8 h2⟩)
    exact FIN 0 (by omega) w0 rfl hq P
  rw [if_neg w0]
  have WK : ∀ i so, i < 9 → ywk i T (sk T p) = true → so ≤ 3 → f_X1_peopleLine_235 o (some (aad D 1)) (some rd) (nI i) τ = zbt (f_X1_walkerTold o (some (aad D 1)) (nI so) τ) (fun k9 σ9 => some (.inr k9, σ9)) (fun _ σ38 => some (.inl (), σ38)) → Ln σ z rd tp tl ft g T n D Q p (f_X1_peopleLine o (some (aad D 1)) σ) (pWk T N U so (sk T p) (we T (sk T p))) := by
    intro i so hi hw hso he
    obtain ⟨k1, k2, k3⟩ := WE i hi hw
    have P := f_pWk C1 t1 hT k1 W1 I hrz htz (by omega) (by omega) hoz ⟨by omega, by omega⟩ (so := so)
    exact FIN i hi hw he (pWk_b hT.1 k1 I hso a2 (Nat.le_refl _)) (Ln_zbt P)
  by_cases w1 : ywk 1 T (sk T p) = true
  · rw [if_pos w1]
    refine WK 1 0 (by omega) w1 (by omega) ?_
    unfold f_X1_peopleLine_235
    rw [if_neg (by decide), if_neg (by decide), if_pos (by decide), zif_t C1.1.2.1]
    rfl
  rw [if_neg w1]
  by_cases w2 : ywk 2 T (sk T p) = true
  · rw [if_pos w2]
    refine WK 2 1 (by omega) w2 (by omega) ?_
    unfold f_X1_peopleLine_235
    rw [if_neg (by decide), if_neg (by decide), if_neg (by decide), if_pos (by decide), zif_t C1.1.2.1]
    rfl
  rw [if_neg w2]
  by_cases w3 : ywk 3 T (sk T p) = true
  · rw [if_pos w3]
    refine WK 3 2 (by omega) w3 (by omega) ?_
    unfold f_X1_peopleLine_235
    rw [if_neg (by decide), if_neg (by decide), if_neg (by decide), if_neg (by decide), if_pos (by decide), zif_t C1.1.2.1]
    rfl
  rw [if_neg w3]
  by_cases w4 : ywk 4 T (sk T p) = true
  · rw [if_pos w4]
    refine WK 4 3 (by omega) w4 (by omega) ?_
    unfold f_X1_peopleLine_235
    rw [if_neg (by decide), if_neg (by decide), if_neg (by decide), if_neg (by decide), if_neg (by decide), if_pos (by decide), zif_t C1.1.2.1]
    rfl
  rw [if_neg w4]
  by_cases w5 : ywk 5 T (sk T p) = true
  · rw [if_pos w5]
    obtain ⟨k1, k2, k3⟩ := WE 5 (by omega) w5
    have P := f_pTu C1 t1 hT k1 W1 I hrz htz (by omega) (by omega) hoz ⟨by omega, by omega⟩
    have hq : qP c n (we T (sk T p)) (pTu T N U (sk T p) (we T (sk T p))) := by
      unfold pTu
      by_cases h8 : N 2 = 10
      · rw [if_pos h8]; exact a2
      · rw [if_neg h8]
        exact fig_then hT.1 k1 (by omega) (fun v q h1 h2 h3 h4 => ⟨h3, h4, RI_tu I h8 hc h2⟩)
    exact FIN 5 (by omega) w5 rfl hq P
  rw [if_neg w5]
  by_cases w6 : ywk 6 T (sk T p) = true
  · rw [if_pos w6]
    obtain ⟨k1, k2, k3⟩ := WE 6 (by omega) w6
    have P := (f_pLR (o := o) t1 hT k1 W1 hrz htz (by omega) ⟨by omega, by omega⟩).1
    exact FIN 6 (by omega) w6 rfl (fig_then hT.1 k1 (by omega) (fun v q h1 h2 h3 h4 => ⟨h3, h4, RI_lm I h2⟩)) P
  rw [if_neg w6]
  by_cases w7 : ywk 7 T (sk T p) = true
  · rw [if_pos w7]
    obtain ⟨k1, k2, k3⟩ := WE 7 (by omega) w7
    have P := (f_pLR (o := o) t1 hT k1 W1 hrz htz (by omega) ⟨by omega, by omega⟩).2
    exact FIN 7 (by omega) w7 rfl (fig_then hT.1 k1 (by omega) (fun v q h1 h2 h3 h4 => ⟨h3, h4, RI_rs I h2⟩)) P
  rw [if_neg w7]
  by_cases w8 : ywk 8 T (sk T p) = true
  · rw [if_pos w8]
    obtain ⟨k1, k2, k3⟩ := WE 8 (by omega) w8
    have P := f_pOff C1 t1 hT k1 W1 I hrz htz (by omega) (by omega) hoz ⟨by omega, by omega⟩
    have hq : qP c n (we T (sk T p)) (pOff T N U (sk T p) (we T (sk T p))) := by
      unfold pOff
      by_cases h8 : N 3 = 12
      · rw [if_pos h8]; exact a2
      · rw [if_neg h8]
        refine fig_then hT.1 k1 (by omega) (fun v q h1 h2 h3 h4 => ?_)
        obtain ⟨b1, b2, -, -⟩ := sk_spec hT.1 h4
        unfold pFo
        by_cases y : ywk 11 T (sk T q) = true
        · rw [if_pos y]
          have hb2 := wk_b hT.1 (by omega) b2 y
          exact fig_then hT.1 hb2.2 (by omega) (fun v2 q2 h5 h6 h7 h8' => ⟨by show we T (sk T p) < q2; omega, h8', RI_of I h8 h2 h6⟩)
        · rw [if_neg y]; exact b2
    refine FIN 8 (by omega) w8 (fo := zbt (f_X1_offerTold o (some (aad D 1)) τ) (fun k9 σ9 => some (.inr k9, σ9)) (fun _ σ86 => some (.inl (), σ86))) ?_ hq (Ln_zbt P)
    unfold f_X1_peopleLine_235
    rw [if_neg (by decide), if_neg (by decide), if_neg (by decide), if_neg (by decide), if_neg (by decide), if_neg (by decide), if_neg (by decide), if_neg (by decide), if_neg (by decide), if_pos (show nI 8 = 8 from rfl), zif_t C1.1.2.1]
  rw [if_neg w8]
  have hno : ∀ i, i < 9 → ¬ ywk i T (sk T p) = true := by
    intro i hi
    rcases (show i = 0 ∨ i = 1 ∨ i = 2 ∨ i = 3 ∨ i = 4 ∨ i = 5 ∨ i = 6 ∨ i = 7 ∨ i = 8 by omega) with rfl | rfl | rfl | rfl | rfl | rfl | rfl | rfl | rfl <;> assumption
  rw [t4 hno]
  obtain ⟨τ3, w9, y1, y2, y3, y4⟩ := f_wrong t1 ⟨by omega, by omega⟩
  refine ⟨τ3, _, 0, ?_, y3, Lv_le (Lv_Sp (Sp_t t2 y4) hzn) (by omega) (by omega)⟩
  unfold f_X1_peopleLine_235
  rw [if_pos (by decide), bd_at, zif_t (Rd_cl t1), zb2_eq y1, bd_at, zif_t y2]
set_option maxRecDepth 40000 in
/-- the lines of a text -/
theorem f_pTextL (hT : TB g T n) (hc : c < 2 ^ 31) (hrz : rd < z) (htz : tp < z) (hoz : o < z) : ∀ k l (X : NU9) p m σ D fu, l + k = 15 → l ≤ 14 → p ≤ n → k < fu → Cx σ o rd → yRd σ rd tp tl ft g n p m 0 → Dr σ z Q D X.1 X.2 → RI c X.1 X.2 → z ≤ zn σ → zbs σ ≤ z → 60 * (n - p) + 1100 ≤ zc σ → 600 * (n - p) + 7100 ≤ zz σ →
    match pPt T k l X p with
    | .inl e => ∃ τ q d', zlp1 (f_X1_peopleText_13_b o (some (aad D 1))) fu (nI l) σ = some (.inr 5, τ) ∧ yRd τ rd tp tl ft g n q e d' ∧ Lv σ τ z rd (60 * (n - p) + 1010) (600 * (n - p) + 6010)
    | .inr (X', q) => ∃ τ D' m', zlp1 (f_X1_peopleText_13_b o (some (aad D 1))) fu (nI l) σ = some (.inl (), τ) ∧ yRd τ rd tp tl ft g n q m' 0 ∧ Dr τ z Q D' X'.1 X'.2 ∧ aad D' 1 = aad D 1 ∧ arf D' = arf D ∧ Lv σ τ z rd (60 * (q - p)) (600 * (q - p)) := by
  have hn := hT.1.1
  intro k
  induction k with
  | zero => intro l X p m σ D fu h0 h9; omega
  | succ k ih =>
    intro l X p m σ D fu h0 h9 h1 h3 C hR yW I hzn hzb hzc hzz
    obtain ⟨fu, rfl⟩ : ∃ f', fu = f' + 1 := ⟨fu - 1, by omega⟩
    obtain ⟨N1, N0⟩ := f_noMore C hR hT h1 ⟨by omega, by omega⟩ (l := l) (k := 14) (by omega) (by omega)
    show match pPt T (k + 1) l X p with
      | .inl e => ∃ τ q d', f_X1_peopleText_13_b o (some (aad D 1)) (zlp1 (f_X1_peopleText_13_b o (some (aad D 1))) fu) (nI l) σ = some (.inr 5, τ) ∧ yRd τ rd tp tl ft g n q e d' ∧ Lv σ τ z rd (60 * (n - p) + 1010) (600 * (n - p) + 6010)
      | .inr (X', q) => ∃ τ D' m', f_X1_peopleText_13_b o (some (aad D 1)) (zlp1 (f_X1_peopleText_13_b o (some (aad D 1))) fu) (nI l) σ = some (.inl (), τ) ∧ yRd τ rd tp tl ft g n q m' 0 ∧ Dr τ z Q D' X'.1 X'.2 ∧ aad D' 1 = aad D 1 ∧ arf D' = arf D ∧ Lv σ τ z rd (60 * (q - p)) (600 * (q - p))
    have ih' := fun X' p' m' σ' D' => ih (l + 1) X' p' m' σ' D' fu (by omega)
    unfold f_X1_peopleText_13_b
    rw [zif_t C.1.2.1]
    unfold pPt
    by_cases z14 : l = 14
    · obtain ⟨τ, q, f1, f2, f3⟩ := N0 (by omega)
      have f1' : f_X1_noMore o (nI l) 14 σ = some (.inr 5, τ) := f1
      rw [if_pos z14]
      exact ⟨τ, q, 0, by rw [zbt_er f1'], f2, Lv_le (Lv_Sp f3 hzn) (by omega) (by omega)⟩
    rw [if_neg z14]
    have f1' : f_X1_noMore o (nI l) 14 σ = some (.inl (), σ) := N1 (by omega)
    rw [zbt_eq f1', zif_t C.1.2.1]
    have F := f_pLine C hR hT h1 yW I hc hrz htz hzn hzb hoz ⟨by omega, by omega⟩
    have FB := pPp_b hT.1 h1 I hc
    generalize pPp T X.1 X.2 p = r at F FB
    match r, F, FB with
    | .inl e, F, _ =>
      obtain ⟨τ, q, d', k1, k2, k3⟩ := F
      exact ⟨τ, q, d', by rw [zbt_er k1], k2, Lv_le k3 (by omega) (by omega)⟩
    | .inr (X', q), F, FB =>
      have hq1 : p < q := FB.1
      have hq2 : q ≤ n := FB.2.1
      have I2 : RI c X'.1 X'.2 := FB.2.2
      obtain ⟨σ1, D1, m1, k1, k2, k3, k4, k5, k6⟩ := F
      have hLq := lnL_le hT.1 hq2
      have l1 := k6.2.2.1
      have l2 := k6.2.2.2.1
      have l3 := k6.2.2.2.2.1
      have l4 := k6.2.2.2.2.2
      have C1 := Cx_z C k6.1 k6.2.1 l1 l2 hzb hR.2.2.2.1 hoz
      obtain ⟨G1, G2, G3⟩ := f_goesOn C1 k2 hT hq2 ⟨by omega, by omega⟩
      obtain ⟨a1, a2, -, -⟩ := sk_spec hT.1 hq2
      have sq := sk_sk hT.1 hq2
      have hL0 : isL (T (sk T q)) = false → lnL T q = 0 := fun hh => by
        unfold lnL
        rw [show we T (sk T q) = sk T q from run_stop hh, Nat.sub_self]
      rw [zbt_eq k1, zl_at, nI_1, zif_t C1.1.2.1]
      show match (if T (sk T q) = 256 then .inr (X', sk T q) else if T (sk T q) = 59 then pPt T k (l + 1) X' (sk T q + 1) else .inl (sk T q) : pR9 NU9) with
        | .inl e => _
        | .inr (X', q) => _
      by_cases y : T (sk T q) = 256
      · obtain ⟨τ1, t1, t2, t3⟩ := G1 y
        have hLz := hL0 (by rw [y]; rfl)
        rw [if_pos y, zbt_eq t1, if_neg kk0]
        exact ⟨τ1, D1, _, rfl, t2, Dr_Sp k3 k2 t3, k4, k5, Lv_le (Lv_t k6 (Lv_Sp t3 (by omega))) (by omega) (by omega)⟩
      · rw [if_neg y]
        by_cases y2 : T (sk T q) = 59
        · obtain ⟨τ1, t1, t2, t3⟩ := G2 y2
          have hLz := hL0 (by rw [y2]; rfl)
          have hlt := Tx_in hT.1 (by omega) y2
          have u1 := t3.2.2.1
          have u2 := t3.2.2.2.1
          have u3 := t3.2.2.2.2.1
          have u4 := t3.2.2.2.2.2
          have C2 := Cx_Sp C1 t3 (by have := hR.2.2.2.1; omega) k2.2.2.2.2.2.2.1
          rw [if_pos y2, zbt_eq t1, if_pos kk1]
          have key := ih' X' (sk T q + 1) (sk T q) τ1 D1 (by omega) (by omega) (by omega) C2 t2 (Dr_Sp k3 k2 t3) I2 (by omega) (by omega) (by omega) (by omega)
          rw [k4] at key
          have FB5 : ∀ X3 q3, pPt T k (l + 1) X' (sk T q + 1) = .inr (X3, q3) → sk T q + 1 ≤ q3 := by
            have H : ∀ k l (X : NU9) p, p ≤ n → RI c X.1 X.2 → ∀ X3 q3, pPt T k l X p = .inr (X3, q3) → p ≤ q3 := by
              intro k
              induction k with
              | zero => intro l X p hp hI X3 q3 e; have e' : (.inr (X, p) : pR9 NU9) = .inr (X3, q3) := e; exact Nat.le_of_eq (congrArg (fun z => z.2) (Sum.inr.inj e'))
              | succ k ihk =>
                intro l X p hp hI X3 q3 e
                unfold pPt at e
                by_cases w : l = 14
                · rw [if_pos w] at e; cases e
                · rw [if_neg w] at e
                  have FB := pPp_b hT.1 hp hI hc
                  generalize pPp T X.1 X.2 p = r at FB e
                  match r, FB, e with
                  | .inl _, _, e => cases e
                  | .inr (X4, q4), FB, e =>
                    have j1 : p < q4 := FB.1
                    have j2 : q4 ≤ n := FB.2.1
                    obtain ⟨i1, i2, -, -⟩ := sk_spec hT.1 j2
                    have e' : (if T (sk T q4) = 256 then .inr (X4, sk T q4) else if T (sk T q4) = 59 then pPt T k (l + 1) X4 (sk T q4 + 1) else .inl (sk T q4) : pR9 NU9) = .inr (X3, q3) := e
                    by_cases v : T (sk T q4) = 256
                    · rw [if_pos v] at e'
                      have := congrArg (fun z => z.2) (Sum.inr.inj e')
                      have e2 : sk T q4 = q3 := this
                      omega
                    · rw [if_neg v] at e'
                      by_cases v2 : T (sk T q4) = 59
                      · rw [if_pos v2] at e'
                        have hlt := Tx_in hT.1 (by omega) v2
                        have := ihk (l + 1) X4 (sk T q4 + 1) (by omega) FB.2.2 X3 q3 e'
                        omega
                      · rw [if_neg v2] at e'; cases e'
            exact H k (l + 1) X' (sk T q + 1) (by omega) I2
          generalize pPt T k (l + 1) X' (sk T q + 1) = r2 at key FB5 ⊢
          match r2, key, FB5 with
          | .inl e, key, _ =>
            obtain ⟨τ, q', d', j1, j2, j3⟩ := key
            exact ⟨τ, q', d', j1, j2, Lv_le (Lv_t k6 (Lv_t (Lv_Sp t3 (by omega)) j3)) (by omega) (by omega)⟩
          | .inr (X3, q3), key, FB5 =>
            have := FB5 X3 q3 rfl
            obtain ⟨τ, D3, m3, j1, j2, j3, j4, j5, j6⟩ := key
            exact ⟨τ, D3, m3, j1, j2, j3, j4.trans rfl, j5.trans k5, Lv_le (Lv_t k6 (Lv_t (Lv_Sp t3 (by omega)) j6)) (by omega) (by omega)⟩
        · obtain ⟨τ1, t1, t2, t3⟩ := G3 y y2
          rw [if_neg y2, zbt_er t1]
          exact ⟨τ1, _, 0, rfl, t2, Lv_le (Lv_t k6 (Lv_Sp t3 (by omega))) (by omega) (by omega)⟩
end ZA5
/-- the component's numbers with another world -/
def wdU (U U' : cU) : cU := (fun k => if k < 7 then U'.1 k else U.1 k, fun t => if t ≤ 4 then U'.2 t else U.2 t)
section ZA6
variable {σ σ' τ : zS} {A A' B D : cA} {N N' : Nat → Nat} {U U' : cU} {S : Nat → Prop} {c : Nat} {M M' : mS} {m m' : Nat → Int32}
/-- cells that are nobody's may change -/
theorem Cs_out (C : Cs σ A N U S) (h : ∀ q, τ.1 q = σ.1 q ∨ ((∀ r, aad A r ≠ q) ∧ q < zn σ)) (h2 : τ.2 = σ.2) : Cs τ A N U S := by
  obtain ⟨⟨r1, r2, r3, r4, r5⟩, hS, hD⟩ := C
  have en : zn τ = zn σ := congrArg (fun w => w.2.2.1) h2
  have eb : zbs τ = zbs σ := congrArg (fun w => w.2.1) h2
  have ev : zsv τ = zsv σ := congrArg (fun w => w.1) h2
  have hr : ∀ r, τ.1 (aad A r) = σ.1 (aad A r) := fun r => (h (aad A r)).resolve_right (fun q => q.1 r rfl)
  refine ⟨⟨⟨r1.1, fun r => by rw [eb]; exact r1.2.1 r, r1.2.2⟩, fun r => by rw [hr]; exact r2 r, fun q hq => ?_, by omega, fun j j1 j4 => (r5 j j1 j4).imp id (fun z => ⟨z.1, by rw [eb]; exact z.2⟩)⟩, fun q hq => ⟨by rw [en]; exact (hS q hq).1, (hS q hq).2⟩, fun j j1 j4 => (hD j j1 j4).imp id (fun z => by show zsv τ 1 = _; rw [ev]; exact z)⟩
  rcases h q with z | z
  · rw [z]; exact r3 q (by omega)
  · omega
/-- another world comes -/
theorem Cs_world (C : Cs σ A N U S) (E : yEv σ) (yW : yWd σ D N' U') (sep : ∀ r r', wrl r → zal N' (zow D) r → ¬ wrl r' → aad D r ≠ aad A r') (hSD : ∀ r, wrl r → zal N' (zow D) r → S (aad D r) → 300 ≤ r ∧ r < 400) :
    ∃ A', pR σ (aad A 0) 0 0 (some (aad D 1)) = some (zset σ (aad A 0) (.inr (0, [.ref (aad D 1), va_rf (arf A 0), .ref (aad A 2), .ref (aad A 3), .ref (aad A 4), .ref (aad A 6), .int (U.1 7)]))) ∧ Cs (zset σ (aad A 0) (.inr (0, [.ref (aad D 1), va_rf (arf A 0), .ref (aad A 2), .ref (aad A 3), .ref (aad A 4), .ref (aad A 6), .int (U.1 7)]))) A' N' (wdU U U') S ∧ ySt σ (zset σ (aad A 0) (.inr (0, [.ref (aad D 1), va_rf (arf A 0), .ref (aad A 2), .ref (aad A 3), .ref (aad A 4), .ref (aad A 6), .int (U.1 7)]))) S 0 0 ∧ aad A' 0 = aad A 0 ∧ arf A' 0 = arf A 0 ∧ arf A' 1 = arf D 1 ∧ aad A' 1 = aad D 1 := by
  let ad : Nat → Nat := fun r => if r = 1 ∨ r = 5 ∨ 12 ≤ r then aad D r else aad A r
  let rf : Nat → Option Nat := fun k => if k = 0 then arf A 0 else arf D k
  have adw : ∀ r, wrl r → ad r = aad D r := fun r h => if_pos h
  have adn : ∀ r, ¬ wrl r → ad r = aad A r := fun r h => if_neg h
  have nw : ∀ r, ¬ wrl r → r < 12 ∧ r ≠ 1 ∧ r ≠ 5 := fun r h => ⟨Nat.lt_of_not_le fun q => h (Or.inr (Or.inr q)), fun q => h (Or.inl q), fun q => h (Or.inr (Or.inl q))⟩
  have zA : ∀ r, ¬ wrl r → zal N (zow A) r := fun r h => Or.inl (by have := (nw r h).1; omega)
  let σ2 : zS := zset σ (aad A 0) (.inr (0, [.ref (aad D 1), va_rf (arf A 0), .ref (aad A 2), .ref (aad A 3), .ref (aad A 4), .ref (aad A 6), .int (U.1 7)]))
  have n0 : ¬ wrl 0 := by unfold wrl; omega
  have row0 : σ.1 (aad A 0) = some (.inr (0, [.ref (aad A 1), va_rf (arf A 0), .ref (aad A 2), .ref (aad A 3), .ref (aad A 4), .ref (aad A 6), .int (U.1 7)])) := C.1.2.1 0
  have m2 : ∀ q, q ≠ aad A 0 → σ2.1 q = σ.1 q := fun q h => if_neg h
  have g1 : ∀ j, 1 ≤ j → j ≤ 4 → N' j < 100 ∧ ((zow D j = true ∧ aer D j = ad (15 + j) ∧ N' j ≤ acap D j ∧ 1 ≤ acap D j ∧ acap D j ≤ 90) ∨ (zow D j = false ∧ N' j = 0 ∧ aer D j < zbs σ2)) := by
    intro j j1 j4
    obtain ⟨h60, h⟩ := yW.2.2 j j1 j4
    refine ⟨by omega, ?_⟩
    rcases h with ⟨o1, o2⟩ | ⟨o1, o2, o3⟩
    · exact Or.inl ⟨decide_eq_true o1, by rw [adw _ (Or.inr (Or.inr (by omega)))]; exact o1, o2⟩
    · exact Or.inr ⟨decide_eq_false o1, o2, (E.2 _ o3).1⟩
  have g2 : ∀ r, zal N' (zow D) r → zbs σ2 ≤ ad r ∧ ad r < zn σ2 := by
    intro r hr
    rcases Classical.em (wrl r) with h | h
    · rw [adw r h]; exact ⟨(yW.1 r h hr).1, (yW.1 r h hr).2.1⟩
    · rw [adn r h]
      refine ⟨C.1.1.2.1 r, ?_⟩
      have := Cs_lt C (zA r h)
      show aad A r < zn σ
      omega
  have g3 : ∀ r r', zal N' (zow D) r → zal N' (zow D) r' → ad r = ad r' → r = r' := by
    intro r r' hr hr' e
    rcases Classical.em (wrl r) with h | h <;> rcases Classical.em (wrl r') with h' | h'
    · rw [adw r h, adw r' h'] at e; exact yW.2.1 r r' h h' hr hr' e
    · rw [adw r h, adn r' h'] at e; exact absurd e (sep r r' h hr h')
    · rw [adn r h, adw r' h'] at e; exact absurd e.symm (sep r' r h' hr' h)
    · rw [adn r h, adn r' h'] at e; exact Cs_inj C e
  have hEa : ∀ j, 1 ≤ j → cEa D (U'.1, U'.2, N') j = cEa (ad, fun _ => none, aer D, acap D, amc D, rf) ((wdU U U').1, (wdU U U').2, N') j := by
    intro j j1
    have ef : (fun i => if i < N' j then some (ad (100 * j + i)) else none) = (fun i => if i < N' j then some (aad D (100 * j + i)) else none) := by
      funext i
      rw [adw (100 * j + i) (Or.inr (Or.inr (by omega)))]
    unfold cEa
    show (if aer D j = aad D (15 + j) then some (Sum.inl (3, acap D j, Sum.inr (Sum.inr (Sum.inr (Sum.inr (fun i => if i < N' j then some (aad D (100 * j + i)) else none)))))) else none) = (if aer D j = ad (15 + j) then some (Sum.inl (3, acap D j, Sum.inr (Sum.inr (Sum.inr (Sum.inr (fun i => if i < N' j then some (ad (100 * j + i)) else none)))))) else none)
    rw [ef, adw (15 + j) (Or.inr (Or.inr (by omega)))]
  have g4 : ∀ r, zal N' (zow D) r → σ2.1 (ad r) = cCt (ad, fun _ => none, aer D, acap D, amc D, rf) ((wdU U U').1, (wdU U U').2, N') r := by
    intro r hr
    rcases Classical.em (wrl r) with h | h
    · rw [adw r h, m2 _ (sep r 0 h hr n0), (yW.1 r h hr).2.2]
      match r, h with
      | 1, _ => rfl
      | 5, _ => rfl
      | 12, _ => rfl
      | 13, _ => rfl
      | 14, _ => rfl
      | 15, _ => rfl
      | 16, _ => exact hEa 1 (by omega)
      | 17, _ => exact hEa 2 (by omega)
      | 18, _ => exact hEa 3 (by omega)
      | 19, _ => exact hEa 4 (by omega)
      | r + 20, _ =>
        show (if r < 80 then none else cEl D (U'.1, U'.2, N') ((r + 20) / 100) ((r + 20) % 100)) = (if r < 80 then none else cEl (ad, fun _ => none, aer D, acap D, amc D, rf) ((wdU U U').1, (wdU U U').2, N') ((r + 20) / 100) ((r + 20) % 100))
        by_cases z : r < 80
        · rw [if_pos z, if_pos z]
        · rw [if_neg z, if_neg z]
          generalize (r + 20) / 100 = j
          generalize (r + 20) % 100 = i
          unfold cEl
          show (if i < N' j then _ else none) = (if i < N' j then _ else none)
          by_cases y : i < N' j
          · rw [if_pos y, if_pos y]
            match j with
            | 0 => rfl
            | 1 => rfl
            | 2 => rfl
            | 3 => rfl
            | 4 => rfl
            | j + 5 => rfl
          · rw [if_neg y, if_neg y]
      | 0, h => exact absurd h (by unfold wrl; omega)
      | 2, h => exact absurd h (by unfold wrl; omega)
      | 3, h => exact absurd h (by unfold wrl; omega)
      | 4, h => exact absurd h (by unfold wrl; omega)
      | 6, h => exact absurd h (by unfold wrl; omega)
      | 7, h => exact absurd h (by unfold wrl; omega)
      | 8, h => exact absurd h (by unfold wrl; omega)
      | 9, h => exact absurd h (by unfold wrl; omega)
      | 10, h => exact absurd h (by unfold wrl; omega)
      | 11, h => exact absurd h (by unfold wrl; omega)
    · rw [adn r h]
      by_cases z : r = 0
      · subst z
        exact if_pos rfl
      · rw [m2 _ (fun e => z (Cs_inj C e)), C.1.2.1 r]
        have hs : ∀ k, 7 ≤ k → (wdU U U').1 k = U.1 k := fun k hk => if_neg (by omega)
        match r, h, z with
        | 2, _, _ => rfl
        | 3, _, _ => rfl
        | 4, _, _ =>
          have hsw : sw (U.1, U.2, N) = 0 ∨ sw (U.1, U.2, N) = 1 := by
            unfold sw
            split
            · exact Or.inl rfl
            · exact Or.inr rfl
          have hw : sw ((wdU U U').1, (wdU U U').2, N') = sw (U.1, U.2, N) := rfl
          show some (Sum.inr (4, [Value.ref (aad A 7), .ref (aad A 8), .ref (aad A (9 + sw (U.1, U.2, N))), .ref (aad A (10 - sw (U.1, U.2, N))), .int (U.1 21), .int (U.1 22), .int (U.1 23), .int (U.1 24), .ref (aad A 0)])) = some (Sum.inr (4, [Value.ref (ad 7), .ref (ad 8), .ref (ad (9 + sw ((wdU U U').1, (wdU U U').2, N'))), .ref (ad (10 - sw ((wdU U U').1, (wdU U U').2, N'))), .int (U.1 21), .int (U.1 22), .int (U.1 23), .int (U.1 24), .ref (ad 0)]))
          rw [hw, adn 7 (by unfold wrl; omega), adn 8 (by unfold wrl; omega), adn 0 n0, adn (9 + sw (U.1, U.2, N)) (by unfold wrl; omega), adn (10 - sw (U.1, U.2, N)) (by unfold wrl; omega)]
        | 6, _, _ => rfl
        | 7, _, _ => rfl
        | 8, _, _ => rfl
        | 9, _, _ => rfl
        | 10, _, _ => rfl
        | 11, _, _ => rfl
        | 1, h, _ => exact absurd (Or.inl rfl) h
        | 5, h, _ => exact absurd (Or.inr (Or.inl rfl)) h
        | r + 12, h, _ => exact absurd (Or.inr (Or.inr (by omega))) h
  have l0 : aad A 0 < zn σ := Cs_lt C (Or.inl (by omega))
  obtain ⟨A', b1, b2, b3, b4, b5, b6, b7⟩ := Rp_mk (σ := σ2) (U := wdU U U') (N := N') ad (aer D) (acap D) (amc D) rf (zow D) g1 g2 g3 g4 (fun q hq => by
    have hq' : zn σ ≤ q := hq
    rw [m2 q (by omega)]; exact C.1.2.2.1 q hq') C.1.2.2.2.1
  have hne : ∀ q, S q ∨ q < zbs σ → q ≠ aad A 0 := by
    intro q hq e
    rcases hq with h | h
    · have := (C.2.1 q h).2 0 e.symm; omega
    · have := C.1.1.2.1 0; omega
  refine ⟨A', pF_of row0 (Nat.le_of_ble_eq_true rfl) (C.1.1.2.1 0), ⟨b1, fun q hq => ⟨?_, fun r e => ?_⟩, fun j j1 j4 => ?_⟩, ⟨rfl, rfl, Nat.le_refl _, fun q hq => if_neg (hne q hq), Nat.le_refl _, Nat.le_refl _⟩, ?_, by rw [b6]; rfl, by rw [b6]; rfl, ?_⟩
  · exact (C.2.1 q hq).1
  · rcases Classical.em (zal N' (zow D) r) with z | z
    · rw [b2 r z] at e
      rcases Classical.em (wrl r) with h | h
      · rw [adw r h] at e
        exact hSD r h z (by rw [e]; exact hq)
      · rw [adn r h] at e
        exact (C.2.1 q hq).2 r e
    · have h1 := b7 r z
      have h2 := (C.2.1 q hq).1
      have h3 : zn σ2 = zn σ := rfl
      omega
  · rcases (yW.2.2 j j1 j4).2 with ⟨o1, o2⟩ | ⟨o1, o2, o3⟩
    · left
      rw [b3, b2 _ (Or.inr (Or.inl ⟨j, j1, j4, rfl, decide_eq_true o1⟩)), adw _ (Or.inr (Or.inr (by omega)))]; exact o1
    · right
      rw [b3]; exact o3
  · rw [b2 0 (Or.inl (by omega)), adn 0 n0]
  · rw [b2 1 (Or.inl (by omega)), adw 1 (Or.inl rfl)]
end ZA6
