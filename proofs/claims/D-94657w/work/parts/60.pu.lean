/-! pure land: Y2 Y3 Y4 (see wip/D-94657w/pl) -/
/-- what c lines tell -/
def lfF (vs : Nat → Nat) (φs : Nat → Co9) : Nat → Sc9 → Option Nat
  | 0 => fun _ => none
  | c + 1 => lnx (lfF vs φs c) (vs c) (φs c)
/-- the object a is a law of l lines that tells f -/
def HlP (P : Nat → Prop) (σ : zS) (a l : Nat) (f : Sc9 → Option Nat) : Prop := (∀ τ sc s, AgP P σ τ → Scn τ sc s → zcl τ a = 11 ∧ f_X12_number a (some sc) τ = some (nI ((f s).getD 0), τ)) ∧ ∀ τ, AgP P σ τ → zcl τ a = 11 ∧ ∃ x, gR τ a 11 0 = some (some x) ∧ zcl τ x = 19 ∧ f_J2_size x τ = some (nI l, τ)
theorem lfF_set {vs : Nat → Nat} {fs : Nat → Co9} {c v : Nat} {x : Co9} : ∀ k, k ≤ c → lfF (fset vs c v) (fset fs c x) k = lfF vs fs k := by
  intro k
  induction k with
  | zero => intro _; rfl
  | succ k ih =>
    intro h
    show lnx (lfF (fset vs c v) (fset fs c x) k) (fset vs c v k) (fset fs c x k) = lnx (lfF vs fs k) (vs k) (fs k)
    rw [ih (by omega)]
    have h1 : fset fs c x k = fs k := if_neg (by omega)
    have h2 : fset vs c v k = vs k := if_neg (by omega)
    rw [h1, h2]
theorem lfF_new {vs : Nat → Nat} {fs : Nat → Co9} {c v : Nat} {x : Co9} : lfF (fset vs c v) (fset fs c x) (c + 1) = lnx (lfF vs fs c) v x := by
  show lnx (lfF (fset vs c v) (fset fs c x) c) (fset vs c v c) (fset fs c x c) = _
  rw [lfF_set c (Nat.le_refl c)]
  have h1 : fset fs c x c = x := if_pos rfl
  have h2 : fset vs c v c = v := if_pos rfl
  rw [h1, h2]
theorem lfF_some {vs : Nat → Nat} {fs : Nat → Co9} {s : Sc9} {i x : Nat} (h : lfF vs fs i s = some x) : ∀ t, i ≤ t → lfF vs fs t s = some x := by
  intro t
  induction t with
  | zero => intro ht; have : i = 0 := by omega
            rw [this] at h; exact h
  | succ t ih =>
    intro ht
    by_cases z : i = t + 1
    · rw [← z]; exact h
    · show (match lfF vs fs t s with
        | some x => some x
        | none => if fs t s = true then some (vs t) else none) = some x
      rw [ih (by omega)]
section ZY2
variable {σ σ' σ'' τ : zS} {P P' : Nat → Prop} {o rd tp n p s m d a b q z l e cap c va : Nat} {tl ft : Int32} {g : Nat → Int32} {T : Nat → Nat} {el ta sa : Nat → Nat}
theorem HlP_up {f : Sc9 → Option Nat} (H : HlP P σ a l f) (h1 : ∀ q, P q → P' q) (h2 : AgP P σ σ') : HlP P' σ' a l f := ⟨fun τ sc s hA hS => H.1 τ sc s (AgP_up h1 h2 hA) hS, fun τ hA => H.2 τ (AgP_up h1 h2 hA)⟩
/-- a law tells its number -/
theorem Hl_law {vs : Nat → Nat} {φs : Nat → Co9} (hL : Ls9 σ l e cap c el) (hl : P l) (he : P e) (ha : σ.1 a = some (.inr (11, [.ref l]))) (hP : P a) (hi : ∀ i, i < c → HnP P σ (el i) (vs i) (φs i)) : HlP P σ a c (lfF vs φs c) := by
  refine ⟨fun τ sc s hA hS => ?_, fun τ hA => ?_⟩
  · have ha' : τ.1 a = some (.inr (11, [.ref l])) := (hA.1 a (Or.inl hP)).trans ha
    have hLτ := ls_ag hL hA hl he
    obtain ⟨g1, g2⟩ := ls_size hLτ
    have hcc := hL.2.2
    refine ⟨cl_of ha' rfl, ?_⟩
    have H : ∀ j i fn, i + j = c → j < fn → lfF vs φs i s = none → zlp1 (f_X12_number_2_b a (some sc)) fn (nI i) τ = some (nI ((lfF vs φs c s).getD 0), τ) := by
      intro j
      induction j with
      | zero =>
        intro i fn h1 h2 h3
        obtain ⟨fn, rfl⟩ : ∃ f', fn = f' + 1 := ⟨fn - 1, by omega⟩
        show f_X12_number_2_b _ _ _ _ _ = _
        unfold f_X12_number_2_b
        rw [ybind_eq (gR_of ha' (k := 0) (q := some l) rfl rfl), bd_at, zif_t g2, zb2_eq g1, if_pos (nI_le (by omega) (by omega))]
        have : i = c := by omega
        rw [← this, h3]; rfl
      | succ j ih =>
        intro i fn h1 h2 h3
        obtain ⟨fn, rfl⟩ : ∃ f', fn = f' + 1 := ⟨fn - 1, by omega⟩
        show f_X12_number_2_b _ _ (zlp1 (f_X12_number_2_b a (some sc)) fn) _ _ = _
        have ih' := ih (i + 1) fn (by omega) (by omega)
        generalize zlp1 (f_X12_number_2_b a (some sc)) fn = rf at ih'
        obtain ⟨c1, e1, e2⟩ := hi i (by omega) τ sc s hA hS
        have ck : zckC τ (some (el i)) 12 = true := by
          show Nat.beq (zcl τ (el i)) 12 = true
          rw [c1]; rfl
        unfold f_X12_number_2_b
        rw [ybind_eq (gR_of ha' (k := 0) (q := some l) rfl rfl), bd_at, zif_t g2, zb2_eq g1, nleF (show i < c by omega) (by omega), ybind_eq (gR_of ha' (k := 0) (q := some l) rfl rfl), bd_at, zif_t g2, zb2_eq (ls_get hLτ (show i < c by omega)), zif_t ck, bd_at]
        have hn : lfF vs φs (i + 1) s = if φs i s = true then some (vs i) else none := by
          show (match lfF vs φs i s with
            | some x => some x
            | none => if φs i s = true then some (vs i) else none) = _
          rw [h3]
        have fin : φs i s = true → f_X12_number_45 a (some (el i)) τ = some (nI ((lfF vs φs c s).getD 0), τ) := by
          intro y
          rw [if_pos y] at hn
          unfold f_X12_number_45
          rw [bd_at, ybind_eq e1, lfF_some hn c (by omega)]
          rfl
        rcases e2 with ⟨w1, w2⟩ | ⟨w, w1, w2⟩
        · rw [ybind_eq w1]
          exact fin w2
        · rw [ybind_eq w1]
          show ((gR τ (el i) 12 1).bind fun r16 => _) = _
          rw [ybind_eq w1, bd_at, zb2_eq w2]
          cases hφ : φs i s with
          | true =>
            rw [if_neg (show ¬ b2 true = 0 from kk1)]
            exact fin hφ
          | false =>
            rw [if_pos (show b2 false = 0 from rfl), zl_at, nI_1]
            rw [hφ, if_neg (by decide)] at hn
            exact ih' hn
    exact H c 0 NN (by omega) (NN_lt (by omega)) rfl
  · have ha' : τ.1 a = some (.inr (11, [.ref l])) := (hA.1 a (Or.inl hP)).trans ha
    have hLτ := ls_ag hL hA hl he
    obtain ⟨g1, g2⟩ := ls_size hLτ
    exact ⟨cl_of ha' rfl, l, gR_of ha' (k := 0) (q := some l) rfl rfl, g2, g1⟩
/-- whether one line more follows -/
theorem f_goesOn (C : Cx σ o rd) (h : yRd σ rd tp tl ft g n p m d) (hT : TB g T n) (hp : p ≤ n) (hr : 1 ≤ zc σ ∧ 6 ≤ zz σ) : (T (sk T p) = 256 → ∃ τ, f_X1_goesOn o σ = some (.inl 0, τ) ∧ yRd τ rd tp tl ft g n (sk T p) (sk T p) d ∧ Sp σ τ rd 0 0) ∧ (T (sk T p) = 59 → ∃ τ, f_X1_goesOn o σ = some (.inl 1, τ) ∧ yRd τ rd tp tl ft g n (sk T p + 1) (sk T p) d ∧ Sp σ τ rd 0 0) ∧ (¬ T (sk T p) = 256 → ¬ T (sk T p) = 59 → ∃ τ, f_X1_goesOn o σ = some (.inr 5, τ) ∧ yRd τ rd tp tl ft g n (sk T p) (sk T p) d ∧ Sp σ τ rd 1 6) := by
  have hbz := h.2.2.2.2.2.2.1
  have hrb := h.2.2.2.1
  obtain ⟨a1, a2, -, -⟩ := sk_spec hT.1 hp
  have ss := sk_sk hT.1 hp
  obtain ⟨σ1, x1, x2, x3⟩ := f_isOver h hT hp
  have C1 := Cx_Sp C x3 hrb hbz
  have hbz1 := x2.2.2.2.2.2.2.1
  have b1 := x3.2.2.1
  have c1 := x3.2.2.2.2.1
  have z1 := x3.2.2.2.2.2
  obtain ⟨s1, s0⟩ := f_sign x2 hT a2 (c := 59) (by omega)
  rw [ss] at s1 s0
  unfold f_X1_goesOn
  rw [ybind_eq C.1.1, bd_at, zif_t (Rd_cl h), zb2_eq x1]
  refine ⟨fun z => ?_, fun z => ?_, fun z y => ?_⟩
  · rw [if_pos z, if_neg kk1]
    exact ⟨σ1, rfl, x2, x3⟩
  · obtain ⟨τ, t1, t2, t3⟩ := s1 z
    have t1' : f_X3_sign rd 59 σ1 = some (1, τ) := t1
    rw [if_neg (show ¬ T (sk T p) = 256 by omega), if_pos rfl, ybind_eq C1.1.1, bd_at, zif_t (Rd_cl x2), zb2_eq t1', if_neg kk1]
    exact ⟨τ, rfl, t2, Sp_t x3 t3⟩
  · obtain ⟨σ2, t1, t2, t3⟩ := s0 y
    have t1' : f_X3_sign rd 59 σ1 = some (0, σ2) := t1
    have C2 := Cx_Sp C1 t3 (by omega) hbz1
    have c2 := t3.2.2.2.2.1
    have z2 := t3.2.2.2.2.2
    obtain ⟨τ, w, w1, w2, w3, w4⟩ := f_wrong t2 ⟨by omega, by omega⟩
    rw [if_neg z, if_pos rfl, ybind_eq C1.1.1, bd_at, zif_t (Rd_cl x2), zb2_eq t1', if_pos rfl, ybind_eq C2.1.1, bd_at, zif_t (Rd_cl t2)]
    exact ⟨τ, by rw [zb2_eq w1, bd_at, zif_t w2], w3, Sp_le (Sp_t x3 (Sp_t t3 w4)) (by omega) (by omega)⟩
/-- no line more has room -/
theorem f_noMore (C : Cx σ o rd) (h : yRd σ rd tp tl ft g n p m d) (hT : TB g T n) (hp : p ≤ n) (hr : 450 ≤ zc σ ∧ 5100 ≤ zz σ) {l k : Nat} (hl : l ≤ 100) (hk : k ≤ 100) : (l < k → f_X1_noMore o (nI l) (nI k) σ = some (.inl (), σ)) ∧ (k ≤ l → ∃ τ q, f_X1_noMore o (nI l) (nI k) σ = some (.inr 5, τ) ∧ yRd τ rd tp tl ft g n q (sk T p) d ∧ Sp σ τ rd 410 2100) := by
  have hn := hT.1.1
  have hbz := h.2.2.2.2.2.2.1
  have hrb := h.2.2.2.1
  unfold f_X1_noMore
  refine ⟨fun z => ?_, fun z => ?_⟩
  · rw [nleF z (by omega)]
  · obtain ⟨a1, a2, -, -⟩ := sk_spec hT.1 hp
    obtain ⟨b1, b2, -, -⟩ := we_spec hT.1 a2
    obtain ⟨σ1, w, vw, f, x1, x2, x3, -⟩ := f_word h hT hp ⟨by omega, by omega⟩
    have c1 := x3.2.2.2.2.1
    have z1 := x3.2.2.2.2.2
    have C1 := Cx_Sp C x3 hrb hbz
    obtain ⟨τ, y, y1, y2, y3, y4⟩ := f_wrong x2 ⟨by omega, by omega⟩
    refine ⟨τ, _, ?_, y3, Sp_le (Sp_t x3 y4) (by omega) (by omega)⟩
    rw [if_pos (nI_le z (by omega)), ybind_eq C.1.1, bd_at, zif_t (Rd_cl h), zb2_eq x1, ybind_eq C1.1.1, bd_at, zif_t (Rd_cl x2), zb2_eq y1, bd_at, zif_t y2]
end ZY2
section ZY3
variable {σ σ' σ'' τ : zS} {P P' : Nat → Prop} {o rd tp n p s m d a b q z l e cap c va : Nat} {tl ft : Int32} {g : Nat → Int32} {T : Nat → Nat} {el ta sa : Nat → Nat}
set_option maxRecDepth 8000 in
/-- the loop of a law -/
theorem f_lawL (hT : TB g T n) {a1 : Nat} : ∀ k c p m cap e el (vs : Nat → Nat) (φs : Nat → Co9) σ fu, c + k = 13 → c ≤ 12 → p ≤ n → k < fu → Cx σ o rd → yRd σ rd tp tl ft g n p m 0 → Bl σ z l e cap c el → rd < z → tp < z → o < z → z ≤ a1 → a1 < zn σ → a1 ≠ l → a1 ≠ e → σ.1 a1 = some (.inr (11, [.ref l])) → (∀ i, i < c → HnP (yPl z l e σ) σ (el i) (vs i) (φs i)) → 60 * (n - p) + 2100 ≤ zc σ → 600 * (n - p) + 4 * (2 * c + 10 - cap) + 15000 ≤ zz σ →
    match pLaw T k c (lfF vs φs c) p with
    | .inl e => ∃ τ q d', zlp0 (f_X1_lawText_20_b o (some a1)) fu σ = some (.inr 5, τ) ∧ yRd τ rd tp tl ft g n q e d' ∧ Lv σ τ z rd (60 * (n - p) + 700) (600 * (n - p) + 4 * (2 * c + 10 - cap) + 3300)
    | .inr ((c2, f), q) => ∃ τ m', zlp0 (f_X1_lawText_20_b o (some a1)) fu σ = some (.inl (some a1), τ) ∧ yRd τ rd tp tl ft g n q m' 0 ∧ Lv σ τ z rd (60 * (q - p)) (600 * (q - p) + 4 * (2 * c + 10 - cap)) ∧ HlP (Rz z τ) τ a1 c2 f ∧ c2 ≤ 12 := by
  have hn := hT.1.1
  intro k
  induction k with
  | zero => intro c p m cap e el vs φs σ fu h0 h9; omega
  | succ k ih =>
    intro c p m cap e el vs φs σ fu h0 h9 h1 h3 C hR hB hz1 hz2 hz3 ha1 ha2 ha3 ha4 ha5 hel hzc hzz
    obtain ⟨fu, rfl⟩ : ∃ f', fu = f' + 1 := ⟨fu - 1, by omega⟩
    have hzn : z ≤ zn σ := by have := hB.1.1; have := hB.1.2.1; omega
    obtain ⟨mc0, hmc0⟩ := hB.2.1
    have cl0 : zcl σ l = 19 := cl_of hmc0 rfl
    have sz0 : f_J2_size l σ = some (nI c, σ) := by
      unfold f_J2_size
      rw [ybind_eq (gI_of hmc0 (v := nI c) rfl rfl)]
    obtain ⟨N1, N0⟩ := f_noMore C hR hT h1 ⟨by omega, by omega⟩ (l := c) (k := 12) (by omega) (by omega)
    show match pLaw T (k + 1) c (lfF vs φs c) p with
      | .inl e => ∃ τ q d', f_X1_lawText_20_b o (some a1) (zlp0 (f_X1_lawText_20_b o (some a1)) fu) σ = some (.inr 5, τ) ∧ yRd τ rd tp tl ft g n q e d' ∧ Lv σ τ z rd (60 * (n - p) + 700) (600 * (n - p) + 4 * (2 * c + 10 - cap) + 3300)
      | .inr ((c2, f), q) => ∃ τ m', f_X1_lawText_20_b o (some a1) (zlp0 (f_X1_lawText_20_b o (some a1)) fu) σ = some (.inl (some a1), τ) ∧ yRd τ rd tp tl ft g n q m' 0 ∧ Lv σ τ z rd (60 * (q - p)) (600 * (q - p) + 4 * (2 * c + 10 - cap)) ∧ HlP (Rz z τ) τ a1 c2 f ∧ c2 ≤ 12
    have head : ∀ rf, f_X1_lawText_20_b o (some a1) rf σ = zbt (f_X1_noMore o (nI c) 12 σ) (fun k9 σ9 => some (.inr k9, σ9)) fun _ σ18 => (gR σ18 a1 11 0).bind fun r19 => zif (zcl σ18 o = 0) <| zbt (f_X1_lawLine o σ18) (fun k9 σ9 => some (.inr k9, σ9)) fun r21 σ22 => r19.bind fun a23 => zif (zcl σ22 a23 = 19) <| zb2 (f_J2_add a23 r21 σ22) fun x25 σ26 => zif (zcl σ26 o = 0) <| zbt (f_X1_goesOn o σ26) (fun k9 σ9 => some (.inr k9, σ9)) fun x28 σ29 => if ¬ x28 = 0 then rf σ29 else some (.inl (some a1), σ29) := by
      intro rf
      unfold f_X1_lawText_20_b
      rw [bd_at, ybind_eq (gR_of ha5 (k := 0) (q := some l) rfl rfl), bd_at, zif_t cl0, zb2_eq sz0, zif_t C.1.2.1]
    rw [head]
    unfold pLaw
    by_cases z12 : c = 12
    · obtain ⟨τ, q, f1, f2, s1, s2, s3, s4, s5, s6⟩ := N0 (by omega)
      have f1' : f_X1_noMore o (nI c) 12 σ = some (.inr 5, τ) := f1
      rw [if_pos z12]
      exact ⟨τ, q, 0, by rw [zbt_er f1'], f2, fun q' h1 h2 => s1 q' (by omega) h2, s2, s3, s4, by omega, by omega⟩
    rw [if_neg z12]
    have f1' : f_X1_noMore o (nI c) 12 σ = some (.inl (), σ) := N1 (by omega)
    rw [zbt_eq f1', ybind_eq (gR_of ha5 (k := 0) (q := some l) rfl rfl), zif_t C.1.2.1]
    have F := f_line C hR hT h1 (by omega) (by omega)
    have FB := pLine_b hT.1 h1
    generalize pLine T p = R at F FB
    match R, F, FB with
    | .inl e2, F, _ =>
      obtain ⟨τ, q, d', f1, f2, s1, s2, s3, s4, s5, s6⟩ := F
      exact ⟨τ, q, d', by rw [zbt_er f1], f2, fun q' h1 h2 => s1 q' (by omega) h2, s2, s3, s4, by omega, by omega⟩
    | .inr ((v2, g2), q), F, FB =>
      obtain ⟨σ1, x, m1, f1, f2, f3, f4, f5, f6, f7, sq⟩ := F
      have hq1 : p < q := FB.1
      have hq2 : q ≤ n := FB.2
      have hlq := lnL_le hT.1 hq2
      have C1 := Cx_Sp C f3 hR.2.2.2.1 hR.2.2.2.2.2.2.1
      have hB1 := Bl_Sp hB f3 hz1
      have hn1 := f3.2.2.2.1
      have hb1 := f3.2.2.1
      have hc1 := f3.2.2.2.2.1
      have hz1' := f3.2.2.2.2.2
      obtain ⟨σ2, e2, cap2, g1, g2', g3, g4, g5, g6, g7, g8, g9, g10, g11, g12, g13⟩ := Bl_add hB1 C1.2.2.1 (by omega) f2.2.2.2.2.2.2.1 (x := x) (by omega) f6 f7 ⟨by omega, by omega⟩
      have hR2 : yRd σ2 rd tp tl ft g n q m1 0 := by
        obtain ⟨r1, r2, r3, r4, r5, r6, r7, r8⟩ := f2
        have hl := hB.1.1
        exact ⟨by rw [g3 _ (by omega) (by omega)]; exact r1, by rw [g3 _ (by omega) (by omega)]; exact r2, r3, by rw [g5]; exact r4, by omega, by omega, by rw [g5]; omega, g13 r8⟩
      have hl := hB.1.1
      have hln := hB.1.2.1
      have hzb := hB.1.2.2
      have he : e < zn σ := by
        rcases hB.2.2.2.2.1 with o | o
        · exact o.2.2.1
        · have := (C.2.2.1.2 _ o.2.1).1; omega
      have old2 : ∀ q', q' < zn σ1 → q' ≠ l → q' ≠ e → σ2.1 q' = σ1.1 q' := fun q' k1 k2 k3 => g3 q' k2 (by rcases g10 with w | w <;> omega)
      have M2 : ∀ q', q' < z → q' ≠ rd → σ2.1 q' = σ.1 q' := fun q' k1 k2 => (g3 q' (by omega) (by omega)).trans (f3.1 q' (by omega) k2)
      have C2 : Cx σ2 o rd := Cx_z C M2 (g4.trans f3.2.1) (g5.trans hb1) (by omega) hzb hR.2.2.2.1 hz3
      have ha1' : σ2.1 a1 = some (.inr (11, [.ref l])) := by
        rw [old2 a1 (by omega) ha3 ha4, f3.1 a1 ha2 (by omega)]
        exact ha5
      have hel2 : ∀ i, i < c + 1 → HnP (yPl z l e2 σ2) σ2 (if i = c then x else el i) (fset vs c v2 i) (fset φs c g2 i) := by
        intro i hi
        by_cases y : i = c
        · have e1 : fset φs c g2 i = g2 := if_pos y
          have e1' : fset vs c v2 i = v2 := if_pos y
          rw [if_pos y, e1, e1']
          refine HnP_up f4 (fun q' hq' => ?_) ⟨fun q' hq' => ?_, g4, g5⟩
          · obtain ⟨w1, w2, ob, w3, w4⟩ := hq'
            exact ⟨⟨by omega, by omega, ob, by rw [old2 q' w2 (by omega) (by omega)]; exact w3, w4⟩, by omega, by rcases g10 with w | w <;> omega⟩
          · rcases hq' with ⟨w1, w2, -⟩ | w
            · exact old2 q' w2 (by omega) (by omega)
            · exact g3 q' (by omega) (by omega)
        · have e1 : fset φs c g2 i = φs i := if_neg y
          have e1' : fset vs c v2 i = vs i := if_neg y
          rw [if_neg y, e1, e1']
          refine HnP_up (hel i (by omega)) (fun q' hq' => ?_) ⟨fun q' hq' => ?_, g4.trans f3.2.1, g5.trans hb1⟩
          · obtain ⟨⟨w1, w2, ob, w3, w4⟩, w5, w6⟩ := hq'
            exact ⟨⟨w1, by omega, ob, by rw [old2 q' (by omega) w5 w6, f3.1 q' w2 (by omega)]; exact w3, w4⟩, w5, by rcases g10 with w | w <;> omega⟩
          · rcases hq' with ⟨⟨w1, w2, -⟩, w5, w6⟩ | w
            · exact (old2 q' (by omega) w5 w6).trans (f3.1 q' w2 (by omega))
            · exact M2 q' (by omega) (by have := hR.2.2.2.1; omega)
      have cl2 : zcl σ1 l = 19 := by
        obtain ⟨mc, hmc⟩ := hB1.2.1
        exact cl_of hmc rfl
      have hcap1 := hB1.2.2.2.1
      have hcap2 := g2'.2.2.2.1
      obtain ⟨G1, G2, G3⟩ := f_goesOn C2 hR2 hT hq2 ⟨by omega, by omega⟩
      rw [sq] at G1 G2 G3
      rw [zbt_eq f1, bd_at, zif_t cl2, zb2_eq g1, zif_t C2.1.2.1]
      show match (if T (sk T q) = 256 then .inr ((c + 1, lnx (lfF vs φs c) v2 g2), sk T q)
        else if T (sk T q) = 59 then pLaw T k (c + 1) (lnx (lfF vs φs c) v2 g2) (sk T q + 1)
        else .inl (sk T q) : pR9 (Nat × (Sc9 → Option Nat))) with
        | .inl e => _
        | .inr ((c2, f), q) => _
      rw [sq]
      have hL0 : isL (T q) = false → lnL T q = 0 := fun hh => by
        unfold lnL
        rw [sq, show we T q = q from run_stop hh, Nat.sub_self]
      by_cases y : T q = 256
      · obtain ⟨τ1, t1, t2, t3⟩ := G1 y
        rw [if_pos y, zbt_eq t1, if_neg kk0]
        have hLz := hL0 (by rw [y]; rfl)
        have u2 := t3.2.2.2.1
        have u3 := t3.2.2.2.2.1
        have u4 := t3.2.2.2.2.2
        have u5 := t3.2.2.1
        have ha1'' : τ1.1 a1 = some (.inr (11, [.ref l])) := (t3.1 a1 (by omega) (by omega)).trans ha1'
        have hB3 := Bl_Sp g2' t3 hz1
        obtain ⟨⟨v1, v2', v3⟩, v4, v5, v6, v7, v8⟩ := hB3
        have hown : τ1.1 e2 = some (.inl (3, cap2, obA (lsA (c + 1) (fun i => if i = c then x else el i)))) ∧ e2 < zn τ1 ∧ c + 1 ≤ cap2 := by
          rcases v7 with o | o
          · exact ⟨o.1, o.2.2.1, o.2.2.2.1⟩
          · omega
        refine ⟨τ1, q, rfl, t2, ⟨fun q' h1 h2 => (t3.1 q' (by omega) h2).trans (M2 q' h1 h2), t3.2.1.trans (g4.trans f3.2.1), u5.trans (g5.trans hb1), by omega, by omega, by omega⟩, ?_, by omega⟩
        have hls : Ls9 τ1 l e2 cap2 (c + 1) (fun i => if i = c then x else el i) := ⟨v4, hown.1, hown.2.2, by omega⟩
        obtain ⟨mc9, hmc9⟩ := v4
        have rl : Rz z τ1 l := ⟨v1, v2', _, hmc9, fun fs e => by cases e⟩
        have re' : Rz z τ1 e2 := ⟨g12, hown.2.1, _, hown.1, fun fs e => by cases e⟩
        have ra' : Rz z τ1 a1 := ⟨ha1, by omega, _, ha1'', fun fs e => by cases e⟩
        have := Hl_law (P := Rz z τ1) (vs := fset vs c v2) (φs := fset φs c g2) hls rl re' ha1'' ra' (fun i hi => HnP_up (hel2 i hi) (fun q' hq' => Rz_Sp t3 hz1 q' hq'.1) ⟨fun q' hq' => by
          rcases hq' with ⟨⟨w1, w2, -⟩, -⟩ | w
          · exact t3.1 q' w2 (by omega)
          · exact t3.1 q' (by omega) (by have := hR2.2.2.2.1; omega), t3.2.1, u5⟩)
        rw [lfF_new] at this
        exact this
      · rw [if_neg y]
        by_cases y2 : T q = 59
        · obtain ⟨τ1, t1, t2, t3⟩ := G2 y2
          rw [if_pos y2, zbt_eq t1, if_pos kk1]
          have hLz := hL0 (by rw [y2]; rfl)
          have hlt := Tx_in hT.1 (by omega) y2
          have u2 := t3.2.2.2.1
          have u3 := t3.2.2.2.2.1
          have u4 := t3.2.2.2.2.2
          have u5 := t3.2.2.1
          have C3 := Cx_Sp C2 t3 hR2.2.2.2.1 hR2.2.2.2.2.2.2.1
          have ha1'' : τ1.1 a1 = some (.inr (11, [.ref l])) := (t3.1 a1 (by omega) (by omega)).trans ha1'
          have key := ih (c + 1) (q + 1) q cap2 e2 (fun i => if i = c then x else el i) (fset vs c v2) (fset φs c g2) τ1 fu (by omega) (by omega) (by omega) (by omega) C3 t2 (Bl_Sp g2' t3 hz1) hz1 hz2 hz3 ha1 (by omega) ha3 (by rcases g10 with w | w <;> omega) ha1'' (fun i hi => HnP_up (hel2 i hi) (fun q' hq' => ⟨Rz_Sp t3 hz1 q' hq'.1, hq'.2⟩) ⟨fun q' hq' => by
            rcases hq' with ⟨⟨w1, w2, -⟩, -⟩ | w
            · exact t3.1 q' w2 (by omega)
            · exact t3.1 q' (by omega) (by have := hR2.2.2.2.1; omega), t3.2.1, u5⟩) (by omega) (by omega)
          rw [lfF_new] at key
          have FB5 := pLaw_b hT.1 k (c + 1) (lnx (lfF vs φs c) v2 g2) (q + 1) (by omega)
          generalize pLaw T k (c + 1) (lnx (lfF vs φs c) v2 g2) (q + 1) = R3 at key FB5 ⊢
          match R3, key, FB5 with
          | .inl e3, key, _ =>
            obtain ⟨τ, q9, d9, k1, k2, k3, k4, k5, k6, k7, k8⟩ := key
            exact ⟨τ, q9, d9, k1, k2, fun q' h1 h2 => (k3 q' h1 h2).trans ((t3.1 q' (by omega) h2).trans (M2 q' h1 h2)), k4.trans (t3.2.1.trans (g4.trans f3.2.1)), k5.trans (u5.trans (g5.trans hb1)), by omega, by omega, by omega⟩
          | .inr ((c9, f9), q8), key, FB5 =>
            have hq8 : q + 1 ≤ q8 := FB5.1
            obtain ⟨τ, m9, k1, k2, ⟨k3, k4, k5, k6, k7, k8⟩, k9', k10⟩ := key
            exact ⟨τ, m9, k1, k2, ⟨fun q' h1 h2 => (k3 q' h1 h2).trans ((t3.1 q' (by omega) h2).trans (M2 q' h1 h2)), k4.trans (t3.2.1.trans (g4.trans f3.2.1)), k5.trans (u5.trans (g5.trans hb1)), by omega, by omega, by omega⟩, k9', k10⟩
        · obtain ⟨τ1, t1, t2, t3⟩ := G3 y y2
          rw [if_neg y2, zbt_er t1]
          have u2 := t3.2.2.2.1
          have u3 := t3.2.2.2.2.1
          have u4 := t3.2.2.2.2.2
          exact ⟨τ1, _, 0, rfl, t2, fun q' h1 h2 => (t3.1 q' (by omega) h2).trans (M2 q' h1 h2), t3.2.1.trans (g4.trans f3.2.1), t3.2.2.1.trans (g5.trans hb1), by omega, by omega, by omega⟩
end ZY3
section ZY4
variable {σ σ' σ'' τ : zS} {P P' : Nat → Prop} {o rd tp n p s m d a b q z l e cap c va : Nat} {tl ft : Int32} {g : Nat → Int32} {T : Nat → Nat}
theorem pLine_sk (h : Tx T n) (hp : p ≤ n) : pLine T (sk T p) = pLine T p := by
  unfold pLine
  rw [sk_sk h hp]
theorem pLaw_sk (h : Tx T n) (hp : p ≤ n) {k : Nat} {f : Sc9 → Option Nat} : pLaw T (k + 1) l f (sk T p) = pLaw T (k + 1) l f p := by
  unfold pLaw
  rw [sk_sk h hp, pLine_sk h hp]
set_option maxRecDepth 8000 in
/-- a law is built -/
theorem f_lawText (C : Cx σ o rd) (h : yRd σ rd tp tl ft g n 0 m 0) (hT : TB g T n) (hc : 60 * n + 2200 ≤ zc σ) (hz : 600 * n + 15200 ≤ zz σ) : match pRead T with
    | .inl e => ∃ τ q d', f_X1_lawText o σ = some (.inr 5, τ) ∧ yRd τ rd tp tl ft g n q e d' ∧ Sp σ τ rd (60 * n + 710) (600 * n + 3400)
    | .inr ((l, f), q) => ∃ τ a m' q', f_X1_lawText o σ = some (.inl (some a), τ) ∧ yRd τ rd tp tl ft g n q' m' 0 ∧ Sp σ τ rd (60 * n + 10) (600 * n + 60) ∧ HlP (Rz (zn σ) τ) τ a l f ∧ l ≤ 12 := by
  have hn := hT.1.1
  have hbz := h.2.2.2.2.2.2.1
  have hrb := h.2.2.2.1
  have hrn := h.2.2.2.2.1
  have htn := h.2.2.2.2.2.1
  have hon := C.1.2.2.1
  obtain ⟨dd, hdd⟩ := C.2.2.2
  obtain ⟨s1, s2, -, -⟩ := sk_spec hT.1 (Nat.zero_le n)
  obtain ⟨σ1, x1, x2, x3, x4, x5⟩ := new_obj (ci := 11) (fs := [.null]) h ⟨by omega, by show 1 ≤ _; omega⟩
  have x3c := x3.2.2.2.2.1
  have x3z : zz σ ≤ zz σ1 + 1 := x3.2.2.2.2.2
  have x3b := x3.2.2.1
  have hdd1 : zk σ1 1 = some dd := by show zsv σ1 1 = _; rw [x3.2.1]; exact hdd
  obtain ⟨σ2, y1, y2, y3, y4, y5⟩ := new_list x2 hdd1 ⟨by omega, by omega⟩
  have y3c := y3.2.2.2.2.1
  have y3z := y3.2.2.2.2.2
  have y3b := y3.2.2.1
  have ta : σ2.1 (zn σ) = some (.inr (11, [.null])) := (y3.1 _ (by omega) (by omega)).trans x4
  have pr : pR σ2 (zn σ) 11 0 (some (zn σ1)) = some (zset σ2 (zn σ) (.inr (11, [.ref (zn σ1)]))) := pF_of ta (Nat.le_of_ble_eq_true rfl) (by omega)
  let σ3 : zS := zset σ2 (zn σ) (.inr (11, [.ref (zn σ1)]))
  have R3 : yRd σ3 rd tp tl ft g n 0 m 0 := (set_obj (z := zn σ) y2 (Nat.le_refl _) (by omega) hrn htn).1
  have S2 : Sp σ σ2 rd (1 + 1) (1 + 3) := Sp_t x3 y3
  have S3 : Sp σ σ3 rd 2 4 := ⟨fun q h1 h2 => (if_neg (by omega)).trans (S2.1 q h1 h2), S2.2.1, S2.2.2.1, S2.2.2.2.1, S2.2.2.2.2.1, S2.2.2.2.2.2⟩
  have C3 := Cx_Sp C S3 hrb hbz
  have n3 : zn σ3 = zn σ + 2 := by show zn σ2 = _; omega
  have S3c := S3.2.2.2.2.1
  have S3z := S3.2.2.2.2.2
  have S3b : zbs σ3 = zbs σ2 := rfl
  have t11 : σ3.1 (zn σ) = some (.inr (11, [.ref (zn σ1)])) := zs_at
  have tls : σ3.1 (zn σ1) = some (.inr (19, [.int 0, .ref dd, .int (nI 0)])) := (if_neg (by omega)).trans y4
  obtain ⟨σ4, v1, v2, v3⟩ := f_isOver R3 hT (Nat.zero_le n)
  have v3c := v3.2.2.2.2.1
  have v3z := v3.2.2.2.2.2
  have v3n := v3.2.2.2.1
  have v3b := v3.2.2.1
  have hbz3 := R3.2.2.2.2.2.2.1
  have C4 := Cx_Sp C3 v3 (by omega) hbz3
  have S4 := Sp_t S3 v3
  have q11 : σ4.1 (zn σ) = some (.inr (11, [.ref (zn σ1)])) := (v3.1 _ (by omega) (by omega)).trans t11
  have qls : σ4.1 (zn σ1) = some (.inr (19, [.int 0, .ref dd, .int (nI 0)])) := (v3.1 _ (by omega) (by omega)).trans tls
  have hdz := (C.2.2.1.2 _ hdd).1
  have head : f_X1_lawText o σ = if (if T (sk T 0) = 256 then (1 : Int32) else 0) = 0 then f_X1_lawText_20 o (some (zn σ)) σ4 else some (.inl (some (zn σ)), σ4) := by
    unfold f_X1_lawText f_X12_init
    rw [zb2_eq x1, y1, ybind_eq pr, zb2_at, ybind_eq C3.1.1, bd_at, zif_t (Rd_cl R3), zb2_eq v1]
  rw [head]
  unfold pRead
  by_cases z256 : T (sk T 0) = 256
  · rw [if_pos z256, if_pos z256, if_neg kk1]
    refine ⟨σ4, zn σ, _, _, rfl, v2, Sp_le S4 (by omega) (by omega), ?_, by omega⟩
    refine ⟨fun τ sc s hA hS => ?_, fun τ hA => ?_⟩
    · have a1 : τ.1 (zn σ) = some (.inr (11, [.ref (zn σ1)])) := (hA.1 _ (Or.inl ⟨Nat.le_refl _, by omega, _, q11, fun fs e => by cases e⟩)).trans q11
      have a2 : τ.1 (zn σ1) = some (.inr (19, [.int 0, .ref dd, .int (nI 0)])) := (hA.1 _ (Or.inl ⟨by omega, by omega, _, qls, fun fs e => by cases e⟩)).trans qls
      refine ⟨cl_of a1 rfl, ?_⟩
      unfold f_X12_number f_X12_number_2
      show f_X12_number_2_b _ _ (zlp1 _ 99999) _ _ = _
      unfold f_X12_number_2_b
      have sz : f_J2_size (zn σ1) τ = some (nI 0, τ) := by
        unfold f_J2_size
        rw [ybind_eq (gI_of a2 (v := nI 0) rfl rfl)]
      rw [ybind_eq (gR_of a1 (k := 0) (q := some (zn σ1)) rfl rfl), bd_at, zif_t (cl_of a2 rfl), zb2_eq sz, if_pos (show nI 0 ≤ 0 from Int32.le_refl _)]
      rfl
    · have a1 : τ.1 (zn σ) = some (.inr (11, [.ref (zn σ1)])) := (hA.1 _ (Or.inl ⟨Nat.le_refl _, by omega, _, q11, fun fs e => by cases e⟩)).trans q11
      have a2 : τ.1 (zn σ1) = some (.inr (19, [.int 0, .ref dd, .int (nI 0)])) := (hA.1 _ (Or.inl ⟨by omega, by omega, _, qls, fun fs e => by cases e⟩)).trans qls
      refine ⟨cl_of a1 rfl, zn σ1, gR_of a1 (k := 0) (q := some (zn σ1)) rfl rfl, cl_of a2 rfl, ?_⟩
      unfold f_J2_size
      rw [ybind_eq (gI_of a2 (v := nI 0) rfl rfl)]
  · rw [if_neg z256, if_neg z256, if_pos rfl]
    have B4 : Bl σ4 (zn σ) (zn σ1) dd 0 0 (fun _ => 0) := ⟨⟨by omega, by omega, by omega⟩, ⟨0, qls⟩, by omega, by omega, Or.inr ⟨rfl, by show zsv σ4 1 = _; rw [S4.2.1]; exact hdd, rfl⟩, fun i hi => absurd hi (Nat.not_lt_zero i)⟩
    have key := f_lawL (z := zn σ) (l := zn σ1) hT (a1 := zn σ) 13 0 (sk T 0) (sk T 0) 0 dd (fun _ => 0) (fun _ => 0) (fun _ _ => true) σ4 NN (by omega) (by omega) s2 (NN_lt (by omega)) C4 v2 B4 hrn htn hon (Nat.le_refl _) (by omega) (by omega) (by omega) q11 (fun i hi => absurd hi (Nat.not_lt_zero i)) (by omega) (by omega)
    rw [pLaw_sk hT.1 (Nat.zero_le n)] at key
    have FB := pLaw_b hT.1 13 0 (lfF (fun _ => 0) (fun _ _ => true) 0) 0 (Nat.zero_le n)
    have e0 : (lfF (fun _ => 0) (fun _ _ => true) 0) = fun _ => none := rfl
    rw [e0] at key FB
    generalize pLaw T 13 0 (fun _ => none) 0 = R at key FB ⊢
    match R, key, FB with
    | .inl e, key, _ =>
      obtain ⟨τ, q, d', k1, k2, k3, k4, k5, k6, k7, k8⟩ := key
      exact ⟨τ, q, d', k1, k2, fun q' h1 h2 => (k3 q' h1 h2).trans (S4.1 q' h1 h2), k4.trans S4.2.1, k5.trans S4.2.2.1, by omega, by omega, by omega⟩
    | .inr ((l, f), q), key, FB =>
      have hq2 : q ≤ n := FB.2
      obtain ⟨τ, m', k1, k2, ⟨k3, k4, k5, k6, k7, k8⟩, k9, k10⟩ := key
      exact ⟨τ, zn σ, m', q, k1, k2, ⟨fun q' h1 h2 => (k3 q' h1 h2).trans (S4.1 q' h1 h2), k4.trans S4.2.1, k5.trans S4.2.2.1, by omega, by omega, by omega⟩, k9, k10⟩
end ZY4
