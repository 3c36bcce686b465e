/-! pure land: W5 W6 W7 (see wip/D-94657w/pl) -/
/-! rows of conditions that are built -/
def aoB (al : Bool) (φs : Nat → Co9) (c : Nat) : Co9 := if al = true then yalB φs c else exB φs c
def aoN (al : Bool) (f g : Co9) : Co9 := if al = true then (fun s => f s && g s) else (fun s => f s || g s)
def pLp (al : Bool) (w : Nat) (T : Nat → Nat) (re : Nat → pR9 Co9) : Nat → Co9 → Nat → pR9 Co9
  | 0, f, p => .inr (f, sk T p)
  | k + 1, f, p => if ywk w T (sk T p) = true then (match re (we T (sk T p)) with
    | .inl e => .inl e
    | .inr (g, q) => pLp al w T re k (aoN al f g) q) else .inr (f, sk T p)
/-- one condition more, then the rest -/
def pRk (al : Bool) (w : Nat) (T : Nat → Nat) (re : Nat → pR9 Co9) (k : Nat) (f : Co9) (p : Nat) : pR9 Co9 := match re p with
  | .inl e => .inl e
  | .inr (g, q) => pLp al w T re k (aoN al f g) q
theorem pEvL_eq {T : Nat → Nat} {ra : Nat → pR9 Co9} : ∀ k f p, pEvL T ra k f p = pLp true 15 T ra k f p := by
  intro k
  induction k with
  | zero => intro f p; rfl
  | succ k ih =>
    intro f p
    unfold pEvL pLp
    by_cases z : ywk 15 T (sk T p) = true
    · rw [if_pos z, if_pos z]
      generalize ra (we T (sk T p)) = r
      match r with
      | .inl e => rfl
      | .inr (g, q) => exact ih _ q
    · rw [if_neg z, if_neg z]
theorem pSoL_eq {T : Nat → Nat} {ra : Nat → pR9 Co9} : ∀ k f p, pSoL T ra k f p = pLp false 16 T (pEv T ra) k f p := by
  intro k
  induction k with
  | zero => intro f p; rfl
  | succ k ih =>
    intro f p
    unfold pSoL pLp
    by_cases z : ywk 16 T (sk T p) = true
    · rw [if_pos z, if_pos z]
      generalize pEv T ra (we T (sk T p)) = r
      match r with
      | .inl e => rfl
      | .inr (g, q) => exact ih _ q
    · rw [if_neg z, if_neg z]
theorem pEv_eq {T : Nat → Nat} {ra : Nat → pR9 Co9} {φs : Nat → Co9} (p : Nat) : pEv T ra p = pRk true 15 T ra 400 (aoB true φs 0) p := by
  unfold pEv pRk
  generalize ra p = r
  match r with
  | .inl e => rfl
  | .inr (g, q) =>
    have : aoN true (aoB true φs 0) g = g := funext fun s => Bool.true_and _
    show pEvL T ra 400 g q = pLp true 15 T ra 400 (aoN true (aoB true φs 0) g) q
    rw [this, pEvL_eq]
theorem pSo_eq {T : Nat → Nat} {ra : Nat → pR9 Co9} {φs : Nat → Co9} (p : Nat) : pSo T ra p = pRk false 16 T (pEv T ra) 400 (aoB false φs 0) p := by
  unfold pSo pRk
  generalize pEv T ra p = r
  match r with
  | .inl e => rfl
  | .inr (g, q) =>
    have : aoN false (aoB false φs 0) g = g := funext fun s => Bool.false_or _
    show pSoL T ra 400 g q = pLp false 16 T (pEv T ra) 400 (aoN false (aoB false φs 0) g) q
    rw [this, pSoL_eq]
theorem alB_set {fs : Nat → Co9} {c : Nat} {x : Co9} : ∀ k, k ≤ c → yalB (fset fs c x) k = yalB fs k := by
  intro k
  induction k with
  | zero => intro _; rfl
  | succ k ih =>
    intro h
    funext s
    show (yalB (fset fs c x) k s && fset fs c x k s) = (yalB fs k s && fs k s)
    rw [ih (by omega)]
    have : fset fs c x k = fs k := if_neg (by omega)
    rw [this]
theorem exB_set {fs : Nat → Co9} {c : Nat} {x : Co9} : ∀ k, k ≤ c → exB (fset fs c x) k = exB fs k := by
  intro k
  induction k with
  | zero => intro _; rfl
  | succ k ih =>
    intro h
    funext s
    show (exB (fset fs c x) k s || fset fs c x k s) = (exB fs k s || fs k s)
    rw [ih (by omega)]
    have : fset fs c x k = fs k := if_neg (by omega)
    rw [this]
theorem aoB_new {al : Bool} {fs : Nat → Co9} {c : Nat} {x : Co9} : aoB al (fset fs c x) (c + 1) = aoN al (aoB al fs c) x := by
  have : fset fs c x c = x := if_pos rfl
  cases al with
  | true =>
    funext s
    show (yalB (fset fs c x) c s && fset fs c x c s) = (yalB fs c s && x s)
    rw [alB_set c (Nat.le_refl c), this]
  | false =>
    funext s
    show (exB (fset fs c x) c s || fset fs c x c s) = (exB fs c s || x s)
    rw [exB_set c (Nat.le_refl c), this]
/-- how long the next word is -/
def lnL (T : Nat → Nat) (q : Nat) : Nat := we T (sk T q) - sk T q
/-- the loop of a row -/
def rowB (fe : zS → Option (((Option Nat) ⊕ Nat) × zS)) (w : Nat) (o : Nat) (v1 : Option Nat) (rec9 : zS → Option (((Option Nat) ⊕ Nat) × zS)) (σ : zS) : Option (((Option Nat) ⊕ Nat) × zS) :=
  v1.bind fun a5 =>
  (gR σ a5 13 1).bind fun r6 =>
  zif (zcl σ o = 0) <|
  zbt (fe σ) (fun k9 σ9 => some (.inr k9, σ9)) fun r8 σ9 =>
  r6.bind fun a10 =>
  zif (zcl σ9 a10 = 19) <|
  zb2 (f_J2_add a10 r8 σ9) fun x12 σ13 =>
  (gR σ13 o 0 2).bind fun r14 =>
  (zk σ13 w).bind fun a15 =>
  r14.bind fun a16 =>
  zif (zcl σ13 a16 = 2) <|
  zb2 (f_X3_passes a16 (some a15) σ13) fun x18 σ19 =>
  if ¬ x18 = 0 then
    rec9 σ19
  else
    some (.inl (some a5), σ19)
theorem allOf_row (ra : Nat → zS → Option (((Option Nat) ⊕ Nat) × zS)) (o : Nat) (v1 : Option Nat) : f_X1_allOf_9_b ra o v1 = rowB (ra o) 115 o v1 := rfl
theorem cond_row (ra : Nat → zS → Option (((Option Nat) ⊕ Nat) × zS)) (o : Nat) (v1 : Option Nat) : f_X1_cond_9_b ra o v1 = rowB (f_X1_allOf ra o) 116 o v1 := rfl
/-- what a reader of conditions does in the heap: fuel k of what it makes, slack, extra tests, errors, room -/
def Elm (o rd tp : Nat) (tl ft : Int32) (g : Nat → Int32) (T : Nat → Nat) (n d k sa sz : Nat) (X Y : Nat → Nat) (ea ez ra rz : Nat) (fe : zS → Option (((Option Nat) ⊕ Nat) × zS)) (re : Nat → pR9 Co9) : Prop :=
  ∀ σ p m, Cx σ o rd → yRd σ rd tp tl ft g n p m d → p ≤ n → 60 * (n - p) + ra ≤ zc σ → 600 * (n - p) + rz ≤ zz σ → match re p with
    | .inl e => ∃ τ q d', fe σ = some (.inr 5, τ) ∧ yRd τ rd tp tl ft g n q e d' ∧ Sp σ τ rd (60 * (n - p) + ea) (600 * (n - p) + ez)
    | .inr (φ, q) => ∃ τ a m', fe σ = some (.inl (some a), τ) ∧ yRd τ rd tp tl ft g n q m' d ∧ Sp σ τ rd (60 * (q - p) + X q - sa) (600 * (q - p) + Y q - sz) ∧ HpP (Rz (zn σ) τ) k τ a φ ∧ zn σ ≤ a ∧ a < zn τ ∧ zob τ (some a) = true
section ZW5
variable {σ σ' σ'' τ : zS} {o rd tp n p m d a b q z l e cap c : Nat} {tl ft : Int32} {g : Nat → Int32} {T : Nat → Nat} {el : Nat → Nat}
theorem pLp_b (h : Tx T n) {al : Bool} {w : Nat} (hw9 : w < 23) {re : Nat → pR9 Co9} (hr : ∀ p, p ≤ n → qB n p (re p)) : ∀ k f p, p ≤ n → qBl n p (pLp al w T re k f p) := by
  intro k
  induction k with
  | zero => intro f p hp; obtain ⟨a1, a2, -, -⟩ := sk_spec h hp; exact ⟨a1, a2⟩
  | succ k ih =>
    intro f p hp
    obtain ⟨a1, a2, -, -⟩ := sk_spec h hp
    unfold pLp
    split
    · next hw =>
      have hb := wk_b h hw9 a2 hw
      have := hr _ hb.2
      generalize re (we T (sk T p)) = r at this
      match r, this with
      | .inl e, this => exact this
      | .inr (g, q), this =>
        have h1 : we T (sk T p) < q := this.1
        have h2 := ih (aoN al f g) q this.2
        show qBl n p (pLp al w T re k (aoN al f g) q)
        generalize pLp al w T re k (aoN al f g) q = r2 at h2
        match r2, h2 with
        | .inl e, h2 => exact h2
        | .inr (g2, q2), h2 => exact ⟨by have h3 : q ≤ q2 := h2.1; show p ≤ q2; omega, h2.2⟩
    · exact ⟨a1, a2⟩
theorem lnL_sk (h : Tx T n) (hp : p ≤ n) : lnL T (sk T p) = lnL T p := by
  unfold lnL
  rw [sk_sk h hp]
theorem lnL_le (h : Tx T n) (hp : p ≤ n) : lnL T p ≤ n - p := by
  obtain ⟨a1, a2, -, -⟩ := sk_spec h hp
  obtain ⟨b1, b2, -, -⟩ := we_spec h a2
  unfold lnL; omega
/-- what a loop leaves behind -/
def Lv (σ τ : zS) (z rd a b : Nat) : Prop := (∀ q, q < z → q ≠ rd → τ.1 q = σ.1 q) ∧ zsv τ = zsv σ ∧ zbs τ = zbs σ ∧ zn σ ≤ zn τ ∧ zc σ ≤ zc τ + a ∧ zz σ ≤ zz τ + b
/-- the loop of a row of conditions -/
theorem f_rowL (hT : TB g T n) {al : Bool} {w k9 sa sz ea ez ra rz : Nat} {X Y : Nat → Nat} {fe : zS → Option (((Option Nat) ⊕ Nat) × zS)} {re : Nat → pR9 Co9} (hw9 : w < 23) (hE : Elm o rd tp tl ft g T n d k9 sa sz X Y ea ez ra rz fe re) (hre : ∀ p, p ≤ n → qB n p (re p))
    (hX : ∀ q, q ≤ n → X q ≤ 4 + lnL T q) (hY : ∀ q, q ≤ n → Y q ≤ 24 + 5 * lnL T q) (hXs : ∀ q, q ≤ n → X (sk T q) = X q) (hYs : ∀ q, q ≤ n → Y (sk T q) = Y q) (hsa : 1 ≤ sa ∧ sa ≤ 60) (hsz : 8 ≤ sz ∧ sz ≤ 600) (hra : 500 ≤ ra) (hrz : 6000 ≤ rz) {a1 : Nat} :
    ∀ k c p m cap e el (φs : Nat → Co9) σ fu, p ≤ n → n ≤ p + k → k < fu → Cx σ o rd → yRd σ rd tp tl ft g n p m d → Bl σ z l e cap c el → rd < z → tp < z → o < z → z ≤ a1 → a1 < zn σ → a1 ≠ l → a1 ≠ e → σ.1 a1 = some (.inr (13, [.int (b2 al), .ref l])) → (∀ i, i < c → HpP (yPl z l e σ) k9 σ (el i) (φs i)) → c + (n - p) ≤ 400 → 60 * (n - p) + ra ≤ zc σ → 600 * (n - p) + 4 * (2 * c + 10 - cap) + rz ≤ zz σ →
    match pRk al w T re k (aoB al φs c) p with
    | .inl e => ∃ τ q d', zlp0 (rowB fe (100 + w) o (some a1)) fu σ = some (.inr 5, τ) ∧ yRd τ rd tp tl ft g n q e d' ∧ Lv σ τ z rd (60 * (n - p) + ea) (600 * (n - p) + 4 * (2 * c + 10 - cap) + ez)
    | .inr (f, q) => ∃ τ m', zlp0 (rowB fe (100 + w) o (some a1)) fu σ = some (.inl (some a1), τ) ∧ yRd τ rd tp tl ft g n q m' d ∧ Lv σ τ z rd (60 * (q - p) + (X q + (4 + lnL T q)) - (sa - 1)) (600 * (q - p) + 4 * (2 * c + 10 - cap) + (Y q + (24 + 5 * lnL T q)) - (sz - 8)) ∧ HpP (Rz z τ) (k9 + 1) τ a1 f ∧ zob τ (some a1) = true := by
  have hn := hT.1.1
  intro k
  induction k with
  | zero =>
    intro c p m cap e el φs σ fu h1 h2 h3 C hR hB hz1 hz2 hz3 ha1 ha2 ha3 ha4 ha5 hel hcn hzc hzz
    have hpn : p = n := by omega
    subst hpn
    have F := hE σ p m C hR (Nat.le_refl p) hzc (by omega)
    have FB := hre p (Nat.le_refl p)
    obtain ⟨fu, rfl⟩ : ∃ f', fu = f' + 1 := ⟨fu - 1, by omega⟩
    unfold pRk
    generalize re p = R at F FB
    match R, F, FB with
    | .inl e2, F, _ =>
      obtain ⟨τ, q, d', f1, f2, s1, s2, s3, s4, s5, s6⟩ := F
      refine ⟨τ, q, d', ?_, f2, fun q' h1 h2 => s1 q' (by have := hB.1.1; have := hB.1.2.1; omega) h2, s2, s3, s4, s5, by omega⟩
      show rowB fe (100 + w) o (some a1) _ σ = _
      unfold rowB
      rw [bd_at, ybind_eq (gR_of ha5 (k := 1) (q := some l) rfl rfl), zif_t C.1.2.1, zbt_er f1]
    | .inr (g2, q), _, FB => exact absurd FB.2 (Nat.not_le.mpr FB.1)
  | succ k ih =>
    intro c p m cap e el φs σ fu h1 h2 h3 C hR hB hz1 hz2 hz3 ha1 ha2 ha3 ha4 ha5 hel hcn hzc hzz
    have F := hE σ p m C hR h1 hzc (by omega)
    have FB := hre p h1
    obtain ⟨fu, rfl⟩ : ∃ f', fu = f' + 1 := ⟨fu - 1, by omega⟩
    have hzn : z ≤ zn σ := by have := hB.1.1; have := hB.1.2.1; omega
    unfold pRk
    generalize re p = R at F FB
    match R, F, FB with
    | .inl e2, F, _ =>
      obtain ⟨τ, q, d', f1, f2, s1, s2, s3, s4, s5, s6⟩ := F
      refine ⟨τ, q, d', ?_, f2, fun q' h1 h2 => s1 q' (by omega) h2, s2, s3, s4, s5, by omega⟩
      show rowB fe (100 + w) o (some a1) _ σ = _
      unfold rowB
      rw [bd_at, ybind_eq (gR_of ha5 (k := 1) (q := some l) rfl rfl), zif_t C.1.2.1, zbt_er f1]
    | .inr (g2, q), F, FB =>
      obtain ⟨σ1, x, m1, f1, f2, f3, f4, f5, f6, f7⟩ := F
      have hq1 : p < q := FB.1
      have hq2 : q ≤ n := FB.2
      have hXq := hX q hq2
      have hYq := hY q hq2
      have hlq := lnL_le hT.1 hq2
      have C1 := Cx_Sp C f3 hR.2.2.2.1 hR.2.2.2.2.2.2.1
      have hB1 := Bl_Sp hB f3 hz1
      have hn1 := f3.2.2.2.1
      have hb1 := f3.2.2.1
      have hc1 := f3.2.2.2.2.1
      have hz1' := f3.2.2.2.2.2
      obtain ⟨σ2, e2, cap2, g1, g2', g3, g4, g5, g6, g7, g8, g9, g10, g11, g12, g13⟩ := Bl_add hB1 C1.2.2.1 (by omega) f2.2.2.2.2.2.2.1 (x := x) (by omega) f6 f7 ⟨by omega, by omega⟩
      have hR2 : yRd σ2 rd tp tl ft g n q m1 d := by
        obtain ⟨r1, r2, r3, r4, r5, r6, r7, r8⟩ := f2
        have hl := hB.1.1
        exact ⟨by rw [g3 _ (by omega) (by omega)]; exact r1, by rw [g3 _ (by omega) (by omega)]; exact r2, r3, by rw [g5]; exact r4, by omega, by omega, by rw [g5]; omega, g13 r8⟩
      have hl := hB.1.1
      have hln := hB.1.2.1
      have hzb := hB.1.2.2
      have he : e < zn σ := by
        rcases hB.2.2.2.2.1 with o | o
        · exact o.2.2.1
        · have := (C.2.2.1.2 _ o.2.1).1; omega
      have old2 : ∀ q', q' < zn σ1 → q' ≠ l → q' ≠ e → σ2.1 q' = σ1.1 q' := fun q' k1 k2 k3 => g3 q' k2 (by rcases g10 with w | w <;> omega)
      have M2 : ∀ q', q' < z → q' ≠ rd → σ2.1 q' = σ.1 q' := fun q' k1 k2 => (g3 q' (by omega) (by omega)).trans (f3.1 q' (by omega) k2)
      have C2 : Cx σ2 o rd := Cx_z C M2 (g4.trans f3.2.1) (g5.trans hb1) (by omega) hzb hR.2.2.2.1 hz3
      have ha1' : σ2.1 a1 = some (.inr (13, [.int (b2 al), .ref l])) := by
        rw [old2 a1 (by omega) ha3 ha4, f3.1 a1 ha2 (by omega)]
        exact ha5
      have hel2 : ∀ i, i < c + 1 → HpP (yPl z l e2 σ2) k9 σ2 (if i = c then x else el i) (fset φs c g2 i) := by
        intro i hi
        by_cases y : i = c
        · have e1 : fset φs c g2 i = g2 := if_pos y
          rw [if_pos y, e1]
          refine HpP_up f4 (fun q' hq' => ?_) ⟨fun q' hq' => ?_, g4, g5⟩ (Nat.le_refl _)
          · obtain ⟨w1, w2, ob, w3, w4⟩ := hq'
            exact ⟨⟨by omega, by omega, ob, by rw [old2 q' w2 (by omega) (by omega)]; exact w3, w4⟩, by omega, by rcases g10 with w | w <;> omega⟩
          · rcases hq' with ⟨w1, w2, -⟩ | w
            · exact old2 q' w2 (by omega) (by omega)
            · exact g3 q' (by omega) (by omega)
        · have e1 : fset φs c g2 i = φs i := if_neg y
          rw [if_neg y, e1]
          refine HpP_up (hel i (by omega)) (fun q' hq' => ?_) ⟨fun q' hq' => ?_, g4.trans f3.2.1, g5.trans hb1⟩ (Nat.le_refl _)
          · obtain ⟨⟨w1, w2, ob, w3, w4⟩, w5, w6⟩ := hq'
            exact ⟨⟨w1, by omega, ob, by rw [old2 q' (by omega) w5 w6, f3.1 q' w2 (by omega)]; exact w3, w4⟩, w5, by rcases g10 with w | w <;> omega⟩
          · rcases hq' with ⟨⟨w1, w2, -⟩, w5, w6⟩ | w
            · exact (old2 q' (by omega) w5 w6).trans (f3.1 q' w2 (by omega))
            · exact M2 q' (by omega) (by have := hR.2.2.2.1; omega)
      have cl2 : zcl σ1 l = 19 := by
        obtain ⟨mc, hmc⟩ := hB1.2.1
        exact cl_of hmc rfl
      have hcap1 := hB1.2.2.2.1
      have hcap2 := g2'.2.2.2.1
      obtain ⟨ca, vca, fca, hca, -⟩ := C2.2.1.1 w hw9
      have hca' : zk σ2 (100 + w) = some ca := hca
      have stp : ∀ rf, rowB fe (100 + w) o (some a1) rf σ = zb2 (f_X3_passes rd (some ca) σ2) fun x17 σ18 => if ¬ x17 = 0 then rf σ18 else some (.inl (some a1), σ18) := by
        intro rf
        unfold rowB
        rw [bd_at, ybind_eq (gR_of ha5 (k := 1) (q := some l) rfl rfl), zif_t C.1.2.1, zbt_eq f1, bd_at, zif_t cl2, zb2_eq g1, ybind_eq C2.1.1, ybind_eq hca', bd_at, zif_t (Rd_cl hR2)]
      obtain ⟨s1, s0⟩ := f_passes hR2 hT hq2 C2.2.1.1 hw9 hca' ⟨by omega, by omega⟩
      obtain ⟨b1, b2', -, -⟩ := sk_spec hT.1 hq2
      show match pLp al w T re (k + 1) (aoN al (aoB al φs c) g2) q with
        | .inl e => ∃ τ q d', rowB fe (100 + w) o (some a1) (zlp0 (rowB fe (100 + w) o (some a1)) fu) σ = some (.inr 5, τ) ∧ yRd τ rd tp tl ft g n q e d' ∧ Lv σ τ z rd (60 * (n - p) + ea) (600 * (n - p) + 4 * (2 * c + 10 - cap) + ez)
        | .inr (f, q) => ∃ τ m', rowB fe (100 + w) o (some a1) (zlp0 (rowB fe (100 + w) o (some a1)) fu) σ = some (.inl (some a1), τ) ∧ yRd τ rd tp tl ft g n q m' d ∧ Lv σ τ z rd (60 * (q - p) + (X q + (4 + lnL T q)) - (sa - 1)) (600 * (q - p) + 4 * (2 * c + 10 - cap) + (Y q + (24 + 5 * lnL T q)) - (sz - 8)) ∧ HpP (Rz z τ) (k9 + 1) τ a1 f ∧ zob τ (some a1) = true
      rw [stp]
      have hlq' : we T (sk T q) - sk T q = lnL T q := rfl
      rw [hlq'] at s1 s0
      unfold pLp
      by_cases y : ywk w T (sk T q) = true
      · obtain ⟨τ1, t1, t2, t3⟩ := s1 y
        rw [if_pos y, zb2_eq t1, if_pos kk1]
        have hwb := wk_b hT.1 hw9 b2' y
        have u2 := t3.2.2.2.1
        have u3 := t3.2.2.2.2.1
        have u4 := t3.2.2.2.2.2
        have u5 := t3.2.2.1
        have C3 := Cx_Sp C2 t3 hR2.2.2.2.1 hR2.2.2.2.2.2.2.1
        have ha1'' : τ1.1 a1 = some (.inr (13, [.int (b2 al), .ref l])) := (t3.1 a1 (by omega) (by omega)).trans ha1'
        have hlw : we T (sk T q) = sk T q + lnL T q := by unfold lnL; omega
        have key := ih (c + 1) (we T (sk T q)) (sk T q) cap2 e2 (fun i => if i = c then x else el i) (fset φs c g2) τ1 fu (by omega) (by omega) (by omega) C3 t2 (Bl_Sp g2' t3 hz1) hz1 hz2 hz3 ha1 (by omega) ha3 (by rcases g10 with w | w <;> omega) ha1'' (fun i hi => HpP_up (hel2 i hi) (fun q' hq' => ⟨Rz_Sp t3 hz1 q' hq'.1, hq'.2⟩) ⟨fun q' hq' => by
          rcases hq' with ⟨⟨w1, w2, -⟩, -⟩ | w
          · exact t3.1 q' w2 (by omega)
          · exact t3.1 q' (by omega) (by have := hR2.2.2.2.1; omega), t3.2.1, u5⟩ (Nat.le_refl _)) (by omega) (by omega) (by omega)
        rw [aoB_new] at key
        unfold pRk at key
        have hsk : q + 1 ≤ we T (sk T q) := by omega
        have hs'n : we T (sk T q) ≤ n := by omega
        have hL1 : 1 ≤ lnL T q := by omega
        have hL2 : q + lnL T q ≤ we T (sk T q) := by omega
        generalize we T (sk T q) = s' at key hsk hs'n hL2 ⊢
        have FB4 := hre s' hs'n
        generalize re s' = R2 at key FB4 ⊢
        match R2, key, FB4 with
        | .inl e3, key, _ =>
          obtain ⟨τ, q9, d9, k1, k2, k3, k4, k5, k6, k7, k8⟩ := key
          exact ⟨τ, q9, d9, k1, k2, fun q' h1 h2 => (k3 q' h1 h2).trans ((t3.1 q' (by omega) h2).trans (M2 q' h1 h2)), k4.trans (t3.2.1.trans (g4.trans f3.2.1)), k5.trans (u5.trans (g5.trans hb1)), by omega, by omega, by omega⟩
        | .inr (g9, q9), key, FB4 =>
          have hq9 : s' < q9 := FB4.1
          have FB5 := pLp_b hT.1 (al := al) hw9 hre k (aoN al (aoN al (aoB al φs c) g2) g9) q9 FB4.2
          show match pLp al w T re k (aoN al (aoN al (aoB al φs c) g2) g9) q9 with
            | .inl e => _
            | .inr (f, q) => _
          have key' : match pLp al w T re k (aoN al (aoN al (aoB al φs c) g2) g9) q9 with
            | .inl e => _
            | .inr (f, q) => _ := key
          generalize pLp al w T re k (aoN al (aoN al (aoB al φs c) g2) g9) q9 = R3 at key' FB5 ⊢
          match R3, key', FB5 with
          | .inl e3, key, _ =>
            obtain ⟨τ, q9, d9, k1, k2, k3, k4, k5, k6, k7, k8⟩ := key
            exact ⟨τ, q9, d9, k1, k2, fun q' h1 h2 => (k3 q' h1 h2).trans ((t3.1 q' (by omega) h2).trans (M2 q' h1 h2)), k4.trans (t3.2.1.trans (g4.trans f3.2.1)), k5.trans (u5.trans (g5.trans hb1)), by omega, by omega, by omega⟩
          | .inr (f9, q8), key, FB5 =>
            have hq8 : q9 ≤ q8 := FB5.1
            obtain ⟨τ, m9, k1, k2, ⟨k3, k4, k5, k6, k7, k8⟩, k9', k10⟩ := key
            exact ⟨τ, m9, k1, k2, ⟨fun q' h1 h2 => (k3 q' h1 h2).trans ((t3.1 q' (by omega) h2).trans (M2 q' h1 h2)), k4.trans (t3.2.1.trans (g4.trans f3.2.1)), k5.trans (u5.trans (g5.trans hb1)), by omega, by omega, by omega⟩, k9', k10⟩
      · obtain ⟨τ1, t1, t2, t3⟩ := s0 y
        rw [if_neg y, zb2_eq t1, if_neg kk0]
        have u2 := t3.2.2.2.1
        have u3 := t3.2.2.2.2.1
        have u4 := t3.2.2.2.2.2
        have u5 := t3.2.2.1
        have ha1'' : τ1.1 a1 = some (.inr (13, [.int (b2 al), .ref l])) := (t3.1 a1 (by omega) (by omega)).trans ha1'
        have hB3 := Bl_Sp g2' t3 hz1
        obtain ⟨⟨v1, v2, v3⟩, v4, v5, v6, v7, v8⟩ := hB3
        have hown : τ1.1 e2 = some (.inl (3, cap2, obA (lsA (c + 1) (fun i => if i = c then x else el i)))) ∧ e2 < zn τ1 ∧ c + 1 ≤ cap2 := by
          rcases v7 with o | o
          · exact ⟨o.1, o.2.2.1, o.2.2.2.1⟩
          · omega
        have hXs' := hXs q hq2
        have hYs' := hYs q hq2
        have hLs' := lnL_sk hT.1 hq2
        refine ⟨τ1, sk T q, rfl, t2, ⟨fun q' h1 h2 => (t3.1 q' (by omega) h2).trans (M2 q' h1 h2), t3.2.1.trans (g4.trans f3.2.1), u5.trans (g5.trans hb1), by omega, by rw [hXs', hLs']; omega, by rw [hYs', hLs']; omega⟩, ?_, zob_of ha1'' (by omega)⟩
        have hls : Ls9 τ1 l e2 cap2 (c + 1) (fun i => if i = c then x else el i) := ⟨v4, hown.1, hown.2.2, by omega⟩
        obtain ⟨mc9, hmc9⟩ := v4
        have rl : Rz z τ1 l := ⟨v1, v2, _, hmc9, fun fs e => by cases e⟩
        have re' : Rz z τ1 e2 := ⟨g12, hown.2.1, _, hown.1, fun fs e => by cases e⟩
        have ra' : Rz z τ1 a1 := ⟨ha1, by omega, _, ha1'', fun fs e => by cases e⟩
        have hiE : ∀ i, i < c + 1 → HpP (Rz z τ1) k9 τ1 (if i = c then x else el i) (fset φs c g2 i) := fun i hi => HpP_up (hel2 i hi) (fun q' hq' => Rz_Sp t3 hz1 q' hq'.1) ⟨fun q' hq' => by
          rcases hq' with ⟨⟨w1, w2, -⟩, -⟩ | w
          · exact t3.1 q' w2 (by omega)
          · exact t3.1 q' (by omega) (by have := hR2.2.2.2.1; omega), t3.2.1, u5⟩ (Nat.le_refl _)
        rw [← aoB_new]
        cases al with
        | true => exact Hp_all (P := Rz z τ1) (φs := fset φs c g2) hls rl re' ha1'' ra' hiE
        | false => exact Hp_any (P := Rz z τ1) (φs := fset φs c g2) hls rl re' ha1'' ra' hiE
end ZW5
section ZW6
variable {σ σ' σ'' τ : zS} {o rd tp n p m d a b q z l e cap c : Nat} {tl ft : Int32} {g : Nat → Int32} {T : Nat → Nat} {el : Nat → Nat}
/-- a row is built -/
theorem Elm_row (hT : TB g T n) {al : Bool} {w k9 sa sz ea ez ra rz : Nat} {X Y : Nat → Nat} {fe fe' : zS → Option (((Option Nat) ⊕ Nat) × zS)} {re re' : Nat → pR9 Co9} (hw9 : w < 23) (hE : Elm o rd tp tl ft g T n d k9 sa sz X Y ea ez ra rz fe re) (hre : ∀ p, p ≤ n → qB n p (re p))
    (hX : ∀ q, q ≤ n → X q ≤ 4 + lnL T q) (hY : ∀ q, q ≤ n → Y q ≤ 24 + 5 * lnL T q) (hXs : ∀ q, q ≤ n → X (sk T q) = X q) (hYs : ∀ q, q ≤ n → Y (sk T q) = Y q) (hsa : 4 ≤ sa ∧ sa ≤ 60) (hsz : 54 ≤ sz ∧ sz ≤ 600) (hra : 500 ≤ ra) (hrz : 6000 ≤ rz)
    (hf : ∀ σ, fe' σ = zb2 (znewO σ 13 [.int 0, .null]) fun a1 σ2 => zb2 (f_X14_init a1 (b2 al) σ2) fun _ σ4 => zlp0 (rowB fe (100 + w) o (some a1)) NN σ4)
    (hr : ∀ p, re' p = pRk al w T re 400 (aoB al (fun _ _ => true) 0) p) (hre' : ∀ p, p ≤ n → qB n p (re' p)) :
    Elm o rd tp tl ft g T n d (k9 + 1) (sa - 3) (sz - 53) (fun q => X q + (4 + lnL T q)) (fun q => Y q + (24 + 5 * lnL T q)) (ea + 2) (ez + 50) (ra + 10) (rz + 60) fe' re' := by
  intro σ p m C h hp hc hz
  have hn := hT.1.1
  have hbz := h.2.2.2.2.2.2.1
  have hrb := h.2.2.2.1
  have hrn := h.2.2.2.2.1
  have htn := h.2.2.2.2.2.1
  have hon := C.1.2.2.1
  obtain ⟨dd, hdd⟩ := C.2.2.2
  obtain ⟨σ1, x1, x2, x3, x4, x5⟩ := new_obj (ci := 13) (fs := [.int 0, .null]) h ⟨by omega, by show 2 ≤ _; omega⟩
  have x3c := x3.2.2.2.2.1
  have x3z : zz σ ≤ zz σ1 + 2 := x3.2.2.2.2.2
  have x3b := x3.2.2.1
  have hdd1 : zk σ1 1 = some dd := by show zsv σ1 1 = _; rw [x3.2.1]; exact hdd
  obtain ⟨σ2, y1, y2, y3, y4, y5⟩ := new_list x2 hdd1 ⟨by omega, by omega⟩
  have y3c := y3.2.2.2.2.1
  have y3z := y3.2.2.2.2.2
  have y3b := y3.2.2.1
  have ta : σ2.1 (zn σ) = some (.inr (13, [.int 0, .null])) := (y3.1 _ (by omega) (by omega)).trans x4
  have pr : pR σ2 (zn σ) 13 1 (some (zn σ1)) = some (zset σ2 (zn σ) (.inr (13, [.int 0, .ref (zn σ1)]))) := pF_of ta (Nat.le_of_ble_eq_true rfl) (by omega)
  have pz : pZ (zset σ2 (zn σ) (.inr (13, [.int 0, .ref (zn σ1)]))) (zn σ) 13 0 (b2 al) = some (zset σ2 (zn σ) (.inr (13, [.int (b2 al), .ref (zn σ1)]))) := (pZ_of (b2_01 al) (zs_at (σ := σ2)) (Nat.le_of_ble_eq_true rfl) (by show zbs σ2 ≤ _; omega)).trans (congrArg some zset2)
  let σ3 : zS := zset σ2 (zn σ) (.inr (13, [.int (b2 al), .ref (zn σ1)]))
  have R3 : yRd σ3 rd tp tl ft g n p m d := (set_obj (z := zn σ) y2 (Nat.le_refl _) (by omega) hrn htn).1
  have S2 : Sp σ σ2 rd (1 + 1) (2 + 3) := Sp_t x3 y3
  have S3 : Sp σ σ3 rd 2 5 := ⟨fun q h1 h2 => (if_neg (by omega)).trans (S2.1 q h1 h2), S2.2.1, S2.2.2.1, S2.2.2.2.1, S2.2.2.2.2.1, S2.2.2.2.2.2⟩
  have C3 := Cx_Sp C S3 hrb hbz
  have n3 : zn σ3 = zn σ + 2 := by show zn σ2 = _; omega
  have S3c := S3.2.2.2.2.1
  have S3z := S3.2.2.2.2.2
  have B3 : Bl σ3 (zn σ) (zn σ1) dd 0 0 (fun _ => 0) := ⟨⟨by omega, by omega, by rw [S3.2.2.1]; exact hbz⟩, ⟨0, (if_neg (by omega)).trans y4⟩, by omega, by omega, Or.inr ⟨rfl, by show zsv σ3 1 = _; rw [S3.2.1]; exact hdd, rfl⟩, fun i hi => absurd hi (Nat.not_lt_zero i)⟩
  have key := f_rowL (z := zn σ) (l := zn σ1) hT (al := al) hw9 hE hre hX hY hXs hYs ⟨by omega, by omega⟩ ⟨by omega, by omega⟩ hra hrz (a1 := zn σ) 400 0 p m 0 dd (fun _ => 0) (fun _ _ => true) σ3 NN hp (by omega) (NN_lt (by omega)) C3 R3 B3 hrn htn hon (Nat.le_refl _) (by omega) (by omega) (by have := (C.2.2.1.2 _ hdd).1; omega) zs_at (fun i hi => absurd hi (Nat.not_lt_zero i)) (by omega) (by omega) (by omega)
  have head : fe' σ = zlp0 (rowB fe (100 + w) o (some (zn σ))) NN σ3 := by
    rw [hf]
    unfold f_X14_init
    rw [zb2_eq x1, y1, ybind_eq pr, ybind_eq pz, zb2_at]
  rw [← hr] at key
  have hb := hre' p hp
  rw [head]
  generalize re' p = R at key hb
  match R, key, hb with
  | .inl e, key, _ =>
    obtain ⟨τ, q, d', k1, k2, k3, k4, k5, k6, k7, k8⟩ := key
    exact ⟨τ, q, d', k1, k2, fun q' h1 h2 => (k3 q' h1 h2).trans (S3.1 q' h1 h2), k4.trans S3.2.1, k5.trans S3.2.2.1, by omega, by omega, by omega⟩
  | .inr (f, q), key, hb =>
    have hpq : p < q := hb.1
    obtain ⟨τ, m', k1, k2, ⟨k3, k4, k5, k6, k7, k8⟩, k9', k10⟩ := key
    exact ⟨τ, zn σ, m', k1, k2, ⟨fun q' h1 h2 => (k3 q' h1 h2).trans (S3.1 q' h1 h2), k4.trans S3.2.1, k5.trans S3.2.2.1, by omega, by show zc σ ≤ zc τ + (60 * (q - p) + (X q + (4 + lnL T q)) - (sa - 3)); omega, by show zz σ ≤ zz τ + (600 * (q - p) + (Y q + (24 + 5 * lnL T q)) - (sz - 53)); omega⟩, k9', Nat.le_refl _, by omega, k10⟩
/-- a row of rows is built -/
theorem Elm_cond (hT : TB g T n) {k9 sa sz ea ez rc rz : Nat} {ra : Nat → zS → Option (((Option Nat) ⊕ Nat) × zS)} {re : Nat → pR9 Co9} (hE : Elm o rd tp tl ft g T n d k9 sa sz (fun _ => 0) (fun _ => 0) ea ez rc rz (ra o) re) (hre : ∀ p, p ≤ n → qB n p (re p))
    (hsa : 10 ≤ sa ∧ sa ≤ 60) (hsz : 200 ≤ sz ∧ sz ≤ 600) (hra : 500 ≤ rc) (hrz : 6000 ≤ rz) :
    Elm o rd tp tl ft g T n d (k9 + 2) (sa - 6) (sz - 106) (fun q => 8 + 2 * lnL T q) (fun q => 48 + 10 * lnL T q) (ea + 4) (ez + 100) (rc + 20) (rz + 120) (f_X1_cond ra o) (pSo T re) := by
  have hv : ∀ p, p ≤ n → qB n p (pEv T re p) := fun p hp => pEv_b hT.1 hre hp
  have h1 := Elm_row (w := 15) (al := true) (fe' := f_X1_allOf ra o) (re' := pEv T re) hT (by omega) hE hre (fun _ _ => Nat.zero_le _) (fun _ _ => Nat.zero_le _) (fun _ _ => rfl) (fun _ _ => rfl) ⟨by omega, by omega⟩ ⟨by omega, by omega⟩ hra hrz (fun σ => rfl) (fun p => pEv_eq p) hv
  have h2 := Elm_row (w := 16) (al := false) (fe' := f_X1_cond ra o) (re' := pSo T re) hT (by omega) h1 hv (fun q hq => by show 0 + (4 + lnL T q) ≤ _; omega) (fun q hq => by show 0 + (24 + 5 * lnL T q) ≤ _; omega) (fun q hq => by show 0 + (4 + lnL T (sk T q)) = 0 + (4 + lnL T q); rw [lnL_sk hT.1 hq]) (fun q hq => by show 0 + (24 + 5 * lnL T (sk T q)) = 0 + (24 + 5 * lnL T q); rw [lnL_sk hT.1 hq]) ⟨by omega, by omega⟩ ⟨by omega, by omega⟩ (by omega) (by omega) (fun σ => rfl) (fun p => pSo_eq p) (fun p hp => pSo_b hT.1 hre hp)
  have e1 : sa - 3 - 3 = sa - 6 := by omega
  have e2 : sz - 53 - 53 = sz - 106 := by omega
  have e3 : (fun q => 0 + (4 + lnL T q) + (4 + lnL T q)) = fun q => 8 + 2 * lnL T q := funext fun q => by omega
  have e4 : (fun q => 0 + (24 + 5 * lnL T q) + (24 + 5 * lnL T q)) = fun q => 48 + 10 * lnL T q := funext fun q => by omega
  rw [e1, e2, e3, e4] at h2
  exact h2
end ZW6
section ZW7a
variable {T : Nat → Nat} {n p : Nat}
theorem pSumL_s (h : Tx T n) : ∀ k f p, p ≤ n → match pSumL T k f p with
    | .inl _ => True
    | .inr (_, q) => sk T q = q := by
  intro k
  induction k with
  | zero => intro f p hp; exact sk_sk h hp
  | succ k ih =>
    intro f p hp
    obtain ⟨a1, a2, -, -⟩ := sk_spec h hp
    unfold pSumL
    by_cases z : T (sk T p) = 43
    · rw [if_pos z]
      have hlt := Tx_in h (by omega) z
      have FB := pPart_b h (show sk T p + 1 ≤ n by omega)
      generalize pPart T (sk T p + 1) = r at FB
      match r, FB with
      | .inl e, _ => exact True.intro
      | .inr (g, q), FB => exact ih _ q FB.2
    · rw [if_neg z]
      exact sk_sk h hp
theorem pPart_w (h : Tx T n) (hp : p ≤ n) : match pPart T p with
    | .inl _ => True
    | .inr (_, q) => we T (sk T p) ≤ q := by
  have FB := pPart_b h hp
  have ss := sk_sk h hp
  revert FB
  unfold pPart
  by_cases z : isD (T (sk T p)) = true
  · rw [if_pos z]
    have hw : we T (sk T p) = sk T p := run_stop (by
      have := of_decide_eq_true z
      exact decide_eq_false (by omega))
    obtain ⟨a1, a2, -, -⟩ := sk_spec h hp
    have F2 := pFig_b h a2 (ylo := 0) (hi := 1000) (dg := 3)
    intro _
    generalize pFig 0 1000 3 T (sk T p) = r at F2
    match r, F2 with
    | .inl e, _ => exact True.intro
    | .inr (v, q), F2 => have h1 : sk T p < q := F2.1; show we T (sk T p) ≤ q; omega
  · rw [if_neg z]
    intro _
    by_cases a : ywk 19 T (sk T p) = true
    · rw [if_pos a]; exact Nat.le_refl _
    · rw [if_neg a]
      by_cases a : ywk 20 T (sk T p) = true
      · rw [if_pos a]; exact Nat.le_refl _
      · rw [if_neg a]
        by_cases a : ywk 21 T (sk T p) = true
        · rw [if_pos a]; exact Nat.le_refl _
        · rw [if_neg a]
          by_cases a : ywk 22 T (sk T p) = true
          · rw [if_pos a]; exact Nat.le_refl _
          · rw [if_neg a]; exact True.intro
theorem pSum_w (h : Tx T n) (hp : p ≤ n) : match pSum T p with
    | .inl _ => True
    | .inr (_, q) => we T (sk T p) ≤ q ∧ sk T q = q := by
  unfold pSum
  have F1 := pPart_w h hp
  have FB := pPart_b h hp
  generalize pPart T p = r at F1 FB
  match r, F1, FB with
  | .inl e, _, _ => exact True.intro
  | .inr (g, q), F1, FB =>
    have h1 := pSumL_s h 400 g q FB.2
    have h2 := pSumL_b h 400 g q FB.2
    show match pSumL T 400 g q with
      | .inl _ => True
      | .inr (_, q) => we T (sk T p) ≤ q ∧ sk T q = q
    generalize pSumL T 400 g q = r2 at h1 h2
    match r2, h1, h2 with
    | .inl e, _, _ => exact True.intro
    | .inr (g2, q2), h1, h2 => exact ⟨Nat.le_trans F1 h2.1, h1⟩
end ZW7a
/-- a comparison -/
def pSC (T : Nat → Nat) (p : Nat) : pR9 Co9 := match pSum T p with
  | .inl e => .inl e
  | .inr (f, q) => pCmp T f q
section ZW7
variable {σ σ' σ'' τ : zS} {o rd tp n p m d a b q z l e cap c : Nat} {tl ft : Int32} {g : Nat → Int32} {T : Nat → Nat} {el : Nat → Nat}
/-- a comparison is filled -/
theorem X21_fill {x y : Nat} (h : yRd σ rd tp tl ft g n p m d) (ha : σ.1 a = some (.inr (18, [.null, .null]))) (hb : zbs σ ≤ a) (han : a < zn σ) (hr : rd < a) (ht : tp < a) : ∃ τ, f_X21_init a (some x) (some y) σ = some ((), τ) ∧ yRd τ rd tp tl ft g n p m d ∧ τ.1 a = some (.inr (18, [.ref x, .ref y])) ∧ (∀ q, q ≠ a → τ.1 q = σ.1 q) ∧ τ.2 = σ.2 := by
  have p1 : pR σ a 18 0 (some x) = some (zset σ a (.inr (18, [.ref x, .null]))) := pF_of ha (Nat.le_of_ble_eq_true rfl) hb
  have p2 : pR (zset σ a (.inr (18, [.ref x, .null]))) a 18 1 (some y) = some (zset σ a (.inr (18, [.ref x, .ref y]))) := (pF_of (zs_at (σ := σ)) (Nat.le_of_ble_eq_true rfl) hb).trans (congrArg some zset2)
  refine ⟨zset σ a (.inr (18, [.ref x, .ref y])), ?_, (set_obj (z := a) h (Nat.le_refl a) han hr ht).1, zs_at, fun q hq => zs_no hq, rfl⟩
  unfold f_X21_init
  rw [ybind_eq p1, ybind_eq p2]
/-- a comparison is built -/
theorem f_cmp (C : Cx σ o rd) (h : yRd σ rd tp tl ft g n p m d) (hT : TB g T n) (hp : p ≤ n) (hr : 10 * (n - p) + 520 ≤ zc σ ∧ 100 * (n - p) + 7200 ≤ zz σ) {ra : Nat → zS → Option (((Option Nat) ⊕ Nat) × zS)} {v2 : Option Nat} (rf : Int32 → zS → Option (((Option Nat) ⊕ Nat) × zS)) : match pSC T p with
    | .inl e => ∃ τ q d', f_X1_atom_84_b ra o (some rd) v2 6 rf 6 σ = some (.inr 5, τ) ∧ yRd τ rd tp tl ft g n q e d' ∧ Sp σ τ rd (10 * (n - p) + 430) (100 * (n - p) + 2210)
    | .inr (φ, q) => ∃ τ a m', f_X1_atom_84_b ra o (some rd) v2 6 rf 6 σ = some (.inl (some a), τ) ∧ yRd τ rd tp tl ft g n q m' d ∧ Sp σ τ rd (10 * (q - p)) (100 * (q - p)) ∧ HpP (Rz (zn σ) τ) 1 τ a φ ∧ zn σ ≤ a ∧ a < zn τ ∧ zob τ (some a) = true := by
  have hn := hT.1.1
  have hbz := h.2.2.2.2.2.2.1
  have hrb := h.2.2.2.1
  have F := f_sum_2 C h hT hp ⟨by omega, by omega⟩
  have FB := pSum_b hT.1 hp
  have FW := pSum_w hT.1 hp
  have step : ∀ {α : Type} (x y : α), (if (6 : Int32) ≤ 6 then x else y) = x := fun x y => if_pos (Int32.le_refl _)
  unfold f_X1_atom_84_b pSC
  rw [step, zif_t C.1.2.1]
  generalize pSum T p = R at F FB FW
  match R, F, FB, FW with
  | .inl e, F, _, _ =>
    obtain ⟨τ, q, d', f1, f2, f3⟩ := F
    exact ⟨τ, q, d', by rw [zbt_er f1], f2, Sp_le f3 (by omega) (by omega)⟩
  | .inr (f, q), F, FB, FW =>
    obtain ⟨σ1, x, m1, f1, f2, f3, f4, f5, f6, f7⟩ := F
    have hq1 : p < q := FB.1
    have hq2 : q ≤ n := FB.2
    have sq : sk T q = q := FW.2
    have C1 := Cx_Sp C f3 hrb hbz
    have n1 := f3.2.2.2.1
    have b1 := f3.2.2.1
    have c1 := f3.2.2.2.2.1
    have z1 := f3.2.2.2.2.2
    have hbz1 := f2.2.2.2.2.2.2.1
    -- the second sum and the object
    have HALF : ∀ (sw : Bool) (m9 : Nat) (σ2 : zS) (hlt : T q = 60 ∨ T q = 62), yRd σ2 rd tp tl ft g n (q + 1) m9 d → Sp σ1 σ2 rd 0 0 → match (match pSum T (q + 1) with
      | .inl e => .inl e
      | .inr (g, r) => .inr ((if sw = true then (fun s => decide (f s < g s)) else (fun s => decide (g s < f s))), r) : pR9 Co9) with
      | .inl e => ∃ τ q d', (zb2 (znewO σ2 18 [.null, .null]) fun a24 σ25 => zif (zcl σ25 o = 0) <| zbt (f_X1_sum_2 o σ25) (fun k9 σ9 => some (.inr k9, σ9)) fun r27 σ28 => zb2 (f_X21_init a24 (if sw = true then some x else r27) (if sw = true then r27 else some x) σ28) fun _ σ30 => some (.inl (some a24), σ30) : Option (((Option Nat) ⊕ Nat) × zS)) = some (.inr 5, τ) ∧ yRd τ rd tp tl ft g n q e d' ∧ Sp σ τ rd (10 * (n - p) + 430) (100 * (n - p) + 2210)
      | .inr (φ, q) => ∃ τ a m', (zb2 (znewO σ2 18 [.null, .null]) fun a24 σ25 => zif (zcl σ25 o = 0) <| zbt (f_X1_sum_2 o σ25) (fun k9 σ9 => some (.inr k9, σ9)) fun r27 σ28 => zb2 (f_X21_init a24 (if sw = true then some x else r27) (if sw = true then r27 else some x) σ28) fun _ σ30 => some (.inl (some a24), σ30) : Option (((Option Nat) ⊕ Nat) × zS)) = some (.inl (some a), τ) ∧ yRd τ rd tp tl ft g n q m' d ∧ Sp σ τ rd (10 * (q - p)) (100 * (q - p)) ∧ HpP (Rz (zn σ) τ) 1 τ a φ ∧ zn σ ≤ a ∧ a < zn τ ∧ zob τ (some a) = true := by
      intro sw m9 σ2 hlt R2 S2
      have hqn : q < n := by rcases hlt with h | h <;> exact Tx_in hT.1 (by omega) h
      have C2 := Cx_Sp C1 S2 (by omega) hbz1
      have n2 := S2.2.2.2.1
      have b2' := S2.2.2.1
      have c2 := S2.2.2.2.2.1
      have z2 := S2.2.2.2.2.2
      have hbz2 := R2.2.2.2.2.2.2.1
      obtain ⟨σ3, x1, x2, x3, x4, x5⟩ := new_obj (ci := 18) (fs := [.null, .null]) R2 ⟨by omega, by show 2 ≤ _; omega⟩
      have C3 := Cx_Sp C2 x3 (by omega) hbz2
      have n3 := x3.2.2.2.1
      have b3 := x3.2.2.1
      have c3 := x3.2.2.2.2.1
      have z3 : zz σ2 ≤ zz σ3 + 2 := x3.2.2.2.2.2
      have hbz3 := x2.2.2.2.2.2.2.1
      have F2 := f_sum_2 C3 x2 hT (show q + 1 ≤ n by omega) ⟨by omega, by omega⟩
      have FB2 := pSum_b hT.1 (show q + 1 ≤ n by omega)
      rw [zb2_eq x1, zif_t C3.1.2.1]
      have S13 := Sp_t f3 (Sp_t S2 x3)
      generalize pSum T (q + 1) = R9 at F2 FB2
      match R9, F2, FB2 with
      | .inl e, F2, _ =>
        obtain ⟨τ, q', d', k1, k2, k3⟩ := F2
        exact ⟨τ, q', d', by rw [zbt_er k1], k2, Sp_le (Sp_t S13 k3) (by omega) (by show 100 * (q - p) + (0 + 2) + _ ≤ _; omega)⟩
      | .inr (f', r), F2, FB2 =>
        have hr1 : q + 1 < r := FB2.1
        obtain ⟨σ4, y, m4, k1, k2, k3, k4, k5, k6, k7⟩ := F2
        have n4 := k3.2.2.2.1
        have b4 := k3.2.2.1
        have yc4 := k3.2.2.2.2.1
        have z4 := k3.2.2.2.2.2
        have tob : σ4.1 (zn σ2) = some (.inr (18, [.null, .null])) := (k3.1 _ (by omega) (by have := R2.2.2.2.2.1; omega)).trans x4
        have hrn2 := R2.2.2.2.2.1
        have htn2 := R2.2.2.2.2.2.1
        obtain ⟨τ, j1, j2, j3, j4, j5⟩ := X21_fill (x := if sw = true then x else y) (y := if sw = true then y else x) k2 tob (by omega) (by omega) (by omega) (by omega)
        have en : zn τ = zn σ4 := congrArg (fun w => w.2.2.1) j5
        have ec : zc τ = zc σ4 := congrArg (fun w => w.2.2.2.1) j5
        have ez : zz τ = zz σ4 := congrArg (fun w => w.2.2.2.2) j5
        have ev : zsv τ = zsv σ4 := congrArg (fun w => w.1) j5
        have eb : zbs τ = zbs σ4 := congrArg (fun w => w.2.1) j5
        have S4 := Sp_t S13 k3
        have S4z : zz σ ≤ zz σ4 + (100 * (q - p) + (0 + 2) + 100 * (r - (q + 1))) := S4.2.2.2.2.2
        have S4c : zc σ ≤ zc σ4 + (10 * (q - p) + (0 + 1) + 10 * (r - (q + 1))) := S4.2.2.2.2.1
        have S5 : Sp σ τ rd (10 * (r - p)) (100 * (r - p)) := ⟨fun q' h1 h2 => (j4 q' (by omega)).trans (S4.1 q' h1 h2), ev.trans S4.2.1, eb.trans S4.2.2.1, by omega, by omega, by omega⟩
        -- the sums still stand
        have A1 : ∀ q', q' < zn σ2 → q' ≠ rd → τ.1 q' = σ1.1 q' ∨ zn σ1 ≤ q' := fun q' h1 h2 => by
          rcases Nat.lt_or_ge q' (zn σ1) with w | w
          · exact Or.inl (by rw [j4 q' (by omega), k3.1 q' (by omega) h2, x3.1 q' h1 h2, S2.1 q' w h2])
          · exact Or.inr w
        have HX : HsP (Rz (zn σ) τ) τ x f := HsP_up f4 (fun q' hq' => by
          obtain ⟨w1, w2, ob, w3, w4⟩ := hq'
          have hq9 : q' ≠ rd := by have := h.2.2.2.2.1; omega
          refine ⟨w1, by omega, ob, ?_, w4⟩
          rcases A1 q' (by omega) hq9 with w | w
          · rw [w]; exact w3
          · omega) ⟨fun q' hq' => by
            rcases hq' with ⟨w1, w2, -⟩ | w
            · rcases A1 q' (by omega) (by have := h.2.2.2.2.1; omega) with w | w
              · exact w
              · omega
            · rcases A1 q' (by omega) (by omega) with w | w
              · exact w
              · omega, ev.trans (k3.2.1.trans (x3.2.1.trans S2.2.1)), by omega⟩
        have HY : HsP (Rz (zn σ) τ) τ y f' := HsP_up k4 (fun q' hq' => by
          obtain ⟨w1, w2, ob, w3, w4⟩ := hq'
          exact ⟨by omega, by omega, ob, by rw [j4 q' (by omega)]; exact w3, w4⟩) ⟨fun q' hq' => by
            rcases hq' with ⟨w1, w2, -⟩ | w
            · exact j4 q' (by omega)
            · exact j4 q' (by omega), ev, eb⟩
        have ro : Rz (zn σ) τ (zn σ2) := ⟨by omega, by omega, _, j3, fun fs e => by cases e⟩
        refine ⟨τ, zn σ2, m4, ?_, j2, S5, ?_, by omega, by omega, zob_of j3 (by omega)⟩
        · rw [zbt_eq k1]
          have e1 : (if sw = true then some x else some y) = some (if sw = true then x else y) := by cases sw <;> rfl
          have e2 : (if sw = true then some y else some x) = some (if sw = true then y else x) := by cases sw <;> rfl
          rw [e1, e2, zb2_eq j1]
        · cases sw with
          | true => exact Hp_less (a := zn σ2) HX HY j3 ro
          | false => exact Hp_less (a := zn σ2) HY HX j3 ro
    -- the sign
    obtain ⟨s1, s0⟩ := f_sign f2 hT hq2 (c := 60) (by omega)
    rw [sq] at s1 s0
    have P : ∀ K : Option Nat → zS → Option (((Option Nat) ⊕ Nat) × zS), zbt (f_X1_sum_2 o σ) (fun k9 σ9 => some (.inr k9, σ9)) K = K (some x) σ1 := fun K => zbt_eq f1
    rw [P, bd_at, zif_t (Rd_cl f2)]
    show match pCmp T f q with
      | .inl e => _
      | .inr (φ, q) => _
    unfold pCmp
    by_cases y1 : T q = 60
    · obtain ⟨σ2, t1, t2, t3⟩ := s1 y1
      have t1' : f_X3_sign rd 60 σ1 = some (1, σ2) := t1
      rw [if_pos y1, zb2_eq t1', if_neg kk1]
      exact HALF true q σ2 (Or.inl y1) t2 t3
    · obtain ⟨σ2, t1, t2, t3⟩ := s0 y1
      have t1' : f_X3_sign rd 60 σ1 = some (0, σ2) := t1
      rw [if_neg y1, zb2_eq t1', if_pos rfl, zif_t (Rd_cl t2)]
      obtain ⟨s1, s0⟩ := f_sign t2 hT hq2 (c := 62) (by omega)
      rw [sq] at s1 s0
      have c2 := t3.2.2.2.2.1
      have z2 := t3.2.2.2.2.2
      by_cases y2 : T q = 62
      · obtain ⟨σ3, u1, u2, u3⟩ := s1 y2
        have u1' : f_X3_sign rd 62 σ2 = some (1, σ3) := u1
        rw [if_pos y2, zb2_eq u1', if_pos kk1]
        exact HALF false q σ3 (Or.inr y2) u2 (Sp_t t3 u3)
      · obtain ⟨σ3, u1, u2, u3⟩ := s0 y2
        have u1' : f_X3_sign rd 62 σ2 = some (0, σ3) := u1
        have c3 := u3.2.2.2.2.1
        have z3 := u3.2.2.2.2.2
        rw [if_neg y2, zb2_eq u1', if_neg kk0, zif_t (Rd_cl u2)]
        obtain ⟨τ, w, w1, w2, w3, w4⟩ := f_wrong u2 ⟨by omega, by omega⟩
        refine ⟨τ, _, d, ?_, w3, Sp_le (Sp_t f3 (Sp_t t3 (Sp_t u3 w4))) (by omega) (by omega)⟩
        rw [zb2_eq w1, bd_at, zif_t w2]
end ZW7
