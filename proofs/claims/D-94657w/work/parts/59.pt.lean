/-! pure land: W8 W9 Y1 (see wip/D-94657w/pl) -/
/-- tags from the i-th on, then a comparison -/
def pTg (T : Nat → Nat) (s : Nat) : Nat → Nat → pR9 Co9
  | 0, _ => pSC T s
  | j + 1, i => if ywk (tgX i) T s = true then .inr (tgφ i, we T s) else pTg T s j (i + 1)
theorem pPlain_eq {T : Nat → Nat} {p : Nat} : pPlain T p = pTg T (sk T p) 6 0 := by
  have t0 : tgφ 0 = fun s => decide (s 0 = 0) := rfl
  have t1 : tgφ 1 = fun s => decide (s 0 = 1) := rfl
  have t2 : tgφ 2 = fun s => decide (s 0 = 2) := rfl
  have t3 : tgφ 3 = fun s => decide (s 0 = 3) := rfl
  have t4 : tgφ 4 = fun s => decide (s 5 = 1) := rfl
  have t5 : tgφ 5 = fun s => decide (s 6 = 1) := rfl
  unfold pPlain
  rw [← t0, ← t1, ← t2, ← t3, ← t4, ← t5]
  rfl
theorem tgX_lt {i : Nat} (h : i < 6) : tgX i < 23 := by
  rcases (show i = 0 ∨ i = 1 ∨ i = 2 ∨ i = 3 ∨ i = 4 ∨ i = 5 by omega) with rfl | rfl | rfl | rfl | rfl | rfl <;> decide
section ZW8a
variable {T : Nat → Nat} {n p s : Nat}
theorem pTg_w (h : Tx T n) (hs : s ≤ n) (ss : sk T s = s) : ∀ j i, match pTg T s j i with
    | .inl _ => True
    | .inr (_, q) => we T s ≤ q := by
  intro j
  induction j with
  | zero =>
    intro i
    show match pSC T s with
      | .inl _ => True
      | .inr (_, q) => we T s ≤ q
    unfold pSC
    have F1 := pSum_w h hs
    have FB := pSum_b h hs
    rw [ss] at F1
    generalize pSum T s = r at F1 FB
    match r, F1, FB with
    | .inl e, _, _ => exact True.intro
    | .inr (f, q), F1, FB =>
      have h1 : s < q := FB.1
      have h2 := pCmp_b h (f := f) (p := q - 1) (q := q) (by omega) FB.2
      show match pCmp T f q with
        | .inl _ => True
        | .inr (_, q) => we T s ≤ q
      generalize pCmp T f q = r2 at h2
      match r2, h2 with
      | .inl e, _ => exact True.intro
      | .inr (φ, r), h2 => have h3 : q - 1 < r := h2.1; have h4 : we T s ≤ q := F1.1; show we T s ≤ r; omega
  | succ j ih =>
    intro i
    unfold pTg
    by_cases z : ywk (tgX i) T s = true
    · rw [if_pos z]; exact Nat.le_refl _
    · rw [if_neg z]; exact ih (i + 1)
end ZW8a
/-- the array of the tags, and what they are -/
def Tg9 (σ : zS) (ta sa : Nat → Nat) (va : Nat) : Prop := (∀ i, i < 23 → zsv σ (100 + i) = some (sa i)) ∧ zk σ 14 = some (ta 4) ∧ zk σ 15 = some (ta 5) ∧ (∀ i, i < 6 → ta i < zbs σ ∧ σ.1 (ta i) = some (.inr (150, [.int (nI i), .ref (sa (tgX i))]))) ∧ σ.1 va = some (.inl (4, 6, obA (fun j => if j < 6 then some (ta j) else none))) ∧ va < zn σ
section ZW8
variable {σ σ' σ'' τ : zS} {o rd tp n p s m d a b q z l e cap c va : Nat} {tl ft : Int32} {g : Nat → Int32} {T : Nat → Nat} {el ta sa : Nat → Nat}
theorem Tg9_Sp (h : Tg9 σ ta sa va) (hs : Sp σ τ rd a b) (hr : zbs σ ≤ rd) (hv : va ≠ rd) (hb : zbs σ ≤ zn σ) : Tg9 τ ta sa va := by
  obtain ⟨h1, h2, h3, h4, h5, h6⟩ := h
  exact ⟨fun i hi => by rw [hs.2.1]; exact h1 i hi, by show zsv τ 14 = _; rw [hs.2.1]; exact h2, by show zsv τ 15 = _; rw [hs.2.1]; exact h3, fun i hi => ⟨by rw [hs.2.2.1]; exact (h4 i hi).1, by rw [hs.1 _ (by have := (h4 i hi).1; omega) (by have := (h4 i hi).1; omega)]; exact (h4 i hi).2⟩, by rw [hs.1 _ h6 hv]; exact h5, by have := hs.2.2.2.1; omega⟩
/-- the loop over the tags -/
theorem f_tagL (hT : TB g T n) (hs : s ≤ n) (ss : sk T s = s) {ra : Nat → zS → Option (((Option Nat) ⊕ Nat) × zS)} : ∀ j i m σ fu, i + j = 6 → j < fu → Cx σ o rd → yRd σ rd tp tl ft g n s m d → Tg9 σ ta sa va → j * (4 + lnL T s) + 10 * (n - s) + 930 ≤ zc σ → j * (24 + 5 * lnL T s) + 100 * (n - s) + 12200 ≤ zz σ →
    match pTg T s j i with
    | .inl e => ∃ τ q d', zlp1 (f_X1_atom_84_b ra o (some rd) (some va) 6) fu (nI i) σ = some (.inr 5, τ) ∧ yRd τ rd tp tl ft g n q e d' ∧ Sp σ τ rd (j * (4 + lnL T s) + 10 * (n - s) + 430) (j * (24 + 5 * lnL T s) + 100 * (n - s) + 2210)
    | .inr (φ, q) => ∃ τ a m', zlp1 (f_X1_atom_84_b ra o (some rd) (some va) 6) fu (nI i) σ = some (.inl (some a), τ) ∧ yRd τ rd tp tl ft g n q m' d ∧ Sp σ τ rd (j * (4 + lnL T s) + 10 * (q - s) + 1) (j * (24 + 5 * lnL T s) + 100 * (q - s) + 1) ∧ HpP (Rz (zn σ) τ) 1 τ a φ ∧ zn σ ≤ a ∧ a < zn τ ∧ zob τ (some a) = true := by
  have hn := hT.1.1
  intro j
  induction j with
  | zero =>
    intro i m σ fu h1 h2 C h hG hc hz
    obtain ⟨fu, rfl⟩ : ∃ f', fu = f' + 1 := ⟨fu - 1, by omega⟩
    obtain rfl : i = 6 := by omega
    have F := f_cmp C h hT hs ⟨by omega, by omega⟩ (ra := ra) (v2 := some va) (zlp1 (f_X1_atom_84_b ra o (some rd) (some va) 6) fu)
    show match pSC T s with
      | .inl e => ∃ τ q d', f_X1_atom_84_b ra o (some rd) (some va) 6 (zlp1 (f_X1_atom_84_b ra o (some rd) (some va) 6) fu) 6 σ = some (.inr 5, τ) ∧ _
      | .inr (φ, q) => ∃ τ a m', f_X1_atom_84_b ra o (some rd) (some va) 6 (zlp1 (f_X1_atom_84_b ra o (some rd) (some va) 6) fu) 6 σ = some (.inl (some a), τ) ∧ _
    generalize pSC T s = R at F
    match R, F with
    | .inl e, F =>
      obtain ⟨τ, q, d', f1, f2, f3⟩ := F
      exact ⟨τ, q, d', f1, f2, Sp_le f3 (by omega) (by omega)⟩
    | .inr (φ, q), F =>
      obtain ⟨τ, x, m', f1, f2, f3, f4⟩ := F
      exact ⟨τ, x, m', f1, f2, Sp_le f3 (by omega) (by omega), f4⟩
  | succ j ih =>
    intro i m σ fu h1 h2 C h hG hc hz
    obtain ⟨fu, rfl⟩ : ∃ f', fu = f' + 1 := ⟨fu - 1, by omega⟩
    have hbz := h.2.2.2.2.2.2.1
    have hrb := h.2.2.2.1
    have hvr : va ≠ rd := fun e => by have := hG.2.2.2.2.1; rw [e, h.1] at this; cases this
    have hi : i < 6 := by omega
    have e1 : (j + 1) * (4 + lnL T s) = j * (4 + lnL T s) + (4 + lnL T s) := Nat.succ_mul _ _
    have e2 : (j + 1) * (24 + 5 * lnL T s) = j * (24 + 5 * lnL T s) + (24 + 5 * lnL T s) := Nat.succ_mul _ _
    have ih' := fun m σ => ih (i + 1) m σ fu (by omega) (by omega)
    show match pTg T s (j + 1) i with
      | .inl e => ∃ τ q d', f_X1_atom_84_b ra o (some rd) (some va) 6 (zlp1 (f_X1_atom_84_b ra o (some rd) (some va) 6) fu) (nI i) σ = some (.inr 5, τ) ∧ _
      | .inr (φ, q) => ∃ τ a m', f_X1_atom_84_b ra o (some rd) (some va) 6 (zlp1 (f_X1_atom_84_b ra o (some rd) (some va) 6) fu) (nI i) σ = some (.inl (some a), τ) ∧ _
    generalize zlp1 (f_X1_atom_84_b ra o (some rd) (some va) 6) fu = rf at ih'
    obtain ⟨g1, g2, g3, g4, g5, g6⟩ := hG
    have hta := g4 i hi
    have lr : lR σ va (nI i) = some (some (ta i)) := by
      unfold lR
      rw [g5]
      show (if (3 ≤ 4 ∧ 4 ≤ 5) ∧ ¬ (nI i < 0 ∨ 6 ≤ (nI i).toNatClampNeg) then some (if (nI i).toNatClampNeg < 6 then some (ta (nI i).toNatClampNeg) else none) else none) = _
      rw [if_pos ⟨⟨by decide, by decide⟩, nI_in (by omega) (by omega)⟩, nI_clamp (by omega), if_pos hi]
    have hct : zcl σ (ta i) = 50 := by unfold zcl; rw [hta.2]
    have hw : f_X16_word (ta i) σ = some (some (sa (tgX i)), σ) := by
      unfold f_X16_word
      have : gR σ (ta i) 50 1 = some (some (sa (tgX i))) := by unfold gR zfld; rw [hta.2]; rfl
      rw [ybind_eq this]
    have hx := tgX_lt hi
    have hca : zk σ (100 + tgX i) = some (sa (tgX i)) := g1 _ hx
    obtain ⟨p1, p0⟩ := f_passes h hT hs C.2.1.1 hx hca ⟨by omega, by omega⟩
    rw [ss] at p1 p0
    have hL : we T s - s = lnL T s := by unfold lnL; rw [ss]
    rw [hL] at p1 p0
    have head : f_X1_atom_84_b ra o (some rd) (some va) 6 rf (nI i) σ = zb2 (f_X3_passes rd (some (sa (tgX i))) σ) fun x50 σ51 => if x50 = 0 then zl (nI i + 1) fun x52 => rf x52 σ51 else zb2 (znewO σ51 15 [.null]) fun a53 σ54 => zb2 (f_X17_init a53 (some (ta i)) σ54) fun _ σ56 => some (.inl (some a53), σ56) := by
      unfold f_X1_atom_84_b
      rw [show (6 : Int32) = nI 6 from rfl, nleF hi (by omega), bd_at, ybind_eq lr, bd_at, zif_t hct, zb2_eq hw, bd_at, zif_t (Rd_cl h)]
    rw [head]
    unfold pTg
    by_cases z : ywk (tgX i) T s = true
    · obtain ⟨σ1, t1, t2, t3⟩ := p1 z
      rw [if_pos z, zb2_eq t1, if_neg kk1]
      have hbz1 := t2.2.2.2.2.2.2.1
      have c1 := t3.2.2.2.2.1
      have z1 := t3.2.2.2.2.2
      have b1 := t3.2.2.1
      have n1 := t3.2.2.2.1
      obtain ⟨σ2, u1, u2, u3, u4, u5⟩ := new_obj (ci := 15) (fs := [.null]) t2 ⟨by omega, by show 1 ≤ _; omega⟩
      have u3z : zz σ1 ≤ zz σ2 + 1 := u3.2.2.2.2.2
      have u3c := u3.2.2.2.2.1
      have u3b := u3.2.2.1
      have pr : pR σ2 (zn σ1) 15 0 (some (ta i)) = some (zset σ2 (zn σ1) (.inr (15, [.ref (ta i)]))) := pF_of u4 (Nat.le_of_ble_eq_true rfl) (by omega)
      have ei : f_X17_init (zn σ1) (some (ta i)) σ2 = some ((), zset σ2 (zn σ1) (.inr (15, [.ref (ta i)]))) := by
        unfold f_X17_init
        rw [ybind_eq pr]
      have hso := set_obj (z := zn σ1) (ob := .inr (15, [.ref (ta i)])) u2 (Nat.le_refl _) (by omega) t2.2.2.2.2.1 t2.2.2.2.2.2.1
      have S := Sp_t t3 u3
      have S' : Sp σ (zset σ2 (zn σ1) (.inr (15, [.ref (ta i)]))) rd (4 + lnL T s + 1) (24 + 5 * lnL T s + 1) := ⟨fun q h1 h2 => (if_neg (by omega)).trans (S.1 q h1 h2), S.2.1, S.2.2.1, S.2.2.2.1, S.2.2.2.2.1, S.2.2.2.2.2⟩
      have C' := Cx_Sp C S' hrb hbz
      have hA : ∀ q', q' < zbs σ → (zset σ2 (zn σ1) (.inr (15, [.ref (ta i)]))).1 q' = σ.1 q' := fun q' hq' => S'.1 q' (by omega) (by omega)
      refine ⟨_, zn σ1, _, by rw [zb2_eq u1, zb2_eq ei], hso.1, Sp_le S' (by omega) (by omega), ?_, by omega, by show zn σ1 < zn σ2; omega, zob_of zs_at (by omega)⟩
      exact Hp_tag (ta := ta) (sa := sa) C'.2.1 hi (by show zsv _ 14 = _; rw [S'.2.1]; exact g2) (by show zsv _ 15 = _; rw [S'.2.1]; exact g3) (fun k hk => ⟨by rw [S'.2.2.1]; exact (g4 k hk).1, by rw [hA _ (g4 k hk).1]; exact (g4 k hk).2⟩) zs_at ⟨by omega, by show zn σ1 < zn σ2; omega, _, zs_at, fun fs e => by cases e⟩
    · obtain ⟨σ1, t1, t2, t3⟩ := p0 z
      rw [if_neg z, zb2_eq t1, if_pos rfl, zl_at, nI_1]
      have c1 := t3.2.2.2.2.1
      have z1 := t3.2.2.2.2.2
      have n1 := t3.2.2.2.1
      have C1 := Cx_Sp C t3 hrb hbz
      have key := ih' s σ1 C1 t2 (Tg9_Sp ⟨g1, g2, g3, g4, g5, g6⟩ t3 hrb hvr hbz) (by omega) (by omega)
      generalize pTg T s j (i + 1) = R at key
      match R, key with
      | .inl e, key =>
        obtain ⟨τ, q, d', f1, f2, f3⟩ := key
        have S9 := Sp_t t3 f3
        have yW : ∀ A B C x k : Nat, A = B + C → C + (B + x + k) ≤ A + x + k := fun A B C x k h => by omega
        exact ⟨τ, q, d', f1, f2, Sp_le S9 (yW _ _ _ _ _ e1) (yW _ _ _ _ _ e2)⟩
      | .inr (φ, q), key =>
        obtain ⟨τ, x, m', f1, f2, f3, f4, f5, f6⟩ := key
        have S9 := Sp_t t3 f3
        have q1 : 4 + lnL T s + (j * (4 + lnL T s) + 10 * (q - s) + 1) ≤ (j + 1) * (4 + lnL T s) + 10 * (q - s) + 1 := by rw [e1]; omega
        have q2 : 24 + 5 * lnL T s + (j * (24 + 5 * lnL T s) + 100 * (q - s) + 1) ≤ (j + 1) * (24 + 5 * lnL T s) + 100 * (q - s) + 1 := by rw [e2]; omega
        exact ⟨τ, x, m', f1, f2, Sp_le S9 q1 q2, HpP_up f4 (fun q' hq' => ⟨by have := hq'.1; omega, hq'.2⟩) ⟨fun _ _ => rfl, rfl, rfl⟩ (Nat.le_refl _), by omega, f6⟩
end ZW8
section ZW9
variable {σ σ' σ'' τ : zS} {o rd tp n p s m d a b q z l e cap c va : Nat} {tl ft : Int32} {g : Nat → Int32} {T : Nat → Nat} {el ta sa : Nat → Nat}
theorem f_goesDeeper (h : yRd σ rd tp tl ft g n p m d) (hd : d ≤ 6) (hr : 1 ≤ zc σ ∧ 6 ≤ zz σ) : (d < 6 → ∃ τ, f_X3_goesDeeper rd σ = some (.inl (), τ) ∧ yRd τ rd tp tl ft g n p m (d + 1) ∧ Sp σ τ rd 0 0) ∧ (d = 6 → ∃ τ, f_X3_goesDeeper rd σ = some (.inr 5, τ) ∧ yRd τ rd tp tl ft g n p m d ∧ Sp σ τ rd 1 6) := by
  unfold f_X3_goesDeeper
  refine ⟨fun hd6 => ?_, fun hd6 => ?_⟩
  · obtain ⟨τ, e1, e2, e3⟩ := Rd_set6 h (d + 1)
    have hne : ¬ nI d = 6 := by rw [show (6 : Int32) = nI 6 from rfl, nI_inj (by omega) (by omega)]; omega
    refine ⟨τ, ?_, e2, e3⟩
    rw [ybind_eq (Rd_dep h), if_pos hne, ybind_eq (Rd_dep h), nI_1, ybind_eq e1]
  · obtain ⟨τ, w, w1, w2, w3, w4⟩ := f_wrong h hr
    have he : ¬ ¬ nI d = 6 := fun q => q (by rw [hd6]; rfl)
    refine ⟨τ, ?_, w3, w4⟩
    rw [ybind_eq (Rd_dep h), if_neg he, zif_t (Rd_cl h), zb2_eq w1, bd_at, zif_t w2]
theorem f_comesUp (h : yRd σ rd tp tl ft g n p m (d + 1)) (hd : d ≤ 6) : ∃ τ, f_X3_comesUp rd σ = some ((), τ) ∧ yRd τ rd tp tl ft g n p m d ∧ Sp σ τ rd 0 0 := by
  obtain ⟨τ, e1, e2, e3⟩ := Rd_set6 h d
  refine ⟨τ, ?_, e2, e3⟩
  unfold f_X3_comesUp
  rw [ybind_eq (Rd_dep h), show (1 : Int32) = nI 1 from rfl, pk_sub (by omega), show d + 1 - 1 = d by omega, ybind_eq e1]
/-- cells that a row of steps keeps -/
theorem Rz_st {z z' : Nat} (hz : z ≤ z') (hA : ∀ q, q < zn σ → z' ≤ q → τ.1 q = σ.1 q) (hn : zn σ ≤ zn τ) : ∀ q, Rz z' σ q → Rz z τ q := fun q ⟨w1, w2, ob, w3, w4⟩ => ⟨by omega, by omega, ob, by rw [hA q w2 w1]; exact w3, w4⟩
set_option maxRecDepth 8000 in
/-- tags and comparisons are built -/
theorem f_plain (C : Cx σ o rd) (h : yRd σ rd tp tl ft g n s m d) (hT : TB g T n) (hs : s ≤ n) (ss : sk T s = s) {ra : Nat → zS → Option (((Option Nat) ⊕ Nat) × zS)} (hc : 6 * (4 + lnL T s) + 10 * (n - s) + 931 ≤ zc σ) (hz : 6 * (24 + 5 * lnL T s) + 100 * (n - s) + 12206 ≤ zz σ) :
    match pPlain T s with
    | .inl e => ∃ τ q d', (zb2 (f_X16_values σ) fun r10 σ11 => r10.bind fun a12 => (zaln σ11 a12).bind fun x13 => f_X1_atom_84 ra o (some rd) (some a12) x13 0 σ11) = some (.inr 5, τ) ∧ yRd τ rd tp tl ft g n q e d' ∧ Sp σ τ rd (6 * (4 + lnL T s) + 10 * (n - s) + 431) (6 * (24 + 5 * lnL T s) + 100 * (n - s) + 2216)
    | .inr (φ, q) => ∃ τ a m', (zb2 (f_X16_values σ) fun r10 σ11 => r10.bind fun a12 => (zaln σ11 a12).bind fun x13 => f_X1_atom_84 ra o (some rd) (some a12) x13 0 σ11) = some (.inl (some a), τ) ∧ yRd τ rd tp tl ft g n q m' d ∧ Sp σ τ rd (6 * (4 + lnL T s) + 10 * (q - s) + 2) (6 * (24 + 5 * lnL T s) + 100 * (q - s) + 7) ∧ HpP (Rz (zn σ) τ) 1 τ a φ ∧ zn σ ≤ a ∧ a < zn τ ∧ zob τ (some a) = true := by
  have hbz := h.2.2.2.2.2.2.1
  have hrb := h.2.2.2.1
  obtain ⟨h0, ta, fa, vt, vf, sa, h1, h2, h3, h4, h5, h6, h7, h8, h9, h10, h11⟩ := C.2.1
  obtain ⟨σ1, e1, e2, e3, e4, e5⟩ := cloneE (t := 4) h h8 ⟨by omega, by omega⟩
  have c1 := e4.2.2.2.2.1
  have z1 := e4.2.2.2.2.2
  have n1 := e4.2.2.2.1
  have b1 := e4.2.2.1
  have C1 := Cx_Sp C e4 hrb hbz
  have ck : zckA σ1 (some (zn σ)) 4 = true := by
    unfold zckA
    show (match σ1.1 (zn σ) with
      | some (.inl (u, _)) => Nat.beq u 4
      | _ => false) = true
    rw [e2]; rfl
  have hv : f_X16_values σ = some (some (zn σ), σ1) := by
    unfold f_X16_values
    rw [h2, zl_at, bd_at, zb2_eq e1, zif_t ck]
  have hG : Tg9 σ1 ta sa (zn σ) := ⟨fun i hi => by rw [e4.2.1]; exact h1 i hi, by show zsv σ1 14 = _; rw [e4.2.1]; exact h4, by show zsv σ1 15 = _; rw [e4.2.1]; exact h5, fun i hi => ⟨by rw [b1]; exact (h10 i hi).1, by rw [e4.1 _ (by have := (h10 i hi).1; omega) (by have := (h10 i hi).1; omega)]; exact (h10 i hi).2⟩, e2, by omega⟩
  have key := f_tagL (d := d) (ta := ta) (sa := sa) (va := zn σ) hT hs ss (ra := ra) 6 0 m σ1 NN (by omega) (NN_lt (by omega)) C1 e3 hG (by omega) (by omega)
  have head : (zb2 (f_X16_values σ) fun r10 σ11 => r10.bind fun a12 => (zaln σ11 a12).bind fun x13 => f_X1_atom_84 ra o (some rd) (some a12) x13 0 σ11) = zlp1 (f_X1_atom_84_b ra o (some rd) (some (zn σ)) 6) NN (nI 0) σ1 := by
    rw [zb2_eq hv, bd_at, ybind_eq (aln_of e2)]
    rfl
  rw [head, pPlain_eq, ss]
  generalize pTg T s 6 0 = R at key
  match R, key with
  | .inl e, key =>
    obtain ⟨τ, q, d', f1, f2, f3⟩ := key
    exact ⟨τ, q, d', f1, f2, Sp_le (Sp_t e4 f3) (by omega) (by omega)⟩
  | .inr (φ, q), key =>
    obtain ⟨τ, x, m', f1, f2, f3, f4, f5, f6⟩ := key
    exact ⟨τ, x, m', f1, f2, Sp_le (Sp_t e4 f3) (by omega) (by omega), HpP_up f4 (fun q' hq' => ⟨by have := hq'.1; omega, hq'.2⟩) ⟨fun _ _ => rfl, rfl, rfl⟩ (Nat.le_refl _), by omega, f6⟩
set_option maxRecDepth 8000 in
/-- an atom -/
theorem Elm_atom (hT : TB g T n) (hd : d ≤ 6) {kk : Nat} {ra : Nat → zS → Option (((Option Nat) ⊕ Nat) × zS)} {re : Nat → Nat → pR9 Co9} (hre : ∀ d p, p ≤ n → qB n p (re d p)) (hE : d < 6 → Elm o rd tp tl ft g T n (d + 1) kk 10 200 (fun _ => 0) (fun _ => 0) 600 3000 1600 13000 (ra o) (re (d + 1))) :
    Elm o rd tp tl ft g T n d (if d < 6 then kk + 2 else 1) 10 200 (fun _ => 0) (fun _ => 0) 600 3000 1600 13000 (f_X1_atom ra o) (pAtom T re d) := by
  intro σ p m C h hp hc hz
  have hn := hT.1.1
  have hbz := h.2.2.2.2.2.2.1
  have hrb := h.2.2.2.1
  obtain ⟨a1, a2, -, -⟩ := sk_spec hT.1 hp
  obtain ⟨b1, b2, -, -⟩ := we_spec hT.1 a2
  have ss := sk_sk hT.1 hp
  have hk1 : 1 ≤ (if d < 6 then kk + 2 else 1) := by split <;> omega
  obtain ⟨s1, s0⟩ := f_sign h hT hp (c := 40) (by omega)
  generalize hs : sk T p = s at *
  have hL : lnL T s = we T s - s := by unfold lnL; rw [ss]
  unfold f_X1_atom pAtom
  rw [ybind_eq C.1.1, bd_at, zif_t (Rd_cl h), hs]
  by_cases zP : T s = 40
  · obtain ⟨σ1, t1, t2, t3⟩ := s1 zP
    have t1' : f_X3_sign rd 40 σ = some (1, σ1) := t1
    rw [if_pos zP, zb2_eq t1', if_neg kk1, zif_t (Rd_cl t2)]
    have hlt := Tx_in hT.1 (by omega) zP
    have c1 := t3.2.2.2.2.1
    have z1 := t3.2.2.2.2.2
    have n1 := t3.2.2.2.1
    have b1' := t3.2.2.1
    have C1 := Cx_Sp C t3 hrb hbz
    have hbz1 := t2.2.2.2.2.2.2.1
    obtain ⟨G1, G0⟩ := f_goesDeeper t2 hd ⟨by omega, by omega⟩
    by_cases zd : d = 6
    · obtain ⟨τ, u1, u2, u3⟩ := G0 zd
      rw [if_pos zd]
      exact ⟨τ, _, d, by rw [zbt_er u1], u2, Sp_le (Sp_t t3 u3) (by omega) (by omega)⟩
    · obtain ⟨σ2, u1, u2, u3⟩ := G1 (by omega)
      have c2 := u3.2.2.2.2.1
      have z2 := u3.2.2.2.2.2
      have n2 := u3.2.2.2.1
      have b2' := u3.2.2.1
      have C2 := Cx_Sp C1 u3 (by omega) hbz1
      have hbz2 := u2.2.2.2.2.2.2.1
      have hreD : ∀ p, p ≤ n → qB n p (re (d + 1) p) := hre (d + 1)
      have F := Elm_cond hT (hE (by omega)) hreD ⟨by omega, by omega⟩ ⟨by omega, by omega⟩ (by omega) (by omega) σ2 (s + 1) s C2 u2 (by omega) (by omega) (by omega)
      have FB := pSo_b hT.1 hreD (show s + 1 ≤ n by omega)
      rw [if_neg zd, zbt_eq u1, zif_t C2.1.2.1]
      have hkk : (if d < 6 then kk + 2 else 1) = kk + 2 := if_pos (by omega)
      rw [hkk]
      generalize pSo T (re (d + 1)) (s + 1) = R at F FB
      match R, F, FB with
      | .inl e, F, _ =>
        obtain ⟨τ, q, d', k1, k2, k3⟩ := F
        exact ⟨τ, q, d', by rw [zbt_er k1], k2, Sp_le (Sp_t t3 (Sp_t u3 k3)) (by omega) (by omega)⟩
      | .inr (φ, q), F, FB =>
        obtain ⟨σ3, x, m3, k1, k2, k3, k4, k5, k6, k7⟩ := F
        have hq1 : s + 1 < q := FB.1
        have hq2 : q ≤ n := FB.2
        have hLq := lnL_le hT.1 hq2
        have c3 : zc σ2 ≤ zc σ3 + (60 * (q - (s + 1)) + (8 + 2 * lnL T q) - (10 - 6)) := k3.2.2.2.2.1
        have z3 : zz σ2 ≤ zz σ3 + (600 * (q - (s + 1)) + (48 + 10 * lnL T q) - (200 - 106)) := k3.2.2.2.2.2
        have n3 := k3.2.2.2.1
        have b3' := k3.2.2.1
        obtain ⟨σ4, v1, v2, v3⟩ := f_comesUp k2 hd
        have yc4 := v3.2.2.2.2.1
        have z4 := v3.2.2.2.2.2
        have n4 := v3.2.2.2.1
        have b4' := v3.2.2.1
        rw [zbt_eq k1, zif_t (Rd_cl k2), zb2_eq v1, zif_t (Rd_cl v2)]
        obtain ⟨r1, r0⟩ := f_sign v2 hT hq2 (c := 41) (by omega)
        obtain ⟨d1, d2, -, -⟩ := sk_spec hT.1 hq2
        have S4 := Sp_t t3 (Sp_t u3 (Sp_t k3 v3))
        have S4c : zc σ ≤ zc σ4 + (60 * (q - (s + 1)) + (8 + 2 * lnL T q) - (10 - 6)) := by omega
        have S4z : zz σ ≤ zz σ4 + (600 * (q - (s + 1)) + (48 + 10 * lnL T q) - (200 - 106)) := by omega
        by_cases zC : T (sk T q) = 41
        · obtain ⟨τ, w1, w2, w3⟩ := r1 zC
          have w1' : f_X3_sign rd 41 σ4 = some (1, τ) := w1
          have hLz : lnL T q = 0 := by
            unfold lnL
            have : we T (sk T q) = sk T q := run_stop (by show isL (T (sk T q)) = false; rw [zC]; rfl)
            omega
          have c5 := w3.2.2.2.2.1
          have z5 := w3.2.2.2.2.2
          have n5 := w3.2.2.2.1
          have b5' := w3.2.2.1
          have S5 := Sp_t S4 w3
          show match (if T (sk T q) = 41 then .inr (φ, sk T q + 1) else .inl (sk T q) : pR9 Co9) with
            | .inl e => _
            | .inr (φ, q) => _
          rw [if_pos zC, zb2_eq w1', if_pos kk1]
          refine ⟨τ, x, _, rfl, w2, ⟨S5.1, S5.2.1, S5.2.2.1, S5.2.2.2.1, by show zc σ ≤ zc τ + (60 * (sk T q + 1 - p) + 0 - 10); omega, by show zz σ ≤ zz τ + (600 * (sk T q + 1 - p) + 0 - 200); omega⟩, HpP_up k4 (Rz_st (by omega) (fun q' h1 h2 => ?_) (by omega)) ⟨fun q' hq' => ?_, w3.2.1.trans v3.2.1, b5'.trans b4'⟩ (Nat.le_refl _), by omega, by omega, ?_⟩
          · have := u2.2.2.2.2.1
            rw [w3.1 q' (by omega) (by omega), v3.1 q' h1 (by omega)]
          · have := u2.2.2.2.2.1
            have := k2.2.2.2.2.2.2.1
            rcases hq' with ⟨w1, w2, -⟩ | w
            · rw [w3.1 q' (by omega) (by omega), v3.1 q' (by omega) (by omega)]
            · rw [w3.1 q' (by omega) (by omega), v3.1 q' (by omega) (by omega)]
          · have := u2.2.2.2.2.1
            show (match τ.1 x with
              | some (.inr (c, _)) => Nat.blt c 22
              | _ => false) = true
            rw [w3.1 x (by omega) (by omega), v3.1 x (by omega) (by omega)]
            exact k7
        · obtain ⟨σ5, w1, w2, w3⟩ := r0 zC
          have w1' : f_X3_sign rd 41 σ4 = some (0, σ5) := w1
          have c5 := w3.2.2.2.2.1
          have z5 := w3.2.2.2.2.2
          show match (if T (sk T q) = 41 then .inr (φ, sk T q + 1) else .inl (sk T q) : pR9 Co9) with
            | .inl e => _
            | .inr (φ, q) => _
          obtain ⟨τ, y, y1, y2, y3, y4⟩ := f_wrong w2 ⟨by omega, by omega⟩
          have c6 := y4.2.2.2.2.1
          have z6 := y4.2.2.2.2.2
          have S6 := Sp_t S4 (Sp_t w3 y4)
          rw [if_neg zC, zb2_eq w1', if_neg kk0, zif_t (Rd_cl w2)]
          exact ⟨τ, _, d, by rw [zb2_eq y1, bd_at, zif_t y2], y3, S6.1, S6.2.1, S6.2.2.1, S6.2.2.2.1, by omega, by omega⟩
  · obtain ⟨σ1, t1, t2, t3⟩ := s0 zP
    have t1' : f_X3_sign rd 40 σ = some (0, σ1) := t1
    have c1 := t3.2.2.2.2.1
    have z1 := t3.2.2.2.2.2
    have n1 := t3.2.2.2.1
    have b1' := t3.2.2.1
    have C1 := Cx_Sp C t3 hrb hbz
    have hbz1 := t2.2.2.2.2.2.2.1
    obtain ⟨ca, vca, fca, hca, -⟩ := C1.2.1.1 14 (by omega)
    have hca' : zk σ1 114 = some ca := hca
    rw [if_neg zP, zb2_eq t1', if_pos rfl, ybind_eq hca', zif_t (Rd_cl t2)]
    obtain ⟨p1, p0⟩ := f_passes t2 hT a2 C1.2.1.1 (i := 14) (by omega) hca' ⟨by omega, by omega⟩
    rw [ss, ← hL] at p1 p0
    have hLn : lnL T s ≤ n - s := by omega
    by_cases zN : ywk 14 T s = true
    · obtain ⟨σ2, u1, u2, u3⟩ := p1 zN
      rw [if_pos zN, zb2_eq u1, if_neg kk1, zif_t (Rd_cl u2)]
      have hwb := wk_b hT.1 (by omega) a2 zN
      have c2 := u3.2.2.2.2.1
      have z2 := u3.2.2.2.2.2
      have n2 := u3.2.2.2.1
      have b2' := u3.2.2.1
      have C2 := Cx_Sp C1 u3 (by omega) hbz1
      have hbz2 := u2.2.2.2.2.2.2.1
      obtain ⟨G1, G0⟩ := f_goesDeeper u2 hd ⟨by omega, by omega⟩
      by_cases zd : d = 6
      · obtain ⟨τ, v1, v2, v3⟩ := G0 zd
        rw [if_pos zd]
        exact ⟨τ, _, d, by rw [zbt_er v1], v2, Sp_le (Sp_t t3 (Sp_t u3 v3)) (by omega) (by omega)⟩
      · obtain ⟨σ3, v1, v2, v3⟩ := G1 (by omega)
        have c3 := v3.2.2.2.2.1
        have z3 := v3.2.2.2.2.2
        have n3 := v3.2.2.2.1
        have b3' := v3.2.2.1
        have C3 := Cx_Sp C2 v3 (by omega) hbz2
        have hbz3 := v2.2.2.2.2.2.2.1
        have F := hE (by omega) σ3 (we T s) s C3 v2 hwb.2 (by omega) (by omega)
        have FB := hre (d + 1) (we T s) hwb.2
        rw [if_neg zd, zbt_eq v1, zif_t C3.1.2.1]
        have hkk : (if d < 6 then kk + 2 else 1) = kk + 2 := if_pos (by omega)
        rw [hkk]
        have S3 := Sp_t t3 (Sp_t u3 v3)
        generalize re (d + 1) (we T s) = R at F FB
        match R, F, FB with
        | .inl e, F, _ =>
          obtain ⟨τ, q, d', k1, k2, k3⟩ := F
          exact ⟨τ, q, d', by rw [zbt_er k1], k2, Sp_le (Sp_t S3 k3) (by omega) (by omega)⟩
        | .inr (φ, q), F, FB =>
          have hq1 : we T s < q := FB.1
          have hq2 : q ≤ n := FB.2
          obtain ⟨σ4, x, m4, k1, k2, k3, k4, k5, k6, k7⟩ := F
          have yc4 : zc σ3 ≤ zc σ4 + (60 * (q - we T s) + 0 - 10) := k3.2.2.2.2.1
          have z4 : zz σ3 ≤ zz σ4 + (600 * (q - we T s) + 0 - 200) := k3.2.2.2.2.2
          have n4 := k3.2.2.2.1
          have b4' := k3.2.2.1
          obtain ⟨σ5, w1, w2, w3⟩ := f_comesUp k2 hd
          have c5 := w3.2.2.2.2.1
          have z5 := w3.2.2.2.2.2
          have n5 := w3.2.2.2.1
          have b5' := w3.2.2.1
          have hbz5 := w2.2.2.2.2.2.2.1
          have hrn5 := w2.2.2.2.2.1
          obtain ⟨σ6, y1, y2, y3, y4, y5⟩ := new_obj (ci := 14) (fs := [.null]) w2 ⟨by omega, by show 1 ≤ _; omega⟩
          have c6 := y3.2.2.2.2.1
          have z6 : zz σ5 ≤ zz σ6 + 1 := y3.2.2.2.2.2
          have n6 := y3.2.2.2.1
          have b6' := y3.2.2.1
          have pr : pR σ6 (zn σ5) 14 0 (some x) = some (zset σ6 (zn σ5) (.inr (14, [.ref x]))) := pF_of y4 (Nat.le_of_ble_eq_true rfl) (by omega)
          have ei : f_X15_init (zn σ5) (some x) σ6 = some ((), zset σ6 (zn σ5) (.inr (14, [.ref x]))) := by
            unfold f_X15_init
            rw [ybind_eq pr]
          have hso := set_obj (z := zn σ5) (ob := .inr (14, [.ref x])) y2 (Nat.le_refl _) (by omega) w2.2.2.2.2.1 w2.2.2.2.2.2.1
          have S6 := Sp_t S3 (Sp_t k3 (Sp_t w3 y3))
          have K : ∀ q', q' < zn σ4 → q' ≠ rd → (zset σ6 (zn σ5) (.inr (14, [.ref x]))).1 q' = σ4.1 q' := fun q' h1 h2 => (if_neg (by omega)).trans ((y3.1 q' (by omega) h2).trans (w3.1 q' h1 h2))
          rw [zbt_eq k1, zif_t (Rd_cl k2), zb2_eq w1]
          have hrn3 := v2.2.2.2.2.1
          refine ⟨zset σ6 (zn σ5) (.inr (14, [.ref x])), zn σ5, m4, by rw [zb2_eq y1, zb2_eq ei], hso.1, ⟨fun q' h1 h2 => (if_neg (by omega)).trans (S6.1 q' h1 h2), S6.2.1, S6.2.2.1, S6.2.2.2.1, by show zc σ ≤ zc σ6 + (60 * (q - p) + 0 - 10); omega, by show zz σ ≤ zz σ6 + (600 * (q - p) + 0 - 200); omega⟩, ?_, by omega, by show zn σ5 < zn σ6; omega, zob_of zs_at (by omega)⟩
          have hb : HpP (Rz (zn σ) (zset σ6 (zn σ5) (.inr (14, [.ref x])))) kk (zset σ6 (zn σ5) (.inr (14, [.ref x]))) x φ := HpP_up k4 (Rz_st (by omega) (fun q' h1 h2 => K q' h1 (by omega)) (by show zn σ4 ≤ zn σ6; omega)) ⟨fun q' hq' => by
            rcases hq' with ⟨w1, w2, -⟩ | w
            · exact K q' (by omega) (by omega)
            · exact K q' (by omega) (by omega), y3.2.1.trans w3.2.1, b6'.trans b5'⟩ (Nat.le_refl _)
          exact HpP_up (Hp_not hb zs_at ⟨by omega, by show zn σ5 < zn σ6; omega, _, zs_at, fun fs e => by cases e⟩) (fun _ h => h) ⟨fun _ _ => rfl, rfl, rfl⟩ (by omega)
    · obtain ⟨σ2, u1, u2, u3⟩ := p0 zN
      rw [if_neg zN, zb2_eq u1, if_pos rfl]
      have c2 := u3.2.2.2.2.1
      have z2 := u3.2.2.2.2.2
      have n2 := u3.2.2.2.1
      have b2' := u3.2.2.1
      have C2 := Cx_Sp C1 u3 (by omega) hbz1
      have F := f_plain C2 u2 hT a2 ss (ra := ra) (by omega) (by omega)
      have FW := pTg_w hT.1 a2 ss 6 0
      have FB := pPlain_b hT.1 a2
      rw [pPlain_eq, ss] at F FB ⊢
      have S2 := Sp_t t3 u3
      generalize pTg T s 6 0 = R at F FW FB
      match R, F, FW, FB with
      | .inl e, F, _, _ =>
        obtain ⟨τ, q, d', k1, k2, k3⟩ := F
        exact ⟨τ, q, d', k1, k2, Sp_le (Sp_t S2 k3) (by omega) (by omega)⟩
      | .inr (φ, q), F, FW, FB =>
        have hq1 : s < q := FB.1
        have hqw : we T s ≤ q := FW
        obtain ⟨τ, x, m', k1, k2, k3, k4, k5, k6⟩ := F
        exact ⟨τ, x, m', k1, k2, Sp_le (Sp_t S2 k3) (by show _ ≤ 60 * (q - p) + 0 - 10; omega) (by show _ ≤ 600 * (q - p) + 0 - 200; omega), HpP_up k4 (fun q' hq' => ⟨by have := hq'.1; omega, hq'.2⟩) ⟨fun _ _ => rfl, rfl, rfl⟩ hk1, by omega, k6⟩
/-- all atoms -/
theorem Elm_atomD (hT : TB g T n) : ∀ k d, d ≤ 6 → 7 ≤ k + d → Elm o rd tp tl ft g T n d (1 + 2 * (6 - d)) 10 200 (fun _ => 0) (fun _ => 0) 600 3000 1600 13000 (f_X1_atomD k o) (pAtomD T k d) := by
  intro k
  induction k with
  | zero => intro d h1 h2; omega
  | succ k ih =>
    intro d h1 h2
    have := Elm_atom (o := o) (rd := rd) (tp := tp) (tl := tl) (ft := ft) hT h1 (kk := 1 + 2 * (6 - (d + 1))) (ra := f_X1_atomD k) (re := pAtomD T k) (pAtomD_b hT.1 k) (fun hd => ih (d + 1) (by omega) (by omega))
    have e : (if d < 6 then 1 + 2 * (6 - (d + 1)) + 2 else 1) = 1 + 2 * (6 - d) := by split <;> omega
    rw [e] at this
    exact this
end ZW9
/-! lines and laws that are built -/
/-- the object a is a line of a law: what it counts, and when -/
def HnP (P : Nat → Prop) (σ : zS) (a v : Nat) (φ : Co9) : Prop := ∀ τ sc s, AgP P σ τ → Scn τ sc s → zcl τ a = 12 ∧ gI τ a 12 0 = some (nI v) ∧ ((gR τ a 12 1 = some none ∧ φ s = true) ∨ ∃ w, gR τ a 12 1 = some (some w) ∧ f_holds 20 w (some sc) τ = some (b2 (φ s), τ))
section ZY1
variable {σ σ' σ'' τ : zS} {P P' : Nat → Prop} {o rd tp n p s m d a b q z l e cap c va : Nat} {tl ft : Int32} {g : Nat → Int32} {T : Nat → Nat} {el ta sa : Nat → Nat}
theorem HnP_up {v : Nat} {φ : Co9} (H : HnP P σ a v φ) (h1 : ∀ q, P q → P' q) (h2 : AgP P σ σ') : HnP P' σ' a v φ := fun τ sc s hA hS => H τ sc s (AgP_up h1 h2 hA) hS
theorem X13_fill {x : Int32} {r : Option Nat} (h : yRd σ rd tp tl ft g n p m d) (ha : σ.1 a = some (.inr (12, [.int 0, .null]))) (hb : zbs σ ≤ a) (han : a < zn σ) (hr : rd < a) (ht : tp < a) : ∃ τ, f_X13_init a x r σ = some ((), τ) ∧ yRd τ rd tp tl ft g n p m d ∧ τ.1 a = some (.inr (12, [.int x, va_rf r])) ∧ (∀ q, q ≠ a → τ.1 q = σ.1 q) ∧ τ.2 = σ.2 := by
  have p1 : pI σ a 12 0 x = some (zset σ a (.inr (12, [.int x, .null]))) := pI_of ha (Nat.le_of_ble_eq_true rfl) hb
  have p2 : pR (zset σ a (.inr (12, [.int x, .null]))) a 12 1 r = some (zset σ a (.inr (12, [.int x, va_rf r]))) := (pF_of (zs_at (σ := σ)) (Nat.le_of_ble_eq_true rfl) hb).trans (congrArg some zset2)
  refine ⟨zset σ a (.inr (12, [.int x, va_rf r])), ?_, (set_obj (z := a) h (Nat.le_refl a) han hr ht).1, zs_at, fun q hq => zs_no hq, rfl⟩
  unfold f_X13_init
  rw [ybind_eq p1, ybind_eq p2]
theorem lnL_wk {i : Nat} (h : ywk i T s = true) (ss : sk T s = s) : lnL T s = (zTb i).length := by
  obtain ⟨h1, -⟩ := of_decide_eq_true h
  unfold lnL
  rw [ss]; omega
set_option maxRecDepth 8000 in
/-- a line is built -/
theorem f_line (C : Cx σ o rd) (h : yRd σ rd tp tl ft g n p m 0) (hT : TB g T n) (hp : p ≤ n) (hc : 60 * (n - p) + 2000 ≤ zc σ) (hz : 600 * (n - p) + 14000 ≤ zz σ) : match pLine T p with
    | .inl e => ∃ τ q d', f_X1_lawLine o σ = some (.inr 5, τ) ∧ yRd τ rd tp tl ft g n q e d' ∧ Sp σ τ rd (60 * (n - p) + 610) (600 * (n - p) + 3200)
    | .inr ((v, φ), q) => ∃ τ a m', f_X1_lawLine o σ = some (.inl (some a), τ) ∧ yRd τ rd tp tl ft g n q m' 0 ∧ Sp σ τ rd (60 * (q - p) + 2 * lnL T q - 100) (600 * (q - p) + 10 * lnL T q - 1000) ∧ HnP (Rz (zn σ) τ) τ a v φ ∧ zn σ ≤ a ∧ a < zn τ ∧ zob τ (some a) = true ∧ sk T q = q := by
  have hn := hT.1.1
  have hbz := h.2.2.2.2.2.2.1
  have hrb := h.2.2.2.1
  obtain ⟨a1, a2, -, -⟩ := sk_spec hT.1 hp
  have ss := sk_sk hT.1 hp
  obtain ⟨b1, b2', -, -⟩ := we_spec hT.1 a2
  obtain ⟨σ1, w, vw, f, x1, x2, x3, x4, x5, x6, x7⟩ := f_word h hT hp ⟨by omega, by omega⟩
  have hLe : we T (sk T p) - sk T p = lnL T p := rfl
  have hLn := lnL_le hT.1 hp
  have c1 := x3.2.2.2.2.1
  have z1 := x3.2.2.2.2.2
  have n1 := x3.2.2.2.1
  have b1' := x3.2.2.1
  have C1 := Cx_Sp C x3 hrb hbz
  have hbz1 := x2.2.2.2.2.2.2.1
  obtain ⟨ca, vca, fca, hca, -⟩ := C1.2.1.1 12 (by omega)
  have hca' : zk σ1 112 = some ca := hca
  have eq := f_equals C1.2.1.1 (i := 12) (by omega) x4 (by omega) hca'
  have clw : zcl σ1 w = 21 := cl_of x4.1 rfl
  have hiff : (we T (sk T p) - sk T p = (zTb 12).length ∧ ∀ k, k < (zTb 12).length → f k = (zTb 12).getD k 0) ↔ ywk 12 T (sk T p) = true := by
    constructor
    · rintro ⟨q1, q2⟩
      exact decide_eq_true ⟨by omega, fun k hk => by rw [← x5 k (by omega)]; exact q2 k hk⟩
    · intro q
      obtain ⟨q1, q2⟩ := of_decide_eq_true q
      exact ⟨by omega, fun k hk => by rw [x5 k (by omega)]; exact q2 k hk⟩
  unfold f_X1_lawLine pLine
  rw [ybind_eq C.1.1, bd_at, zif_t (Rd_cl h), zb2_eq x1, ybind_eq hca', bd_at, zif_t clw, zb2_eq eq]
  by_cases zW : ywk 12 T (sk T p) = true
  · rw [if_pos (hiff.mpr zW), if_pos kk1, if_pos zW, ybind_eq C1.1.1, bd_at, zif_t (Rd_cl x2)]
    have hL5 : lnL T p = 5 := by
      have := lnL_wk zW ss
      rw [lnL_sk hT.1 hp] at this
      exact this
    have F := f_fig x2 hT b2' (ylo := 0) (hi := 100) (dg := 3) (hI := 99) (by omega) (by omega) (fun v hv => by rw [show (99 : Int32) = nI 99 from rfl, nI_leI (by omega) (by omega)]; omega) ⟨by omega, by omega⟩
    have FB := pFig_b hT.1 b2' (ylo := 0) (hi := 100) (dg := 3)
    generalize hs : we T (sk T p) = s at *
    generalize pFig 0 100 3 T s = R at F FB
    match R, F, FB with
    | .inl e, F, _ =>
      obtain ⟨τ, q, f1, f2, f3⟩ := F
      have fn : f_X3_number rd 0 99 σ1 = some (.inr 5, τ) := by
        unfold f_X3_number
        have f1' : f_X3_figures rd 0 99 3 σ1 = some (.inr 5, τ) := f1
        rw [zif_t (Rd_cl x2), zbt_er f1']
      exact ⟨τ, q, 0, by rw [zbt_er fn], f2, Sp_le (Sp_t x3 f3) (by omega) (by omega)⟩
    | .inr (v, r), F, FB =>
      obtain ⟨σ2, f1, f2, f3⟩ := F
      have hr1 : s < r := FB.1
      have hr2 : r ≤ n := FB.2
      have fn : f_X3_number rd 0 99 σ1 = some (.inl (nI v), σ2) := by
        unfold f_X3_number
        have f1' : f_X3_figures rd 0 99 3 σ1 = some (.inl (nI v), σ2) := f1
        rw [zif_t (Rd_cl x2), zbt_eq f1']
      have c2 := f3.2.2.2.2.1
      have z2 := f3.2.2.2.2.2
      have n2 := f3.2.2.2.1
      have b2'' := f3.2.2.1
      have C2 := Cx_Sp C1 f3 (by omega) hbz1
      have hbz2 := f2.2.2.2.2.2.2.1
      obtain ⟨σ3, y1, y2, y3, y4, y5⟩ := new_obj (ci := 12) (fs := [.int 0, .null]) f2 ⟨by omega, by show 2 ≤ _; omega⟩
      have c3 := y3.2.2.2.2.1
      have z3 : zz σ2 ≤ zz σ3 + 2 := y3.2.2.2.2.2
      have n3 := y3.2.2.2.1
      have b3'' := y3.2.2.1
      have C3 := Cx_Sp C2 y3 (by omega) hbz2
      have hbz3 := y2.2.2.2.2.2.2.1
      obtain ⟨cb, vcb, fcb, hcb, -⟩ := C3.2.1.1 13 (by omega)
      have hcb' : zk σ3 113 = some cb := hcb
      obtain ⟨p1, p0⟩ := f_passes y2 hT hr2 C3.2.1.1 (i := 13) (by omega) hcb' ⟨by omega, by omega⟩
      obtain ⟨d1, d2, -, -⟩ := sk_spec hT.1 hr2
      have sr := sk_sk hT.1 hr2
      have hLr : we T (sk T r) - sk T r = lnL T r := rfl
      rw [hLr] at p1 p0
      have hLrn := lnL_le hT.1 hr2
      have S3 := Sp_t x3 (Sp_t f3 y3)
      have S3c : zc σ ≤ zc σ3 + 10 := by omega
      have S3z : zz σ ≤ zz σ3 + 51 := by omega
      rw [zbt_eq fn, zb2_eq y1, ybind_eq C3.1.1, ybind_eq hcb', bd_at, zif_t (Rd_cl y2)]
      have hrn2 := f2.2.2.2.2.1
      have htn2 := f2.2.2.2.2.2.1
      -- the end of it
      have FIN : ∀ (ro : Option Nat) (φ : Co9) (σ5 : zS) (q m5 ca cb : Nat), yRd σ5 rd tp tl ft g n q m5 0 → Sp σ3 σ5 rd ca cb → p ≤ q → 10 + ca ≤ 60 * (q - p) + 2 * lnL T q - 100 → 51 + cb ≤ 600 * (q - p) + 10 * lnL T q - 1000 → sk T q = q → ((ro = none ∧ φ = fun _ => true) ∨ ∃ w, ro = some w ∧ HpP (Rz (zn σ3) σ5) 15 σ5 w φ) →
          ∃ τ a m', f_X1_lawLine_61 o (some (zn σ2)) (some (zn σ2)) (nI v) ro σ5 = some (.inl (some a), τ) ∧ yRd τ rd tp tl ft g n q m' 0 ∧ Sp σ τ rd (60 * (q - p) + 2 * lnL T q - 100) (600 * (q - p) + 10 * lnL T q - 1000) ∧ HnP (Rz (zn σ) τ) τ a v φ ∧ zn σ ≤ a ∧ a < zn τ ∧ zob τ (some a) = true ∧ sk T q = q := by
        intro ro φ σ5 q m5 ca cb R5 S5 hpq hca hcb hsq hro
        have n5 := S5.2.2.2.1
        have b5'' := S5.2.2.1
        have c5 := S5.2.2.2.2.1
        have z5 := S5.2.2.2.2.2
        have tob : σ5.1 (zn σ2) = some (.inr (12, [.int 0, .null])) := (S5.1 _ (by omega) (by omega)).trans y4
        obtain ⟨τ, j1, j2, j3, j4, j5⟩ := X13_fill (x := nI v) (r := ro) R5 tob (by omega) (by omega) (by omega) (by omega)
        have en : zn τ = zn σ5 := congrArg (fun w => w.2.2.1) j5
        have ec : zc τ = zc σ5 := congrArg (fun w => w.2.2.2.1) j5
        have ez : zz τ = zz σ5 := congrArg (fun w => w.2.2.2.2) j5
        have ev : zsv τ = zsv σ5 := congrArg (fun w => w.1) j5
        have eb : zbs τ = zbs σ5 := congrArg (fun w => w.2.1) j5
        have S9 := Sp_t S3 S5
        refine ⟨τ, zn σ2, m5, ?_, j2, ⟨fun q' h1 h2 => (j4 q' (by omega)).trans (S9.1 q' h1 h2), ev.trans S9.2.1, eb.trans S9.2.2.1, by omega, by omega, by omega⟩, ?_, by omega, by omega, zob_of j3 (by omega), hsq⟩
        · unfold f_X1_lawLine_61
          rw [bd_at, zb2_eq j1]
        · intro τ' sc s' hA hS
          have ha' : τ'.1 (zn σ2) = some (.inr (12, [.int (nI v), va_rf ro])) := (hA.1 _ (Or.inl ⟨by omega, by omega, _, j3, fun fs e => by cases e⟩)).trans j3
          refine ⟨cl_of ha' rfl, gI_of ha' (k := 0) rfl rfl, ?_⟩
          have hg : gR τ' (zn σ2) 12 1 = some ro := gR_of ha' (k := 1) rfl rfl
          rcases hro with ⟨h1, h2⟩ | ⟨w, h1, h2⟩
          · exact Or.inl ⟨by rw [hg, h1], by rw [h2]⟩
          · refine Or.inr ⟨w, by rw [hg, h1], ?_⟩
            exact (h2 τ' sc s' 20 (AgP_up (Rz_st (z := zn σ) (by omega) (fun q' h1 h2 => j4 q' (by omega)) (by omega)) ⟨fun q' hq' => by
              rcases hq' with ⟨w1, w2, -⟩ | w
              · exact j4 q' (by omega)
              · exact j4 q' (by omega), ev, eb⟩ hA) hS (by omega)).2
      show match (if ywk 13 T (sk T r) = true then (match pSo T (pAtomD T 9 0) (we T (sk T r)) with
        | .inl e => .inl e
        | .inr (g, r) => .inr ((v, g), r)) else .inr ((v, fun _ => true), sk T r) : pR9 (Nat × Co9)) with
        | .inl e => _
        | .inr ((v, φ), q) => _
      by_cases zI : ywk 13 T (sk T r) = true
      · obtain ⟨σ4, t1, t2, t3⟩ := p1 zI
        have hwb := wk_b hT.1 (by omega) d2 zI
        have hL2 : lnL T r = 2 := by
          have := lnL_wk zI sr
          rw [lnL_sk hT.1 hr2] at this
          exact this
        have yc4 := t3.2.2.2.2.1
        have z4 := t3.2.2.2.2.2
        have n4 := t3.2.2.2.1
        have b4'' := t3.2.2.1
        have C4 := Cx_Sp C3 t3 (by omega) hbz3
        have FC := Elm_cond hT (Elm_atomD (o := o) (rd := rd) (tp := tp) (tl := tl) (ft := ft) hT 9 0 (by omega) (by omega)) (pAtomD_b hT.1 9 0) ⟨by omega, by omega⟩ ⟨by omega, by omega⟩ (by omega) (by omega) σ4 (we T (sk T r)) (sk T r) C4 t2 hwb.2 (by omega) (by omega)
        have FCB := pSo_b hT.1 (pAtomD_b hT.1 9 0) hwb.2
        rw [if_pos zI, zb2_eq t1, if_neg kk1, zif_t C4.1.2.1]
        have FS : match pSo T (pAtomD T 9 0) (we T (sk T r)) with
          | .inl _ => True
          | .inr (_, q) => sk T q = q := by
          rw [pSo_eq (φs := fun _ _ => true)]
          unfold pRk
          have hv := pEv_b hT.1 (pAtomD_b hT.1 9 0) hwb.2
          generalize pEv T (pAtomD T 9 0) (we T (sk T r)) = R1 at hv
          match R1, hv with
          | .inl _, _ => exact True.intro
          | .inr (g1, q1), hv =>
            have E : ∀ k f p, p ≤ n → match pLp false 16 T (pEv T (pAtomD T 9 0)) k f p with
              | .inl _ => True
              | .inr (_, q) => sk T q = q := by
              intro k
              induction k with
              | zero => intro f p hp; exact sk_sk hT.1 hp
              | succ k ih =>
                intro f p hp
                obtain ⟨e1, e2, -, -⟩ := sk_spec hT.1 hp
                unfold pLp
                by_cases y : ywk 16 T (sk T p) = true
                · rw [if_pos y]
                  have hwy := wk_b hT.1 (by omega) e2 y
                  have hv2 := pEv_b hT.1 (pAtomD_b hT.1 9 0) hwy.2
                  generalize pEv T (pAtomD T 9 0) (we T (sk T p)) = R2 at hv2
                  match R2, hv2 with
                  | .inl _, _ => exact True.intro
                  | .inr (g2, q2), hv2 => exact ih _ q2 hv2.2
                · rw [if_neg y]
                  exact sk_sk hT.1 hp
            exact E 400 _ q1 hv.2
        generalize pSo T (pAtomD T 9 0) (we T (sk T r)) = R9 at FC FCB FS
        match R9, FC, FCB, FS with
        | .inl e, FC, _, _ =>
          obtain ⟨τ, q, d', k1, k2, k3⟩ := FC
          have k3c := k3.2.2.2.2.1
          have k3z := k3.2.2.2.2.2
          have S9 := Sp_t S3 (Sp_t t3 k3)
          exact ⟨τ, q, d', by rw [zbt_er k1], k2, S9.1, S9.2.1, S9.2.2.1, S9.2.2.2.1, by omega, by omega⟩
        | .inr (φ, q), FC, FCB, FS =>
          obtain ⟨σ5, x, m5, k1, k2, k3, k4, k5, k6, k7⟩ := FC
          have hq1 : we T (sk T r) < q := FCB.1
          have hsq : sk T q = q := FS
          rw [zbt_eq k1]
          have n5 := k3.2.2.2.1
          have hR4 := t2.2.2.2.2.1
          exact FIN (some x) φ σ5 q m5 _ _ k2 (Sp_t t3 k3) (by omega) (by show 10 + (4 + lnL T r + (60 * (q - we T (sk T r)) + (8 + 2 * lnL T q) - (10 - 6))) ≤ _; omega) (by show 51 + (24 + 5 * lnL T r + (600 * (q - we T (sk T r)) + (48 + 10 * lnL T q) - (200 - 106))) ≤ _; omega) hsq (Or.inr ⟨x, rfl, HpP_up k4 (fun q' hq' => ⟨by have := hq'.1; omega, hq'.2⟩) ⟨fun _ _ => rfl, rfl, rfl⟩ (by omega)⟩)
      · obtain ⟨σ4, t1, t2, t3⟩ := p0 zI
        rw [if_neg zI, zb2_eq t1, if_pos rfl]
        have hLs := lnL_sk hT.1 hr2
        exact FIN none (fun _ => true) σ4 (sk T r) _ _ _ t2 t3 (by omega) (by rw [hLs]; omega) (by rw [hLs]; omega) sr (Or.inl ⟨rfl, rfl⟩)
  · obtain ⟨τ, y, y1, y2, y3, y4⟩ := f_wrong x2 ⟨by omega, by omega⟩
    rw [if_neg (fun q => zW (hiff.mp q)), if_neg kk0, if_neg zW, ybind_eq C1.1.1, bd_at, zif_t (Rd_cl x2)]
    exact ⟨τ, _, 0, by rw [zb2_eq y1, bd_at, zif_t y2], y3, Sp_le (Sp_t x3 y4) (by omega) (by omega)⟩
end ZY1
