/-! pure land: G1 G2 G3 G4 (see wip/D-94657w/pl) -/
section ZPN
variable {σ σ' τ : zS} {A A' : cA} {N N' : Nat → Nat} {U U' U'' : cU} {S : Nat → Prop} {c : Nat} {M M' : mS}
/-- only the plan's rows of states and its days have changed -/
def SW (U U' : cU) : Prop := (∀ t, t ≠ 8 → t ≠ 9 → U'.2 t = U.2 t) ∧ ∀ k, k < 24 → U'.1 k = U.1 k
theorem SW_r : SW U U := ⟨fun _ _ _ => rfl, fun _ _ => rfl⟩
theorem SW_t (h : SW U U') (h' : SW U' U'') : SW U U'' := ⟨fun t a b => (h'.1 t a b).trans (h.1 t a b), fun k a => (h'.2 k a).trans (h.2 k a)⟩
theorem SW_set {k : Nat} {x : Int32} (h : 24 ≤ k) : SW U (uset U k x) := ⟨fun _ _ _ => rfl, fun j _ => if_neg (by omega)⟩
def utb (U : cU) (t : Nat) (f : Nat → Int32) : cU := (U.1, fun q => if q = t then f else U.2 q)
theorem SW_tb {t : Nat} {f : Nat → Int32} (h : t = 8 ∨ t = 9) : SW U (utb U t f) := ⟨fun q a b => if_neg (by omega), fun _ _ => rfl⟩
theorem SW_PL {K b L : Nat} {w : Nat → Nat} (h : SW U U') (P : yPL U K b L w) : yPL U' K b L w := ⟨(h.2 21 (by omega)).trans P.1, (h.2 22 (by omega)).trans P.2.1, (h.2 23 (by omega)).trans P.2.2.1, fun p hp => by rw [h.1 7 (by omega) (by omega)]; exact P.2.2.2 p hp⟩
theorem SW_RI (h : SW U U') (I : RI c N U) : RI c N U' := RI_scr I (fun k hk _ => h.2 k (by omega)) (fun t _ => h.1 t (by omega) (by omega))
theorem SW_RM {m : Nat → Int32} (h : SW U U') (R : yRM N U m) : yRM N U' m := RM_scr R (fun k hk => h.2 k (by omega)) (fun t _ => h.1 t (by omega) (by omega))
theorem SW_KU (h : SW U U') : KU U U' := ⟨fun k _ h2 => h.2 k (by omega), h.1 10 (by omega) (by omega), h.1 3 (by omega) (by omega)⟩
theorem utb_tab {t k : Nat} {f : Nat → Int32} {x : Int32} : utab (utb U t f) t k x = utb U t (upd f k x) := by
  refine Prod.ext rfl (funext fun q => ?_)
  show (if q = t then upd (if t = t then f else U.2 t) k x else if q = t then f else U.2 q) = if q = t then upd f k x else U.2 q
  by_cases h : q = t
  · rw [if_pos h, if_pos h, if_pos rfl]
  · rw [if_neg h, if_neg h, if_neg h]
theorem utb_id {t : Nat} : utb U t (U.2 t) = U := by
  refine Prod.ext rfl (funext fun q => ?_)
  show (if q = t then U.2 t else U.2 q) = U.2 q
  by_cases h : q = t
  · rw [if_pos h, h]
  · rw [if_neg h]
theorem utb_utb {t : Nat} {f g : Nat → Int32} : utb (utb U t f) t g = utb U t g := by
  refine Prod.ext rfl (funext fun q => ?_)
  show (if q = t then g else if q = t then f else U.2 q) = if q = t then g else U.2 q
  by_cases h : q = t
  · rw [if_pos h, if_pos h]
  · rw [if_neg h, if_neg h, if_neg h]
theorem kP24 (hA : cOKN σ A N) {x : Int32} : pI (pU σ A N U) (aad A 4) 4 7 x = some (pU σ A N (uset U 24 x)) := cpF hA (r := 4) (ci := 4) (V := (U.1, U.2, N)) (V' := ((uset U 24 x).1, (uset U 24 x).2, N)) rfl (Nat.le_of_ble_eq_true rfl) rfl (vso_24 (V := (U.1, U.2, N)) (x := x))
theorem yc4 : cCt A (U.1, U.2, N) 4 = some (.inr (4, [.ref (aad A 7), .ref (aad A 8), .ref (aad A (9 + uw U)), .ref (aad A (10 - uw U)), .int (U.1 21), .int (U.1 22), .int (U.1 23), .int (U.1 24), .ref (aad A 0)])) := rfl
/-- the two rows change places -/
def usw (U : cU) : cU := uset U 25 (if U.1 25 = 0 then 1 else 0)
theorem usw_uw : uw (usw U) = 1 - uw U := by
  unfold uw usw
  show (if (if 25 = 25 then (if U.1 25 = 0 then (1 : Int32) else 0) else U.1 25) = 0 then 0 else 1) = 1 - (if U.1 25 = 0 then 0 else 1)
  rw [if_pos rfl]
  by_cases h : U.1 25 = 0
  · rw [if_pos h, if_pos h]; rfl
  · rw [if_neg h, if_neg h]; rfl
theorem kSwap (hA : cOKN σ A N) : ∃ σ8, pR (pU σ A N U) (aad A 4) 4 3 (some (aad A (9 + uw U))) = some σ8 ∧ pR σ8 (aad A 4) 4 2 (some (aad A (10 - uw U))) = some (pU σ A N (usw U)) := by
  have h1 : (pU σ A N U).1 (aad A 4) = some (.inr (4, [.ref (aad A 7), .ref (aad A 8), .ref (aad A (9 + uw U)), .ref (aad A (10 - uw U)), .int (U.1 21), .int (U.1 22), .int (U.1 23), .int (U.1 24), .ref (aad A 0)])) := (pC_ad (V := (U.1, U.2, N)) hA 4).trans yc4
  have hb : zbs (pU σ A N U) ≤ aad A 4 := hA.2.1 4
  refine ⟨_, pF_of h1 (Nat.le_of_ble_eq_true rfl) hb, ?_⟩
  refine (pF_of (zs_at (σ := pU σ A N U)) (Nat.le_of_ble_eq_true rfl) hb).trans ?_
  rw [zset2]
  refine congrArg some (czset hA (r := 4) (V := (U.1, U.2, N)) (V' := ((usw U).1, (usw U).2, N)) ?_ (vso_25 (V := (U.1, U.2, N)) (x := if U.1 25 = 0 then 1 else 0)))
  show cCt A ((usw U).1, (usw U).2, N) 4 = _
  rw [yc4, usw_uw]
  have hw : uw U = 0 ∨ uw U = 1 := uw01 U
  rcases hw with e | e <;> rw [e] <;> rfl
/-- the row of now is filled with zeros -/
theorem F_fill (hA : cOKN σ A N) : ∃ f, (∀ q, q < 4096 → f q = 0) ∧ f_J7_fill (some (aad A (9 + uw U))) 0 (pU σ A N U) = some ((), pU σ A N (utb U (8 + uw U) f)) := by
  let F : Nat → Nat → Int32 := fun i q => if q < i then 0 else U.2 (8 + uw U) q
  refine ⟨F 4096, fun q hq => if_pos hq, ?_⟩
  have hcon : cCt A (U.1, U.2, N) (9 + uw U) = some (.inl (0, 4096, .inl (U.2 (8 + uw U)))) := cnow (U := U) (U0 := U)
  have haln : zaln (pU σ A N U) (aad A (9 + uw U)) = some (nI 4096) := aln_of ((pC_ad (V := (U.1, U.2, N)) hA (9 + uw U)).trans hcon)
  have e0 : U = utb U (8 + uw U) (F 0) := by
    have : F 0 = U.2 (8 + uw U) := funext fun q => if_neg (Nat.not_lt_zero q)
    rw [this, utb_id]
  have start : f_J7_fill_5 (some (aad A (9 + uw U))) 0 (nI 4096) 0 (pU σ A N U) = some ((), pU σ A N (utb U (8 + uw U) (F 4096))) := by
    unfold f_J7_fill_5
    refine (congrArg (fun z => zlp1 (f_J7_fill_5_b (some (aad A (9 + uw U))) 0 (nI 4096)) NN 0 (pU σ A N z)) e0).trans ?_
    refine zlp1_it (n := 4096) (fun i => nI i) (fun i => pU σ A N (utb U (8 + uw U) (F i))) (fun i rf hi => ?_) (fun rf => ?_) NN (NN_lt (by omega))
    · unfold f_J7_fill_5_b
      have hs : uSt (utb U (8 + uw U) (F i)) (8 + uw U) 4096 (nI i) 0 = some (utb U (8 + uw U) (F (i + 1))) := by
        rw [uSt_at hi (by omega), utb_tab]
        have : upd (F i) i 0 = F (i + 1) := by
          funext q
          show (if q = i then 0 else if q < i then 0 else U.2 (8 + uw U) q) = if q < i + 1 then 0 else U.2 (8 + uw U) q
          by_cases h : q = i
          · subst h; rw [if_pos rfl, if_pos (by omega)]
          · by_cases h2 : q < i
            · rw [if_neg h, if_pos h2, if_pos (by omega)]
            · rw [if_neg h, if_neg h2, if_neg (by omega)]
        rw [this]
      rw [nleF hi (by omega), bd_at, ybind_eq (csU_now (U0 := U) hA hs), zl_at, nI_1]
    · unfold f_J7_fill_5_b
      rw [if_pos (Int32.le_refl _)]
  unfold f_J7_fill
  rw [bd_at, ybind_eq haln]
  exact start
/-- the rows of a day -/
theorem F_rows {K b L r j : Nat} {w : Nat → Nat} (hA : cOKN σ A N) (P : yPL U K b L w) (hK : K ≤ 6) (hr : b = r + 1) (hb : b ≤ 4) (hL : L ≤ 6) (hw : ∀ i, i < K → w i ≤ 9801) (hj : j ≤ 60) (hn : ∀ q, q < b ^ K → U.2 (9 - uw U) q = nI (vv b r K L w j q)) (rec19 : zS → Option (Int32 × zS)) (dd : Int32) :
    ∃ f, (∀ q, q < b ^ K → f q = nI (vv b r K L w (j + 1) q)) ∧ f_X5_fewest_48 (aad A 4) rec19 dd 0 (pU σ A N U) = (if nI (vv b r K L w (j + 1) 0) < dd then rec19 (pU σ A N (uset (utb U (8 + uw U) f) 24 (U.1 24 + 1))) else some (U.1 24, pU σ A N (utb U (8 + uw U) f))) := by
  have hbK := bpow hb hK
  have hp : 0 < b ^ K := Nat.pow_pos (by omega)
  let F : Nat → Nat → Int32 := fun i q => if q < i then nI (vv b r K L w (j + 1) q) else U.2 (8 + uw U) q
  refine ⟨F (b ^ K), fun q hq => if_pos hq, ?_⟩
  have e0 : U = utb U (8 + uw U) (F 0) := by
    have : F 0 = U.2 (8 + uw U) := funext fun q => if_neg (Nat.not_lt_zero q)
    rw [this, utb_id]
  have hw01 := uw01 U
  have uwt : ∀ f, uw (utb U (8 + uw U) f) = uw U := fun _ => rfl
  have PLt : ∀ f, yPL (utb U (8 + uw U) f) K b L w := fun f => SW_PL (SW_tb (by omega)) P
  have hnt : ∀ f, ∀ q, q < b ^ K → (utb U (8 + uw U) f).2 (9 - uw (utb U (8 + uw U) f)) q = nI (vv b r K L w j q) := fun f q hq => by
    rw [uwt]
    show (if 9 - uw U = 8 + uw U then f else U.2 (9 - uw U)) q = _
    rw [if_neg (by omega)]
    exact hn q hq
  have e24 : ∀ f, (utb U (8 + uw U) f).1 24 = U.1 24 := fun _ => rfl
  unfold f_X5_fewest_48
  refine (congrArg (fun z => zlp1 (f_X5_fewest_48_b (aad A 4) rec19 dd) NN 0 (pU σ A N z)) e0).trans ?_
  refine zlp1_it (n := b ^ K) (fun i => nI i) (fun i => pU σ A N (utb U (8 + uw U) (F i))) (fun i rf hi => ?_) (fun rf => ?_) NN (NN_lt (by omega))
  · unfold f_X5_fewest_48_b
    have hst := e_X5_states hA (h_states (N := N) (PLt (F i)) hK hb)
    have hmo := e_X5_most hA (h_most (N := N) (PLt (F i)) hK hr hb hL hw (by omega) hi (hnt (F i)))
    have hs : uSt (utb U (8 + uw U) (F i)) (8 + uw U) 4096 (nI i) (nI (vv b r K L w (j + 1) i)) = some (utb U (8 + uw U) (F (i + 1))) := by
      rw [uSt_at (by omega) (by omega), utb_tab]
      have : upd (F i) i (nI (vv b r K L w (j + 1) i)) = F (i + 1) := by
        funext q
        show (if q = i then nI (vv b r K L w (j + 1) i) else if q < i then nI (vv b r K L w (j + 1) q) else U.2 (8 + uw U) q) = if q < i + 1 then nI (vv b r K L w (j + 1) q) else U.2 (8 + uw U) q
        by_cases h : q = i
        · subst h; rw [if_pos rfl, if_pos (by omega)]
        · by_cases h2 : q < i
          · rw [if_neg h, if_pos h2, if_pos (by omega)]
          · rw [if_neg h, if_neg h2, if_neg (by omega)]
      rw [this]
    have hnow : gR (pU σ A N (utb U (8 + uw U) (F i))) (aad A 4) 4 2 = some (some (aad A (9 + uw U))) := kR hA (r := 4) (ci := 4) rfl rfl rfl
    rw [zif_t (ykC hA (r := 4) (ci := 4) rfl rfl), zb2_eq hst, nleF hi (by omega), ybind_eq hnow, zif_t (ykC hA (r := 4) (ci := 4) rfl rfl), zb2_eq hmo, bd_at, ybind_eq (csU_now (U0 := U) hA hs), zl_at, nI_1]
  · unfold f_X5_fewest_48_b
    have hst := e_X5_states hA (h_states (N := N) (PLt (F (b ^ K))) hK hb)
    have hnow : gR (pU σ A N (utb U (8 + uw U) (F (b ^ K)))) (aad A 4) 4 2 = some (some (aad A (9 + uw U))) := kR hA (r := 4) (ci := 4) rfl rfl rfl
    have hl : lI (pU σ A N (utb U (8 + uw U) (F (b ^ K)))) (aad A (9 + uw U)) 0 0 = some (nI (vv b r K L w (j + 1) 0)) := by
      refine clI (V := ((utb U (8 + uw U) (F (b ^ K))).1, (utb U (8 + uw U) (F (b ^ K))).2, N)) (r := 9 + uw U) (t := 8 + uw U) (n := 4096) hA (cnow (U := utb U (8 + uw U) (F (b ^ K))) (U0 := U)) rfl ?_
      unfold vL
      rw [if_neg (by decide)]
      show some ((if 8 + uw U = 8 + uw U then F (b ^ K) else U.2 (8 + uw U)) 0) = _
      rw [if_pos rfl]
      exact congrArg some (if_pos hp)
    rw [zif_t (ykC hA (r := 4) (ci := 4) rfl rfl), zb2_eq hst, if_pos (Int32.le_refl _), ybind_eq hnow, bd_at, ybind_eq hl]
    by_cases z : nI (vv b r K L w (j + 1) 0) < dd
    · rw [if_pos z, if_pos z, ybind_eq (ykI hA (r := 4) (ci := 4) (v := U.1 24) rfl rfl rfl), ybind_eq (kP24 hA)]
    · rw [if_neg z, if_neg z, ybind_eq (ykI hA (r := 4) (ci := 4) (v := U.1 24) rfl rfl rfl)]
end ZPN
section ZPO
variable {σ σ' τ : zS} {A A' : cA} {N N' : Nat → Nat} {U U' U'' : cU} {S : Nat → Prop} {c : Nat} {M M' : mS}
def Few (b r K L : Nat) (w : Nat → Nat) (dd : Nat) (x : Int32) (U' : cU) : Prop :=
  (x = -1 ∧ ∀ i, i < 61 → vv b r K L w i 0 < dd) ∨ ∃ J, J < 61 ∧ dd ≤ vv b r K L w J 0 ∧ (∀ i, i < J → vv b r K L w i 0 < dd) ∧ x = nI J ∧ (1 ≤ J → ∀ q, q < b ^ K → U'.2 (9 - uw U') q = nI (vv b r K L w (J - 1) q))
theorem F_days {K b L r dd : Nat} {w : Nat → Nat} (hA : cOKN σ A N) (hK : K ≤ 6) (hr : b = r + 1) (hb : b ≤ 4) (hL : L ≤ 6) (hw : ∀ i, i < K → w i ≤ 9801) (hdd : dd < 2 ^ 31) :
    ∀ n d k (U : cU), d + n = 61 → 1 ≤ d → n < k → yPL U K b L w → U.1 24 = nI d → (∀ q, q < b ^ K → U.2 (8 + uw U) q = nI (vv b r K L w (d - 1) q)) → (∀ i, i < d → vv b r K L w i 0 < dd) →
      ∃ x U', zlp0 (f_X5_fewest_19_b (aad A 4) (nI dd)) k (pU σ A N U) = some (x, pU σ A N U') ∧ SW U U' ∧ Few b r K L w dd x U' := by
  have hV : ∀ j, j ≤ 62 → vv b r K L w j 0 < 2 ^ 31 := fun j hj => by
    have := vv_le (b := b) (r := r) (L := L) hw j 0
    have h2 : 9801 * K * j ≤ 9801 * 6 * 62 := Nat.mul_le_mul (Nat.mul_le_mul_left _ hK) hj
    omega
  intro n
  induction n with
  | zero =>
    intro d k U hd h1 hk P e24 hn hlt
    obtain ⟨k, rfl⟩ : ∃ k', k = k' + 1 := ⟨k - 1, by omega⟩
    obtain rfl : d = 61 := by omega
    refine ⟨-1, U, ?_, SW_r, Or.inl ⟨rfl, hlt⟩⟩
    rw [zlp0_s]
    unfold f_X5_fewest_19_b
    rw [ybind_eq (ykI hA (r := 4) (ci := 4) (v := U.1 24) rfl rfl rfl), e24, if_pos (show (60 : Int32) < nI 61 by decide)]
  | succ n ih =>
    intro d k U hd h1 hk P e24 hn hlt
    obtain ⟨k, rfl⟩ : ∃ k', k = k' + 1 := ⟨k - 1, by omega⟩
    have sw1 : SW U (usw U) := SW_set (by omega)
    have uw1 : uw (usw U) = 1 - uw U := usw_uw
    have hw01 := uw01 U
    obtain ⟨f, f1, f2⟩ := F_rows (U := usw U) (j := d - 1) hA (SW_PL sw1 P) hK hr hb hL hw (by omega) (fun q hq => by
      rw [uw1, show 9 - (1 - uw U) = 8 + uw U by omega]
      exact hn q hq) (zlp0 (f_X5_fewest_19_b (aad A 4) (nI dd)) k) (nI dd)
    rw [show d - 1 + 1 = d by omega] at f1 f2
    have e24' : (usw U).1 24 = nI d := e24
    rw [e24'] at f2
    obtain ⟨σ8, w1, w2⟩ := kSwap (σ := σ) (U := U) hA
    have step : zlp0 (f_X5_fewest_19_b (aad A 4) (nI dd)) (k + 1) (pU σ A N U) = f_X5_fewest_48 (aad A 4) (zlp0 (f_X5_fewest_19_b (aad A 4) (nI dd)) k) (nI dd) 0 (pU σ A N (usw U)) := by
      rw [zlp0_s]
      generalize zlp0 (f_X5_fewest_19_b (aad A 4) (nI dd)) k = rf
      unfold f_X5_fewest_19_b
      rw [ybind_eq (ykI hA (r := 4) (ci := 4) (v := U.1 24) rfl rfl rfl), e24, if_neg (show ¬ (60 : Int32) < nI d from nI_nlt (a := 60) (by omega) (by omega)), ybind_eq (kR hA (r := 4) (ci := 4) (v := some (aad A (10 - uw U))) rfl rfl rfl), ybind_eq (kR hA (r := 4) (ci := 4) (v := some (aad A (9 + uw U))) rfl rfl rfl), ybind_eq w1, ybind_eq w2]
    rw [step, f2]
    by_cases z : vv b r K L w d 0 < dd
    · rw [if_pos (nI_lt z hdd), nI_1]
      have swt : SW (usw U) (uset (utb (usw U) (8 + uw (usw U)) f) 24 (nI (d + 1))) := SW_t (SW_tb (by omega)) (SW_set (by omega))
      obtain ⟨x, U', g1, g2, g3⟩ := ih (d + 1) k (uset (utb (usw U) (8 + uw (usw U)) f) 24 (nI (d + 1))) (by omega) (by omega) (by omega) (SW_PL (SW_t sw1 swt) P) rfl (fun q hq => by
        show (if 8 + uw (usw U) = 8 + uw (usw U) then f else (usw U).2 (8 + uw (usw U))) q = _
        rw [if_pos rfl]
        exact f1 q hq) (fun i hi => by
        by_cases y : i = d
        · subst y; exact z
        · exact hlt i (by omega))
      exact ⟨x, U', g1, SW_t (SW_t sw1 swt) g2, g3⟩
    · rw [if_neg (nI_nlt (by omega) (hV d (by omega)))]
      refine ⟨nI d, _, rfl, SW_t sw1 (SW_tb (by omega)), Or.inr ⟨d, by omega, by omega, hlt, rfl, fun _ q hq => ?_⟩⟩
      have e1 : uw (utb (usw U) (8 + uw (usw U)) f) = uw (usw U) := rfl
      rw [e1]
      show (if 9 - uw (usw U) = 8 + uw (usw U) then f else (usw U).2 (9 - uw (usw U))) q = _
      rw [if_neg (by omega), uw1, show 9 - (1 - uw U) = 8 + uw U by omega]
      exact hn q hq
theorem F_fewest {K b L r dd : Nat} {w : Nat → Nat} (hA : cOKN σ A N) (P : yPL U K b L w) (hK : K ≤ 6) (hr : b = r + 1) (hb : b ≤ 4) (hL : L ≤ 6) (hw : ∀ i, i < K → w i ≤ 9801) (hdd : dd < 2 ^ 31) : ∃ x U', f_X5_fewest (aad A 4) (nI dd) (pU σ A N U) = some (x, pU σ A N U') ∧ SW U U' ∧ Few b r K L w dd x U' := by
  have hbK := bpow hb hK
  have hw01 := uw01 U
  obtain ⟨f, f1, f2⟩ := F_fill (σ := σ) (U := U) hA
  have sw1 : SW U (utb U (8 + uw U) f) := SW_tb (by omega)
  have hstart : f_X5_fewest (aad A 4) (nI dd) (pU σ A N U) = (if ¬ nI dd = 0 then f_X5_fewest_19 (aad A 4) (nI dd) (pU σ A N (uset (utb U (8 + uw U) f) 24 1)) else some ((0 : Int32), pU σ A N (utb U (8 + uw U) f))) := by
    unfold f_X5_fewest
    rw [ybind_eq (kR hA (r := 4) (ci := 4) (v := some (aad A (9 + uw U))) rfl rfl rfl), zb2_eq f2]
    by_cases z : ¬ nI dd = 0
    · rw [if_pos z, if_pos z, ybind_eq (kP24 hA)]
    · rw [if_neg z, if_neg z]
  rw [hstart]
  by_cases z : dd = 0
  · subst z
    rw [if_neg (fun q => q (show nI 0 = 0 from rfl))]
    exact ⟨0, _, rfl, sw1, Or.inr ⟨0, by omega, Nat.zero_le _, fun i hi => absurd hi (Nat.not_lt_zero i), rfl, fun h => absurd h (by omega)⟩⟩
  · rw [if_pos (nI_ne0 (by omega) hdd)]
    obtain ⟨x, U', g1, g2, g3⟩ := F_days hA hK hr hb hL hw hdd 60 1 NN (uset (utb U (8 + uw U) f) 24 1) (by omega) (by omega) (NN_lt (by omega)) (SW_PL (SW_t sw1 (SW_set (by omega))) P) rfl (fun q hq => by
      show (if 8 + uw U = 8 + uw U then f else U.2 (8 + uw U)) q = _
      rw [if_pos rfl, f1 q (by omega)]
      rfl) (fun i hi => by
      obtain rfl : i = 0 := by omega
      show 0 < dd
      omega)
    exact ⟨x, U', g1, SW_t (SW_t sw1 (SW_set (by omega))) g2, g3⟩
theorem Few_PA {b r K L dd : Nat} {w : Nat → Nat} {v3 : Int32} {U' : cU} (h : Few b r K L w dd (-1) U' ∨ ∃ x, Few b r K L w dd x U') : True := trivial
theorem F_plan {lw : Bool} {nb : cU → Option Int32} (C : Cs σ A N U S) (I : RI c N U) (R : yRM N U (M.2 0)) (hc : c < 1000000) (LW : LK lw nb (M.2 0)) (LP : yLp σ A S lw nb) (hz : 1 ≤ zc σ ∧ 6 ≤ zz σ) (p q v3 : Int32) :
    Fo c U S σ A M cdA 1 6 (f_X1_plan (aad A 0) p q v3 σ) (g_X6_plan p q v3 M) := by
  have hA : cOKN σ A N := C.1.1
  have n0 := RI_n0 I
  have hcl : zcl (pU σ A N U) (aad A 0) = 0 := ykC hA (r := 0) (ci := 0) rfl rfl
  rcases ix_cases p (n := N 0) (by omega) with hp | ⟨j, hj, rfl⟩
  · obtain ⟨C2, T2⟩ := Cs_zbU (U' := U) (Sum.inr 2 : Unit ⊕ Nat) C rfl hz
    refine ⟨.inr 2, 0, _, A, N, U, mset M 0 1, ?_, g_plan_no1 I R hp, rfl, C2, T2, I, R, KU_r, KM_set, fun _ _ => rfl, rfl⟩
    have h : f_X1_plan (aad A 0) p q v3 (pU σ A N U) = some (.inr 2, pU (zbm σ) A N U) := by
      unfold f_X1_plan
      rw [zif_t hcl]
      exact zbt_er (e_X1_houseAt hA hz (h_houseAt_no (N := N) (RI_hou I) hp (by omega)))
    rwa [Cs_id C] at h
  · have eh : f_X1_houseAt (aad A 0) (nI j) (pU σ A N U) = some (.inl (), pU σ A N U) := e_X1_houseAt hA hz (h_houseAt_ok (N := N) (RI_hou I) hj (by omega))
    by_cases hq : (1 : Int32) ≤ q ∧ q ≤ 6
    · obtain ⟨L, hL1, hL, rfl⟩ := x_in (a := 1) (b := 6) (by omega) hq (by omega)
      obtain ⟨K, r, w, dd, U1, x, M', k1, k2, k3, k4, k5, k6, k7, k8, k9, k10, k11, k12, k13⟩ := op_plan I R hc LW hj hL1 hL v3
      obtain ⟨l1, l2, l3⟩ := Lp_e LP C
      have ebeg : f_X5_begins (aad A 4) (nI j) (nI L) (pU σ A N U) = some ((), pU σ A N U1) := e_X5_begins hA l1 l2 l3 k6
      obtain ⟨y, U2, y1, y2, y3⟩ := F_fewest (σ := σ) (dd := dd) hA k7 k1 rfl (by omega) hL k3 (by omega)
      have d1 : U1.2 0 j = nI dd := by rw [k8.1 0 (by omega) (by omega)]; exact k4
      have d2 : U2.2 0 j = nI dd := by rw [y2.1 0 (by omega) (by omega)]; exact d1
      have ed : f_X1_demand 1 (pU σ A N U) = some (.inl (), pU σ A N U) := e_X1_demand hA hz (h_demand1 (N := N) (U := U))
      have hF : f_X1_plan (aad A 0) (nI j) (nI L) v3 (pU σ A N U) = (if v3 = 0 then some (.inl y, pU σ A N U2) else if ¬ y = -1 then if ¬ y = 0 then zb2 (f_X5_first (aad A 4) (nI dd) (pU σ A N U2)) (fun x31 σ32 => some (.inl x31, σ32)) else some (.inl (0 : Int32), pU σ A N U2) else some (.inl y, pU σ A N U2)) := by
        unfold f_X1_plan
        rw [zif_t hcl, zbt_eq eh, zb2_eq (e_X1_in hA (h_in1 (N := N) (U := U) hq)), zbt_eq ed, ybind_eq (kR hA (r := 0) (ci := 0) (v := some (aad A 4)) rfl rfl rfl), bd_at, zif_t (ykC hA (r := 4) (ci := 4) rfl rfl), zb2_eq ebeg, ybind_eq (kR hA (r := 0) (ci := 0) (v := some (aad A 4)) rfl rfl rfl), ybind_eq (kR hA (r := 0) (ci := 0) (v := some (aad A 1)) rfl rfl rfl), bd_at, ybind_eq (kR hA (r := 1) (ci := 1) (v := some (aad A 5)) rfl rfl rfl), bd_at, ybind_eq (kL0 hA (by omega)), d1, bd_at, zif_t (ykC hA (r := 4) (ci := 4) rfl rfl), zb2_eq y1]
        by_cases z : v3 = 0
        · rw [if_pos z, if_pos z]
        · rw [if_neg z, if_neg z]
          by_cases z1 : ¬ y = -1
          · rw [if_pos z1, if_pos z1]
            by_cases z2 : ¬ y = 0
            · rw [if_pos z2, if_pos z2, ybind_eq (kR hA (r := 0) (ci := 0) (v := some (aad A 4)) rfl rfl rfl), ybind_eq (kR hA (r := 0) (ci := 0) (v := some (aad A 1)) rfl rfl rfl), bd_at, ybind_eq (kR hA (r := 1) (ci := 1) (v := some (aad A 5)) rfl rfl rfl), bd_at, ybind_eq (kL0 hA (by omega)), d2, bd_at, zif_t (ykC hA (r := 4) (ci := 4) rfl rfl)]
            · rw [if_neg z2, if_neg z2]
          · rw [if_neg z1, if_neg z1]
      -- the answer is the same
      have HX : ∃ U3, SW U1 U3 ∧ f_X1_plan (aad A 0) (nI j) (nI L) v3 (pU σ A N U) = some (.inl x, pU σ A N U3) := by
        have fin : ∀ x', yPA (r + 1) r K L w dd v3 x' → x' = x := fun x' h => PA_one h k10
        rcases y3 with ⟨rfl, hlt⟩ | ⟨J, hJ, hle, hlt, rfl, hnx⟩
        · have e := fin (-1) (Or.inl ⟨hlt, rfl⟩)
          refine ⟨U2, y2, ?_⟩
          rw [hF, ← e]
          by_cases z : v3 = 0
          · rw [if_pos z]
          · rw [if_neg z, if_neg (fun q => q rfl)]
        · by_cases z : v3 = 0
          · have e := fin (nI J) (Or.inr ⟨J, hJ, hle, hlt, Or.inl ⟨z, rfl⟩⟩)
            refine ⟨U2, y2, ?_⟩
            rw [hF, ← e, if_pos z]
          · by_cases z0 : J = 0
            · subst z0
              have e := fin 0 (Or.inr ⟨0, hJ, hle, hlt, Or.inr (Or.inl ⟨z, rfl, rfl⟩)⟩)
              refine ⟨U2, y2, ?_⟩
              rw [hF, ← e, if_neg z, if_pos (show ¬ nI 0 = -1 from bI_ne (by omega)), if_neg (fun q => q (show nI 0 = 0 from rfl))]
            · have hdd0 : 0 < dd := by
                have := hlt 0 (by omega)
                omega
              obtain ⟨p0, hp0, hp1⟩ := fst_ex (J := J) (by omega) hdd0 hle
              rcases yff (fst (r + 1) r K L w J dd) (2 ^ K) with hn | ⟨p, a1, a2, a3⟩
              · rw [hn p0 hp0] at hp1; cases hp1
              · have e := fin (nI p) (Or.inr ⟨J, hJ, hle, hlt, Or.inr (Or.inr ⟨z, by omega, p, a1, rfl, a2, a3⟩)⟩)
                have ef : f_X5_first (aad A 4) (nI dd) (pU σ A N U2) = some (nI p, pU σ A N U2) := e_X5_first hA (h_first (N := N) (SW_PL y2 k7) k1 k2 hL k3 (by omega) (by omega) (hnx (by omega)) a1 a2 a3)
                refine ⟨U2, y2, ?_⟩
                rw [hF, ← e, if_neg z, if_pos (bI_ne (by omega)), if_pos (nI_ne0 (by omega) (by omega)), zb2_eq ef]
      obtain ⟨U3, sw3, hX⟩ := HX
      obtain ⟨C2, T2⟩ := Cs_pU (U' := U3) C ((sw3.1 3 (by omega) (by omega)).trans (k8.1 3 (by omega) (by omega)))
      rw [Cs_id C] at hX
      exact ⟨.inl x, x, _, A, N, U3, M', hX, k9, ⟨k11, rfl⟩, C2, St_le T2 (by omega) (by omega), SW_RI sw3 (SP_RI k8 I), SW_RM sw3 k12, KU_t (SP_KU k8) (SW_KU sw3), k13, fun _ _ => rfl, rfl⟩
    · obtain ⟨C2, T2⟩ := Cs_zbU (U' := U) (Sum.inr 0 : Unit ⊕ Nat) C rfl hz
      refine ⟨.inr 0, 0, _, A, N, U, mset M 0 2, ?_, g_plan_no2 I R hj hq, rfl, C2, T2, I, R, KU_r, KM_set, fun _ _ => rfl, rfl⟩
      have h : f_X1_plan (aad A 0) (nI j) q v3 (pU σ A N U) = some (.inr 0, pU (zbm σ) A N U) := by
        unfold f_X1_plan
        rw [zif_t hcl, zbt_eq eh, zb2_eq (e_X1_in hA (h_in0 (N := N) (U := U) hq))]
        exact zbt_er (e_X1_demand hA hz (h_demand0 (N := N) (U := U)))
      rwa [Cs_id C] at h
end ZPO
section ZUN
variable {σ σ' τ : zS} {A A' : cA} {N N' : Nat → Nat} {U U' U'' : cU} {S : Nat → Prop} {c : Nat} {M M' : mS}
theorem J2_remove_spec {l e n cap : Nat} {mc : Int32} {a : Nat → Nat} (hl : σ.1 l = some (.inr (19, [.int mc, .ref e, .int (nI (n + 1))]))) (hb : zbs σ ≤ l) (he : σ.1 e = some (.inl (3, cap, obA (lsA (n + 1) a)))) (hbe : zbs σ ≤ e) (hn : n < cap) (hc : cap ≤ 90) :
    f_J2_remove l (nI n) σ = some (some (a n), (fun q => if q = l then some (.inr (19, [.int (mc + 1), .ref e, .int (nI n)])) else if q = e then some (.inl (3, cap, obA (lsA n a))) else σ.1 q, σ.2)) := by
  have hle : l ≠ e := by
    intro q; subst q; rw [hl] at he; cases he
  have hci : f_J3_checkIndex (nI n) (nI (n + 1)) σ = some (nI n, σ) := by
    unfold f_J3_checkIndex f_J4_checkIndex
    rw [if_neg (nI_pos (by omega)), if_pos (nI_lt (by omega) (by omega))]
    rfl
  have hlr : lR σ e (nI n) = some (some (a n)) := by
    unfold lR
    rw [he]
    show (if (3 ≤ 3 ∧ 3 ≤ 5) ∧ ¬ (nI n < 0 ∨ cap ≤ (nI n).toNatClampNeg) then some (lsA (n + 1) a (nI n).toNatClampNeg) else none) = _
    rw [if_pos ⟨⟨by decide, by decide⟩, nI_in hn (by omega)⟩, nI_clamp (by omega)]
    exact congrArg some (if_pos (Nat.lt_succ_self n))
  have hup : va_up (lsA (n + 1) a) n none = lsA n a := by
    funext i
    show (if i = n then none else if i < n + 1 then some (a i) else none) = if i < n then some (a i) else none
    by_cases z : i = n
    · subst z; rw [if_pos rfl, if_neg (Nat.lt_irrefl _)]
    · rw [if_neg z]
      by_cases y : i < n
      · rw [if_pos y, if_pos (by omega)]
      · rw [if_neg y, if_neg (by omega)]
  unfold f_J2_remove
  rw [ybind_eq (gI_of hl (v := nI (n + 1)) rfl rfl), zb2_eq hci, ybind_eq (gR_of hl (q := some e) rfl rfl), bd_at, ybind_eq hlr, zif_t (cl_of hl rfl)]
  unfold f_J2_fastRemove f_J2_fastRemove_34
  rw [ybind_eq (gI_of hl (v := mc) rfl rfl), ybind_eq (pI_of hl (Nat.le_of_ble_eq_true rfl) hb), ybind_eq (gI_of zs_at (v := nI (n + 1)) rfl rfl), nI_pred, zl_at, if_pos (Int32.le_refl _), ybind_eq (pI_of zs_at (Nat.le_of_ble_eq_true rfl) hb), bd_at, zset2]
  have he2 : (zset σ l (Sum.inr (19, [Value.int (mc + 1), .ref e, .int (nI n)]))).1 e = some (.inl (3, cap, obA (lsA (n + 1) a))) := by rw [zs_no (fun q => hle q.symm)]; exact he
  have hs := sR_of (r := none) he2 hn (by omega) hbe rfl
  refine (zb2_eq (s := zset (zset σ l (Sum.inr (19, [Value.int (mc + 1), .ref e, .int (nI n)]))) e (.inl (3, cap, obA (va_up (lsA (n + 1) a) n none)))) (a := ()) ?_).trans ?_
  · exact ybind_eq hs
  · rw [hup]
    refine congrArg some (Prod.ext rfl (Prod.ext (funext fun q => ?_) rfl))
    show (if q = e then _ else if q = l then _ else σ.1 q) = if q = l then _ else if q = e then _ else σ.1 q
    by_cases z : q = l
    · subst z; rw [if_neg hle, if_pos rfl, if_pos rfl]
    · by_cases y : q = e
      · rw [if_pos y, if_neg z, if_pos y]
      · rw [if_neg y, if_neg z, if_neg z, if_neg y]
/-- the last object of a list goes; it stays in the heap, apart -/
theorem Cs_del {j n : Nat} (j1 : 1 ≤ j) (j4 : j ≤ 4) (C : Cs σ A N U S) (hn : N j = n + 1) :
    ∃ σ' A', f_J2_remove (aad A (11 + j)) (nI n) σ = some (some (aad A (100 * j + n)), σ') ∧ Cs σ' A' (Nj N j n) U (fun q => S q ∨ q = aad A (100 * j + n)) ∧ ySt σ σ' S 0 0 ∧ σ'.1 (aad A (100 * j + n)) = σ.1 (aad A (100 * j + n)) ∧ (∀ r, r < 16 → aad A' r = aad A r) ∧ arf A' = arf A := by
  obtain ⟨R, hS, hD⟩ := C
  have h9 : N j < 100 := (R.1.2.2.1 j j1 j4).1
  have hlt : ∀ r, (∃ o, cCt A (U.1, U.2, N) r = some o) → aad A r < zn σ := fun r h => Rp_lt R h
  have sl : cCt A (U.1, U.2, N) (11 + j) = some (.inr (19, [.int (amc A j), .ref (aer A j), .int (nI (N j))])) := cCt_ls j1 j4
  have hl : σ.1 (aad A (11 + j)) = some (.inr (19, [.int (amc A j), .ref (aer A j), .int (nI (n + 1))])) := by rw [R.2.1, sl, hn]
  obtain ⟨o1, o2, o3, o4⟩ : aer A j = aad A (15 + j) ∧ N j ≤ acap A j ∧ 1 ≤ acap A j ∧ acap A j ≤ 90 := by
    rcases R.2.2.2.2 j j1 j4 with h | h
    · exact h
    · omega
  have se : cCt A (U.1, U.2, N) (15 + j) = some (.inl (3, acap A j, obA (lsA (n + 1) (fun i => aad A (100 * j + i))))) := by
    rw [cCt_ea j1 j4]
    unfold cEa
    rw [if_pos o1]
    show some (Sum.inl (3, acap A j, Sum.inr (Sum.inr (Sum.inr (Sum.inr (fun i => if i < N j then some (aad A (100 * j + i)) else none)))))) = _
    rw [hn]
    rfl
  have he : σ.1 (aer A j) = some (.inl (3, acap A j, obA (lsA (n + 1) (fun i => aad A (100 * j + i))))) := by rw [o1, R.2.1, se]
  have sp := J2_remove_spec (a := fun i => aad A (100 * j + i)) hl (R.1.2.1 _) he (by rw [o1]; exact R.1.2.1 _) (show n < acap A j by omega) o4
  generalize hσ' : (((fun q => if q = aad A (11 + j) then some (.inr (19, [.int (amc A j + 1), .ref (aer A j), .int (nI n)])) else if q = aer A j then some (.inl (3, acap A j, obA (lsA n (fun i => aad A (100 * j + i))))) else σ.1 q), σ.2) : zS) = σ' at sp
  have m1 : ∀ q, σ'.1 q = if q = aad A (11 + j) then some (.inr (19, [.int (amc A j + 1), .ref (aer A j), .int (nI n)])) else if q = aer A j then some (.inl (3, acap A j, obA (lsA n (fun i => aad A (100 * j + i))))) else σ.1 q := fun q => by rw [← hσ']
  have m2 : σ'.2 = σ.2 := by rw [← hσ']
  have mn : zn σ' = zn σ := by show σ'.2.2.2.1 = _; rw [m2]
  have mb : zbs σ' = zbs σ := by show σ'.2.2.1 = _; rw [m2]
  have ymv : zsv σ' = zsv σ := by show σ'.2.1 = _; rw [m2]
  have inj : ∀ r r', aad A r = aad A r' → r = r' := by
    intro r r' e
    have q := R.1.1 r
    rw [e, R.1.1 r'] at q
    exact (Option.some.inj q).symm
  let mc : Nat → Int32 := fun k => if k = j then amc A j + 1 else amc A k
  have sub : ∀ r, zal (Nj N j n) (zow A) r → zal N (zow A) r ∧ r ≠ 100 * j + n := by
    intro r hr
    rcases hr with h | ⟨k, k1, k4, rfl, h⟩ | ⟨k, i, k1, k4, hi, h100, rfl⟩
    · exact ⟨Or.inl h, by omega⟩
    · exact ⟨Or.inr (Or.inl ⟨k, k1, k4, rfl, h⟩), by omega⟩
    · by_cases y : k = j
      · subst y
        rw [Nj_at] at hi
        exact ⟨Or.inr (Or.inr ⟨k, i, k1, k4, by omega, h100, rfl⟩), by omega⟩
      · rw [Nj_no y] at hi
        exact ⟨Or.inr (Or.inr ⟨k, i, k1, k4, hi, h100, rfl⟩), by omega⟩
  have g1 : ∀ k, 1 ≤ k → k ≤ 4 → Nj N j n k < 100 ∧ ((zow A k = true ∧ aer A k = aad A (15 + k) ∧ Nj N j n k ≤ acap A k ∧ 1 ≤ acap A k ∧ acap A k ≤ 90) ∨ (zow A k = false ∧ Nj N j n k = 0 ∧ aer A k < zbs σ')) := by
    intro k k1 k4
    by_cases y : k = j
    · subst y
      rw [Nj_at]
      exact ⟨by omega, Or.inl ⟨decide_eq_true o1, o1, by omega, o3, o4⟩⟩
    · rw [Nj_no y]
      refine ⟨(R.1.2.2.1 k k1 k4).1, ?_⟩
      rcases R.2.2.2.2 k k1 k4 with h | h
      · exact Or.inl ⟨decide_eq_true h.1, h⟩
      · by_cases z : aer A k = aad A (15 + k)
        · have := R.1.2.1 (15 + k)
          omega
        · exact Or.inr ⟨decide_eq_false z, by rw [mb]; exact h⟩
  have g2 : ∀ r, zal (Nj N j n) (zow A) r → zbs σ' ≤ aad A r ∧ aad A r < zn σ' := fun r hr => by
    rw [mb, mn]
    exact ⟨R.1.2.1 r, hlt r (zal_some (sub r hr).1)⟩
  have g4 : ∀ r, zal (Nj N j n) (zow A) r → σ'.1 (aad A r) = cCt (aad A, fun _ => none, aer A, acap A, mc, arf A) (U.1, U.2, Nj N j n) r := by
    intro r hr
    obtain ⟨hz, hne⟩ := sub r hr
    rw [m1]
    by_cases z1 : r = 11 + j
    · subst z1
      rw [if_pos rfl, cCt_ls j1 j4]
      show _ = some (Sum.inr (19, [Value.int (mc j), .ref (aer A j), .int (Int32.ofNat (Nj N j n j))]))
      have e1 : mc j = amc A j + 1 := if_pos rfl
      rw [e1, Nj_at]
      rfl
    · rw [if_neg (fun q => z1 (inj _ _ q))]
      by_cases z2 : r = 15 + j
      · subst z2
        rw [if_pos o1.symm, cCt_ea j1 j4]
        unfold cEa
        show _ = (if aer A j = aad A (15 + j) then some (Sum.inl (3, acap A j, Sum.inr (Sum.inr (Sum.inr (Sum.inr (fun i => if i < Nj N j n j then some (aad A (100 * j + i)) else none)))))) else none)
        rw [if_pos o1, Nj_at]
        rfl
      · rw [if_neg (fun q => z2 (inj _ _ (q.trans o1))), R.2.1 r]
        have hs := zal_some (U := U) hz
        -- as before
        have key : cCt (aad A, fun _ => none, aer A, acap A, mc, arf A) (U.1, U.2, Nj N j n) r = cCt A (U.1, U.2, N) r := by
          rcases (show r < 12 ∨ (12 ≤ r ∧ r < 16) ∨ (16 ≤ r ∧ r < 20) ∨ 20 ≤ r by omega) with h | h | h | h
          · match r, h with
            | 0, _ => rfl
            | 1, _ => rfl
            | 2, _ => rfl
            | 3, _ => rfl
            | 4, _ => rfl
            | 5, _ => rfl
            | 6, _ => rfl
            | 7, _ => rfl
            | 8, _ => rfl
            | 9, _ => rfl
            | 10, _ => rfl
            | 11, _ => rfl
            | r + 12, h => exact absurd h (by omega)
          · obtain ⟨k, rfl⟩ : ∃ k, r = 11 + k := ⟨r - 11, by omega⟩
            have hk : k ≠ j := by omega
            rw [cCt_ls (by omega) (by omega), cCt_ls (by omega) (by omega)]
            show some (Sum.inr (19, [Value.int (mc k), .ref (aer A k), .int (Int32.ofNat (Nj N j n k))])) = some (Sum.inr (19, [Value.int (amc A k), .ref (aer A k), .int (Int32.ofNat (N k))]))
            have e1 : mc k = amc A k := if_neg hk
            rw [e1, Nj_no hk]
          · obtain ⟨k, rfl⟩ : ∃ k, r = 15 + k := ⟨r - 15, by omega⟩
            have hk : k ≠ j := by omega
            rw [cCt_ea (by omega) (by omega), cCt_ea (by omega) (by omega)]
            unfold cEa
            show (if aer A k = aad A (15 + k) then some (Sum.inl (3, acap A k, Sum.inr (Sum.inr (Sum.inr (Sum.inr (fun i => if i < Nj N j n k then some (aad A (100 * k + i)) else none)))))) else none) = _
            rw [Nj_no hk]
          · rcases hr with h' | ⟨k, k1, k4, h', -⟩ | ⟨k, i, k1, k4, hi, h100, rfl⟩
            · omega
            · omega
            · rw [cEl_at k1 h100, cEl_at k1 h100]
              unfold cEl
              show (if i < Nj N j n k then _ else none) = (if i < N k then _ else none)
              have hi2 : i < N k := by
                by_cases y : k = j
                · subst y; rw [Nj_at] at hi; omega
                · rw [Nj_no y] at hi; exact hi
              rw [if_pos hi, if_pos hi2]
        exact key.symm
  obtain ⟨A', b1, b2, b3, b4, b5, b6, b7⟩ := Rp_mk (σ := σ') (U := U) (N := Nj N j n) (aad A) (aer A) (acap A) mc (arf A) (zow A) g1 g2 (fun r r' _ _ e => inj r r' e) g4 (fun q hq => by
    have hq' : zn σ ≤ q := by rw [← mn]; exact hq
    have h1 := hlt (11 + j) ⟨_, sl⟩
    have h2 := hlt (15 + j) ⟨_, se⟩
    rw [m1, if_neg (by omega), if_neg (by rw [o1]; omega)]
    exact R.2.2.1 q hq') (by rw [mb, mn]; exact R.2.2.2.1)
  have sx : ∃ o, cCt A (U.1, U.2, N) (100 * j + n) = some o := zal_some (Or.inr (Or.inr ⟨j, n, j1, j4, by omega, by omega, rfl⟩))
  have xne : aad A (100 * j + n) ≠ aad A (11 + j) ∧ aad A (100 * j + n) ≠ aer A j := by
    refine ⟨fun e => ?_, fun e => ?_⟩
    · have := inj _ _ e; omega
    · rw [o1] at e
      have := inj _ _ e; omega
  refine ⟨σ', A', sp, ⟨b1, fun q hq => ?_, fun k k1 k4 => ?_⟩, ⟨ymv, mb, by omega, fun q hq => ?_, by show σ.2.2.2.2.1 ≤ σ'.2.2.2.2.1 + 0; rw [m2]; omega, by show σ.2.2.2.2.2 ≤ σ'.2.2.2.2.2 + 0; rw [m2]; omega⟩, ?_, fun r hr => b2 r (Or.inl hr), b6⟩
  · rw [mn]
    rcases hq with hq | rfl
    · refine ⟨(hS q hq).1, fun r e => ?_⟩
      rcases Classical.em (zal (Nj N j n) (zow A) r) with z | z
      · rw [b2 r z] at e; exact (hS q hq).2 r e
      · have := b7 r z
        have := (hS q hq).1
        omega
    · refine ⟨hlt _ sx, fun r e => ?_⟩
      rcases Classical.em (zal (Nj N j n) (zow A) r) with z | z
      · rw [b2 r z] at e; exact absurd (inj _ _ e) (sub r z).2
      · have := b7 r z
        have := hlt _ sx
        omega
  · rw [b3]
    by_cases z : aer A k = aad A (15 + k)
    · left
      rw [b2 _ (Or.inr (Or.inl ⟨k, k1, k4, rfl, decide_eq_true z⟩))]; exact z
    · right
      show zsv σ' 1 = _
      rw [ymv]
      exact (hD k k1 k4).resolve_left z
  · rw [m1, if_neg, if_neg]
    · rcases hq with hq | hq
      · intro e; have := (hS q hq).2 (15 + j) (by rw [← o1]; exact e.symm); omega
      · intro e
        have := R.1.2.1 (15 + j)
        rw [← o1, ← e] at this
        omega
    · rcases hq with hq | hq
      · intro e; have := (hS q hq).2 (11 + j) e.symm; omega
      · intro e
        have := R.1.2.1 (11 + j)
        omega
  · rw [m1, if_neg xne.1, if_neg xne.2]
end ZUN
/-- an answer without exceptions -/
def Fi (c : Nat) (U : cU) (S : Nat → Prop) (σ : zS) (A : cA) (M : mS) (a b : Nat) (fo : Option (Int32 × zS)) (go : Option (Int32 × mS)) : Prop :=
  ∃ v σ' A' N' U' M', fo = some (v, σ') ∧ go = some (v, M') ∧ Cs σ' A' N' U' S ∧ ySt σ σ' S a b ∧ RI c N' U' ∧ yRM N' U' (M'.2 0) ∧ KU U U' ∧ yKM M M' ∧ (∀ r, r < 16 → aad A' r = aad A r) ∧ arf A' = arf A
section ZUO
variable {σ σ' τ : zS} {A A' : cA} {N N' : Nat → Nat} {U U' U'' : cU} {S : Nat → Prop} {c : Nat} {M M' : mS}
theorem Cs_sub {S' : Nat → Prop} (C : Cs σ A N U S) (h : ∀ q, S' q → S q) : Cs σ A N U S' := ⟨C.1, fun q hq => C.2.1 q (h q hq), C.2.2⟩
theorem St_sub {S' : Nat → Prop} {a b : Nat} (T : ySt σ σ' S a b) (h : ∀ q, S' q → S q) : ySt σ σ' S' a b := ⟨T.1, T.2.1, T.2.2.1, fun q hq => T.2.2.2.1 q (hq.elim (fun z => Or.inl (h q z)) Or.inr), T.2.2.2.2⟩
theorem F_undo (C : Cs σ A N U S) (I : RI c N U) (R : yRM N U (M.2 0)) (hc : c < 1000000) : Fi (c + 100) U S σ A M 0 0 (f_X1_undo (aad A 0) σ) (g_X6_undo M) := by
  have hA : cOKN σ A N := C.1.1
  have n2 := RI_n2 I
  have n4 := RI_n4 I
  have I0 : RI (c + 100) N U := RI_mono (by omega) I
  have hid := Cs_id C
  -- nothing happens
  have NO : (N 4 = 0 ∨ ∃ n, N 4 = n + 1 ∧ ¬ U.2 4 (8 * n + 7) = 0) → f_X1_undo (aad A 0) (pU σ A N U) = some (-1, pU σ A N U) → Fi (c + 100) U S σ A M 0 0 (f_X1_undo (aad A 0) σ) (g_X6_undo M) := by
    intro h hf
    rw [hid] at hf
    exact ⟨-1, σ, A, N, U, mset M 0 0, hf, g_undo_no I R h, C, St_r, I0, R, KU_r, KM_set, fun _ _ => rfl, rfl⟩
  have head : f_X1_undo (aad A 0) (pU σ A N U) = zl (nI (N 4) - 1) (fun x8 =>
      if x8 < 0 then
        some (((-1) : Int32), pU σ A N U)
      else
        zb2 (f_J2_get (aad A 15) x8 (pU σ A N U)) fun r14 σ15 =>
        zif (zckC σ15 r14 8 = true) <|
        r14.bind fun a16 =>
        (gI σ15 a16 8 7).bind fun x17 =>
        if x17 = 0 then
          (gR σ15 (aad A 0) 0 0).bind fun r18 =>
          r18.bind fun a19 =>
          (gR σ15 a19 1 11).bind fun r20 =>
          r20.bind fun a21 =>
          zif (zcl σ15 a21 = 19) <|
          zb2 (f_J2_remove a21 x8 σ15) fun r23 σ24 =>
          zif (zckC σ24 r23 8 = true) <|
          (gR σ24 (aad A 0) 0 0).bind fun r25 =>
          r25.bind fun a26 =>
          (gR σ24 a26 1 7).bind fun r27 =>
          r23.bind fun a28 =>
          (gI σ24 a28 8 3).bind fun x29 =>
          r27.bind fun a30 =>
          (lI σ24 a30 0 x29).bind fun x31 =>
          (gI σ24 a28 8 5).bind fun x32 =>
          (sI σ24 a30 x29 (x31 + x32)).bind fun σ33 =>
          f_X1_undo_75 (aad A 0) x8 (some a28) 0 σ33
        else
          some (((-1) : Int32), σ15)) := by
    unfold f_X1_undo
    rw [ybind_eq (kR hA (r := 0) (ci := 0) (v := some (aad A 1)) rfl rfl rfl), bd_at, ybind_eq (kR hA (r := 1) (ci := 1) (v := some (aad A 15)) rfl rfl rfl), bd_at, zif_t (ykC hA (r := 15) (ci := 19) rfl rfl), zb2_eq (kS (j := 4) hA (by omega) (by omega)), zl_at, zl_at]
    by_cases z : nI (N 4) - 1 < 0
    · rw [if_pos z, if_pos z]
    · rw [if_neg z, if_neg z, ybind_eq (kR hA (r := 0) (ci := 0) (v := some (aad A 1)) rfl rfl rfl), bd_at, ybind_eq (kR hA (r := 1) (ci := 1) (v := some (aad A 15)) rfl rfl rfl), bd_at, zif_t (ykC hA (r := 15) (ci := 19) rfl rfl)]
  rcases Nat.eq_zero_or_pos (N 4) with h0 | h0
  · refine NO (Or.inl h0) ?_
    rw [head, h0, zl_at, if_pos (by decide)]
  · obtain ⟨n, hn⟩ : ∃ n, N 4 = n + 1 := ⟨N 4 - 1, by omega⟩
    have hn4 : n < N 4 := by omega
    have ce := cE4_ (U1 := U.1) (U2 := U.2) hA hn4
    have hx : (pU σ A N U).1 (aad A (100 * 4 + n)) = some (.inr (8, [.int (U.2 4 (8 * n)), .int (U.2 4 (8 * n + 1)), .int (U.2 4 (8 * n + 2)), .int (U.2 4 (8 * n + 3)), .int (U.2 4 (8 * n + 4)), .int (U.2 4 (8 * n + 5)), .int (U.2 4 (8 * n + 6)), .int (U.2 4 (8 * n + 7))])) := (pC_ad (V := (U.1, U.2, N)) hA (100 * 4 + n)).trans ce
    rw [hn, nI_pred, zl_at, if_neg (nI_pos (by omega))] at head
    have hg : f_J2_get (aad A 15) (nI n) (pU σ A N U) = some (some (aad A (100 * 4 + n)), pU σ A N U) := kG (j := 4) hA (by omega) (by omega) hn4
    have c8 : zckC (pU σ A N U) (some (aad A (100 * 4 + n))) 8 = true := cckC (V := (U.1, U.2, N)) hA ce rfl
    rw [zb2_eq hg, zif_t c8, bd_at, ybind_eq (gI_of hx (v := U.2 4 (8 * n + 7)) rfl rfl)] at head
    by_cases hb : U.2 4 (8 * n + 7) = 0
    · rw [if_pos hb] at head
      obtain ⟨h, k, M', hh, hk, eh, ek, gU, IU, RU, KMU, z0⟩ := op_undo I R hc hn hb
      obtain ⟨σ1, A1, f1, C1, T1, x1, b1, b2⟩ := Cs_del (j := 4) (by omega) (by omega) C hn
      have hA1 : cOKN σ1 A1 (Nj N 4 n) := C1.1.1
      have hid1 := Cs_id C1
      have hx1 : σ1.1 (aad A (100 * 4 + n)) = some (.inr (8, [.int (U.2 4 (8 * n)), .int (U.2 4 (8 * n + 1)), .int (U.2 4 (8 * n + 2)), .int (U.2 4 (8 * n + 3)), .int (U.2 4 (8 * n + 4)), .int (U.2 4 (8 * n + 5)), .int (U.2 4 (8 * n + 6)), .int (U.2 4 (8 * n + 7))])) := by
        rw [x1, ← hx, hid]
      -- the object stays whatever the numbers are
      have hxU : ∀ V : cU, V.2 3 = U.2 3 → (pU σ1 A1 (Nj N 4 n) V).1 (aad A (100 * 4 + n)) = some (.inr (8, [.int (U.2 4 (8 * n)), .int (U.2 4 (8 * n + 1)), .int (U.2 4 (8 * n + 2)), .int (U.2 4 (8 * n + 3)), .int (U.2 4 (8 * n + 4)), .int (U.2 4 (8 * n + 5)), .int (U.2 4 (8 * n + 6)), .int (U.2 4 (8 * n + 7))])) := by
        intro V h3
        obtain ⟨-, T⟩ := Cs_pU (U' := V) C1 h3
        rw [T.2.2.2.1 _ (Or.inl (Or.inr rfl))]; exact hx1
      let U1 : cU := utab U 0 h (U.2 0 h + U.2 4 (8 * n + 5))
      have hdebt : sI (pU σ1 A1 (Nj N 4 n) U) (aad A1 5) (nI h) (U.2 0 h + U.2 4 (8 * n + 5)) = some (pU σ1 A1 (Nj N 4 n) U1) := csU0 hA1 (uSt_at hh (by omega))
      have hloop : f_X1_undo_75 (aad A1 0) (nI n) (some (aad A (100 * 4 + n))) 0 (pU σ1 A1 (Nj N 4 n) U1) = some (nI n, pU σ1 A1 (Nj N 4 n) (wd k U1)) := by
        unfold f_X1_undo_75
        refine zlp1_it (n := k) (fun i => nI i) (fun i => pU σ1 A1 (Nj N 4 n) (wd i U1)) (fun i rf hi => ?_) (fun rf => ?_) NN (NN_lt (by omega))
        · unfold f_X1_undo_75_b
          have hi2 : i < Nj N 4 n 2 := by show i < N 2; omega
          have cei := cE2_ (U1 := (wd i U1).1) (U2 := (wd i U1).2) hA1 hi2
          have c7 : zckC (pU σ1 A1 (Nj N 4 n) (wd i U1)) (some (aad A1 (100 * 2 + i))) 7 = true := cckC (V := ((wd i U1).1, (wd i U1).2, Nj N 4 n)) hA1 cei rfl
          have gw : gI (pU σ1 A1 (Nj N 4 n) (wd i U1)) (aad A1 (100 * 2 + i)) 7 1 = some ((wd i U1).2 2 (3 * i + 1)) := ykI hA1 cei rfl rfl
          rw [bd_at, ybind_eq (gI_of (hxU _ (by rw [wd_t _ (by omega)]; rfl)) (v := U.2 4 (8 * n + 4)) rfl rfl), ek, nleF hi (by omega), ybind_eq (kR hA1 (r := 0) (ci := 0) (v := some (aad A1 1)) rfl rfl rfl), bd_at, ybind_eq (kR hA1 (r := 1) (ci := 1) (v := some (aad A1 13)) rfl rfl rfl), bd_at, zif_t (ykC hA1 (r := 13) (ci := 19) rfl rfl), zb2_eq (kG (j := 2) hA1 (by omega) (by omega) hi2), zif_t c7, ybind_eq (kR hA1 (r := 0) (ci := 0) (v := some (aad A1 1)) rfl rfl rfl), bd_at, ybind_eq (kR hA1 (r := 1) (ci := 1) (v := some (aad A1 13)) rfl rfl rfl), bd_at, zif_t (ykC hA1 (r := 13) (ci := 19) rfl rfl), zb2_eq (kG (j := 2) hA1 (by omega) (by omega) hi2), zif_t c7, bd_at, ybind_eq gw, bd_at, ybind_eq (cpE2_1 hA1 hi2), zl_at, nI_1]
          rfl
        · unfold f_X1_undo_75_b
          rw [bd_at, ybind_eq (gI_of (hxU _ (by rw [wd_t _ (by omega)]; rfl)) (v := U.2 4 (8 * n + 4)) rfl rfl), ek, if_pos (Int32.le_refl _)]
      have c8' : zckC σ1 (some (aad A (100 * 4 + n))) 8 = true := by
        show Nat.beq (zcl σ1 (aad A (100 * 4 + n))) 8 = true
        rw [cl_of hx1 rfl]
        rfl
      have hF : f_X1_undo (aad A 0) (pU σ A N U) = some (nI n, pU σ1 A1 (Nj N 4 n) (wd k U1)) := by
        rw [head, ybind_eq (kR hA (r := 0) (ci := 0) (v := some (aad A 1)) rfl rfl rfl), bd_at, ybind_eq (kR hA (r := 1) (ci := 1) (v := some (aad A 15)) rfl rfl rfl), bd_at, zif_t (ykC hA (r := 15) (ci := 19) rfl rfl)]
        have f1' : f_J2_remove (aad A 15) (nI n) (pU σ A N U) = some (some (aad A (100 * 4 + n)), σ1) := by rw [hid]; exact f1
        rw [zb2_eq f1', zif_t c8', ← b1 0 (by omega)]
        have r0 : gR σ1 (aad A1 0) 0 0 = some (some (aad A1 1)) := by
          have := kR (σ := σ1) (U := U) hA1 (r := 0) (ci := 0) (k := 0) (v := some (aad A1 1)) rfl rfl rfl
          rwa [hid1] at this
        have r7 : gR σ1 (aad A1 1) 1 7 = some (some (aad A1 5)) := by
          have := kR (σ := σ1) (U := U) hA1 (r := 1) (ci := 1) (k := 7) (v := some (aad A1 5)) rfl rfl rfl
          rwa [hid1] at this
        have l5 : lI σ1 (aad A1 5) 0 (nI h) = some (U.2 0 h) := by
          have := kL0 (σ := σ1) (U := U) hA1 hh
          rwa [hid1] at this
        have w5 : sI σ1 (aad A1 5) (nI h) (U.2 0 h + U.2 4 (8 * n + 5)) = some (pU σ1 A1 (Nj N 4 n) U1) := by
          rw [hid1] at hdebt; exact hdebt
        rw [ybind_eq r0, bd_at, ybind_eq r7, bd_at, ybind_eq (gI_of hx1 (v := U.2 4 (8 * n + 3)) rfl rfl), eh, bd_at, ybind_eq l5, ybind_eq (gI_of hx1 (v := U.2 4 (8 * n + 5)) rfl rfl), ybind_eq w5]
        exact hloop
      obtain ⟨C2, T2⟩ := Cs_pU (U' := wd k U1) C1 (by rw [wd_t _ (by omega)]; rfl)
      rw [hid] at hF
      refine ⟨nI n, _, A1, N4p N n, wd k U1, M', hF, gU, Cs_sub C2 (fun q hq => Or.inl hq), St_t T1 (St_sub T2 (fun q hq => Or.inl hq)), IU, RU, ⟨fun q h1 h2 => ?_, ?_, ?_⟩, KMU, b1, b2⟩
      · rw [wd_1]; rfl
      · rw [wd_t _ (by omega)]; rfl
      · rw [wd_t _ (by omega)]; rfl
    · rw [if_neg hb] at head
      exact NO (Or.inr ⟨n, hn, hb⟩) head
end ZUO
