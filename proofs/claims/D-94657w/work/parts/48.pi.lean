/-! pure land: F5 F6 F7 F8 F9 (see wip/D-94657w/pl) -/
/-! operations of the component in the heap beside the model's -/
/-- the law in the heap tells what nb tells, whatever else changes -/
def yLp (σ : zS) (A : cA) (S : Nat → Prop) (lw : Bool) (nb : cU → Option Int32) : Prop :=
  (arf A 1).isSome = lw ∧ ∃ T : Nat → Prop, (∀ q, T q → S q ∧ ∃ o, σ.1 q = some o ∧ ∀ fs, o ≠ .inr (10, fs)) ∧ ∀ a, arf A 1 = some a → ∀ (τ : zS) (sc : Nat) (U : cU) (n : Int32), (∀ q, (T q ∨ q < zbs σ) → τ.1 q = σ.1 q) → zsv τ = zsv σ → zbs τ = zbs σ →
    τ.1 sc = some (.inr (3, [.int (U.1 14), .int (U.1 15), .int (U.1 16), .int (U.1 17), .int (U.1 18), .int (U.1 19), .int (U.1 20)])) → zcl τ a = 11 ∧ (nb U = some n → f_X12_number a (some sc) τ = some (n, τ))
def Fo (c : Nat) (U : cU) (S : Nat → Prop) (σ : zS) (A : cA) (M : mS) (cd : Nat → Int32) (a b : Nat) (fo : Option ((Int32 ⊕ Nat) × zS)) (go : Option (Int32 × mS)) : Prop :=
  ∃ r v σ' A' N' U' M', fo = some (r, σ') ∧ go = some (v, M') ∧ yans cd r v (M'.1 0) ∧ Cs σ' A' N' U' S ∧ ySt σ σ' S a b ∧ RI c N' U' ∧ yRM N' U' (M'.2 0) ∧ KU U U' ∧ yKM M M' ∧ (∀ r, r < 16 → aad A' r = aad A r) ∧ arf A' = arf A
section ZFO
variable {σ σ' τ : zS} {A A' : cA} {N N' : Nat → Nat} {U U' : cU} {S : Nat → Prop} {c : Nat} {M M' : mS}
theorem Cs_zbm (C : Cs σ A N U S) (hz : 1 ≤ zc σ ∧ 6 ≤ zz σ) : Cs (zbm σ) A N U S ∧ ySt σ (zbm σ) S 1 6 := by
  obtain ⟨⟨r1, r2, r3, r4, r5⟩, hS, hD⟩ := C
  refine ⟨⟨⟨r1, r2, fun q hq => r3 q (Nat.le_of_succ_le hq), Nat.le_succ_of_le r4, r5⟩, fun q hq => ⟨Nat.lt_succ_of_lt (hS q hq).1, (hS q hq).2⟩, hD⟩, rfl, rfl, Nat.le_succ _, fun _ _ => rfl, ?_, ?_⟩
  · show zc σ ≤ zc σ - 1 + 1; omega
  · show zz σ ≤ zz σ - 6 + 6; omega
theorem Cs_zbx {α : Type} (r : α ⊕ Nat) (C : Cs σ A N U S) (hz : 1 ≤ zc σ ∧ 6 ≤ zz σ) : Cs (zbx r σ) A N U S ∧ ySt σ (zbx r σ) S 1 6 := by
  cases r with
  | inl a => exact ⟨C, St_le St_r (by omega) (by omega)⟩
  | inr k => exact Cs_zbm C hz
theorem Cs_zbU {α : Type} (r : α ⊕ Nat) (C : Cs σ A N U S) (h3 : U'.2 3 = U.2 3) (hz : 1 ≤ zc σ ∧ 6 ≤ zz σ) : Cs (pU (zbx r σ) A N U') A N U' S ∧ ySt σ (pU (zbx r σ) A N U') S 1 6 := by
  obtain ⟨C1, T1⟩ := Cs_zbx r C hz
  obtain ⟨C2, T2⟩ := Cs_pU (U' := U') C1 h3
  exact ⟨C2, St_t T1 T2⟩
/-- an operation that makes nothing -/
theorem Fo_of {cd : Nat → Int32} {ho : Option ((Int32 ⊕ Nat) × cU)} {fo : Option ((Int32 ⊕ Nat) × zS)} {go : Option (Int32 × mS)} (C : Cs σ A N U S) (hz : 1 ≤ zc σ ∧ 6 ≤ zz σ) (h : OKo c N cd U M ho go) (he : ∀ Rt, ho = some Rt → fo = some (Rt.1, pU (zbx Rt.1 σ) A N Rt.2)) : Fo c U S σ A M cd 1 6 fo go := by
  obtain ⟨r, v, U', M', h1, h2, h3, h4, h5, h6, h7⟩ := h
  obtain ⟨C2, T2⟩ := Cs_zbU (U' := U') r C h6.2.2 hz
  exact ⟨r, v, _, A, N, U', M', he _ h1, h2, h3, C2, T2, h4, h5, h6, h7, fun _ _ => rfl, rfl⟩
theorem Lp_St {lw : Bool} {nb : cU → Option Int32} {a b : Nat} (L : yLp σ A S lw nb) (h : ySt σ σ' S a b) (hA : arf A' = arf A) : yLp σ' A' S lw nb := by
  obtain ⟨l1, T, l2, l3⟩ := L
  obtain ⟨g1, g2, g3, g4, -⟩ := h
  refine ⟨by rw [hA]; exact l1, T, fun q hq => ?_, fun a ha => ?_⟩
  · obtain ⟨m1, m2⟩ := l2 q hq
    exact ⟨m1, by rw [g4 q (Or.inl m1)]; exact m2⟩
  · rw [hA] at ha
    exact fun τ sc U n t1 t2 t3 t4 => l3 a ha τ sc U n (fun q hq => (t1 q (by rw [g2]; exact hq)).trans (g4 q (hq.elim (fun z => Or.inl (l2 q z).1) Or.inr))) (t2.trans g1) (t3.trans g2) t4
/-- what e_X1_counted asks of the law -/
theorem Lp_e {lw : Bool} {nb : cU → Option Int32} (L : yLp σ A S lw nb) (C : Cs σ A N U S) : (arf A 1).isSome = lw ∧ (∀ a U n, arf A 1 = some a → nb U = some n → f_X12_number a (some (aad A 3)) (pU σ A N U) = some (n, pU σ A N U)) ∧ ∀ a U, arf A 1 = some a → zcl (pU σ A N U) a = 11 := by
  obtain ⟨l1, T, l2, l3⟩ := L
  have keep : ∀ (V : cU) q, (T q ∨ q < zbs σ) → (pU σ A N V).1 q = σ.1 q := by
    intro V q hq
    show (match ainv A q with
      | some r => cCt A (V.1, V.2, N) r
      | none => σ.1 q) = σ.1 q
    cases e : ainv A q with
    | none => rfl
    | some r =>
      have h1 := C.1.1.2.2.2 q r e
      rcases hq with hq | hq
      · obtain ⟨m1, o, m2, m3⟩ := l2 q hq
        obtain ⟨r1, r2⟩ := (C.2.1 q m1).2 r h1
        obtain ⟨i, rfl⟩ : ∃ i, r = 100 * 3 + i := ⟨r - 300, by omega⟩
        have hc := C.1.2.1 (100 * 3 + i)
        rw [h1, m2, cEl_at (by omega) (by omega)] at hc
        unfold cEl at hc
        have hc' : some o = (if i < N 3 then some (Sum.inr (10, [Value.int (U.2 3 (2 * i)), .int (U.2 3 (2 * i + 1))])) else none) := hc
        by_cases z : i < N 3
        · rw [if_pos z] at hc'
          exact absurd (Option.some.inj hc') (m3 _)
        · rw [if_neg z] at hc'; cases hc'
      · have := C.1.1.2.1 r
        omega
  have scn : ∀ V : cU, (pU σ A N V).1 (aad A 3) = some (.inr (3, [.int (V.1 14), .int (V.1 15), .int (V.1 16), .int (V.1 17), .int (V.1 18), .int (V.1 19), .int (V.1 20)])) := fun V => pC_ad (V := (V.1, V.2, N)) C.1.1 3
  exact ⟨l1, fun a V n ha hn => (l3 a ha (pU σ A N V) (aad A 3) V n (keep V) rfl rfl (scn V)).2 hn, fun a V ha => (l3 a ha (pU σ A N V) (aad A 3) V 0 (keep V) rfl rfl (scn V)).1⟩
/-! a walk -/
theorem utab_set {k t i : Nat} {x y : Int32} : uset (utab U t i x) k y = utab (uset U k y) t i x := rfl
theorem Cs_cEl4 {U : cU} {n : Nat} {s d w h k nt t b : Int32} : cEl A ((uEnt U n s d w h k nt t b).1, (uEnt U n s d w h k nt t b).2, Nj N 4 (n + 1)) 4 n = some (.inr (8, [.int s, .int d, .int w, .int h, .int k, .int t, .int nt, .int b])) := by
  obtain ⟨q0, q1, q2, q3, q4, q5, q6, q7⟩ := uEnt_new (U := U) (e := n) (s := s) (d := d) (w := w) (h := h) (k := k) (nt := nt) (t := t) (b := b)
  unfold cEl
  have hlt : n < Nj N 4 (n + 1) 4 := by rw [Nj_at]; omega
  show (if n < Nj N 4 (n + 1) 4 then some (Sum.inr (8, [Value.int ((uEnt U n s d w h k nt t b).2 4 (8 * n)), .int ((uEnt U n s d w h k nt t b).2 4 (8 * n + 1)), .int ((uEnt U n s d w h k nt t b).2 4 (8 * n + 2)), .int ((uEnt U n s d w h k nt t b).2 4 (8 * n + 3)), .int ((uEnt U n s d w h k nt t b).2 4 (8 * n + 4)), .int ((uEnt U n s d w h k nt t b).2 4 (8 * n + 5)), .int ((uEnt U n s d w h k nt t b).2 4 (8 * n + 6)), .int ((uEnt U n s d w h k nt t b).2 4 (8 * n + 7))])) else none) = _
  rw [if_pos hlt, q0, q1, q2, q3, q4, q5, q6, q7]
/-- rows behind the last one are nobody's -/
theorem Cs_row4 {s d w h k nt t b : Int32} (C : Cs σ A N U S) : Cs σ A N (uEnt U (N 4) s d w h k nt t b) S := by
  obtain ⟨⟨r1, r2, r3, r4, r5⟩, hS, hD⟩ := C
  refine ⟨⟨r1, fun r => ?_, r3, r4, r5⟩, hS, hD⟩
  rw [r2 r]
  match r with
  | 0 => rfl
  | 1 => rfl
  | 2 => rfl
  | 3 => rfl
  | 4 => rfl
  | 5 => rfl
  | 6 => rfl
  | 7 => rfl
  | 8 => rfl
  | 9 => rfl
  | 10 => rfl
  | 11 => rfl
  | 12 => rfl
  | 13 => rfl
  | 14 => rfl
  | 15 => rfl
  | 16 => rfl
  | 17 => rfl
  | 18 => rfl
  | 19 => rfl
  | r + 20 =>
    show (if r < 80 then none else cEl A (U.1, U.2, N) ((r + 20) / 100) ((r + 20) % 100)) = (if r < 80 then none else cEl A ((uEnt U (N 4) s d w h k nt t b).1, (uEnt U (N 4) s d w h k nt t b).2, N) ((r + 20) / 100) ((r + 20) % 100))
    by_cases z : r < 80
    · rw [if_pos z, if_pos z]
    · rw [if_neg z, if_neg z]
      generalize (r + 20) / 100 = j
      generalize (r + 20) % 100 = i
      unfold cEl
      show (if i < N j then _ else none) = (if i < N j then _ else none)
      by_cases y : i < N j
      · rw [if_pos y, if_pos y]
        match j, y with
        | 0, _ => rfl
        | 1, _ => rfl
        | 2, _ => rfl
        | 3, _ => rfl
        | 4, y =>
          show some (Sum.inr (8, [Value.int (U.2 4 (8 * i)), .int (U.2 4 (8 * i + 1)), .int (U.2 4 (8 * i + 2)), .int (U.2 4 (8 * i + 3)), .int (U.2 4 (8 * i + 4)), .int (U.2 4 (8 * i + 5)), .int (U.2 4 (8 * i + 6)), .int (U.2 4 (8 * i + 7))])) = some (Sum.inr (8, [Value.int ((uEnt U (N 4) s d w h k nt t b).2 4 (8 * i)), .int ((uEnt U (N 4) s d w h k nt t b).2 4 (8 * i + 1)), .int ((uEnt U (N 4) s d w h k nt t b).2 4 (8 * i + 2)), .int ((uEnt U (N 4) s d w h k nt t b).2 4 (8 * i + 3)), .int ((uEnt U (N 4) s d w h k nt t b).2 4 (8 * i + 4)), .int ((uEnt U (N 4) s d w h k nt t b).2 4 (8 * i + 5)), .int ((uEnt U (N 4) s d w h k nt t b).2 4 (8 * i + 6)), .int ((uEnt U (N 4) s d w h k nt t b).2 4 (8 * i + 7))]))
          rw [uEnt_old (by omega), uEnt_old (by omega), uEnt_old (by omega), uEnt_old (by omega), uEnt_old (by omega), uEnt_old (by omega), uEnt_old (by omega), uEnt_old (by omega)]
        | j + 5, _ => rfl
      · rw [if_neg y, if_neg y]
theorem ybind_eq {α β : Type} {o : Option α} {a : α} {K : α → Option β} (h : o = some a) : o.bind K = K a := by rw [h]; rfl
theorem zb2_eq {α τ β : Type} {o : Option (α × τ)} {a : α} {s : τ} {K : α → τ → Option β} (h : o = some (a, s)) : zb2 o K = K a s := by rw [h]; rfl
theorem zbt_eq {α τ β : Type} {o : Option ((α ⊕ Nat) × τ)} {a : α} {s : τ} {E : Nat → τ → Option β} {K : α → τ → Option β} (h : o = some (.inl a, s)) : zbt o E K = K a s := by rw [h]; rfl
theorem zbt_er {α τ β : Type} {o : Option ((α ⊕ Nat) × τ)} {a : Nat} {s : τ} {E : Nat → τ → Option β} {K : α → τ → Option β} (h : o = some (.inr a, s)) : zbt o E K = E a s := by rw [h]; rfl
theorem znewO_at {ci : Nat} {fs : List Value} (hc : 1 ≤ zc σ ∧ fs.length ≤ zz σ) : znewO σ ci fs = some (zn σ, (zup σ.1 (zn σ) (.inr (ci, fs)), zsv σ, zbs σ, zn σ + 1, zc σ - 1, zz σ - fs.length)) := by
  unfold znewO znew
  rw [if_pos hc]
theorem pI_of {a ci k : Nat} {fs : List Value} {v : Int32} (h : σ.1 a = some (.inr (ci, fs))) (hk : k < fs.length) (hb : zbs σ ≤ a) : pI σ a ci k v = some (zset σ a (.inr (ci, fs.set k (.int v)))) := pF_of h hk hb
theorem pZ_of {a ci k : Nat} {fs : List Value} {v : Int32} (hv : v = 0 ∨ v = 1) (h : σ.1 a = some (.inr (ci, fs))) (hk : k < fs.length) (hb : zbs σ ≤ a) : pZ σ a ci k v = some (zset σ a (.inr (ci, fs.set k (.int v)))) := by
  unfold pZ
  rw [if_pos hv]
  exact pF_of h hk hb
theorem zset2 {a : Nat} {o o' : zOb} : zset (zset σ a o) a o' = zset σ a o' := by
  refine Prod.ext (funext fun q => ?_) rfl
  show (if q = a then some o' else if q = a then some o else σ.1 q) = if q = a then some o' else σ.1 q
  by_cases h : q = a
  · rw [if_pos h, if_pos h]
  · rw [if_neg h, if_neg h, if_neg h]
theorem X9_init {a : Nat} {s d w h k nt t : Int32} (hnt : nt = 0 ∨ nt = 1) (ha : σ.1 a = some (.inr (8, [.int 0, .int 0, .int 0, .int 0, .int 0, .int 0, .int 0, .int 0]))) (hb : zbs σ ≤ a) : f_X9_init a s d w h k nt t σ = some ((), zset σ a (.inr (8, [.int s, .int d, .int w, .int h, .int k, .int t, .int nt, .int 0]))) := by
  unfold f_X9_init
  rw [pI_of ha (Nat.le_of_ble_eq_true rfl) hb, bd_at, pI_of zs_at (Nat.le_of_ble_eq_true rfl) hb, bd_at, zset2, pI_of zs_at (Nat.le_of_ble_eq_true rfl) hb, bd_at, zset2, pI_of zs_at (Nat.le_of_ble_eq_true rfl) hb, bd_at, zset2, pI_of zs_at (Nat.le_of_ble_eq_true rfl) hb, bd_at, zset2, pZ_of hnt zs_at (Nat.le_of_ble_eq_true rfl) hb, bd_at, zset2, pI_of zs_at (Nat.le_of_ble_eq_true rfl) hb, bd_at, zset2]
  rfl
end ZFO
section ZWK
variable {σ σ' τ : zS} {A A' : cA} {N N' : Nat → Nat} {U U' : cU} {S : Nat → Prop} {c : Nat} {M M' : mS}
/-! reads and writes at the book's addresses -/
theorem ykI (hA : cOKN σ A N) {r ci k : Nat} {fs : List Value} {v : Int32} (hc : cCt A (U.1, U.2, N) r = some (.inr (ci, fs))) (hk : fs[k]? = some (.int v)) (h9 : ci % 100 = ci) : gI (pU σ A N U) (aad A r) ci k = some v := cgI (V := (U.1, U.2, N)) hA hc hk h9
theorem kR (hA : cOKN σ A N) {r ci k : Nat} {fs : List Value} {v : Option Nat} (hc : cCt A (U.1, U.2, N) r = some (.inr (ci, fs))) (hk : fs[k]? = some (va_rf v)) (h9 : ci % 100 = ci) : gR (pU σ A N U) (aad A r) ci k = some v := cgR (V := (U.1, U.2, N)) hA hc hk h9
theorem ykC (hA : cOKN σ A N) {r ci : Nat} {fs : List Value} (hc : cCt A (U.1, U.2, N) r = some (.inr (ci, fs))) (h9 : ci % 100 = ci) : zcl (pU σ A N U) (aad A r) = ci := ccl (V := (U.1, U.2, N)) hA hc h9
theorem kG (hA : cOKN σ A N) {j k : Nat} (j1 : 1 ≤ j) (j4 : j ≤ 4) (hk : k < N j) : f_J2_get (aad A (11 + j)) (nI k) (pU σ A N U) = some (some (aad A (100 * j + k)), pU σ A N U) := cget (V := (U.1, U.2, N)) hA j1 j4 (vix_at hk (by have := (hA.2.2.1 j j1 j4).1; show N j < _; have h9 : N j < 100 := this; omega))
theorem kS (hA : cOKN σ A N) {j : Nat} (j1 : 1 ≤ j) (j4 : j ≤ 4) : f_J2_size (aad A (11 + j)) (pU σ A N U) = some (nI (N j), pU σ A N U) := csize (V := (U.1, U.2, N)) hA j1 j4
theorem kL0 (hA : cOKN σ A N) {h : Nat} (hh : h < 8) : lI (pU σ A N U) (aad A 5) 0 (nI h) = some (U.2 0 h) := by
  refine clI (V := (U.1, U.2, N)) (r := 5) (t := 0) (n := 8) hA rfl rfl ?_
  unfold vL
  rw [if_neg (nI_in hh (by omega)), nI_clamp (by omega)]
theorem kP6 (hA : cOKN σ A N) {x : Int32} : pI (pU σ A N U) (aad A 1) 1 6 x = some (pU σ A N (uset U 6 x)) := cpF hA (r := 1) (ci := 1) (V := (U.1, U.2, N)) (V' := ((uset U 6 x).1, (uset U 6 x).2, N)) rfl (Nat.le_of_ble_eq_true rfl) rfl (vso_6 (V := (U.1, U.2, N)) (x := x))
theorem wr_2 {U U' : cU} (h : U.2 2 = U'.2 2) : ∀ k, (ywr k U).2 2 = (ywr k U').2 2 := by
  intro k
  induction k with
  | zero => exact h
  | succ k ih =>
    show upd ((ywr k U).2 2) (3 * k + 1) ((ywr k U).2 2 (3 * k + 1) + 1) = upd ((ywr k U').2 2) (3 * k + 1) ((ywr k U').2 2 (3 * k + 1) + 1)
    rw [ih]
theorem wSp_eq {w h k : Nat} {nt t : Int32} : uEnt (uset (ywr k (utab U 0 h (U.2 0 h - t))) 6 (U.1 6 + 1)) (N 4) (U.1 6 + 1) (U.1 4) (nI w) (nI h) (nI k) nt t 0 = wSp N U w h k nt t := by
  unfold wSp
  refine Prod.ext ?_ (funext fun q => ?_)
  · show (uset (ywr k (utab U 0 h (U.2 0 h - t))) 6 (U.1 6 + 1)).1 = (ywr k _).1
    rw [wr_1]
    show (fun j => if j = 6 then U.1 6 + 1 else (ywr k (utab U 0 h (U.2 0 h - t))).1 j) = (fun j => if j = 6 then U.1 6 + 1 else U.1 j)
    rw [wr_1]
    rfl
  · by_cases q2 : q = 2
    · subst q2
      show (ywr k (utab U 0 h (U.2 0 h - t))).2 2 = (ywr k _).2 2
      refine wr_2 ?_ k
      rfl
    · rw [wr_t _ q2]
      by_cases q4 : q = 4
      · subst q4
        funext j
        show (if j = 8 * N 4 then U.1 6 + 1 else if j = 8 * N 4 + 1 then U.1 4 else if j = 8 * N 4 + 2 then nI w else if j = 8 * N 4 + 3 then nI h else if j = 8 * N 4 + 4 then nI k else if j = 8 * N 4 + 5 then t else if j = 8 * N 4 + 6 then nt else if j = 8 * N 4 + 7 then 0 else (ywr k (utab U 0 h (U.2 0 h - t))).2 4 j) = _
        rw [wr_t _ (by omega)]
        rfl
      · show (if q = 4 then _ else (ywr k (utab U 0 h (U.2 0 h - t))).2 q) = (if q = 0 then upd _ h (U.2 0 h - t) else if q = 4 then _ else U.2 q)
        rw [if_neg q4, wr_t _ q2]
        show (if q = 0 then upd (U.2 0) h (U.2 0 h - t) else U.2 q) = _
        by_cases q0 : q = 0
        · subst q0; rfl
        · rw [if_neg q0, if_neg q0, if_neg q4]
theorem F_walks (C : Cs σ A N U S) (E : yEv σ) {w h k : Nat} (hh : h < 8) (hk : k ≤ N 2) (h2 : N 2 ≤ 10) (h60 : N 4 < 60) {nt v : Int32} (hnt : nt = 0 ∨ nt = 1) (hz : 3 ≤ zc σ ∧ 120 ≤ zz σ) :
    ∃ σ' A', f_X2_walks (aad A 1) (nI w) (nI h) (nI k) nt v σ = some (zmin v (U.2 0 h), σ') ∧ Cs σ' A' (N4p N (N 4 + 1)) (wSp N U w h k nt (zmin v (U.2 0 h))) S ∧ ySt σ σ' S 2 98 ∧ (∀ r, r < 16 → aad A' r = aad A r) ∧ arf A' = arf A := by
  have hA : cOKN σ A N := C.1.1
  generalize ht : zmin v (U.2 0 h) = t
  let U1 : cU := utab U 0 h (U.2 0 h - t)
  let U2 : cU := uset (ywr k U1) 6 (U.1 6 + 1)
  obtain ⟨C2, T2⟩ := Cs_pU (U' := U2) C (by show (ywr k U1).2 3 = _; rw [wr_t _ (by omega)]; rfl)
  have C3 := Cs_row4 (s := U.1 6 + 1) (d := U.1 4) (w := nI w) (h := nI h) (k := nI k) (nt := nt) (t := t) (b := 0) C2
  -- the entry
  let ob : zOb := .inr (8, [.int (U.1 6 + 1), .int (U.1 4), .int (nI w), .int (nI h), .int (nI k), .int t, .int nt, .int 0])
  let σ2 : zS := pU σ A N U2
  let τ0 : zS := (zup σ2.1 (zn σ2) (.inr (8, [.int 0, .int 0, .int 0, .int 0, .int 0, .int 0, .int 0, .int 0])), zsv σ2, zbs σ2, zn σ2 + 1, zc σ2 - 1, zz σ2 - 8)
  let τ : zS := zset τ0 (zn σ2) ob
  have hτ : ∀ q, τ.1 q = if q = zn σ2 then some ob else σ2.1 q := by
    intro q
    show (if q = zn σ2 then some ob else if q = zn σ2 then _ else σ2.1 q) = _
    by_cases z : q = zn σ2
    · rw [if_pos z, if_pos z]
    · rw [if_neg z, if_neg z, if_neg z]
  have zz2 : zc σ2 = zc σ ∧ zz σ2 = zz σ := ⟨rfl, rfl⟩
  have zt : zc τ = zc σ - 1 ∧ zz τ = zz σ - 8 := ⟨rfl, rfl⟩
  obtain ⟨σ', A', a1, a2, a3, a4, a5⟩ := Cs_add (j := 4) (x := zn σ2) (o := ob) (τ := τ) (by omega) (by omega) C3 (Ev_St E T2) rfl hτ rfl rfl rfl h60 Cs_cEl4 (by rw [zt.1, zt.2]; omega)
  rw [wSp_eq (N := N)] at a2
  refine ⟨σ', A', ?_, a2, ?_, a4, a5⟩
  · have F1 : f_X2_walks (aad A 1) (nI w) (nI h) (nI k) nt v (pU σ A N U) = f_X2_walks_27 (aad A 1) (nI w) (nI h) (nI k) nt t 0 (pU σ A N U1) := by
      unfold f_X2_walks
      have ew : sI (pU σ A N U) (aad A 5) (nI h) (U.2 0 h - t) = some (pU σ A N U1) := csU0 hA (uSt_at hh (by omega))
      rw [ybind_eq (kR hA (r := 1) (ci := 1) (v := some (aad A 5)) rfl rfl rfl), bd_at, ybind_eq (kL0 hA hh), ht, zl_at, ybind_eq (kR hA (r := 1) (ci := 1) (v := some (aad A 5)) rfl rfl rfl), bd_at, ybind_eq (kL0 hA hh), ybind_eq ew]
    have F2 : f_X2_walks_27 (aad A 1) (nI w) (nI h) (nI k) nt t 0 (pU σ A N U1) = some (t, σ') := by
      unfold f_X2_walks_27
      refine zlp1_it (n := k) (fun i => nI i) (fun i => pU σ A N (ywr i U1)) (fun i rf hi => ?_) (fun rf => ?_) NN (NN_lt (by omega))
      · unfold f_X2_walks_27_b
        have hi2 : i < N 2 := by omega
        have ce := cE2_ (U1 := (ywr i U1).1) (U2 := (ywr i U1).2) hA hi2
        have c1 : zckC (pU σ A N (ywr i U1)) (some (aad A (100 * 2 + i))) 7 = true := cckC (V := ((ywr i U1).1, (ywr i U1).2, N)) hA ce rfl
        have c2 : gI (pU σ A N (ywr i U1)) (aad A (100 * 2 + i)) 7 1 = some ((ywr i U1).2 2 (3 * i + 1)) := ykI hA ce rfl rfl
        rw [nleF hi (by omega), ybind_eq (kR hA (r := 1) (ci := 1) (v := some (aad A 13)) rfl rfl rfl), bd_at, zif_t (ykC hA (r := 13) (ci := 19) rfl rfl), zb2_eq (kG (j := 2) hA (by omega) (by omega) hi2), zif_t c1, bd_at, ybind_eq c2, ybind_eq (cpE2_1 hA hi2), zl_at, nI_1]
        rfl
      · unfold f_X2_walks_27_b
        have e6 : gI (pU σ A N (ywr k U1)) (aad A 1) 1 6 = some (U.1 6) := by
          rw [ykI hA (r := 1) (ci := 1) (v := (ywr k U1).1 6) rfl rfl rfl, wr_1]
          rfl
        have p6 : pI (pU σ A N (ywr k U1)) (aad A 1) 1 6 (U.1 6 + 1) = some σ2 := kP6 hA
        have n8 : znewO σ2 8 [.int 0, .int 0, .int 0, .int 0, .int 0, .int 0, .int 0, .int 0] = some (zn σ2, τ0) := znewO_at (by rw [zz2.1, zz2.2]; show 1 ≤ zc σ ∧ 8 ≤ zz σ; omega)
        have l1 : aad A 1 < zn σ2 := Rp_lt C2.1 ⟨_, rfl⟩
        have l15 : aad A 15 < zn σ2 := Rp_lt C2.1 ⟨_, rfl⟩
        have w1 : τ0.1 (aad A 1) = cCt A (U2.1, U2.2, N) 1 := by
          show (if aad A 1 = zn σ2 then _ else σ2.1 (aad A 1)) = _
          rw [if_neg (by omega)]
          exact C2.1.2.1 1
        have w15 : τ.1 (aad A 15) = cCt A (U2.1, U2.2, N) 15 := by
          rw [hτ, if_neg (by omega)]
          exact C2.1.2.1 15
        have u6 : U2.1 6 = U.1 6 + 1 := uset_at
        have u4 : U2.1 4 = U.1 4 := by
          show (uset (ywr k U1) 6 (U.1 6 + 1)).1 4 = _
          rw [uset_no (by omega), wr_1]
          rfl
        have x9 : f_X9_init (zn σ2) (U.1 6 + 1) (U.1 4) (nI w) (nI h) (nI k) nt t τ0 = some ((), τ) := X9_init hnt (if_pos rfl) C2.1.2.2.2.1
        have r11 : gR σ2 (aad A 1) 1 11 = some (some (aad A 15)) := kR hA (r := 1) (ci := 1) rfl rfl rfl
        have i6 : gI τ0 (aad A 1) 1 6 = some (U.1 6 + 1) := by rw [← u6]; exact gI_of w1 rfl rfl
        have i4 : gI τ0 (aad A 1) 1 4 = some (U.1 4) := by rw [← u4]; exact gI_of w1 rfl rfl
        rw [if_pos (Int32.le_refl _), ybind_eq e6, ybind_eq p6, ybind_eq r11, zb2_eq n8, ybind_eq i6, ybind_eq i4, zb2_eq x9, bd_at, zif_t (cl_of w15 rfl)]
        exact (zb2_eq a1).trans rfl
    have := F1.trans F2
    rwa [Cs_id C] at this
  · refine St_le (St_t (St_t T2 (?_ : ySt σ2 τ S 1 8)) a3) (by omega) (by omega)
    refine ⟨rfl, rfl, Nat.le_succ _, fun q hq => ?_, ?_, ?_⟩
    · rw [hτ]
      refine if_neg ?_
      rcases hq with hq | hq
      · exact Nat.ne_of_lt (C2.2.1 q hq).1
      · exact Nat.ne_of_lt (Nat.lt_of_lt_of_le hq C2.1.2.2.2.1)
    · show zc σ2 ≤ zc σ2 - 1 + 1; omega
    · show zz σ2 ≤ zz σ2 - 8 + 8; omega
end ZWK
/-- two loops in step, by what comes behind -/
theorem lk1c {τ θ β γ : Type} {F : (Int32 → τ → Option β) → Int32 → τ → Option β} {G : (Int32 → θ → Option γ) → Int32 → θ → Option γ} {n : Nat} (P : Nat → τ → θ → Prop) (Q : Option β → Option γ → Prop)
    (hs : ∀ i t s rf rg, i < n → P i t s → (∀ t' s', P (i + 1) t' s' → Q (rf (nI (i + 1)) t') (rg (nI (i + 1)) s')) → Q (F rf (nI i) t) (G rg (nI i) s))
    (he : ∀ t s rf rg, P n t s → Q (F rf (nI n) t) (G rg (nI n) s)) :
    ∀ i t s, i ≤ n → P i t s → ∀ k l, n < k → n < l → Q (zlp1 F k (nI i) t) (zlp1 G l (nI i) s) := by
  have H : ∀ j i t s, i + j = n → P i t s → ∀ k l, j < k → j < l → Q (zlp1 F k (nI i) t) (zlp1 G l (nI i) s) := by
    intro j
    induction j with
    | zero =>
      intro i t s e hp k l hk hl
      obtain ⟨k', rfl⟩ : ∃ k', k = k' + 1 := ⟨k - 1, by omega⟩
      obtain ⟨l', rfl⟩ : ∃ l', l = l' + 1 := ⟨l - 1, by omega⟩
      obtain rfl : i = n := by omega
      exact he t s _ _ hp
    | succ j ih =>
      intro i t s e hp k l hk hl
      obtain ⟨k', rfl⟩ : ∃ k', k = k' + 1 := ⟨k - 1, by omega⟩
      obtain ⟨l', rfl⟩ : ∃ l', l = l' + 1 := ⟨l - 1, by omega⟩
      exact hs i t s _ _ (by omega) hp fun t' s' hp' => ih (i + 1) t' s' (by omega) hp' k' l' (by omega) (by omega)
  intro i t s hi hp k l hk hl
  exact H (n - i) i t s (by omega) hp k l (by omega) (by omega)
section ZLV
variable {σ σ' τ : zS} {A A' : cA} {N N' : Nat → Nat} {U U' : cU} {S : Nat → Prop} {c : Nat} {M M' : mS}
theorem wSp_KU {w h k : Nat} {nt t : Int32} : KU U (wSp N U w h k nt t) := by
  refine ⟨fun q h1 h2 => ?_, ?_, ?_⟩
  · unfold wSp
    rw [wr_1]
    show (if q = 6 then _ else U.1 q) = U.1 q
    rw [if_neg (by omega)]
  · unfold wSp
    rw [wr_t _ (by omega)]
    rfl
  · unfold wSp
    rw [wr_t _ (by omega)]
    rfl
theorem F_walk {lw : Bool} {nb : cU → Option Int32} (C : Cs σ A N U S) (E : yEv σ) (I : RI c N U) (R : yRM N U (M.2 0)) (hc : c < 1000000) (LW : LK lw nb (M.2 0)) (LP : yLp σ A S lw nb) (hz : 3 ≤ zc σ ∧ 130 ≤ zz σ) (p q k : Int32) {nt : Int32} (hnt : nt = 0 ∨ nt = 1) :
    Fo (c + 1) U S σ A M ycdB 3 120 (f_X1_walk (aad A 0) p q k nt σ) (g_X6_walk p q k nt M) := by
  have hA : cOKN σ A N := C.1.1
  have hzz : 1 ≤ zc σ ∧ 6 ≤ zz σ := by omega
  have I1 : RI (c + 1) N U := RI_mono (Nat.le_succ c) I
  have hcl : zcl (pU σ A N U) (aad A 0) = 0 := ykC hA (r := 0) (ci := 0) rfl rfl
  -- a throw
  have TH : ∀ (e : Nat) (t : Int32), yans ycdB (.inr e) 0 t → f_X1_walk (aad A 0) p q k nt (pU σ A N U) = some (.inr e, pU (zbm σ) A N U) → (∃ M', g_X6_walk p q k nt M = some (0, M') ∧ M'.1 0 = t ∧ M'.2 = M.2 ∧ yKM M M') → Fo (c + 1) U S σ A M ycdB 3 120 (f_X1_walk (aad A 0) p q k nt σ) (g_X6_walk p q k nt M) := by
    intro e t h1 h2 ⟨M', h3, h4, h5, h6⟩
    rw [Cs_id C] at h2
    obtain ⟨C2, T2⟩ := Cs_zbU (U' := U) (Sum.inr e : Unit ⊕ Nat) C rfl hzz
    exact ⟨.inr e, 0, _, A, N, U, M', h2, h3, by rw [h4]; exact h1, C2, St_le T2 (by omega) (by omega), I1, by rw [h5]; exact R, KU_r, h6, fun _ _ => rfl, rfl⟩
  rcases h_aWalk_spec I p q k with ⟨h, e⟩ | ⟨i, j, hi, hj, rfl, rfl, h⟩
  · refine TH 2 1 rfl ?_ ⟨mset M 0 1, ?_, rfl, rfl, KM_set⟩
    · unfold f_X1_walk
      rw [zif_t hcl]
      exact zbt_er (e_X1_aWalk hA hzz e)
    · unfold g_X6_walk g_X6_walk_34
      rw [g_refuses1 I R h, zb2_at, zl_at, m_set1, if_pos ne10, if_neg (by decide)]
  · rcases h with ⟨h, e⟩ | ⟨l, h1, h2, rfl, e⟩
    · refine TH 0 2 rfl ?_ ⟨mset M 0 2, ?_, rfl, rfl, KM_set⟩
      · unfold f_X1_walk
        rw [zif_t hcl]
        exact zbt_er (e_X1_aWalk hA hzz e)
      · unfold g_X6_walk g_X6_walk_34
        rw [g_refuses2 I R hi hj h, zb2_at, zl_at, m_set1, if_pos (by decide), if_neg (by decide)]
    · have n0 := RI_n0 I
      obtain ⟨v, m1, m2, m3⟩ := op_may (M := mset M 0 0) I R hc (nI i) nt hnt h2
      have f1 : f_X1_walk (aad A 0) (nI i) (nI j) (nI l) nt (pU σ A N U) = zbt (f_X1_can v (pU σ A N U)) (fun k9 σ9 => some (.inr k9, σ9)) (fun _ σ10 =>
          (gR σ10 (aad A 0) 0 0).bind fun r11 =>
          zif (zcl σ10 (aad A 0) = 0) <|
          zb2 (f_X1_counted (aad A 0) (nI i) (nI j) (nI l) nt σ10) fun x13 σ14 =>
          r11.bind fun a15 =>
          zif (zcl σ14 a15 = 1) <|
          zb2 (f_X2_walks a15 (nI i) (nI j) (nI l) nt x13 σ14) fun x17 σ18 =>
          some (.inl x17, σ18)) := by
        unfold f_X1_walk
        have ea : f_X1_aWalk (aad A 0) (nI i) (nI j) (nI l) (pU σ A N U) = some (.inl (), pU σ A N U) := e_X1_aWalk hA hzz e
        rw [zif_t hcl, zbt_eq ea, ybind_eq (kR hA (r := 0) (ci := 0) (v := some (aad A 1)) rfl rfl rfl), bd_at, zif_t (ykC hA (r := 1) (ci := 1) rfl rfl), zb2_eq (e_X2_may hA m1)]
      have g1 : g_X6_walk (nI i) (nI j) (nI l) nt M = (if ¬ v = 0 then g_X6_walk_34 (nI i) (nI j) (nI l) nt (mset M 0 0) else g_X6_walk_34 (nI i) (nI j) (nI l) nt (mset (mset M 0 0) 0 3)) := by
        unfold g_X6_walk
        rw [g_refuses0 I R hi hj h1 h2, zb2_at, zl_at, m_set1, if_neg ne00, m2, zb2_at, zl_at]
      rcases m3 with rfl | ⟨rfl, h60, hl⟩
      · refine TH 4 3 rfl ?_ ⟨mset (mset M 0 0) 0 3, ?_, rfl, rfl, KM_t KM_set KM_set⟩
        · rw [f1]
          exact zbt_er (e_X1_can hA hzz (h_can0 (N := N) (U := U)))
        · rw [g1, if_neg ne00]
          unfold g_X6_walk_34
          rw [m_set1, if_neg (by decide)]
      · obtain ⟨x, U1, M', b1, b2, b3, b4, b5, b6, b7, b8⟩ := op_walks (M := mset M 0 0) I R hc LW hi hj h2 hnt h60 hl
        obtain ⟨C1, T1⟩ := Cs_pU (U' := U1) C (by rw [b2.1])
        obtain ⟨l1, l2, l3⟩ := Lp_e LP C
        obtain ⟨σ', A', w1, w2, w3, w4, w5⟩ := F_walks (w := i) (h := j) (k := l) (nt := nt) (v := x) C1 (Ev_St E T1) (by omega) h2 (RI_n2 I) h60 hnt (by show 3 ≤ zc σ ∧ 120 ≤ zz σ; omega)
        have eU : U1.2 0 j = U.2 0 j := by rw [b2.1]
        rw [eU] at w1 w2
        refine ⟨.inl (zmin x (U.2 0 j)), zmin x (U.2 0 j), σ', A', N4p N (N 4 + 1), wSp N U1 i j l nt (zmin x (U.2 0 j)), M', ?_, ?_, ⟨b8, rfl⟩, w2, St_le (St_t T1 w3) (by omega) (by omega), b5, b6, KU_t (SC_KU b2) wSp_KU, KM_t KM_set b7, w4, w5⟩
        · have f2 : f_X1_walk (aad A 0) (nI i) (nI j) (nI l) nt (pU σ A N U) = some (.inl (zmin x (U.2 0 j)), σ') := by
            have ec : f_X1_can 1 (pU σ A N U) = some (.inl (), pU σ A N U) := e_X1_can hA hzz (h_can1 (N := N) (U := U))
            rw [f1, zbt_eq ec, ybind_eq (kR hA (r := 0) (ci := 0) (v := some (aad A 1)) rfl rfl rfl), zif_t hcl, zb2_eq (e_X1_counted hA l1 l2 l3 b1), bd_at, zif_t (ykC hA (r := 1) (ci := 1) rfl rfl)]
            exact zb2_eq w1
          rwa [Cs_id C] at f2
        · rw [g1, if_pos ne10]
          unfold g_X6_walk_34
          rw [m_set1, if_pos le00, b4, zb2_at]
end ZLV
/-! rows on bits (out of the kit's BITS.to-paste) -/
def ybt (x : Int32) (i : Nat) : Bool := x.toBitVec.getLsbD i
theorem b_ext {x y : Int32} (h : ∀ i, i < 32 → ybt x i = ybt y i) : x = y := Int32.toBitVec_inj.mp (BitVec.eq_of_getLsbD_eq (fun i hi => h i hi))
theorem b_and (x y : Int32) (i : Nat) : ybt (x &&& y) i = (ybt x i && ybt y i) := by unfold ybt; rw [Int32.toBitVec_and, BitVec.getLsbD_and]
theorem b_ushr (n : Nat) (hn : n < 32) (x : Int32) (i : Nat) : ybt ((x.toUInt32 >>> ((nI n).toUInt32 &&& Int32.toUInt32 31)).toInt32) i = ybt x (n + i) := by
  show (x.toUInt32 >>> ((nI n).toUInt32 &&& Int32.toUInt32 31)).toBitVec.getLsbD i = x.toUInt32.toBitVec.getLsbD (n + i)
  rw [UInt32.toBitVec_shiftRight]
  show (x.toUInt32.toBitVec >>> (((nI n).toUInt32 &&& Int32.toUInt32 31).toBitVec % 32).toNat).getLsbD i = _
  rw [s_u n hn, BitVec.getLsbD_ushiftRight]
theorem b_sshr (n : Nat) (hn : n < 32) (x : Int32) {i : Nat} (hi : i < 32) : ybt (x >>> (nI n &&& 31)) i = if n + i < 32 then ybt x (n + i) else ybt x 31 := by
  unfold ybt
  rw [Int32.toBitVec_shiftRight]
  show (x.toBitVec.sshiftRight ((nI n &&& 31).toBitVec.smod 32).toNat).getLsbD i = _
  rw [s_l n hn, BitVec.getLsbD_sshiftRight, BitVec.msb_eq_getLsbD_last]
  simp [hi]
theorem bt_15 : ∀ i, i < 32 → ybt 32767 i = decide (i < 15) := by decide +kernel
theorem sh16 (x : Int32) : x >>> ((16 : Int32) &&& 31) &&& 32767 = (x.toUInt32 >>> ((16 : Int32).toUInt32 &&& Int32.toUInt32 31)).toInt32 &&& 32767 := by
  refine b_ext fun i hi => ?_
  rw [b_and, b_and, bt_15 i hi]
  by_cases h : i < 15
  · have e1 := b_sshr 16 (by omega) x hi
    have e2 := b_ushr 16 (by omega) x i
    rw [if_pos (by omega)] at e1
    have e1' : ybt (x >>> ((16 : Int32) &&& 31)) i = ybt x (16 + i) := e1
    have e2' : ybt ((x.toUInt32 >>> ((16 : Int32).toUInt32 &&& Int32.toUInt32 31)).toInt32) i = ybt x (16 + i) := e2
    rw [e1', e2']
  · rw [decide_eq_false h, Bool.and_false, Bool.and_false]
section ZLI
variable {σ σ' τ : zS} {A A' : cA} {N N' : Nat → Nat} {U U' : cU} {S : Nat → Prop} {c : Nat} {M M' : mS}
/-- a draw -/
theorem op_draw (I : RI c N U) (R : yRM N U (M.2 0)) {n : Nat} (h0 : 0 < n) (hn : n < 2 ^ 31) : ∃ v U' M', v < n ∧ h_X1_draw N (nI n) U = some (nI v, U') ∧ g_X6_draw (nI n) M = some (nI v, M') ∧ RI c N U' ∧ yRM N U' (M'.2 0) ∧ KU U U' ∧ yKM M M' ∧ M'.1 = M.1 ∧ U'.2 = U.2 := by
  let sd : Int32 := U.1 5 * 1103515245 + 12345
  have em : M.2 0 9 = U.1 5 := RM_m9 R
  -- the same bits both ways
  obtain ⟨q, hq, eq⟩ : ∃ q, q < 32768 ∧ sd >>> ((16 : Int32) &&& 31) &&& 32767 = nI q := pk_andE _ 15 rfl
  refine ⟨q % n, uset U 5 sd, ms M 9 sd, Nat.mod_lt _ h0, ?_, ?_, RIs_seed I, RM_seed I R, KU_set (by omega), KM_ms (by omega) (by omega) (by omega), rfl, rfl⟩
  · unfold h_X1_draw
    rw [zl_at]
    show (zrem (sd >>> ((16 : Int32) &&& 31) &&& 32767) (nI n)).bind _ = _
    rw [eq, zrem_at (by omega) h0 hn, bd_at]
  · unfold g_X6_draw
    rw [g_m9, bd_at, em, Int32.mul_comm, show (9 : Int32) = nI 9 from rfl, g_set (by omega), bd_at, ← show (9 : Int32) = nI 9 from rfl, g_m9, bd_at, ms_at]
    show (zrem ((sd.toUInt32 >>> ((16 : Int32).toUInt32 &&& Int32.toUInt32 31)).toInt32 &&& 32767) (nI n)).bind _ = _
    rw [← sh16, eq, zrem_at (by omega) h0 hn, bd_at]
end ZLI
section ZLJ
variable {σ σ' τ : zS} {A A' : cA} {N N' : Nat → Nat} {U U' : cU} {S : Nat → Prop} {c : Nat} {M M' : mS}
theorem kP4 (hA : cOKN σ A N) {x : Int32} : pI (pU σ A N U) (aad A 1) 1 4 x = some (pU σ A N (uset U 4 x)) := cpF hA (r := 1) (ci := 1) (V := (U.1, U.2, N)) (V' := ((uset U 4 x).1, (uset U 4 x).2, N)) rfl (Nat.le_of_ble_eq_true rfl) rfl (vso_4 (V := (U.1, U.2, N)) (x := x))
theorem Lp_to {lw : Bool} {nb : cU → Option Int32} {a b : Nat} (L : yLp σ A S lw nb) (h : ySt σ σ' S a b) (hA : arf A' = arf A) : yLp σ' A' S lw nb := Lp_St L h hA
/-- the state of days by draws -/
def yLq (c : Nat) (U : cU) (S : Nat → Prop) (σ : zS) (A : cA) (N : Nat → Nat) (M : mS) (d : Nat) (t : zS) (s : mS) : Prop :=
  ∃ A' N' U' e, Cs t A' N' U' S ∧ RI (c + d + e) N' U' ∧ yRM N' U' (s.2 0) ∧ N' 4 = N 4 + e ∧ N' 0 = N 0 ∧ N' 1 = N 1 ∧ N' 2 = N 2 ∧ KU U U' ∧ yKM M s ∧ s.1 0 = 0 ∧ (∀ r, r < 16 → aad A' r = aad A r) ∧ arf A' = arf A ∧ ySt σ t S (2 * e) (98 * e)
theorem F_live {lw : Bool} {nb : cU → Option Int32} (C : Cs σ A N U S) (E : yEv σ) (I : RI c N U) (R : yRM N U (M.2 0)) (hc : c < 900000) (LW : LK lw nb (M.2 0)) (LP : yLp σ A S lw nb) (hz : 130 ≤ zc σ ∧ 6100 ≤ zz σ) (p : Int32) :
    Fo (c + 160) U S σ A M cdC 120 5880 (f_X1_live (aad A 0) p σ) (g_X6_live p M) := by
  have hA : cOKN σ A N := C.1.1
  have n0 := RI_n0 I
  have n1 := RI_n1 I
  have n2 := RI_n2 I
  have n4 := RI_n4 I
  have hzz : 1 ≤ zc σ ∧ 6 ≤ zz σ := by omega
  by_cases hp : (1 : Int32) ≤ p ∧ p ≤ 99
  · obtain ⟨n, hn1, hn, rfl⟩ := x_in (a := 1) (b := 99) (by omega) hp (by omega)
    have F1 : f_X1_live (aad A 0) (nI n) σ = f_X1_live_26 (aad A 0) (nI n) (some (aad A 1)) (nI (N 4)) 0 σ := by
      have q : f_X1_live (aad A 0) (nI n) (pU σ A N U) = f_X1_live_26 (aad A 0) (nI n) (some (aad A 1)) (nI (N 4)) 0 (pU σ A N U) := by
        unfold f_X1_live
        have ed : f_X1_demand 1 (pU σ A N U) = some (.inl (), pU σ A N U) := e_X1_demand hA hzz (h_demand1 (N := N) (U := U))
        rw [zb2_eq (e_X1_in hA (h_in1 (N := N) (U := U) hp)), zbt_eq ed, ybind_eq (kR hA (r := 0) (ci := 0) (v := some (aad A 1)) rfl rfl rfl), bd_at, ybind_eq (kR hA (r := 1) (ci := 1) (v := some (aad A 15)) rfl rfl rfl), bd_at, zif_t (ykC hA (r := 15) (ci := 19) rfl rfl), zb2_eq (kS (j := 4) hA (by omega) (by omega))]
      rwa [Cs_id C] at q
    have G1 : g_X6_live (nI n) M = g_X6_live_37 (nI n) (nI (N 4)) 0 (mset M 0 0) := by
      have e4 : (mset M 0 0).2 0 4 = nI (N 4) := RM_m4 R
      unfold g_X6_live g_X6_live_16
      rw [g_in1 hp, zb2_at, if_pos ne10, zl_at, m_set1, if_pos le00, g_m4, bd_at, e4]
    rw [F1, G1]
    unfold f_X1_live_26 g_X6_live_37
    refine lk1c (n := n) (fun d t s => yLq c U S σ A N M d t s) (fun a b => Fo (c + 160) U S σ A M cdC 120 5880 a b) (fun d t s rf rg hd hp hrec => ?_) (fun t s rf rg hp => ?_) 0 σ (mset M 0 0) (Nat.zero_le _) ⟨A, N, U, 0, C, I, R, rfl, rfl, rfl, rfl, KU_r, KM_set, rfl, fun _ _ => rfl, rfl, St_r⟩ NN NN (NN_lt (by omega)) (NN_lt (by omega))
    · -- a day
      unfold f_X1_live_26_b g_X6_live_37_b
      rw [nleF hd (by omega), nleF hd (by omega)]
      unfold f_X1_live_35 g_X6_live_45
      -- behind all walkers
      have hday : ∀ (t : zS) (s : mS), yLq c U S σ A N M d t s → Fo (c + 160) U S σ A M cdC 120 5880 (f_X1_live_168 (aad A 0) rf (nI n) (some (aad A 1)) (nI (N 4)) (nI d) t) (g_X6_live_150 rg (nI n) (nI (N 4)) (nI d) s) := by
        rintro t s ⟨A', N', U', e, C', I', R', q4, q0, q1, q2, k1, k2, k3, a1, a2, T'⟩
        have hA' : cOKN t A' N' := C'.1.1
        have n4' := RI_n4 I'
        obtain ⟨dy, hdy, edy⟩ := RI_day I'
        have m8 : s.2 0 8 = U'.1 4 := RM_m8 R'
        obtain ⟨C2, T2⟩ := Cs_pU (U' := uset U' 4 (U'.1 4 + 1)) C' rfl
        have I2 : RI (c + (d + 1) + e) N' (uset U' 4 (U'.1 4 + 1)) := RIs_day (RI_mono (show c + d + e ≤ c + (d + 1) + e by omega) I') (by rw [edy, nI_1]; exact nI_bd (by omega)) (by rw [edy, nI_1]; exact nI_le (by omega) (by omega))
        have hF : f_X1_live_168 (aad A 0) rf (nI n) (some (aad A 1)) (nI (N 4)) (nI d) t = rf (nI (d + 1)) (pU t A' N' (uset U' 4 (U'.1 4 + 1))) := by
          have q : f_X1_live_168 (aad A 0) rf (nI n) (some (aad A' 1)) (nI (N 4)) (nI d) (pU t A' N' U') = rf (nI (d + 1)) (pU t A' N' (uset U' 4 (U'.1 4 + 1))) := by
            unfold f_X1_live_168
            rw [bd_at, ybind_eq (ykI hA' (r := 1) (ci := 1) (v := U'.1 4) rfl rfl rfl), ybind_eq (kP4 hA'), zl_at, nI_1]
          rwa [Cs_id C', a1 1 (by omega)] at q
        have hG : g_X6_live_150 rg (nI n) (nI (N 4)) (nI d) s = rg (nI (d + 1)) (ms s 8 (U'.1 4 + 1)) := by
          unfold g_X6_live_150
          rw [g_m8, bd_at, m8, show (8 : Int32) = nI 8 from rfl, g_set (by omega), bd_at, zl_at, nI_1]
        rw [hF, hG]
        exact hrec _ _ ⟨A', N', _, e, C2, I2, RM_day I' R', q4, q0, q1, q2, KU_t k1 (KU_set (by omega)), KM_t k2 (KM_ms (by omega) (by omega) (by omega)), k3, a1, a2, St_le (St_t T' T2) (by omega) (by omega)⟩
      refine lk1c (n := N 1) (fun _ t s => yLq c U S σ A N M d t s) (fun a b => Fo (c + 160) U S σ A M cdC 120 5880 a b) (fun i t s rf2 rg2 hi hp2 hrec2 => ?_) (fun t s rf2 rg2 hp2 => ?_) 0 t s (Nat.zero_le _) hp NN NN (NN_lt (by omega)) (NN_lt (by omega))
      · -- a walker
        obtain ⟨A', N', U', e, C', I', R', q4, q0, q1, q2, k1, k2, k3, a1, a2, T'⟩ := hp2
        have hp2 : yLq c U S σ A N M d t s := ⟨A', N', U', e, C', I', R', q4, q0, q1, q2, k1, k2, k3, a1, a2, T'⟩
        have hA' : cOKN t A' N' := C'.1.1
        have n4' := RI_n4 I'
        have he : e ≤ 60 := by omega
        have hi' : i < N' 1 := by omega
        have m2 : s.2 0 2 = nI (N' 1) := RM_m2 R'
        have m3 : s.2 0 3 = nI (N' 2) := RM_m3 R'
        have hT' := T'
        obtain ⟨t1, t2, t3, t4, t5, t6⟩ := T'
        have hzt : 3 ≤ zc t ∧ 120 ≤ zz t := by omega
        -- the head of the walker's turn
        have FH : f_X1_live_35_b (aad A 0) rf (nI n) (some (aad A 1)) (nI (N 4)) (nI d) rf2 (nI i) (pU t A' N' U') = (if ¬ (if nI (N' 2) = 0 then (1 : Int32) else 0) = 0 then f_X1_live_168 (aad A 0) rf (nI n) (some (aad A 1)) (nI (N 4)) (nI d) (pU t A' N' U') else
            zb2 (f_X1_draw (aad A 0) 100 (pU t A' N' U')) fun x39 σ40 =>
            (gI σ40 (aad A' (100 * 1 + i)) 6 2).bind fun x42 =>
            if x39 < x42 then
              (gR σ40 (aad A 1) 1 9).bind fun r43 =>
              r43.bind fun a44 =>
              zif (zcl σ40 a44 = 19) <|
              zb2 (f_J2_size a44 σ40) fun x46 σ47 =>
              zif (zcl σ47 (aad A 0) = 0) <|
              zb2 (f_X1_draw (aad A 0) x46 σ47) fun x49 σ50 =>
              zl (x49 + 1) fun x51 =>
              zif (zcl σ50 (aad A 0) = 0) <|
              zb2 (f_X1_draw (aad A 0) 4 σ50) fun x53 σ54 =>
              if ¬ x53 = 0 then
                f_X1_live_116 (aad A 0) rf rf2 (nI n) (some (aad A 1)) (nI (N 4)) (nI d) (nI i) (some (aad A' (100 * 1 + i))) x51 0 σ54
              else
                f_X1_live_116 (aad A 0) rf rf2 (nI n) (some (aad A 1)) (nI (N 4)) (nI d) (nI i) (some (aad A' (100 * 1 + i))) x51 1 σ54
            else
              f_X1_live_162 (aad A 0) rf rf2 (nI n) (some (aad A 1)) (nI (N 4)) (nI d) (nI i) σ40) := by
          unfold f_X1_live_35_b
          rw [← a1 0 (by omega), ← a1 1 (by omega)]
          have c1 : zckC (pU t A' N' U') (some (aad A' (100 * 1 + i))) 6 = true := cckC (V := (U'.1, U'.2, N')) hA' (cE1_ hA' hi') rfl
          have em : f_J2_isEmpty (aad A' (11 + 2)) (pU t A' N' U') = some (if nI (N' 2) = 0 then 1 else 0, pU t A' N' U') := cempty hA' (V := (U'.1, U'.2, N')) rfl (by omega) (by omega)
          rw [bd_at, ybind_eq (kR hA' (r := 1) (ci := 1) (v := some (aad A' 12)) rfl rfl rfl), bd_at, zif_t (ykC hA' (r := 12) (ci := 19) rfl rfl), zb2_eq (kS (j := 1) hA' (by omega) (by omega)), nleF hi' (by omega), ybind_eq (kR hA' (r := 1) (ci := 1) (v := some (aad A' 13)) rfl rfl rfl), bd_at, zif_t (ykC hA' (r := 13) (ci := 19) rfl rfl), zb2_eq em]
          by_cases z : ¬ (if nI (N' 2) = 0 then (1 : Int32) else 0) = 0
          · rw [if_pos z, if_pos z]
          · rw [if_neg z, if_neg z, ybind_eq (kR hA' (r := 1) (ci := 1) (v := some (aad A' 12)) rfl rfl rfl), bd_at, zif_t (ykC hA' (r := 12) (ci := 19) rfl rfl), zb2_eq (kG (j := 1) hA' (by omega) (by omega) hi'), zif_t c1, zif_t (ykC hA' (r := 0) (ci := 0) rfl rfl)]
            rfl
        have GH : g_X6_live_45_b rg (nI n) (nI (N 4)) (nI d) rg2 (nI i) s = (if nI (N' 2) ≤ 0 then g_X6_live_150 rg (nI n) (nI (N 4)) (nI d) s else
            zb2 (g_X6_draw 100 s) fun x11 M12 =>
            zb2 (g_X6_ofWalker (nI i) 3 M12) fun x13 M14 =>
            if x11 < x13 then
              (mL M14 0 3).bind fun x15 =>
              zb2 (g_X6_draw x15 M14) fun x16 M17 =>
              zl (x16 + 1) fun x18 =>
              zb2 (g_X6_draw 4 M17) fun x19 M20 =>
              if ¬ x19 = 0 then
                g_X6_live_111 rg rg2 (nI n) (nI (N 4)) (nI d) (nI i) x18 0 M20
              else
                g_X6_live_111 rg rg2 (nI n) (nI (N 4)) (nI d) (nI i) x18 1 M20
            else
              g_X6_live_144 rg rg2 (nI n) (nI (N 4)) (nI d) (nI i) M14) := by
          unfold g_X6_live_45_b
          rw [g_m2, bd_at, m2, nleF hi' (by omega), g_m3, bd_at, m3]
        have hid : t = pU t A' N' U' := (Cs_id C').symm
        rw [GH]
        have FH' := FH
        rw [← hid] at FH'
        rw [FH']
        by_cases z0 : N' 2 = 0
        · have y1 : ¬ (if nI (N' 2) = 0 then (1 : Int32) else 0) = 0 := by rw [z0, if_pos (show nI 0 = 0 from rfl)]; decide
          have y2 : nI (N' 2) ≤ 0 := by rw [z0]; exact Int32.le_refl _
          rw [if_pos y1, if_pos y2]
          exact hday t s hp2
        · have y1 : ¬ ¬ (if nI (N' 2) = 0 then (1 : Int32) else 0) = 0 := by rw [if_neg (nI_ne0 (by omega) (by omega))]; decide
          have y2 : ¬ nI (N' 2) ≤ 0 := nI_nle (by omega) (by omega)
          rw [if_neg y1, if_neg y2]
          obtain ⟨v1, U1, s1, d1, d2, d3, d4, d5, d6, d7, d8, d9⟩ := op_draw I' R' (n := 100) (by omega) (by omega)
          have fd1 : f_X1_draw (aad A 0) 100 t = some (nI v1, pU t A' N' U1) := by
            have := e_X1_draw hA' d2
            rwa [Cs_id C', a1 0 (by omega)] at this
          have gd1 : g_X6_draw 100 s = some (nI v1, s1) := d3
          obtain ⟨C1, T1⟩ := Cs_pU (U' := U1) C' (by rw [d9])
          have wz := (RM_mW d5 i hi').2.2.2
          have gz : gI (pU t A' N' U1) (aad A' (100 * 1 + i)) 6 2 = some (U1.2 1 (4 * i + 2)) := ykI hA' (cE1_ hA' hi') rfl rfl
          have Lq1 : yLq c U S σ A N M d (pU t A' N' U1) s1 := ⟨A', N', U1, e, C1, d4, d5, q4, q0, q1, q2, KU_t k1 d6, KM_t k2 d7, by rw [d8]; exact k3, a1, a2, St_t hT' T1⟩
          rw [zb2_eq fd1, zb2_eq gd1, ybind_eq gz, g_oW3 (by omega), zb2_at, wz]
          by_cases yz : nI v1 < U1.2 1 (4 * i + 2)
          · rw [if_pos yz, if_pos yz]
            obtain ⟨v2, U2, s2, f1, f2, f3, f4, f5, f6, f7, f8, f9⟩ := op_draw d4 d5 (n := N' 2) (by omega) (by omega)
            obtain ⟨v3, U3, s3, h1, h2, h3, h4, h5, h6, h7, h8, h9⟩ := op_draw f4 f5 (n := 4) (by omega) (by omega)
            have m3b : s1.2 0 3 = nI (N' 2) := RM_m3 d5
            have fd2 : f_X1_draw (aad A 0) (nI (N' 2)) (pU t A' N' U1) = some (nI v2, pU t A' N' U2) := by rw [← a1 0 (by omega)]; exact e_X1_draw hA' f2
            have fd3 : f_X1_draw (aad A 0) 4 (pU t A' N' U2) = some (nI v3, pU t A' N' U3) := by rw [← a1 0 (by omega)]; exact e_X1_draw hA' h2
            have gd3 : g_X6_draw 4 s2 = some (nI v3, s3) := h3
            have r9 : gR (pU t A' N' U1) (aad A 1) 1 9 = some (some (aad A' 13)) := by rw [← a1 1 (by omega)]; exact kR hA' (r := 1) (ci := 1) rfl rfl rfl
            have cl0 : ∀ U, zcl (pU t A' N' U) (aad A 0) = 0 := fun U => by rw [← a1 0 (by omega)]; exact ykC hA' (r := 0) (ci := 0) rfl rfl
            rw [ybind_eq r9, bd_at, zif_t (ykC hA' (r := 13) (ci := 19) rfl rfl), zb2_eq (kS (j := 2) hA' (by omega) (by omega)), zif_t (cl0 _), zb2_eq fd2, g_m3, bd_at, m3b, zb2_eq f3, zl_at, zl_at, nI_1, zif_t (cl0 _), zb2_eq fd3, zb2_eq gd3]
            obtain ⟨C3, T3⟩ := Cs_pU (U' := U3) C' (by rw [h9.trans (f9.trans d9)])
            have eU3 : U3.2 = U'.2 := h9.trans (f9.trans d9)
            have Lq3 : yLq c U S σ A N M d (pU t A' N' U3) s3 := ⟨A', N', U3, e, C3, h4, h5, q4, q0, q1, q2, KU_t k1 (KU_t d6 (KU_t f6 h6)), KM_t k2 (KM_t d7 (KM_t f7 h7)), by rw [h8, f8, d8]; exact k3, a1, a2, St_t hT' T3⟩
            -- the walk
            have yW : ∀ nt : Int32, nt = 0 ∨ nt = 1 → Fo (c + 160) U S σ A M cdC 120 5880 (f_X1_live_116 (aad A 0) rf rf2 (nI n) (some (aad A 1)) (nI (N 4)) (nI d) (nI i) (some (aad A' (100 * 1 + i))) (nI (v2 + 1)) nt (pU t A' N' U3)) (g_X6_live_111 rg rg2 (nI n) (nI (N 4)) (nI d) (nI i) (nI (v2 + 1)) nt s3) := by
              intro nt hnt
              obtain ⟨v, w1, w2, w3⟩ := op_may h4 h5 (by omega) (nI i) nt hnt (show v2 + 1 ≤ N' 2 by omega)
              have cl1 : ∀ U, zcl (pU t A' N' U) (aad A 1) = 1 := fun U => by rw [← a1 1 (by omega)]; exact ykC hA' (r := 1) (ci := 1) rfl rfl
              have fm : f_X2_may (aad A 1) (nI i) (nI (v2 + 1)) nt (pU t A' N' U3) = some (v, pU t A' N' U3) := by rw [← a1 1 (by omega)]; exact e_X2_may hA' w1
              unfold f_X1_live_116 g_X6_live_111
              rw [bd_at, zif_t (cl1 _), zb2_eq fm, zb2_eq w2]
              rcases w3 with rfl | ⟨rfl, g60, gl⟩
              · rw [if_pos rfl, if_pos rfl]
                unfold f_X1_live_162 g_X6_live_144
                rw [zl_at, zl_at, nI_1]
                exact hrec2 _ _ Lq3
              · rw [if_neg ne10, if_neg ne10]
                obtain ⟨-, -, -, hh, hh1, hh2⟩ := RI_wal h4 i hi'
                have gh : gI (pU t A' N' U3) (aad A' (100 * 1 + i)) 6 3 = some (nI hh) := by rw [← hh2]; exact ykI hA' (cE1_ hA' hi') rfl rfl
                have mh := (RM_mW h5 i hi').2.2.1
                have LW3 : LK lw nb (s3.2 0) := LK_congr LW (fun j hj => (KM_t k2 (KM_t d7 (KM_t f7 h7))).2.2.2 j (by omega))
                obtain ⟨x, U4, s4, b1, b2, b3, b4, b5, b6, b7, b8⟩ := op_walks (M := s3) h4 h5 (by omega) LW3 hi' hh1 (show v2 + 1 ≤ N' 2 by omega) hnt g60 gl
                obtain ⟨C4, T4⟩ := Cs_pU (U' := U4) C' (by rw [b2.1, eU3])
                have LP3 : yLp t A' S lw nb := Lp_St LP hT' a2
                obtain ⟨l1, l2, l3⟩ := Lp_e LP3 C'
                obtain ⟨σ', A4, x1, x2, x3, x4, x5⟩ := F_walks (w := i) (h := hh) (k := v2 + 1) (nt := nt) (v := x) C4 (Ev_St E (St_t hT' T4)) (by omega) (by omega) (RI_n2 h4) g60 hnt (by show 3 ≤ zc t ∧ 120 ≤ zz t; exact hzt)
                have eU : U4.2 0 hh = U3.2 0 hh := by rw [b2.1]
                rw [eU] at x1 x2
                have fc : f_X1_counted (aad A 0) (nI i) (nI hh) (nI (v2 + 1)) nt (pU t A' N' U3) = some (x, pU t A' N' U4) := by rw [← a1 0 (by omega)]; exact e_X1_counted hA' l1 l2 l3 b1
                rw [bd_at, ybind_eq gh, ybind_eq gh, zif_t (by rw [← a1 0 (by omega)]; exact ykC hA' (r := 0) (ci := 0) rfl rfl), zb2_eq fc, zif_t (cl1 _), ← a1 1 (by omega), zb2_eq x1, g_oW2 (by omega), zb2_at, mh, hh2, zb2_eq b4]
                unfold f_X1_live_162 g_X6_live_144
                rw [zl_at, zl_at, nI_1]
                refine hrec2 _ _ ⟨A4, N4p N' (N' 4 + 1), _, e + 1, x2, ?_, b6, ?_, q0, q1, q2, KU_t (KU_t k1 (KU_t d6 (KU_t f6 h6))) (KU_t (SC_KU b2) wSp_KU), KM_t (KM_t k2 (KM_t d7 (KM_t f7 h7))) b7, ?_, fun r hr => (x4 r hr).trans (a1 r hr), x5.trans a2, St_le (St_t hT' (St_t T4 x3)) (by omega) (by omega)⟩
                · exact b5
                · show N' 4 + 1 = _; omega
                · rw [b8, h8, f8, d8]; exact k3
            by_cases y3 : nI v3 = 0
            · rw [if_neg (fun q => q y3), if_neg (fun q => q y3)]
              exact yW 1 (Or.inr rfl)
            · rw [if_pos y3, if_pos y3]
              exact yW 0 (Or.inl rfl)
          · rw [if_neg yz, if_neg yz]
            unfold f_X1_live_162 g_X6_live_144
            rw [zl_at, zl_at, nI_1]
            exact hrec2 _ _ Lq1
      · -- no walker more
        obtain ⟨A', N', U', e, C', I', R', q4, q0, q1, q2, k1, k2, k3, a1, a2, T'⟩ := hp2
        have hp2 : yLq c U S σ A N M d t s := ⟨A', N', U', e, C', I', R', q4, q0, q1, q2, k1, k2, k3, a1, a2, T'⟩
        have hA' : cOKN t A' N' := C'.1.1
        have m2 : s.2 0 2 = nI (N 1) := by rw [← q1]; exact RM_m2 R'
        have FE : f_X1_live_35_b (aad A 0) rf (nI n) (some (aad A 1)) (nI (N 4)) (nI d) rf2 (nI (N 1)) t = f_X1_live_168 (aad A 0) rf (nI n) (some (aad A 1)) (nI (N 4)) (nI d) t := by
          have q : f_X1_live_35_b (aad A 0) rf (nI n) (some (aad A' 1)) (nI (N 4)) (nI d) rf2 (nI (N 1)) (pU t A' N' U') = f_X1_live_168 (aad A 0) rf (nI n) (some (aad A' 1)) (nI (N 4)) (nI d) (pU t A' N' U') := by
            unfold f_X1_live_35_b
            rw [bd_at, ybind_eq (kR hA' (r := 1) (ci := 1) (v := some (aad A' 12)) rfl rfl rfl), bd_at, zif_t (ykC hA' (r := 12) (ci := 19) rfl rfl), zb2_eq (kS (j := 1) hA' (by omega) (by omega)), q1, if_pos (Int32.le_refl _)]
          rwa [Cs_id C', a1 1 (by omega)] at q
        have GE : g_X6_live_45_b rg (nI n) (nI (N 4)) (nI d) rg2 (nI (N 1)) s = g_X6_live_150 rg (nI n) (nI (N 4)) (nI d) s := by
          unfold g_X6_live_45_b
          rw [g_m2, bd_at, m2, if_pos (Int32.le_refl _)]
        rw [FE, GE]
        exact hday t s hp2
    · -- the end
      obtain ⟨A', N', U', e, C', I', R', q4, q0, q1, q2, k1, k2, k3, a1, a2, T'⟩ := hp
      have hA' : cOKN t A' N' := C'.1.1
      have n4' := RI_n4 I'
      have m4 : s.2 0 4 = nI (N' 4) := RM_m4 R'
      have FE : f_X1_live_26_b (aad A 0) (nI n) (some (aad A 1)) (nI (N 4)) rf (nI n) t = some (.inl (nI (N' 4) - nI (N 4)), t) := by
        have q : f_X1_live_26_b (aad A 0) (nI n) (some (aad A' 1)) (nI (N 4)) rf (nI n) (pU t A' N' U') = some (.inl (nI (N' 4) - nI (N 4)), pU t A' N' U') := by
          unfold f_X1_live_26_b
          rw [if_pos (Int32.le_refl _), bd_at, ybind_eq (kR hA' (r := 1) (ci := 1) (v := some (aad A' 15)) rfl rfl rfl), bd_at, zif_t (ykC hA' (r := 15) (ci := 19) rfl rfl), zb2_eq (kS (j := 4) hA' (by omega) (by omega))]
        rwa [Cs_id C', a1 1 (by omega)] at q
      have GE : g_X6_live_37_b (nI n) (nI (N 4)) rg (nI n) s = some (nI (N' 4) - nI (N 4), s) := by
        unfold g_X6_live_37_b
        rw [if_pos (Int32.le_refl _), g_m4, bd_at, m4]
      exact ⟨.inl (nI (N' 4) - nI (N 4)), nI (N' 4) - nI (N 4), t, A', N', U', s, FE, GE, ⟨k3, rfl⟩, C', St_le T' (by omega) (by omega), RI_mono (by omega) I', R', k1, k2, a1, a2⟩
  · obtain ⟨C2, T2⟩ := Cs_zbU (U' := U) (Sum.inr 0 : Unit ⊕ Nat) C rfl hzz
    refine ⟨.inr 0, 0, _, A, N, U, mset M 0 1, ?_, ?_, rfl, C2, St_le T2 (by omega) (by omega), RI_mono (by omega) I, R, KU_r, KM_set, fun _ _ => rfl, rfl⟩
    · have q : f_X1_live (aad A 0) p (pU σ A N U) = some (.inr 0, pU (zbm σ) A N U) := by
        unfold f_X1_live
        rw [zb2_eq (e_X1_in hA (h_in0 (N := N) (U := U) hp))]
        exact zbt_er (e_X1_demand hA hzz (h_demand0 (N := N) (U := U)))
      rwa [Cs_id C] at q
    · unfold g_X6_live g_X6_live_16
      rw [g_in0 hp, zb2_at, if_neg ne00, zl_at, m_set1, if_neg (by decide)]
end ZLJ
