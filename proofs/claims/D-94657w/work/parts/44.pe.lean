/-! pure land: Q6 Q7 Q8 Q9 (see wip/D-94657w/pl) -/
section T15
variable {c : Nat} {N : Nat → Nat} {U U' U'' : cU} {M M' M'' : mS} {m m' : Nat → Int32}
/-- x is set among the first k, the least first -/
def insAt : Nat → (Nat → Int32) → Int32 → (Nat → Int32)
  | 0, f, x => upd f 0 x
  | k + 1, f, x => if f k ≤ x then upd f (k + 1) x else insAt k (upd f (k + 1) (f k)) x
/-- those of n that are so, sorted, and how many -/
def sf (p : Nat → Bool) (v : Nat → Int32) (a : Nat → Int32) : Nat → (Nat → Int32) × Nat
  | 0 => (a, 0)
  | i + 1 => if p i then (insAt (sf p v a i).2 (sf p v a i).1 (v i), (sf p v a i).2 + 1) else sf p v a i
theorem sf_n (p : Nat → Bool) (v : Nat → Int32) (a : Nat → Int32) : ∀ n, (sf p v a n).2 = cn n p := by
  intro n
  induction n with
  | zero => rfl
  | succ n ih =>
    cases e : p n with
    | true =>
      rw [cn_s1 e, ← ih]
      show (if p n then _ else _ : (Nat → Int32) × Nat).2 = _
      rw [e]; rfl
    | false =>
      rw [cn_s0 e, ← ih]
      show (if p n then _ else _ : (Nat → Int32) × Nat).2 = _
      rw [e]; rfl
theorem sf_1 {p : Nat → Bool} {v a : Nat → Int32} {i : Nat} (h : p i = true) : sf p v a (i + 1) = (insAt (sf p v a i).2 (sf p v a i).1 (v i), (sf p v a i).2 + 1) := by
  show (if p i then _ else _ : (Nat → Int32) × Nat) = _
  rw [h]; rfl
theorem sf_0 {p : Nat → Bool} {v a : Nat → Int32} {i : Nat} (h : p i = false) : sf p v a (i + 1) = sf p v a i := by
  show (if p i then _ else _ : (Nat → Int32) × Nat) = _
  rw [h]; rfl
theorem insAt_far : ∀ (k : Nat) (f : Nat → Int32) (x : Int32) (j : Nat), k < j → insAt k f x j = f j := by
  intro k
  induction k with
  | zero => intro f x j hj; exact upd_no (by omega)
  | succ k ih =>
    intro f x j hj
    show (if f k ≤ x then upd f (k + 1) x else insAt k (upd f (k + 1) (f k)) x) j = f j
    by_cases h : f k ≤ x
    · rw [if_pos h, upd_no (by omega)]
    · rw [if_neg h, ih _ _ _ (by omega), upd_no (by omega)]
theorem insAt_eq : ∀ (k : Nat) (f g : Nat → Int32) (x : Int32), (∀ j, j < k → f j = g j) → ∀ j, j ≤ k → insAt k f x j = insAt k g x j := by
  intro k
  induction k with
  | zero =>
    intro f g x _ j hj
    obtain rfl : j = 0 := by omega
    show upd f 0 x 0 = upd g 0 x 0
    rw [upd_at, upd_at]
  | succ k ih =>
    intro f g x h j hj
    show (if f k ≤ x then upd f (k + 1) x else insAt k (upd f (k + 1) (f k)) x) j = (if g k ≤ x then upd g (k + 1) x else insAt k (upd g (k + 1) (g k)) x) j
    rw [h k (by omega)]
    by_cases q : g k ≤ x
    · rw [if_pos q, if_pos q]
      by_cases z : j = k + 1
      · subst z; rw [upd_at, upd_at]
      · rw [upd_no z, upd_no z]; exact h j (by omega)
    · rw [if_neg q, if_neg q]
      by_cases z : j = k + 1
      · subst z
        rw [insAt_far k _ _ _ (by omega), insAt_far k _ _ _ (by omega), upd_at, upd_at]
      · exact ih _ _ _ (fun i hi => by rw [upd_no (by omega), upd_no (by omega)]; exact h i (by omega)) j (by omega)
theorem sf_eq {p q : Nat → Bool} {v w a b : Nat → Int32} {n : Nat} (hp : ∀ i, i < n → p i = q i) (hv : ∀ i, i < n → v i = w i) : (sf p v a n).2 = (sf q w b n).2 ∧ ∀ j, j < (sf p v a n).2 → (sf p v a n).1 j = (sf q w b n).1 j := by
  induction n with
  | zero => exact ⟨rfl, fun j hj => absurd hj (Nat.not_lt_zero j)⟩
  | succ n ih =>
    obtain ⟨h1, h2⟩ := ih (fun i hi => hp i (by omega)) (fun i hi => hv i (by omega))
    cases e : p n with
    | true =>
      have e' : q n = true := by rw [← hp n (by omega)]; exact e
      rw [sf_1 e, sf_1 e', hv n (by omega), ← h1]
      exact ⟨rfl, fun j hj => insAt_eq _ _ _ _ h2 j (by have : j < (sf p v a n).2 + 1 := hj; omega)⟩
    | false =>
      have e' : q n = false := by rw [← hp n (by omega)]; exact e
      rw [sf_0 e, sf_0 e']
      exact ⟨h1, h2⟩
theorem insAt_all (P : Int32 → Prop) : ∀ (k : Nat) (f : Nat → Int32) (x : Int32), (∀ j, j < k → P (f j)) → P x → ∀ j, j ≤ k → P (insAt k f x j) := by
  intro k
  induction k with
  | zero =>
    intro f x _ hx j hj
    obtain rfl : j = 0 := by omega
    show P (upd f 0 x 0)
    rw [upd_at]; exact hx
  | succ k ih =>
    intro f x h hx j hj
    show P ((if f k ≤ x then upd f (k + 1) x else insAt k (upd f (k + 1) (f k)) x) j)
    by_cases q : f k ≤ x
    · rw [if_pos q]
      by_cases z : j = k + 1
      · subst z; rw [upd_at]; exact hx
      · rw [upd_no z]; exact h j (by omega)
    · rw [if_neg q]
      by_cases z : j = k + 1
      · subst z; rw [insAt_far k _ _ _ (by omega), upd_at]; exact h k (by omega)
      · exact ih _ _ (fun i hi => by rw [upd_no (by omega)]; exact h i (by omega)) hx j (by omega)
theorem sf_all (P : Int32 → Prop) {p : Nat → Bool} {v a : Nat → Int32} : ∀ {n : Nat}, (∀ i, i < n → p i = true → P (v i)) → ∀ j, j < (sf p v a n).2 → P ((sf p v a n).1 j) := by
  intro n
  induction n with
  | zero => intro _ j hj; exact absurd hj (Nat.not_lt_zero j)
  | succ n ih =>
    intro h
    have ih' := ih (fun i hi => h i (by omega))
    cases e : p n with
    | true =>
      rw [sf_1 e]
      exact fun j hj => insAt_all P _ _ _ ih' (h n (by omega) e) j (by have : j < (sf p v a n).2 + 1 := hj; omega)
    | false => rw [sf_0 e]; exact ih'
def siU (U : cU) (a : Nat → Int32) (k : Nat) : cU := (fun j => if j = 7 then nI k else U.1 j, fun q => if q = 5 then a else U.2 q)
def siM (M : mS) (a : Nat → Int32) (k : Nat) : mS := (fun j => if j = 22 then nI k else M.1 j, fun q => if q = 8 then a else M.2 q)
theorem siU_tab {a : Nat → Int32} {k j : Nat} {x : Int32} : utab (siU U a k) 5 j x = siU U (upd a j x) k := by
  refine Prod.ext rfl (funext fun q => ?_)
  show (if q = 5 then upd a j x else if q = 5 then a else U.2 q) = if q = 5 then upd a j x else U.2 q
  by_cases h : q = 5
  · rw [if_pos h, if_pos h]
  · rw [if_neg h, if_neg h, if_neg h]
theorem siU_set {a : Nat → Int32} {k l : Nat} : uset (siU U a k) 7 (nI l) = siU U a l := by
  refine Prod.ext (funext fun q => ?_) rfl
  show (if q = 7 then nI l else if q = 7 then nI k else U.1 q) = if q = 7 then nI l else U.1 q
  by_cases h : q = 7
  · rw [if_pos h, if_pos h]
  · rw [if_neg h, if_neg h, if_neg h]
theorem siM_tab {a : Nat → Int32} {k j : Nat} {x : Int32} : mj (siM M a k) 8 j x = siM M (upd a j x) k := by
  refine Prod.ext rfl (funext fun q => ?_)
  show (if q = 8 then upd a j x else if q = 8 then a else M.2 q) = if q = 8 then upd a j x else M.2 q
  by_cases h : q = 8
  · rw [if_pos h, if_pos h]
  · rw [if_neg h, if_neg h, if_neg h]
theorem siM_set {a : Nat → Int32} {k l : Nat} : mset (siM M a k) 22 (nI l) = siM M a l := by
  refine Prod.ext (funext fun q => ?_) rfl
  show (if q = 22 then nI l else if q = 22 then nI k else M.1 q) = if q = 22 then nI l else M.1 q
  by_cases h : q = 22
  · rw [if_pos h, if_pos h]
  · rw [if_neg h, if_neg h, if_neg h]
theorem h_ins (rec7 : Int32 → cU → Option (Unit × cU)) (v1 : Int32) (i n : Nat) : ∀ (k : Nat) (a : Nat → Int32) (f : Nat), k < 16 → k < f → zlp1 (h_X1_sifts_51_b N rec7 v1 i) f (nI k) (siU U a n) = rec7 (v1 + 1) (siU U (insAt k a (U.2 4 (8 * i + 5))) (n + 1)) := by
  have H9 : ∀ (k : Nat) (a : Nat → Int32), k < 16 → h_X1_sifts_90 N rec7 v1 i (nI k) (siU U a n) = rec7 (v1 + 1) (siU U (upd a k (U.2 4 (8 * i + 5))) (n + 1)) := by
    intro k a hk
    unfold h_X1_sifts_90 h_X1_sifts_110
    rw [uSt_at hk (by omega), bd_at, siU_tab, zl_at]
    show zl (v1 + 1) (fun x5 => rec7 x5 (uset (siU U _ n) 7 (nI n + 1))) = _
    rw [nI_1, siU_set]
    rfl
  intro k
  induction k with
  | zero =>
    intro a f hk hf
    obtain ⟨f, rfl⟩ : ∃ f', f = f' + 1 := ⟨f - 1, by omega⟩
    rw [zlp1_s]
    unfold h_X1_sifts_51_b
    rw [if_pos (show nI 0 ≤ (0 : Int32) from Int32.le_refl _)]
    exact H9 0 a hk
  | succ k ih =>
    intro a f hk hf
    obtain ⟨f, rfl⟩ : ∃ f', f = f' + 1 := ⟨f - 1, by omega⟩
    have ih' := ih (upd a (k + 1) (a k)) f (by omega) (by omega)
    rw [zlp1_s]
    generalize zlp1 (h_X1_sifts_51_b N rec7 v1 i) f = rf at ih' ⊢
    unfold h_X1_sifts_51_b
    have e0 : ¬ nI (k + 1) ≤ 0 := nI_nle (by omega) (by omega)
    rw [if_neg e0, nI_pred, uL_at (by omega) (by omega), bd_at]
    show (if a k ≤ U.2 4 (8 * i + 5) then _ else _) = rec7 (v1 + 1) (siU U (if a k ≤ U.2 4 (8 * i + 5) then _ else _) (n + 1))
    by_cases h : a k ≤ U.2 4 (8 * i + 5)
    · rw [if_pos h, if_pos h]
      exact H9 (k + 1) a hk
    · rw [if_neg h, if_neg h, bd_at, uSt_at hk (by omega), bd_at, siU_tab, zl_at, ← Int32.sub_eq_add_neg, nI_pred]
      exact ih'
theorem h_sifts (h4 : N 4 ≤ 60) (hb : cn (N 4) (fun e => bz (U.2 4 (8 * e + 7))) ≤ 16) : h_X1_sifts N U = some ((), siU U (sf (fun e => bz (U.2 4 (8 * e + 7))) (fun e => U.2 4 (8 * e + 5)) (U.2 5) (N 4)).1 (sf (fun e => bz (U.2 4 (8 * e + 7))) (fun e => U.2 4 (8 * e + 5)) (U.2 5) (N 4)).2) := by
  unfold h_X1_sifts h_X1_sifts_7
  rw [zl_at]
  have e0 : uset U 7 0 = siU U (U.2 5) 0 := by
    refine Prod.ext rfl (funext fun q => ?_)
    show U.2 q = if q = 5 then U.2 5 else U.2 q
    by_cases h : q = 5
    · subst h; rw [if_pos rfl]
    · rw [if_neg h]
  rw [e0]
  have cm : ∀ i j, i ≤ j → cn i (fun e => bz (U.2 4 (8 * e + 7))) ≤ cn j (fun e => bz (U.2 4 (8 * e + 7))) := by
    intro i j hij
    induction j with
    | zero => obtain rfl : i = 0 := by omega
              exact Nat.le_refl _
    | succ j ih =>
      by_cases z : i = j + 1
      · subst z; exact Nat.le_refl _
      · exact Nat.le_trans (ih (by omega)) (Nat.le_add_right _ _)
  refine zlp1_it (n := N 4) (fun i => nI i) (fun i => siU U (sf (fun e => bz (U.2 4 (8 * e + 7))) (fun e => U.2 4 (8 * e + 5)) (U.2 5) i).1 (sf (fun e => bz (U.2 4 (8 * e + 7))) (fun e => U.2 4 (8 * e + 5)) (U.2 5) i).2) (fun i rf hi => ?_) (fun rf => ?_) NN (NN_lt (by omega))
  · have hn := sf_n (fun e => bz (U.2 4 (8 * e + 7))) (fun e => U.2 4 (8 * e + 5)) (U.2 5) i
    unfold h_X1_sifts_7_b
    rw [ofN, nleF hi (by omega), vix_at hi (by omega), bd_at]
    show (if ¬ U.2 4 (8 * i + 7) = 0 then _ else _) = _
    by_cases z : U.2 4 (8 * i + 7) = 0
    · rw [if_neg (fun q => q z), sf_0 (show bz (U.2 4 (8 * i + 7)) = false from bz_f z)]
      unfold h_X1_sifts_110
      rw [zl_at, nI_1]
    · rw [if_pos z, sf_1 (show bz (U.2 4 (8 * i + 7)) = true from bz_t z)]
      have hc := cm (i + 1) (N 4) (by omega)
      rw [cn_s1 (show bz (U.2 4 (8 * i + 7)) = true from bz_t z)] at hc
      unfold h_X1_sifts_51
      rw [← nI_1]
      exact h_ins rf (nI i) i _ _ _ NN (by omega) (NN_lt (by omega))
  · unfold h_X1_sifts_7_b
    rw [ofN, if_pos (Int32.le_refl _)]
/-! the model's -/
theorem g_ins (rec13 : Int32 → Int32 → mS → Option (Int32 × mS)) (v1 v2 : Int32) {i : Nat} (n : Nat) (hi : i < 60) : ∀ (k : Nat) (a : Nat → Int32) (f : Nat), k < 60 → k < f → zlp1 (g_X6_asks_60_b rec13 v1 v2 (nI i)) f (nI k) (siM M a n) = rec13 v2 (nI i + 1) (siM M (insAt k a (M.2 0 (122 + 7 * i + 5))) (n + 1)) := by
  have H9 : ∀ (k : Nat) (a : Nat → Int32), k < 60 → g_X6_asks_105 rec13 v1 v2 (nI i) (nI k) (siM M a n) = rec13 v2 (nI i + 1) (siM M (upd a k (M.2 0 (122 + 7 * i + 5))) (n + 1)) := by
    intro k a hk
    unfold g_X6_asks_105 g_X6_asks_128
    rw [g_oE5 hi, zb2_at, mj_set (j := 8) (show k < 60 by omega), bd_at, siM_tab, zl_at]
    show zl (nI i + 1) (fun x5 => rec13 v2 x5 (mset (siM M _ n) 22 (nI n + 1))) = _
    rw [show nI n + 1 = nI (n + 1) from nI_1 n, siM_set, zl_at]
    rfl
  intro k
  induction k with
  | zero =>
    intro a f hk hf
    obtain ⟨f, rfl⟩ : ∃ f', f = f' + 1 := ⟨f - 1, by omega⟩
    rw [zlp1_s]
    unfold g_X6_asks_60_b
    rw [if_pos (show nI 0 ≤ (0 : Int32) from Int32.le_refl _)]
    exact H9 0 a hk
  | succ k ih =>
    intro a f hk hf
    obtain ⟨f, rfl⟩ : ∃ f', f = f' + 1 := ⟨f - 1, by omega⟩
    have ih' := ih (upd a (k + 1) (a k)) f (by omega) (by omega)
    rw [zlp1_s]
    generalize zlp1 (g_X6_asks_60_b rec13 v1 v2 (nI i)) f = rf at ih' ⊢
    unfold g_X6_asks_60_b
    have e0 : ¬ nI (k + 1) ≤ 0 := nI_nle (by omega) (by omega)
    rw [if_neg e0, nI_pred, mL_n (j := 8) (show k < 60 by omega) (by omega), bd_at, g_oE5 hi, zb2_at]
    show (if a k ≤ M.2 0 (122 + 7 * i + 5) then _ else _) = rec13 v2 (nI i + 1) (siM M (if a k ≤ M.2 0 (122 + 7 * i + 5) then _ else _) (n + 1))
    by_cases h : a k ≤ M.2 0 (122 + 7 * i + 5)
    · rw [if_pos h, if_pos h]
      exact H9 (k + 1) a hk
    · rw [if_neg h, if_neg h, mL_n (j := 8) (show k < 60 by omega) (by omega), bd_at, mj_set (j := 8) (show k + 1 < 60 by omega), bd_at, siM_tab, zl_at, ← Int32.sub_eq_add_neg, nI_pred]
      exact ih'
theorem g_asks {n : Nat} (h4 : M.2 0 4 = nI n) (hn : n ≤ 60) (h : Int32) : g_X6_asks h M = some (ysm n (fun e => if M.2 0 (122 + 7 * e + 2) = h then 1 else 0) - ysm n (fun e => if bz (M.2 0 (122 + 7 * e + 6)) = true then 0 else if M.2 0 (122 + 7 * e + 2) = h then 1 else 0), siM M (sf (fun e => bz (M.2 0 (122 + 7 * e + 6))) (fun e => M.2 0 (122 + 7 * e + 5)) (M.2 8) n).1 (sf (fun e => bz (M.2 0 (122 + 7 * e + 6))) (fun e => M.2 0 (122 + 7 * e + 5)) (M.2 8) n).2) := by
  have e0 : mset M 22 0 = siM M (M.2 8) 0 := by
    refine Prod.ext rfl (funext fun q => ?_)
    show M.2 q = if q = 8 then M.2 8 else M.2 q
    by_cases h : q = 8
    · subst h; rw [if_pos rfl]
    · rw [if_neg h]
  unfold g_X6_asks g_X6_asks_13
  rw [zl_at, e0, g_beads (M := siM M (M.2 8) 0) (n := n) h4 hn, zb2_at]
  generalize hB : ysm n (fun e => if (siM M (M.2 8) 0).2 0 (122 + 7 * e + 2) = h then (1 : Int32) else 0) = B
  have hB' : ysm n (fun e => if M.2 0 (122 + 7 * e + 2) = h then (1 : Int32) else 0) = B := hB
  rw [hB']
  have q := zlp2_it (F := g_X6_asks_13_b h) (n := n) (R := some (B - ysm n (fun e => if bz (M.2 0 (122 + 7 * e + 6)) = true then 0 else if M.2 0 (122 + 7 * e + 2) = h then 1 else 0), siM M (sf (fun e => bz (M.2 0 (122 + 7 * e + 6))) (fun e => M.2 0 (122 + 7 * e + 5)) (M.2 8) n).1 (sf (fun e => bz (M.2 0 (122 + 7 * e + 6))) (fun e => M.2 0 (122 + 7 * e + 5)) (M.2 8) n).2)) (fun i => B - ysm i (fun e => if bz (M.2 0 (122 + 7 * e + 6)) = true then 0 else if M.2 0 (122 + 7 * e + 2) = h then 1 else 0)) (fun i => nI i) (fun i => siM M (sf (fun e => bz (M.2 0 (122 + 7 * e + 6))) (fun e => M.2 0 (122 + 7 * e + 5)) (M.2 8) i).1 (sf (fun e => bz (M.2 0 (122 + 7 * e + 6))) (fun e => M.2 0 (122 + 7 * e + 5)) (M.2 8) i).2) (fun i rf hi => ?_) (fun rf => ?_) NN (NN_lt (by omega))
  · have e1 : B - ysm 0 (fun e => if bz (M.2 0 (122 + 7 * e + 6)) = true then 0 else if M.2 0 (122 + 7 * e + 2) = h then 1 else 0) = B := Int32.sub_zero B
    rw [e1] at q
    exact q
  · have hs := sf_n (fun e => bz (M.2 0 (122 + 7 * e + 6))) (fun e => M.2 0 (122 + 7 * e + 5)) (M.2 8) i
    have hc := cn_le i (fun e => bz (M.2 0 (122 + 7 * e + 6)))
    have h4' : ∀ a k, (siM M a k).2 0 4 = nI n := fun _ _ => h4
    unfold g_X6_asks_13_b
    rw [g_m4, bd_at, h4', nleF hi (by omega), g_oE6 (by omega), zb2_at]
    show (if ¬ M.2 0 (122 + 7 * i + 6) = 0 then _ else _) = _
    by_cases z : M.2 0 (122 + 7 * i + 6) = 0
    · have bz0 : bz (M.2 0 (122 + 7 * i + 6)) = false := bz_f z
      rw [if_neg (fun q => q z), sf_0 (p := fun e => bz (M.2 0 (122 + 7 * e + 6))) bz0, g_oE2 (by omega), zb2_at, sm_s]
      unfold g_X6_asks_49 g_X6_asks_128
      simp only [zl_at, nI_1]
      show (if ¬ M.2 0 (122 + 7 * i + 2) = h then _ else _) = rf (B - (_ + if bz (M.2 0 (122 + 7 * i + 6)) = true then 0 else if M.2 0 (122 + 7 * i + 2) = h then 1 else 0)) _ _
      rw [bz0]
      by_cases y : M.2 0 (122 + 7 * i + 2) = h
      · rw [if_neg (fun q => q y), if_neg (by decide), if_pos y, ← Int32.sub_sub]
      · rw [if_pos y, if_neg (by decide), if_neg y, ← Int32.sub_sub]
    · have bz1 : bz (M.2 0 (122 + 7 * i + 6)) = true := bz_t z
      rw [if_pos z, sf_1 (p := fun e => bz (M.2 0 (122 + 7 * e + 6))) bz1, zl_at, sm_s]
      show g_X6_asks_60 rf h _ (nI i) (nI (sf (fun e => bz (M.2 0 (122 + 7 * e + 6))) (fun e => M.2 0 (122 + 7 * e + 5)) (M.2 8) i).2) _ = rf (B - (_ + if bz (M.2 0 (122 + 7 * i + 6)) = true then 0 else if M.2 0 (122 + 7 * i + 2) = h then 1 else 0)) _ _
      rw [if_pos bz1, i_add0, ← nI_1]
      unfold g_X6_asks_60
      exact g_ins rf h _ _ (by omega) _ _ NN (by omega) (NN_lt (by omega))
  · have h4' : ∀ a k, (siM M a k).2 0 4 = nI n := fun _ _ => h4
    unfold g_X6_asks_13_b
    rw [g_m4, bd_at, h4', if_pos (Int32.le_refl _)]
end T15
section T16
variable {c : Nat} {N : Nat → Nat} {U U' U'' : cU} {M M' M'' : mS} {m m' : Nat → Int32}
theorem sm_sub {n : Nat} {f g : Nat → Int32} : ysm n f - ysm n g = ysm n (fun i => f i - g i) := by
  induction n with
  | zero => exact Int32.sub_self 0
  | succ n ih =>
    rw [sm_s, sm_s, sm_s, ← ih]
    simp only [Int32.sub_eq_add_neg, Int32.neg_add]
    ac_rfl
theorem cn_imp {n : Nat} {p q : Nat → Bool} (h : ∀ i, i < n → p i = true → q i = true) : cn n p ≤ cn n q := by
  induction n with
  | zero => exact Nat.le_refl _
  | succ n ih =>
    have ih' := ih (fun i hi => h i (by omega))
    cases e : p n with
    | true => rw [cn_s1 e, cn_s1 (h n (by omega) e)]; omega
    | false =>
      rw [cn_s0 e]
      exact Nat.le_trans ih' (Nat.le_add_right _ _)
/-- how many burnt entries are a house's -/
def ylo (N : Nat → Nat) (U : cU) (h : Int32) : Nat := cn (N 4) (fun e => decide (U.2 4 (8 * e + 3) = h) && bz (U.2 4 (8 * e + 7)))
/-- how many are burnt -/
def bu (N : Nat → Nat) (U : cU) : Nat := cn (N 4) (fun e => bz (U.2 4 (8 * e + 7)))
theorem lo_bu (h : Int32) : ylo N U h ≤ bu N U := cn_imp fun i _ e => by
  cases z : bz (U.2 4 (8 * i + 7)) with
  | true => rfl
  | false => rw [z, Bool.and_false] at e; cases e
theorem h_lostN (I : RI c N U) (h : Int32) : h_X1_lost N h U = some (nI (ylo N U h), U) := by
  unfold ylo
  rw [h_lost (RI_n4 I), ← sm_cn]
  congr 2
  refine sm_eq fun i hi => ?_
  by_cases h1 : U.2 4 (8 * i + 3) = h
  · by_cases h2 : U.2 4 (8 * i + 7) = 0
    · rw [if_neg (fun q => q.2 h2), bz_f h2, Bool.and_false]; rfl
    · rw [if_pos ⟨h1, h2⟩, bz_t h2, decide_eq_true h1]; rfl
  · rw [if_neg (fun q => h1 q.1), decide_eq_false h1]; rfl
theorem op_known (I : RI c N U) (R : yRM N U (M.2 0)) (h : Int32) : ∃ v, h_X1_known N h U = some (v, U) ∧ g_X6_knownOf h M = some (v, M) := by
  refine ⟨_, h_known (RI_n4 I) h, ?_⟩
  rw [g_known (RM_m4 R) (RI_n4 I)]
  congr 2
  refine sm_eq fun i hi => ?_
  obtain ⟨r0, r1, r2, r3, r4, r5, r6⟩ := RM_mE R i hi
  rw [r2, r5, r6]
  by_cases h1 : U.2 4 (8 * i + 3) = h
  · by_cases h2 : U.2 4 (8 * i + 7) = 0
    · rw [if_pos ⟨h2, h1⟩, if_pos ⟨h1, h2⟩]
    · rw [if_neg (fun q => h2 q.1), if_neg (fun q => h2 q.2)]
  · rw [if_neg (fun q => h1 q.2), if_neg (fun q => h1 q.1)]
theorem RI_si {a : Nat → Int32} {k : Nat} (I : RI c N U) : RI c N (siU U a k) := RI_scr I (fun j hj _ => if_neg (by omega)) (fun t ht => if_neg (by omega))
theorem RM_si {a : Nat → Int32} {k : Nat} (R : yRM N U m) : yRM N (siU U a k) m := RM_scr R (fun j hj => if_neg (by omega)) (fun t ht => if_neg (by omega))
theorem KU_si {a : Nat → Int32} {k : Nat} : KU U (siU U a k) := ⟨fun j h1 h2 => if_neg (by omega), rfl, rfl⟩
theorem KM_si {a : Nat → Int32} {k : Nat} : yKM M (siM M a k) := ⟨⟨rfl, rfl, rfl⟩, rfl, rfl, fun _ _ => rfl⟩
theorem op_sifts (I : RI c N U) (R : yRM N U (M.2 0)) : ∃ a b, h_X1_sifts N U = some ((), siU U a (bu N U)) ∧ (∀ h : Int32, g_X6_asks h M = some (nI (ylo N U h), siM M b (bu N U))) ∧ (∀ j, j < bu N U → a j = b j ∧ bd 9801 (a j)) := by
  have n4 := RI_n4 I
  have hU := h_sifts n4 (RI_bur I)
  have hn := sf_n (fun e => bz (U.2 4 (8 * e + 7))) (fun e => U.2 4 (8 * e + 5)) (U.2 5) (N 4)
  obtain ⟨e1, e2⟩ := sf_eq (p := fun e => bz (U.2 4 (8 * e + 7))) (q := fun e => bz (M.2 0 (122 + 7 * e + 6))) (v := fun e => U.2 4 (8 * e + 5)) (w := fun e => M.2 0 (122 + 7 * e + 5)) (a := U.2 5) (b := M.2 8) (n := N 4) (fun i hi => by
    show bz _ = bz _
    rw [(RM_mE R i hi).2.2.2.2.2.2]) (fun i hi => ((RM_mE R i hi).2.2.2.2.2.1).symm)
  refine ⟨(sf (fun e => bz (U.2 4 (8 * e + 7))) (fun e => U.2 4 (8 * e + 5)) (U.2 5) (N 4)).1, (sf (fun e => bz (M.2 0 (122 + 7 * e + 6))) (fun e => M.2 0 (122 + 7 * e + 5)) (M.2 8) (N 4)).1, ?_, fun h => ?_, fun j hj => ⟨?_, ?_⟩⟩
  · rw [hU, hn]; rfl
  · rw [g_asks (RM_m4 R) n4 h, ← e1, hn, sm_sub]
    unfold ylo
    rw [← sm_cn]
    refine congrArg some (Prod.ext ?_ rfl)
    refine sm_eq fun i hi => ?_
    obtain ⟨r0, r1, r2, r3, r4, r5, r6⟩ := RM_mE R i hi
    rw [r2, r6]
    by_cases h1 : U.2 4 (8 * i + 3) = h
    · cases z : bz (U.2 4 (8 * i + 7)) with
      | true => simp [h1]
      | false => simp [h1]
    · simp [h1]
  · exact e2 j (by rw [hn]; exact hj)
  · refine sf_all (bd 9801) (fun i hi _ => (RI_ent I i hi).2.2.2.2.2.2.2.1) j (by rw [hn]; exact hj)
theorem op_span (I : RI c N U) (R : yRM N U (M.2 0)) (p q : Int32) : OKo c N cdC U M (h_X1_span N p q U) (g_X6_span p q M) := by
  have n0 := RI_n0 I
  have h31 : N 0 < 2 ^ 31 := by omega
  rcases ix_cases p h31 with hp | ⟨j, hj, rfl⟩
  · refine ⟨.inr 2, 0, U, mset M 0 1, ?_, ?_, rfl, I, R, KU_r, KM_set⟩
    · unfold h_X1_span
      rw [h_houseAt_no (RI_hou I) hp h31, zbt_r]
    · unfold g_X6_span g_X6_span_14
      rw [g_house_no (RM_m1 R) hp h31, zb2_at, if_neg ne00, zl_at, m_set1, if_neg (by decide)]
  · obtain ⟨a, b, s1, s2, s3⟩ := op_sifts (M := mset M 0 0) I R
    have hb : bu N U ≤ 16 := RI_bur I
    have hl := lo_bu (N := N) (U := U) (nI j)
    obtain ⟨v, k1, k2⟩ := op_known (M := siM (mset M 0 0) b (bu N U)) (U := siU U a (bu N U)) (RI_si I) (RM_si R) (nI j)
    have hlo : ∀ a k, h_X1_lost N (nI j) (siU U a k) = some (nI (ylo N U (nI j)), siU U a k) := fun a k => h_lostN (RI_si I) (nI j)
    have s2 := s2 (nI j)
    generalize ylo N U (nI j) = l at *
    generalize bu N U = k at *
    refine ⟨.inl (v + ysm l (fun i => if q = 0 then a i else a (k - 1 - i))), v + ysm l (fun i => if q = 0 then a i else a (k - 1 - i)), siU U a k, siM (mset M 0 0) b k, ?_, ?_, ⟨rfl, rfl⟩, RI_si I, RM_si R, KU_si, KM_t KM_set KM_si⟩
    · unfold h_X1_span h_X1_span_18
      rw [h_houseAt_ok (RI_hou I) hj h31, zbt_i, s1, zb2_at, k1, zb2_at]
      refine zlp2_sum (r := fun x => some (Sum.inl x, siU U a k)) (fun i acc rf hi => ?_) (fun acc rf => ?_) NN (NN_lt (by omega))
      · unfold h_X1_span_18_b h_X1_span_51
        rw [hlo, zb2_at, nleF hi (by omega)]
        by_cases z : q = 0
        · rw [if_pos z, uL_at (by omega) (by omega), bd_at, zl_at, zl_at, nI_1, if_pos z]
          rfl
        · have e1 : (siU U a k).1 7 - 1 - nI i = nI (k - 1 - i) := by
            show nI k - nI 1 - nI i = _
            rw [pk_sub (by omega), pk_sub (by omega)]
          rw [if_neg z, e1, uL_at (by omega) (by omega), bd_at, zl_at, zl_at, nI_1, if_neg z]
          rfl
      · unfold h_X1_span_18_b
        rw [hlo, zb2_at, if_pos (Int32.le_refl _)]
    · unfold g_X6_span g_X6_span_14 g_X6_span_42
      rw [g_house_ok (RM_m1 R) hj h31, zb2_at, if_pos ne10, zl_at, m_set1, if_pos le00, s2, zb2_at, k2, zb2_at]
      refine zlp2_sum (r := fun x => some (x, siM (mset M 0 0) b k)) (fun i acc rf hi => ?_) (fun acc rf => ?_) NN (NN_lt (by omega))
      · unfold g_X6_span_42_b g_X6_span_78
        rw [nleF hi (by omega)]
        by_cases z : q = 0
        · rw [if_pos z, mL_n (j := 8) (show i < 60 by omega) (by omega), bd_at, zl_at, zl_at, nI_1, if_pos z, (s3 i (by omega)).1]
          rfl
        · have e1 : (siM (mset M 0 0) b k).1 22 - 1 - nI i = nI (k - 1 - i) := by
            show nI k - nI 1 - nI i = _
            rw [pk_sub (by omega), pk_sub (by omega)]
          rw [if_neg z, e1, mL_n (j := 8) (show k - 1 - i < 60 by omega) (by omega), bd_at, zl_at, zl_at, nI_1, if_neg z, (s3 (k - 1 - i) (by omega)).1]
          rfl
      · unfold g_X6_span_42_b
        rw [if_pos (Int32.le_refl _)]
end T16
/-! bits -/
theorem nx_and (a b : Nat) : nI a &&& nI b = nI (a &&& b) := by
  apply Int32.toBitVec_inj.1
  show BitVec.ofNat 32 a &&& BitVec.ofNat 32 b = BitVec.ofNat 32 (a &&& b)
  apply BitVec.eq_of_getLsbD_eq
  intro i hi
  simp [hi]
theorem s_l : ∀ n, n < 32 → ((nI n &&& 31).toBitVec.smod 32).toNat = n := by decide +kernel
theorem s_u : ∀ n, n < 32 → (((nI n).toUInt32 &&& Int32.toUInt32 31).toBitVec % 32).toNat = n := by decide +kernel
/-- the component's count of bits -/
def bcf (p1 : Int32) : Int32 :=
  (fun x5 : Int32 => x5 &&& 63) ((fun x4 : Int32 => x4 + ((x4.toUInt32 >>> ((16 : Int32).toUInt32 &&& Int32.toUInt32 31)).toInt32)) ((fun x3 : Int32 => x3 + ((x3.toUInt32 >>> ((8 : Int32).toUInt32 &&& Int32.toUInt32 31)).toInt32)) ((fun x2 : Int32 => (x2 + ((x2.toUInt32 >>> ((4 : Int32).toUInt32 &&& Int32.toUInt32 31)).toInt32)) &&& 252645135) ((fun x1 : Int32 => (x1 &&& 858993459) + (((x1.toUInt32 >>> ((2 : Int32).toUInt32 &&& Int32.toUInt32 31)).toInt32) &&& 858993459)) (p1 - (((p1.toUInt32 >>> ((1 : Int32).toUInt32 &&& Int32.toUInt32 31)).toInt32) &&& 1431655765))))))
theorem h_bc (N : Nat → Nat) (p : Int32) (U : cU) : h_J17_bitCount N p U = some (bcf p, U) := rfl
theorem yush {n : Nat} (hn : n < 2 ^ 32) (k : Nat) (hk : k < 32) : ((nI n).toUInt32 >>> ((nI k).toUInt32 &&& Int32.toUInt32 31)).toInt32 = nI (n / 2 ^ k) := pk_ushrN hn (nI k) k (s_u k hk)
theorem bcf_N {n : Nat} (hn : n < 2 ^ 31) : bcf (nI n) = nI (bcN n) := by
  have a1 : ∀ x, x &&& 858993459 ≤ 858993459 := fun x => Nat.and_le_right
  have a2 : ∀ x, x &&& 252645135 ≤ 252645135 := fun x => Nat.and_le_right
  have e1 : nI n - (((nI n).toUInt32 >>> ((1 : Int32).toUInt32 &&& Int32.toUInt32 31)).toInt32 &&& 1431655765) = nI (n - (n / 2 ^ 1 &&& 1431655765)) := by
    show nI n - (((nI n).toUInt32 >>> ((nI 1).toUInt32 &&& Int32.toUInt32 31)).toInt32 &&& nI 1431655765) = _
    rw [yush (by omega) 1 (by omega), nx_and]
    refine pk_sub ?_
    have : n / 2 ^ 1 &&& 1431655765 ≤ n / 2 ^ 1 := Nat.and_le_left
    omega
  have e2 : ∀ x, x < 2 ^ 32 → (nI x &&& 858993459) + (((nI x).toUInt32 >>> ((2 : Int32).toUInt32 &&& Int32.toUInt32 31)).toInt32 &&& 858993459) = nI ((x &&& 858993459) + (x / 2 ^ 2 &&& 858993459)) := by
    intro x hx
    show (nI x &&& nI 858993459) + (((nI x).toUInt32 >>> ((nI 2).toUInt32 &&& Int32.toUInt32 31)).toInt32 &&& nI 858993459) = _
    rw [yush hx 2 (by omega), nx_and, nx_and, nI_add]
  have e3 : ∀ x, x < 2 ^ 32 → (nI x + ((nI x).toUInt32 >>> ((4 : Int32).toUInt32 &&& Int32.toUInt32 31)).toInt32) &&& 252645135 = nI ((x + x / 2 ^ 4) &&& 252645135) := by
    intro x hx
    show (nI x + ((nI x).toUInt32 >>> ((nI 4).toUInt32 &&& Int32.toUInt32 31)).toInt32) &&& nI 252645135 = _
    rw [yush hx 4 (by omega), nI_add, nx_and]
  have e4 : ∀ x, x < 2 ^ 32 → nI x + ((nI x).toUInt32 >>> ((8 : Int32).toUInt32 &&& Int32.toUInt32 31)).toInt32 = nI (x + x / 2 ^ 8) := by
    intro x hx
    show nI x + ((nI x).toUInt32 >>> ((nI 8).toUInt32 &&& Int32.toUInt32 31)).toInt32 = _
    rw [yush hx 8 (by omega), nI_add]
  have e5 : ∀ x, x < 2 ^ 32 → nI x + ((nI x).toUInt32 >>> ((16 : Int32).toUInt32 &&& Int32.toUInt32 31)).toInt32 = nI (x + x / 2 ^ 16) := by
    intro x hx
    show nI x + ((nI x).toUInt32 >>> ((nI 16).toUInt32 &&& Int32.toUInt32 31)).toInt32 = _
    rw [yush hx 16 (by omega), nI_add]
  unfold bcf bcN
  dsimp only
  generalize hx1 : n - (n / 2 ^ 1 &&& 1431655765) = x1 at *
  rw [e1, e2 x1 (by omega)]
  have b1 := a1 x1
  have b2 := a1 (x1 / 2 ^ 2)
  have hx2 : (x1 &&& 858993459) + (x1 / 2 ^ 2 &&& 858993459) < 2 ^ 32 := by omega
  generalize (x1 &&& 858993459) + (x1 / 2 ^ 2 &&& 858993459) = x2 at *
  rw [e3 x2 hx2]
  have b3 := a2 (x2 + x2 / 2 ^ 4)
  generalize (x2 + x2 / 2 ^ 4) &&& 252645135 = x3 at *
  rw [e4 x3 (by omega), e5 _ (by omega)]
  show _ &&& nI 63 = _
  rw [nx_and]
theorem bcN_p {n : Nat} (h : n < 65536) : bcN n = pcn 16 n := bcN_pc 16 n (by omega) (Nat.le_refl _)
theorem pcn_0 : ∀ n, pcn n 0 = 0 := by
  intro n
  induction n with
  | zero => rfl
  | succ n ih => show 0 % 2 + pcn n (0 / 2) = 0; rw [Nat.zero_div, ih]
theorem pcn_more : ∀ k n s, s < 2 ^ n → pcn (n + k) s = pcn n s := by
  intro k n
  induction n with
  | zero =>
    intro s hs
    obtain rfl : s = 0 := by omega
    rw [pcn_0, pcn_0]
  | succ n ih =>
    intro s hs
    rw [show n + 1 + k = (n + k) + 1 by omega]
    show s % 2 + pcn (n + k) (s / 2) = s % 2 + pcn n (s / 2)
    rw [ih (s / 2) (by rw [Nat.pow_succ] at hs; omega)]
theorem bc_p {n s : Nat} (hs : s < 2 ^ n) (hn : n ≤ 16) : bcf (nI s) = nI (pcn n s) := by
  have h1 : (2 : Nat) ^ n ≤ 2 ^ 16 := Nat.pow_le_pow_right (by omega) hn
  rw [bcf_N (by omega), bcN_p (by omega), show 16 = n + (16 - n) by omega, pcn_more _ _ _ hs]
/-- a bit of a set -/
theorem sbit {s k : Nat} (hs : s < 2 ^ 31) (hk : k < 32) : nI s >>> (nI k &&& 31) &&& 1 = nI (s / 2 ^ k % 2) := by
  rw [pk_shrN hs (nI k &&& 31) k (s_l k hk)]
  show nI (s / 2 ^ k) &&& nI 1 = _
  rw [nx_and, Nat.and_one_is_mod]
theorem yshl1 {k : Nat} (hk : k < 31) : (1 : Int32) <<< (nI k &&& 31) = nI (2 ^ k) := by
  have h1 : (2 : Nat) ^ k ≤ 2 ^ 30 := Nat.pow_le_pow_right (by omega) (by omega)
  have := pk_shlN (n := 1) (nI k &&& 31) k (s_l k (by omega)) (by omega)
  rwa [Nat.one_mul] at this
/-- sums of numbers from the front -/
def ns : Nat → (Nat → Nat) → Nat
  | 0, _ => 0
  | n + 1, f => ns n f + f n
theorem ns_front (n : Nat) (f : Nat → Nat) : ns (n + 1) f = f 0 + ns n (fun i => f (i + 1)) := by
  induction n with
  | zero => show 0 + f 0 = f 0 + 0; omega
  | succ n ih =>
    show ns (n + 1) f + f (n + 1) = f 0 + (ns n (fun i => f (i + 1)) + f (n + 1))
    rw [ih]; omega
theorem sm_ns (n : Nat) (f : Nat → Nat) : ysm n (fun i => nI (f i)) = nI (ns n f) := by
  induction n with
  | zero => rfl
  | succ n ih => rw [sm_s, ih, nI_add]; rfl
theorem ns_eq {n : Nat} {f g : Nat → Nat} (h : ∀ i, i < n → f i = g i) : ns n f = ns n g := by
  induction n with
  | zero => rfl
  | succ n ih => show ns n f + f n = ns n g + g n; rw [ih (fun i hi => h i (by omega)), h n (by omega)]
theorem pcn_ns : ∀ n s, pcn n s = ns n (fun k => s / 2 ^ k % 2) := by
  intro n
  induction n with
  | zero => intro s; rfl
  | succ n ih =>
    intro s
    rw [ns_front]
    show s % 2 + pcn n (s / 2) = s / 2 ^ 0 % 2 + _
    rw [ih, Nat.pow_zero, Nat.div_one]
    congr 1
    refine ns_eq fun i hi => ?_
    rw [Nat.div_div_eq_div_mul, Nat.pow_succ, Nat.mul_comm]
section T17
variable {c : Nat} {N : Nat → Nat} {U U' U'' : cU} {M M' M'' : mS} {m m' : Nat → Int32}
def bitI (s k : Nat) : Int32 := nI s >>> (nI k &&& 31) &&& 1
def dP (U : cU) (n s : Nat) : Int32 := ysm n (fun k => if bitI s k = 0 then 0 else U.2 3 (2 * k))
def dQ (U : cU) (n s : Nat) : Int32 := ysm n (fun k => if bitI s k = 0 then 0 else U.2 3 (2 * k + 1))
def bI : Option Nat → Int32
  | none => -1
  | some s => nI s
/-- the best deal of the first sets, and its price -/
def dl (U : cU) (n : Nat) (d : Int32) : Nat → Option Nat × Int32
  | 0 => (none, 0)
  | s + 1 => if dP U n s < d then dl U n d s else match (dl U n d s).1 with
    | none => (some s, dQ U n s)
    | some b => if (dl U n d s).2 < dQ U n s then dl U n d s else if ¬ dQ U n s = (dl U n d s).2 then (some s, dQ U n s) else if nI (pcn 16 s) < nI (pcn 16 b) then (some s, dQ U n s) else dl U n d s
theorem dl_inv (U : cU) (n : Nat) (d : Int32) : ∀ s b, (dl U n d s).1 = some b → b < s ∧ (dl U n d s).2 = dQ U n b := by
  intro s
  induction s with
  | zero => intro b h; cases h
  | succ s ih =>
    intro b h
    have ih' : ∀ b, (dl U n d s).1 = some b → b < s + 1 ∧ (dl U n d s).2 = dQ U n b := fun b h => ⟨by have := (ih b h).1; omega, (ih b h).2⟩
    have hn : ∀ b, (some s : Option Nat) = some b → b < s + 1 ∧ dQ U n s = dQ U n b := fun b h => by
      cases h; exact ⟨by omega, rfl⟩
    revert h
    unfold dl
    by_cases h1 : dP U n s < d
    · rw [if_pos h1]; exact ih' b
    · rw [if_neg h1]
      cases e : (dl U n d s).1 with
      | none => exact hn b
      | some b' =>
        dsimp only
        by_cases h2 : (dl U n d s).2 < dQ U n s
        · rw [if_pos h2]; exact ih' b
        · rw [if_neg h2]
          by_cases h3 : ¬ dQ U n s = (dl U n d s).2
          · rw [if_pos h3]; exact hn b
          · rw [if_neg h3]
            by_cases h4 : nI (pcn 16 s) < nI (pcn 16 b')
            · rw [if_pos h4]; exact hn b
            · rw [if_neg h4]; exact ih' b
theorem bI_ne {s : Nat} (h : s < 2 ^ 31) : ¬ nI s = -1 := by
  intro q
  have := nI_pos h
  rw [q] at this
  exact this (by decide)
theorem pow12 {n : Nat} (h : n ≤ 12) : 2 ^ n ≤ 4096 := Nat.pow_le_pow_right (n := 2) (by omega) h
theorem h_dealI (h3 : N 3 ≤ 12) (rec7 : Int32 → Int32 → Int32 → cU → Option (Int32 × cU)) (d b l : Int32) (s : Nat) (R : Option (Int32 × cU)) (he : ∀ rf, h_X1_bestDeal_33_b N rec7 d b l (nI s) rf (dP U (N 3) s) (dQ U (N 3) s) (nI (N 3)) U = R) : h_X1_bestDeal_33 N rec7 d b l (nI s) 0 0 0 U = R := by
  unfold h_X1_bestDeal_33
  refine zlp3_it (n := N 3) (fun i => dP U i s) (fun i => dQ U i s) (fun i => nI i) (fun _ => U) (fun i rf hi => ?_) he NN (NN_lt (by omega))
  unfold h_X1_bestDeal_33_b h_X1_bestDeal_107
  rw [ofN, nleF hi (by omega)]
  show (if ¬ bitI s i = 0 then _ else _) = rf (dP U i s + if bitI s i = 0 then 0 else U.2 3 (2 * i)) (dQ U i s + if bitI s i = 0 then 0 else U.2 3 (2 * i + 1)) _ U
  by_cases z : bitI s i = 0
  · rw [if_neg (fun q => q z), zl_at, nI_1, if_pos z, if_pos z, i_add0, i_add0]
  · rw [if_pos z, vix_at hi (by omega), bd_at, zl_at, bd_at, zl_at, zl_at, nI_1, if_neg z, if_neg z]
theorem h_best (h3 : N 3 ≤ 12) (d : Int32) : h_X1_bestDeal N d U = some (bI (dl U (N 3) d (2 ^ N 3)).1, U) := by
  have hp := pow12 h3
  unfold h_X1_bestDeal h_X1_bestDeal_7
  refine zlp3_it (n := 2 ^ N 3) (fun i => bI (dl U (N 3) d i).1) (fun i => (dl U (N 3) d i).2) (fun i => nI i) (fun _ => U) (fun s rf hs => ?_) (fun rf => ?_) NN (NN_lt (by omega))
  · unfold h_X1_bestDeal_7_b
    rw [ofN, yshl1 (by omega), nleF hs (by omega)]
    refine h_dealI h3 _ _ _ _ _ _ fun rg => ?_
    unfold h_X1_bestDeal_33_b h_X1_bestDeal_151 h_X1_bestDeal_157
    rw [ofN, if_pos (Int32.le_refl _), zl_at, nI_1, h_bc, zb2_at, h_bc, zb2_at]
    have inv := dl_inv U (N 3) d s
    rw [show dl U (N 3) d (s + 1) = (if dP U (N 3) s < d then dl U (N 3) d s else match (dl U (N 3) d s).1 with
      | none => (some s, dQ U (N 3) s)
      | some b => if (dl U (N 3) d s).2 < dQ U (N 3) s then dl U (N 3) d s else if ¬ dQ U (N 3) s = (dl U (N 3) d s).2 then (some s, dQ U (N 3) s) else if nI (pcn 16 s) < nI (pcn 16 b) then (some s, dQ U (N 3) s) else dl U (N 3) d s) from rfl]
    by_cases h1 : dP U (N 3) s < d
    · rw [if_pos h1, if_pos h1]
    · rw [if_neg h1, if_neg h1]
      cases e : (dl U (N 3) d s).1 with
      | none => rfl
      | some b =>
        have hb := (inv b e).1
        dsimp only
        show (if nI b = -1 then _ else _) = _
        rw [if_neg (bI_ne (by omega)), show bcf (bI (some b)) = nI (pcn 16 b) from bc_p (n := 16) (by omega) (by omega), show bcf (nI s) = nI (pcn 16 s) from bc_p (n := 16) (by omega) (by omega)]
        by_cases h2 : (dl U (N 3) d s).2 < dQ U (N 3) s
        · rw [if_pos h2, if_pos h2, e]
        · rw [if_neg h2, if_neg h2]
          by_cases h3 : ¬ dQ U (N 3) s = (dl U (N 3) d s).2
          · rw [if_pos h3, if_pos h3]; rfl
          · rw [if_neg h3, if_neg h3]
            by_cases h4 : nI (pcn 16 s) < nI (pcn 16 b)
            · rw [if_pos h4, if_pos h4]; rfl
            · rw [if_neg h4, if_neg h4, e]; rfl
  · unfold h_X1_bestDeal_7_b
    rw [ofN, yshl1 (by omega), if_pos (Int32.le_refl _)]
theorem g_bits {s : Nat} (hs : s < 4096) : g_X6_bits (nI s) M = some (nI (pcn 16 s), M) := by
  have e : pcn 16 s = pcn 12 s := pcn_more 4 12 s hs
  rw [e, pcn_ns, ← sm_ns]
  unfold g_X6_bits g_X6_bits_4
  refine zlp2_sum0 (n := 12) (fun i acc rf hi => ?_) (fun acc rf => ?_) NN (NN_lt (by omega))
  · unfold g_X6_bits_4_b
    rw [show (12 : Int32) = nI 12 from rfl, nleF hi (by omega), sbit (by omega) (by omega), zl_at, zl_at, nI_1]
  · unfold g_X6_bits_4_b
    rw [show (12 : Int32) = nI 12 from rfl, if_pos (Int32.le_refl _)]
theorem g_dealI {n : Nat} (hn : n ≤ 12) (h5 : M.2 0 5 = nI n) (hF : ∀ k, k < n → M.2 0 (98 + 2 * k) = U.2 3 (2 * k) ∧ M.2 0 (98 + 2 * k + 1) = U.2 3 (2 * k + 1)) (rec34 : Int32 → Int32 → Int32 → mS → Option (Int32 × mS)) (h q b l : Int32) (s : Nat) (R : Option (Int32 × mS)) (he : ∀ rf, g_X6_deal_56_b rec34 h q b l (nI s) rf (dP U n s) (dQ U n s) (nI n) M = R) : g_X6_deal_56 rec34 h q b l (nI s) 0 0 0 M = R := by
  unfold g_X6_deal_56
  refine zlp3_it (n := n) (fun i => dP U i s) (fun i => dQ U i s) (fun i => nI i) (fun _ => M) (fun i rf hi => ?_) he NN (NN_lt (by omega))
  unfold g_X6_deal_56_b g_X6_deal_116
  rw [g_m5, bd_at, h5, nleF hi (by omega)]
  show (if ¬ bitI s i = 0 then _ else _) = rf (dP U i s + if bitI s i = 0 then 0 else U.2 3 (2 * i)) (dQ U i s + if bitI s i = 0 then 0 else U.2 3 (2 * i + 1)) _ M
  by_cases z : bitI s i = 0
  · rw [if_neg (fun q => q z), zl_at, nI_1, if_pos z, if_pos z, i_add0, i_add0]
  · rw [if_pos z, g_mF (by omega), bd_at, zl_at, g_mF1 (by omega), bd_at, zl_at, zl_at, nI_1, if_neg z, if_neg z, (hF i hi).1, (hF i hi).2]
theorem g_deal34 {n : Nat} (hn : n ≤ 12) (h5 : M.2 0 5 = nI n) (hF : ∀ k, k < n → M.2 0 (98 + 2 * k) = U.2 3 (2 * k) ∧ M.2 0 (98 + 2 * k + 1) = U.2 3 (2 * k + 1)) {h : Nat} (hh : h < 8) {d : Int32} (hd : M.2 0 (12 + h) = d) (q : Int32) : g_X6_deal_34 (nI h) q (-1) 0 0 M = some ((if bI (dl U n d (2 ^ n)).1 = -1 then -1 else if q = 0 then (dl U n d (2 ^ n)).2 else bI (dl U n d (2 ^ n)).1), M) := by
  have hp := pow12 hn
  unfold g_X6_deal_34
  refine zlp3_it (n := 2 ^ n) (fun i => bI (dl U n d i).1) (fun i => (dl U n d i).2) (fun i => nI i) (fun _ => M) (fun s rf hs => ?_) (fun rf => ?_) NN (NN_lt (by omega))
  · unfold g_X6_deal_34_b
    rw [g_m5, bd_at, h5, yshl1 (by omega), nleF hs (by omega)]
    refine g_dealI hn h5 hF _ _ _ _ _ _ _ fun rg => ?_
    unfold g_X6_deal_56_b g_X6_deal_173 g_X6_deal_180
    rw [g_m5, bd_at, h5, if_pos (Int32.le_refl _), g_mD hh, bd_at, hd, zl_at, zl_at, nI_1]
    have inv := dl_inv U n d s
    rw [show dl U n d (s + 1) = (if dP U n s < d then dl U n d s else match (dl U n d s).1 with
      | none => (some s, dQ U n s)
      | some b => if (dl U n d s).2 < dQ U n s then dl U n d s else if ¬ dQ U n s = (dl U n d s).2 then (some s, dQ U n s) else if nI (pcn 16 s) < nI (pcn 16 b) then (some s, dQ U n s) else dl U n d s) from rfl]
    by_cases h1 : dP U n s < d
    · rw [if_neg (Int32.not_le.mpr h1), if_pos h1]
    · rw [if_pos (Int32.not_lt.mp h1), if_neg h1]
      cases e : (dl U n d s).1 with
      | none => rfl
      | some b =>
        have hb := (inv b e).1
        dsimp only
        show (if nI b = -1 then _ else _) = _
        rw [if_neg (bI_ne (by omega)), g_bits (by omega), zb2_at, show bI (some b) = nI b from rfl, g_bits (by omega), zb2_at]
        by_cases h2 : (dl U n d s).2 < dQ U n s
        · rw [if_pos h2, if_pos h2, e]; rfl
        · rw [if_neg h2, if_neg h2]
          by_cases h3 : ¬ dQ U n s = (dl U n d s).2
          · rw [if_pos h3, if_pos h3]; rfl
          · rw [if_neg h3, if_neg h3]
            by_cases h4 : nI (pcn 16 s) < nI (pcn 16 b)
            · rw [if_pos h4, if_pos h4]; rfl
            · rw [if_neg h4, if_neg h4, e]; rfl
  · unfold g_X6_deal_34_b
    rw [g_m5, bd_at, h5, yshl1 (by omega), if_pos (Int32.le_refl _)]
    by_cases z : bI (dl U n d (2 ^ n)).1 = -1
    · rw [if_pos z, if_pos z, z]
    · rw [if_neg z, if_neg z]
      by_cases y : q = 0
      · rw [if_pos y, if_pos y]
      · rw [if_neg y, if_neg y]
theorem op_deal (I : RI c N U) (R : yRM N U (M.2 0)) (p q : Int32) : OKo c N cdC U M (h_X1_deal N p q U) (g_X6_deal p q M) := by
  have n0 := RI_n0 I
  have n3 := RI_n3 I
  have hp12 := pow12 n3
  have h31 : N 0 < 2 ^ 31 := by omega
  refine OKo_ro I R ?_
  rcases ix_cases p h31 with hp | ⟨j, hj, rfl⟩
  · refine ⟨.inr 2, 0, 1, ?_, ?_, rfl⟩
    · unfold h_X1_deal
      rw [h_houseAt_no (RI_hou I) hp h31, zbt_r]
    · unfold g_X6_deal g_X6_deal_14
      rw [g_house_no (RM_m1 R) hp h31, zb2_at, if_neg ne00, zl_at, m_set1, if_neg (by decide)]
  · have G : g_X6_deal (nI j) q M = some ((if bI (dl U (N 3) (U.2 0 j) (2 ^ N 3)).1 = -1 then -1 else if q = 0 then (dl U (N 3) (U.2 0 j) (2 ^ N 3)).2 else bI (dl U (N 3) (U.2 0 j) (2 ^ N 3)).1), mset M 0 0) := by
      unfold g_X6_deal g_X6_deal_14
      rw [g_house_ok (RM_m1 R) hj h31, zb2_at, if_pos ne10, zl_at, m_set1, if_pos le00]
      exact g_deal34 (M := mset M 0 0) n3 (RM_m5 R) (RM_mF R) (by omega) (RM_mD R j (by omega)) q
    have inv := dl_inv U (N 3) (U.2 0 j) (2 ^ N 3)
    have H : h_X1_deal N (nI j) q U = (if bI (dl U (N 3) (U.2 0 j) (2 ^ N 3)).1 = -1 then some (.inl (bI (dl U (N 3) (U.2 0 j) (2 ^ N 3)).1), U) else if q = 0 then zb2 (h_X1_priceOf N (bI (dl U (N 3) (U.2 0 j) (2 ^ N 3)).1) U) (fun x6 U7 => some (.inl x6, U7)) else some (.inl (bI (dl U (N 3) (U.2 0 j) (2 ^ N 3)).1), U)) := by
      unfold h_X1_deal
      rw [h_houseAt_ok (RI_hou I) hj h31, zbt_i, uL_at (by omega) (by omega), bd_at, h_best n3, zb2_at]
    rw [G, H]
    cases e : (dl U (N 3) (U.2 0 j) (2 ^ N 3)).1 with
    | none => exact ⟨.inl (-1), -1, 0, rfl, rfl, rfl, rfl⟩
    | some b =>
      obtain ⟨hb, hb2⟩ := inv b e
      have nb : ¬ bI (some b) = -1 := bI_ne (by omega)
      rw [if_neg nb, if_neg nb]
      by_cases y : q = 0
      · rw [if_pos y, if_pos y, hb2]
        refine ⟨.inl (dQ U (N 3) b), dQ U (N 3) b, 0, ?_, rfl, rfl, rfl⟩
        rw [h_price (n := 0) n3, zb2_at]
        have : ysm (N 3) (fun k => (bI (some b) >>> (nI k &&& 31) &&& 1) * U.2 3 (2 * k + 1)) = dQ U (N 3) b := by
          refine sm_eq fun k hk => ?_
          show (nI b >>> (nI k &&& 31) &&& 1) * U.2 3 (2 * k + 1) = if bitI b k = 0 then 0 else U.2 3 (2 * k + 1)
          unfold bitI
          rw [sbit (by omega) (by omega)]
          rcases (show b / 2 ^ k % 2 = 0 ∨ b / 2 ^ k % 2 = 1 by omega) with z | z
          · rw [z, if_pos (show nI 0 = 0 from rfl)]; exact Int32.zero_mul
          · rw [z, if_neg (show ¬ nI 1 = 0 by decide)]; exact Int32.one_mul _
        rw [this]
      · rw [if_neg y, if_neg y]
        exact ⟨.inl (nI b), nI b, 0, rfl, rfl, rfl, rfl⟩
end T17
