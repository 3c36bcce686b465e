/-! pure land: R1 R2 R3 R4 (see wip/D-94657w/pl) -/
section T18
variable {c : Nat} {N : Nat → Nat} {U U' U'' : cU} {M M' M'' : mS} {m m' : Nat → Int32}
/-- in how many ways so many of n numbers from f on make a sum that is so -/
def yW (t : Nat → Nat) : Nat → Nat → Nat → (Int → Bool) → Nat
  | 0, m, _, Q => if m = 0 ∧ Q 0 = true then 1 else 0
  | n + 1, m, f, Q => yW t n m (f + 1) Q + (if m = 0 then 0 else yW t n (m - 1) (f + 1) (fun s => Q (t f + s)))
theorem W_m0 (t : Nat → Nat) : ∀ n f Q, yW t n 0 f Q = if Q 0 = true then 1 else 0 := by
  intro n
  induction n with
  | zero => intro f Q; simp [yW]
  | succ n ih => intro f Q; show yW t n 0 (f + 1) Q + 0 = _; rw [ih]; rfl
theorem W_lt (t : Nat → Nat) : ∀ n m f Q, n < m → yW t n m f Q = 0 := by
  intro n
  induction n with
  | zero => intro m f Q h; simp [yW]; omega
  | succ n ih =>
    intro m f Q h
    show yW t n m (f + 1) Q + (if m = 0 then 0 else yW t n (m - 1) (f + 1) _) = 0
    rw [ih _ _ _ (by omega), if_neg (by omega), ih _ _ _ (by omega)]
theorem W_le (t : Nat → Nat) : ∀ n m f Q, yW t n m f Q + yW t n m f (fun s => ! Q s) ≤ 2 ^ n := by
  intro n
  induction n with
  | zero =>
    intro m f Q
    show (if m = 0 ∧ Q 0 = true then 1 else 0) + (if m = 0 ∧ (! Q 0) = true then 1 else 0) ≤ 1
    cases Q 0 <;> by_cases h : m = 0 <;> simp [h]
  | succ n ih =>
    intro m f Q
    show yW t n m (f + 1) Q + (if m = 0 then 0 else yW t n (m - 1) (f + 1) (fun s => Q (t f + s))) + (yW t n m (f + 1) (fun s => ! Q s) + (if m = 0 then 0 else yW t n (m - 1) (f + 1) (fun s => ! Q (t f + s)))) ≤ _
    have h1 := ih m (f + 1) Q
    have h2 := ih (m - 1) (f + 1) (fun s => Q (t f + s))
    rw [Nat.pow_succ]
    by_cases h : m = 0
    · rw [if_pos h, if_pos h]; omega
    · rw [if_neg h, if_neg h]; omega
/-- the sum of a set, by its bits -/
def su (t : Nat → Nat) : Nat → Nat → Nat → Nat
  | 0, _, _ => 0
  | n + 1, f, s => s % 2 * t f + su t n (f + 1) (s / 2)
theorem W_ex (t : Nat → Nat) : ∀ n m f Q, 0 < yW t n m f Q ↔ ∃ s, s < 2 ^ n ∧ pcn n s = m ∧ Q (su t n f s) = true := by
  intro n
  induction n with
  | zero =>
    intro m f Q
    show 0 < (if m = 0 ∧ Q 0 = true then 1 else 0) ↔ _
    constructor
    · intro h
      by_cases z : m = 0 ∧ Q 0 = true
      · exact ⟨0, by omega, z.1.symm, z.2⟩
      · rw [if_neg z] at h; omega
    · rintro ⟨s, h1, h2, h3⟩
      rw [if_pos ⟨h2.symm, h3⟩]; omega
  | succ n ih =>
    intro m f Q
    show 0 < yW t n m (f + 1) Q + (if m = 0 then 0 else yW t n (m - 1) (f + 1) (fun s => Q (t f + s))) ↔ _
    constructor
    · intro h
      by_cases h1 : 0 < yW t n m (f + 1) Q
      · obtain ⟨s, a, b, d⟩ := (ih _ _ _).mp h1
        refine ⟨2 * s, by rw [Nat.pow_succ]; omega, ?_, ?_⟩
        · show 2 * s % 2 + pcn n (2 * s / 2) = m
          rw [show 2 * s % 2 = 0 by omega, show 2 * s / 2 = s by omega]; omega
        · show Q ((2 * s % 2 * t f + su t n (f + 1) (2 * s / 2) : Nat) : Int) = true
          rw [show 2 * s % 2 = 0 by omega, show 2 * s / 2 = s by omega, Nat.zero_mul, Nat.zero_add]; exact d
      · by_cases z : m = 0
        · rw [if_pos z] at h; omega
        · rw [if_neg z] at h
          obtain ⟨s, a, b, d⟩ := (ih _ _ _).mp (show 0 < yW t n (m - 1) (f + 1) (fun s => Q (t f + s)) by omega)
          refine ⟨2 * s + 1, by rw [Nat.pow_succ]; omega, ?_, ?_⟩
          · show (2 * s + 1) % 2 + pcn n ((2 * s + 1) / 2) = m
            rw [show (2 * s + 1) % 2 = 1 by omega, show (2 * s + 1) / 2 = s by omega]; omega
          · show Q (((2 * s + 1) % 2 * t f + su t n (f + 1) ((2 * s + 1) / 2) : Nat) : Int) = true
            rw [show (2 * s + 1) % 2 = 1 by omega, show (2 * s + 1) / 2 = s by omega, Nat.one_mul]; exact d
    · rintro ⟨s, h1, h2, h3⟩
      have h2' : s % 2 + pcn n (s / 2) = m := h2
      have h3' : Q ((s % 2 * t f + su t n (f + 1) (s / 2) : Nat) : Int) = true := h3
      have hs : s / 2 < 2 ^ n := by rw [Nat.pow_succ] at h1; omega
      rcases (show s % 2 = 0 ∨ s % 2 = 1 by omega) with z | z
      · rw [z, Nat.zero_mul, Nat.zero_add] at h3'
        have := (ih m (f + 1) Q).mpr ⟨s / 2, hs, by omega, h3'⟩
        omega
      · rw [z, Nat.one_mul] at h3'
        have := (ih (m - 1) (f + 1) (fun s => Q (t f + s))).mpr ⟨s / 2, hs, by omega, h3'⟩
        rw [if_neg (by omega)]
        omega
theorem su_ns (t : Nat → Nat) : ∀ n f s, su t n f s = ns n (fun k => s / 2 ^ k % 2 * t (f + k)) := by
  intro n
  induction n with
  | zero => intro f s; rfl
  | succ n ih =>
    intro f s
    rw [ns_front]
    show s % 2 * t f + su t n (f + 1) (s / 2) = s / 2 ^ 0 % 2 * t (f + 0) + _
    rw [ih, Nat.pow_zero, Nat.div_one, Nat.add_zero]
    congr 1
    refine ns_eq fun i hi => ?_
    rw [Nat.div_div_eq_div_mul, Nat.pow_succ, Nat.mul_comm (2 ^ i) 2, show f + 1 + i = f + (i + 1) by omega]
theorem W_some (t : Nat → Nat) : ∀ n m f, m ≤ n → 0 < yW t n m f (fun _ => true) := by
  intro n
  induction n with
  | zero => intro m f h; obtain rfl : m = 0 := by omega
            exact Nat.zero_lt_one
  | succ n ih =>
    intro m f h
    show 0 < yW t n m (f + 1) (fun _ => true) + (if m = 0 then 0 else yW t n (m - 1) (f + 1) (fun _ => true))
    by_cases z : m = 0
    · subst z
      have := ih 0 (f + 1) (by omega)
      omega
    · rw [if_neg z]
      have := ih (m - 1) (f + 1) (by omega)
      omega
theorem W_cong {t : Nat → Nat} {Q Q' : Int → Bool} : ∀ n m f, (∀ s, s < 2 ^ n → Q (su t n f s) = Q' (su t n f s)) → (0 < yW t n m f Q ↔ 0 < yW t n m f Q') := by
  intro n m f h
  rw [W_ex, W_ex]
  constructor
  · rintro ⟨s, a, b, d⟩; exact ⟨s, a, b, by rw [← h s a]; exact d⟩
  · rintro ⟨s, a, b, d⟩; exact ⟨s, a, b, by rw [h s a]; exact d⟩
/-- the model's counters -/
def wc (M : mS) (a b : Nat) : mS := (fun j => if j = 23 then nI a else if j = 24 then nI b else M.1 j, M.2)
theorem wc_23 {a b a' : Nat} : mset (wc M a b) 23 (nI a') = wc M a' b := by
  refine Prod.ext (funext fun q => ?_) rfl
  show (if q = 23 then nI a' else if q = 23 then nI a else if q = 24 then nI b else M.1 q) = if q = 23 then nI a' else if q = 24 then nI b else M.1 q
  by_cases h : q = 23
  · rw [if_pos h, if_pos h]
  · rw [if_neg h, if_neg h, if_neg h]
theorem wc_24 {a b a' : Nat} : mset (wc M a b) 24 (nI a') = wc M a a' := by
  refine Prod.ext (funext fun q => ?_) rfl
  show (if q = 24 then nI a' else if q = 23 then nI a else if q = 24 then nI b else M.1 q) = if q = 23 then nI a else if q = 24 then nI a' else M.1 q
  by_cases h : q = 24
  · subst h; rfl
  · rw [if_neg h, if_neg h, if_neg h]
def yofI (x : Int) : Int32 := Int32.ofInt x
theorem ofI_0 {x : Int} (h1 : -2 ^ 31 ≤ x) (h2 : x < 2 ^ 31) : yofI x = 0 ↔ x = 0 := by
  constructor
  · intro h
    have : (yofI x).toInt = (0 : Int32).toInt := by rw [h]
    rw [show (0 : Int32).toInt = 0 from rfl] at this
    unfold yofI at this
    rwa [Int32.toInt_ofInt_of_le (by omega) (by omega)] at this
  · intro h; subst h; rfl
theorem ofI_sub (x : Int) (n : Nat) : yofI x - nI n = yofI (x - n) := by
  unfold yofI nI
  rw [Int32.ofInt_sub, Int32.ofInt_eq_ofNat]
theorem g_sets (K : Nat) (t : Nat → Nat) (hK : K ≤ 16) (h22 : M.1 22 = nI K) (ht : ∀ j, j < K → M.2 8 j = nI (t j) ∧ t j ≤ 9801) : ∀ (mm n f d : Nat) (x : Int) (a b : Nat), f + n = K → mm ≤ n → mm < d → -(7000000 : Int) - 9801 * f ≤ x → x ≤ 7000000 → a + b + 2 ^ n ≤ 100000 → g_X6_setsD d (nI f) (nI mm) (yofI x) (wc M a b) = some ((), wc M (a + yW t n mm f (fun s => decide (s = x))) (b + yW t n mm f (fun s => ! decide (s = x)))) := by
  intro mm
  induction mm with
  | zero =>
    intro n f d x a b hn hm hd hx1 hx2 hab
    obtain ⟨d, rfl⟩ : ∃ d', d = d' + 1 := ⟨d - 1, by omega⟩
    show g_X6_sets (g_X6_setsD d) (nI f) (nI 0) (yofI x) (wc M a b) = _
    unfold g_X6_sets
    have hp : 0 < 2 ^ n := Nat.pow_pos (by omega)
    rw [if_neg (fun q => q (show nI 0 = 0 from rfl)), W_m0, W_m0]
    have i0 := ofI_0 (x := x) (by omega) (by omega)
    by_cases z : x = 0
    · rw [if_neg (fun q => q (i0.mpr z)), zl_at]
      show some ((), mset (wc M a b) 23 (nI a + 1)) = _
      rw [nI_1, wc_23]
      subst z
      rfl
    · rw [if_pos (fun q => z (i0.mp q)), zl_at]
      show some ((), mset (wc M a b) 24 (nI b + 1)) = _
      rw [nI_1, wc_24]
      have e1 : decide ((0 : Int) = x) = false := decide_eq_false fun q => z q.symm
      rw [e1]
      rfl
  | succ mm ih =>
    intro n f d x a b hn hm hd hx1 hx2 hab
    obtain ⟨d, rfl⟩ : ∃ d', d = d' + 1 := ⟨d - 1, by omega⟩
    show g_X6_sets (g_X6_setsD d) (nI f) (nI (mm + 1)) (yofI x) (wc M a b) = _
    unfold g_X6_sets g_X6_sets_35
    have nz : ¬ nI (mm + 1) = 0 := nI_ne0 (by omega) (by omega)
    rw [if_pos nz]
    -- the loop, from any place on
    have L : ∀ (n f a b k : Nat), f + n = K → n < k → -(7000000 : Int) - 9801 * f ≤ x → a + b + 2 ^ n ≤ 100000 → zlp1 (g_X6_sets_35_b (g_X6_setsD d) (nI (mm + 1)) (yofI x)) k (nI f) (wc M a b) = some ((), wc M (a + yW t n (mm + 1) f (fun s => decide (s = x))) (b + yW t n (mm + 1) f (fun s => ! decide (s = x)))) := by
      intro n
      induction n with
      | zero =>
        intro f a b k hn hk _ _
        obtain ⟨k, rfl⟩ : ∃ k', k = k' + 1 := ⟨k - 1, by omega⟩
        rw [zlp1_s]
        unfold g_X6_sets_35_b
        have e1 : (wc M a b).1 22 - nI (mm + 1) < nI f := by
          show M.1 22 - nI (mm + 1) < nI f
          rw [h22]
          by_cases z : mm + 1 ≤ K
          · rw [pk_sub z]; exact nI_lt (by omega) (by omega)
          · refine Int32.lt_of_lt_of_le (pk_sneg (by omega) (by omega)) (nI_pos' (by omega))
        rw [if_pos e1, W_lt t 0 _ _ _ (by omega), W_lt t 0 _ _ _ (by omega)]
        rfl
      | succ n ihn =>
        intro f a b k hn hk hx1 hab
        obtain ⟨k, rfl⟩ : ∃ k', k = k' + 1 := ⟨k - 1, by omega⟩
        rw [zlp1_s]
        have ihn' := fun a b => ihn (f + 1) a b k (by omega) (by omega)
        generalize zlp1 (g_X6_sets_35_b (g_X6_setsD d) (nI (mm + 1)) (yofI x)) k = rf at ihn'
        unfold g_X6_sets_35_b
        by_cases z : n + 1 < mm + 1
        · have e1 : (wc M a b).1 22 - nI (mm + 1) < nI f := by
            show M.1 22 - nI (mm + 1) < nI f
            rw [h22]
            by_cases z : mm + 1 ≤ K
            · rw [pk_sub z]; exact nI_lt (by omega) (by omega)
            · refine Int32.lt_of_lt_of_le (pk_sneg (by omega) (by omega)) (nI_pos' (by omega))
          rw [if_pos e1, W_lt t _ _ _ _ z, W_lt t _ _ _ _ z]
          rfl
        · have e1 : ¬ (wc M a b).1 22 - nI (mm + 1) < nI f := by
            show ¬ M.1 22 - nI (mm + 1) < nI f
            rw [h22, pk_sub (by omega)]
            exact nI_nlt (by omega) (by omega)
          obtain ⟨t1, t2⟩ := ht f (by omega)
          have e8 : (wc M a b).2 8 f = nI (t f) := t1
          have hp : 2 ^ (n + 1) = 2 ^ n + 2 ^ n := by rw [Nat.pow_succ]; omega
          have W1 := W_le t n mm (f + 1) (fun s => decide (s = x - t f))
          rw [if_neg e1, mL_n (j := 8) (show f < 60 by omega) (by omega), bd_at, e8, nI_1, ofI_sub, nI_pred, ih n (f + 1) d (x - t f) a b (by omega) (by omega) (by omega) (by omega) (by omega) (by omega), zb2_at, zl_at, ihn' _ _ (by omega) (by omega)]
          have q1 : (fun s : Int => decide (↑(t f) + s = x)) = fun s => decide (s = x - t f) := by
            funext s
            by_cases z : s = x - t f
            · rw [decide_eq_true z, decide_eq_true (by omega)]
            · rw [decide_eq_false z, decide_eq_false (by omega)]
          have q2 : (fun s : Int => ! decide (↑(t f) + s = x)) = fun s => ! decide (s = x - t f) := by
            funext s
            by_cases z : s = x - t f
            · rw [decide_eq_true z, decide_eq_true (by omega)]
            · rw [decide_eq_false z, decide_eq_false (by omega)]
          show some ((), wc M _ _) = some ((), wc M (a + (yW t n (mm + 1) (f + 1) (fun s => decide (s = x)) + yW t n mm (f + 1) (fun s => decide (↑(t f) + s = x)))) (b + (yW t n (mm + 1) (f + 1) (fun s => ! decide (s = x)) + yW t n mm (f + 1) (fun s => ! decide (↑(t f) + s = x)))))
          rw [q1, q2]
          have r1 : ∀ a b c : Nat, a + b + c = a + (c + b) := by omega
          rw [r1, r1]
    exact L n f a b NN hn (NN_lt (by omega)) hx1 hab
end T18
section T19
variable {c : Nat} {N : Nat → Nat} {U U' U'' : cU} {M M' M'' : mS} {m m' : Nat → Int32}
theorem sm_bd {b n : Nat} {f : Nat → Int32} (h : ∀ i, i < n → bd b (f i)) : ∃ q, q ≤ b * n ∧ ysm n f = nI q := by
  induction n with
  | zero => exact ⟨0, by omega, rfl⟩
  | succ n ih =>
    obtain ⟨q, h1, h2⟩ := ih (fun i hi => h i (by omega))
    obtain ⟨r, h3, h4⟩ := h n (by omega)
    exact ⟨q + r, by rw [Nat.mul_succ]; omega, by rw [sm_s, h2, h4, nI_add]⟩
theorem known_bd (I : RI c N U) (h : Int32) : ∃ q, q ≤ 600000 ∧ h_X1_known N h U = some (nI q, U) := by
  have n4 := RI_n4 I
  obtain ⟨q, h1, h2⟩ := sm_bd (b := 9801) (n := N 4) (f := fun e => if U.2 4 (8 * e + 3) = h ∧ U.2 4 (8 * e + 7) = 0 then U.2 4 (8 * e + 5) else 0) (fun i hi => by
    by_cases z : U.2 4 (8 * i + 3) = h ∧ U.2 4 (8 * i + 7) = 0
    · rw [if_pos z]; exact (RI_ent I i hi).2.2.2.2.2.2.2.1
    · rw [if_neg z]; exact nI_bd (n := 0) (by omega))
  exact ⟨q, by omega, by rw [h_known n4, h2]⟩
def b2 (b : Bool) : Int32 := if b = true then 1 else 0
theorem b2_0 {b : Bool} : b2 b = 0 ↔ b = false := by cases b <;> decide
/-- whether some, and whether all, of the first sets of so many make it -/
def pf (m : Nat) (E : Nat → Bool) : Nat → Bool × Bool
  | 0 => (false, true)
  | s + 1 => if pcn 16 s = m then ((pf m E s).1 || E s, (pf m E s).2 && E s) else pf m E s
theorem pf_1 {m : Nat} {E : Nat → Bool} : ∀ n, (pf m E n).1 = true ↔ ∃ s, s < n ∧ pcn 16 s = m ∧ E s = true := by
  intro n
  induction n with
  | zero => exact ⟨fun h => (by cases h), fun ⟨s, h, _⟩ => absurd h (Nat.not_lt_zero s)⟩
  | succ n ih =>
    unfold pf
    by_cases z : pcn 16 n = m
    · rw [if_pos z]
      show ((pf m E n).1 || E n) = true ↔ _
      rw [Bool.or_eq_true, ih]
      constructor
      · rintro (⟨s, a, b⟩ | h)
        · exact ⟨s, by omega, b⟩
        · exact ⟨n, by omega, z, h⟩
      · rintro ⟨s, a, b, d⟩
        by_cases y : s = n
        · subst y; exact Or.inr d
        · exact Or.inl ⟨s, by omega, b, d⟩
    · rw [if_neg z, ih]
      constructor
      · rintro ⟨s, a, b⟩; exact ⟨s, by omega, b⟩
      · rintro ⟨s, a, b, d⟩
        by_cases y : s = n
        · subst y; exact absurd b z
        · exact ⟨s, by omega, b, d⟩
theorem pf_2 {m : Nat} {E : Nat → Bool} : ∀ n, (pf m E n).2 = false ↔ ∃ s, s < n ∧ pcn 16 s = m ∧ E s = false := by
  intro n
  induction n with
  | zero => exact ⟨fun h => (by cases h), fun ⟨s, h, _⟩ => absurd h (Nat.not_lt_zero s)⟩
  | succ n ih =>
    unfold pf
    by_cases z : pcn 16 n = m
    · rw [if_pos z]
      show ((pf m E n).2 && E n) = false ↔ _
      rw [Bool.and_eq_false_iff, ih]
      constructor
      · rintro (⟨s, a, b⟩ | h)
        · exact ⟨s, by omega, b⟩
        · exact ⟨n, by omega, z, h⟩
      · rintro ⟨s, a, b, d⟩
        by_cases y : s = n
        · subst y; exact Or.inr d
        · exact Or.inl ⟨s, by omega, b, d⟩
    · rw [if_neg z, ih]
      constructor
      · rintro ⟨s, a, b⟩; exact ⟨s, by omega, b⟩
      · rintro ⟨s, a, b, d⟩
        by_cases y : s = n
        · subst y; exact absurd b z
        · exact ⟨s, by omega, b, d⟩
theorem cmp0 {x y : Int64} : lg_cmp x y = 0 ↔ x = y := by
  unfold lg_cmp
  by_cases h : x > y
  · rw [if_pos h]
    constructor
    · intro q; cases q
    · intro q; subst q; exact absurd h (Int64.lt_irrefl)
  · rw [if_neg h]
    by_cases e : x = y
    · rw [if_pos e]; exact ⟨fun _ => e, fun _ => rfl⟩
    · rw [if_neg e]
      constructor
      · intro q; cases q
      · intro q; exact absurd q e
theorem lN_due {S kn : Nat} {n : Int32} (hS : S < 1000000) (hk : kn ≤ 600000) : lN S = n.toInt64 - (nI kn).toInt64 ↔ (S : Int) = n.toInt - kn := by
  have hn1 : -2 ^ 31 ≤ n.toInt := Int32.le_toInt n
  have hn2 : n.toInt < 2 ^ 31 := Int32.toInt_lt n
  have e1 : (lN S).toInt = S := by
    unfold lN
    exact Int64.toInt_ofNat_of_lt (by omega)
  have e2 : (n.toInt64 - (nI kn).toInt64).toInt = n.toInt - kn := by
    rw [Int64.toInt_sub, Int32.toInt_toInt64, Int32.toInt_toInt64, nI_toInt (by omega)]
    exact Int.bmod_eq_of_le (by omega) (by omega)
  rw [← Int64.toInt_inj, e1, e2]
theorem h_proof64 {K : Nat} {a : Nat → Int32} {t : Nat → Nat} (hK : K ≤ 16) (ha : ∀ j, j < K → a j = nI (t j) ∧ t j ≤ 9801) (rec35 : Int32 → Int32 → Int32 → cU → Option ((Int32 ⊕ Nat) × cU)) (v3 : Int32) (v4 : Int64) (x y : Bool) {s : Nat} (hs : s < 65536) : h_X1_proof_64 N rec35 v3 v4 (b2 x) (b2 y) (nI s) 0 0 (siU U a K) = rec35 (b2 (x || decide (lN (su t K 0 s) = v4))) (b2 (y && decide (lN (su t K 0 s) = v4))) (nI (s + 1)) (siU U a K) := by
  unfold h_X1_proof_64
  refine zlp2_it (n := K) (fun i => lN (ns i (fun k => s / 2 ^ k % 2 * t k))) (fun i => nI i) (fun _ => siU U a K) (fun i rf hi => ?_) (fun rf => ?_) NN (NN_lt (by omega))
  · unfold h_X1_proof_64_b
    obtain ⟨h1, h2⟩ := ha i hi
    have e7 : (siU U a K).1 7 = nI K := rfl
    have e5 : (siU U a K).2 5 i = nI (t i) := h1
    have hb : s / 2 ^ i % 2 ≤ 1 := by omega
    have hm : s / 2 ^ i % 2 * t i ≤ 9801 := by
      rcases (show s / 2 ^ i % 2 = 0 ∨ s / 2 ^ i % 2 = 1 by omega) with z | z <;> rw [z] <;> omega
    rw [e7, nleF hi (by omega), uL_at (by omega) (by omega), bd_at, e5, sbit (by omega) (by omega), nI_mul, nI_l (by omega), lN_add, zl_at, zl_at, nI_1]
    rfl
  · unfold h_X1_proof_64_b
    have e7 : (siU U a K).1 7 = nI K := rfl
    have eS : ns K (fun k => s / 2 ^ k % 2 * t k) = su t K 0 s := by
      rw [su_ns]
      exact ns_eq fun i _ => by rw [Nat.zero_add]
    rw [e7, if_pos (Int32.le_refl _), eS]
    unfold h_X1_proof_113 h_X1_proof_118 h_X1_proof_137 h_X1_proof_138 h_X1_proof_140
    simp only [zl_at, nI_1]
    by_cases z : lN (su t K 0 s) = v4
    · rw [decide_eq_true z, Bool.or_true, Bool.and_true]
      have z0 : lg_cmp (lN (su t K 0 s)) v4 = 0 := cmp0.mpr z
      cases x <;> cases y <;> simp [b2, z0]
    · rw [decide_eq_false z, Bool.or_false, Bool.and_false]
      have z0 : ¬ lg_cmp (lN (su t K 0 s)) v4 = 0 := fun q => z (cmp0.mp q)
      cases x <;> cases y <;> simp [b2, z0]
theorem h_proof35 {K m : Nat} {a : Nat → Int32} {t : Nat → Nat} (hK : K ≤ 16) (hm : m ≤ 16) (ha : ∀ j, j < K → a j = nI (t j) ∧ t j ≤ 9801) (v4 : Int64) : h_X1_proof_35 N (nI m) v4 0 1 0 (siU U a K) = some (.inl (if (pf m (fun s => decide (lN (su t K 0 s) = v4)) (2 ^ K)).2 = true then 2 else if (pf m (fun s => decide (lN (su t K 0 s) = v4)) (2 ^ K)).1 = true then 1 else 0), siU U a K) := by
  have hp : 2 ^ K ≤ 65536 := Nat.pow_le_pow_right (n := 2) (by omega) hK
  unfold h_X1_proof_35
  refine zlp3_it (n := 2 ^ K) (fun i => b2 (pf m (fun s => decide (lN (su t K 0 s) = v4)) i).1) (fun i => b2 (pf m (fun s => decide (lN (su t K 0 s) = v4)) i).2) (fun i => nI i) (fun _ => siU U a K) (fun s rf hs => ?_) (fun rf => ?_) NN (NN_lt (by omega))
  · unfold h_X1_proof_35_b
    have e7 : (siU U a K).1 7 = nI K := rfl
    rw [e7, yshl1 (by omega), nleF hs (by omega), h_bc, zb2_at, bc_p (n := 16) (by omega) (by omega)]
    rw [show pf m (fun s => decide (lN (su t K 0 s) = v4)) (s + 1) = (if pcn 16 s = m then ((pf m (fun s => decide (lN (su t K 0 s) = v4)) s).1 || decide (lN (su t K 0 s) = v4), (pf m (fun s => decide (lN (su t K 0 s) = v4)) s).2 && decide (lN (su t K 0 s) = v4)) else pf m (fun s => decide (lN (su t K 0 s) = v4)) s) from rfl]
    have hpc : pcn 16 s ≤ 16 := by
      rw [pcn_ns]
      have H : ∀ n, ns n (fun k => s / 2 ^ k % 2) ≤ n := by
        intro n
        induction n with
        | zero => exact Nat.le_refl _
        | succ n ih => show ns n _ + s / 2 ^ n % 2 ≤ n + 1; omega
      exact H 16
    by_cases z : pcn 16 s = m
    · rw [if_pos (by rw [z]), if_pos z]
      exact h_proof64 hK ha rf (nI m) v4 _ _ (by omega)
    · rw [if_neg (fun q => z ((nI_eq (by omega) (by omega)).mp q)), if_neg z]
      unfold h_X1_proof_140
      rw [zl_at, nI_1]
  · unfold h_X1_proof_35_b
    have e7 : (siU U a K).1 7 = nI K := rfl
    rw [e7, yshl1 (by omega), if_pos (Int32.le_refl _)]
    generalize pf m (fun s => decide (lN (su t K 0 s) = v4)) (2 ^ K) = P
    obtain ⟨p1, p2⟩ := P
    cases p1 <;> cases p2 <;> rfl
theorem su_le {t : Nat → Nat} : ∀ n f s, (∀ j, j < f + n → t j ≤ 9801) → su t n f s ≤ 9801 * n := by
  intro n
  induction n with
  | zero => intro f s _; exact Nat.le_refl _
  | succ n ih =>
    intro f s h
    show s % 2 * t f + su t n (f + 1) (s / 2) ≤ _
    have h1 := ih (f + 1) (s / 2) (fun j hj => h j (by omega))
    have h2 := h f (by omega)
    rcases (show s % 2 = 0 ∨ s % 2 = 1 by omega) with z | z <;> rw [z] <;> omega
theorem op_proof (I : RI c N U) (R : yRM N U (M.2 0)) (p q : Int32) : OKo c N cdC U M (h_X1_proof N p q U) (g_X6_proof p q M) := by
  have n0 := RI_n0 I
  have h31 : N 0 < 2 ^ 31 := by omega
  rcases ix_cases p h31 with hp | ⟨j, hj, rfl⟩
  · refine ⟨.inr 2, 0, U, mset M 0 1, ?_, ?_, rfl, I, R, KU_r, KM_set⟩
    · unfold h_X1_proof
      rw [h_houseAt_no (RI_hou I) hp h31, zbt_r]
    · unfold g_X6_proof g_X6_proof_14
      rw [g_house_no (RM_m1 R) hp h31, zb2_at, if_neg ne00, zl_at, m_set1, if_neg (by decide)]
  · obtain ⟨a, b, s1, s2, s3⟩ := op_sifts (M := mset M 0 0) I R
    have hb : bu N U ≤ 16 := RI_bur I
    have hl := lo_bu (N := N) (U := U) (nI j)
    have hlo : ∀ a k, h_X1_lost N (nI j) (siU U a k) = some (nI (ylo N U (nI j)), siU U a k) := fun a k => h_lostN (RI_si I) (nI j)
    obtain ⟨kn, hkn, ek⟩ := known_bd (U := siU U a (bu N U)) (RI_si I) (nI j)
    obtain ⟨v, k1, k2⟩ := op_known (M := wc (siM (mset M 0 0) b (bu N U)) 0 0) (U := siU U a (bu N U)) (RI_si I) (RM_si R) (nI j)
    have ev : v = nI kn := by
      rw [k1] at ek
      exact congrArg Prod.fst (Option.some.inj ek)
    subst ev
    have s2 := s2 (nI j)
    generalize ylo N U (nI j) = m at *
    generalize bu N U = K at *
    -- the numbers
    let t : Nat → Nat := fun i => (a i).toNatClampNeg
    have ht : ∀ i, i < K → a i = nI (t i) ∧ t i ≤ 9801 := by
      intro i hi
      obtain ⟨r, h1, h2⟩ := (s3 i hi).2
      have : t i = r := by
        show (a i).toNatClampNeg = r
        rw [h2, nI_clamp (by omega)]
      rw [this]
      exact ⟨h2, h1⟩
    have htb : ∀ i, i < K → b i = nI (t i) ∧ t i ≤ 9801 := fun i hi => ⟨by rw [← (s3 i hi).1]; exact (ht i hi).1, (ht i hi).2⟩
    have hsu : ∀ s, su t K 0 s ≤ 9801 * K := fun s => su_le K 0 s (fun i hi => (ht i (by omega)).2)
    have hp : 2 ^ K ≤ 65536 := Nat.pow_le_pow_right (n := 2) (by omega) hb
    -- where the model looks
    obtain ⟨x, hx1, hx2, hx3, G⟩ : ∃ x : Int, -7000000 ≤ x ∧ x ≤ 7000000 ∧ (∀ s, decide ((su t K 0 s : Int) = x) = decide ((su t K 0 s : Int) = q.toInt - kn)) ∧ g_X6_proof (nI j) q M = g_X6_proof_68 (nI m) (yofI x) (wc (siM (mset M 0 0) b K) 0 0) := by
      have G0 : g_X6_proof (nI j) q M = (if q < 0 then g_X6_proof_60 (nI m) (wc (siM (mset M 0 0) b K) 0 0) else if q ≤ 5999940 then g_X6_proof_68 (nI m) (q - nI kn) (wc (siM (mset M 0 0) b K) 0 0) else g_X6_proof_60 (nI m) (wc (siM (mset M 0 0) b K) 0 0)) := by
        unfold g_X6_proof g_X6_proof_14
        rw [g_house_ok (RM_m1 R) hj h31, zb2_at, if_pos ne10, zl_at, m_set1, if_pos le00, s2, zb2_at, zl_at, zl_at]
        have e9 : mset (mset (siM (mset M 0 0) b K) 23 0) 24 0 = wc (siM (mset M 0 0) b K) 0 0 := by
          refine Prod.ext (funext fun q => ?_) rfl
          show (if q = 24 then 0 else if q = 23 then 0 else (siM (mset M 0 0) b K).1 q) = if q = 23 then 0 else if q = 24 then 0 else (siM (mset M 0 0) b K).1 q
          by_cases h : q = 24
          · subst h; rfl
          · rw [if_neg h, if_neg h]
        rw [e9, k2, zb2_at]
      rw [G0]
      by_cases h1 : q < 0
      · have hq : q.toInt < 0 := by rw [Int32.lt_iff_toInt_lt] at h1; exact h1
        refine ⟨-1, by omega, by omega, fun s => ?_, ?_⟩
        · rw [decide_eq_false (by omega), decide_eq_false (by omega)]
        · rw [if_pos h1]; rfl
      · have hq : 0 ≤ q.toInt := by
          have := Int32.not_lt.mp h1
          rw [Int32.le_iff_toInt_le] at this; exact this
        rw [if_neg h1]
        by_cases h2 : q ≤ 5999940
        · have hq2 : q.toInt ≤ 5999940 := by rw [Int32.le_iff_toInt_le] at h2; exact h2
          refine ⟨q.toInt - kn, by omega, by omega, fun s => rfl, ?_⟩
          rw [if_pos h2, ← ofI_sub, show yofI q.toInt = q from Int32.ofInt_toInt q]
        · have hq2 : 5999940 < q.toInt := by
            have := Int32.not_le.mp h2
            rw [Int32.lt_iff_toInt_lt] at this; exact this
          refine ⟨-1, by omega, by omega, fun s => ?_, ?_⟩
          · have := hsu s
            rw [decide_eq_false (by omega), decide_eq_false (by omega)]
          · rw [if_neg h2]; rfl
    have hE : ∀ s, decide (lN (su t K 0 s) = q.toInt64 - (nI kn).toInt64) = decide ((su t K 0 s : Int) = x) := by
      intro s
      rw [hx3 s]
      have := hsu s
      exact decide_eq_decide.mpr (lN_due (by omega) hkn)
    have hEf : (fun s => decide (lN (su t K 0 s) = q.toInt64 - (nI kn).toInt64)) = fun s => decide ((su t K 0 s : Int) = x) := funext hE
    -- the two counts
    have W1 : 0 < yW t K m 0 (fun s => decide (s = x)) ↔ (pf m (fun s => decide ((su t K 0 s : Int) = x)) (2 ^ K)).1 = true := by
      rw [W_ex, pf_1]
      constructor
      · rintro ⟨s, h1, h2, h3⟩
        exact ⟨s, h1, by rw [show 16 = K + (16 - K) by omega, pcn_more _ _ _ h1]; exact h2, h3⟩
      · rintro ⟨s, h1, h2, h3⟩
        exact ⟨s, h1, by rw [show 16 = K + (16 - K) by omega, pcn_more _ _ _ h1] at h2; exact h2, h3⟩
    have W2 : 0 < yW t K m 0 (fun s => ! decide (s = x)) ↔ (pf m (fun s => decide ((su t K 0 s : Int) = x)) (2 ^ K)).2 = false := by
      rw [W_ex, pf_2]
      constructor
      · rintro ⟨s, h1, h2, h3⟩
        exact ⟨s, h1, by rw [show 16 = K + (16 - K) by omega, pcn_more _ _ _ h1]; exact h2, Bool.not_eq_true' _ |>.mp h3⟩
      · rintro ⟨s, h1, h2, h3⟩
        exact ⟨s, h1, by rw [show 16 = K + (16 - K) by omega, pcn_more _ _ _ h1] at h2; exact h2, Bool.not_eq_true' _ |>.mpr h3⟩
    have W3 : 0 < yW t K m 0 (fun s => decide (s = x)) ∨ 0 < yW t K m 0 (fun s => ! decide (s = x)) := by
      obtain ⟨s, h1, h2, -⟩ := (W_ex t K m 0 (fun _ => true)).mp (W_some t K m 0 hl)
      by_cases z : (su t K 0 s : Int) = x
      · exact Or.inl ((W_ex t K m 0 _).mpr ⟨s, h1, h2, decide_eq_true z⟩)
      · exact Or.inr ((W_ex t K m 0 _).mpr ⟨s, h1, h2, by rw [decide_eq_false z]; rfl⟩)
    have Wb := W_le t K m 0 (fun s => decide (s = x))
    have hS := g_sets (M := siM (mset M 0 0) b K) K t hb rfl htb m K 0 18 x 0 0 (by omega) hl (by omega) (by omega) hx2 (by omega)
    generalize hP : pf m (fun s => decide ((su t K 0 s : Int) = x)) (2 ^ K) = P at *
    generalize yW t K m 0 (fun s => decide (s = x)) = w1 at *
    generalize yW t K m 0 (fun s => ! decide (s = x)) = w2 at *
    refine ⟨.inl (if P.2 = true then 2 else if P.1 = true then 1 else 0), (if P.2 = true then 2 else if P.1 = true then 1 else 0), siU U a K, wc (siM (mset M 0 0) b K) w1 w2, ?_, ?_, ⟨rfl, rfl⟩, RI_si I, RM_si R, KU_si, KM_t (M' := mset M 0 0) KM_set (KM_t (M' := siM (mset M 0 0) b K) KM_si ⟨⟨rfl, rfl, rfl⟩, rfl, rfl, fun _ _ => rfl⟩)⟩
    · unfold h_X1_proof
      rw [h_houseAt_ok (RI_hou I) hj h31, zbt_i, s1, zb2_at, hlo, zb2_at, k1, zb2_at, zl_at, h_proof35 hb (by omega) ht, hEf, hP]
    · rw [G]
      unfold g_X6_proof_68
      have e0 : g_X6_setsD 18 0 (nI m) (yofI x) (wc (siM (mset M 0 0) b K) 0 0) = some ((), wc (siM (mset M 0 0) b K) w1 w2) := by
        rw [Nat.zero_add, Nat.zero_add] at hS
        exact hS
      rw [e0, zb2_at]
      show (if ¬ nI w1 = 0 then if ¬ nI w2 = 0 then _ else _ else _) = _
      obtain ⟨p1, p2⟩ := P
      by_cases z1 : 0 < w1
      · rw [if_pos (nI_ne0 z1 (by omega))]
        by_cases z2 : 0 < w2
        · rw [if_pos (nI_ne0 z2 (by omega))]
          have e1 : p1 = true := W1.mp z1
          have e2 : p2 = false := W2.mp z2
          subst e1; subst e2; rfl
        · have : w2 = 0 := by omega
          subst this
          rw [if_neg (fun q => q rfl)]
          have e2 : p2 = true := by
            cases p2 with
            | true => rfl
            | false => exact absurd (W2.mpr rfl) (by omega)
          subst e2; rfl
      · have : w1 = 0 := by omega
        subst this
        rw [if_neg (fun q => q rfl)]
        have e1 : p1 = false := by
          cases p1 with
          | false => rfl
          | true => exact absurd (W1.mpr rfl) (by omega)
        have e2 : p2 = false := W2.mp (W3.resolve_left (by omega))
        subst e1; subst e2; rfl
end T19
/-! in how many ways -/
def ych : Nat → Nat → Nat
  | _, 0 => 1
  | 0, _ + 1 => 0
  | n + 1, k + 1 => ych n k + ych n (k + 1)
def fa : Nat → Nat
  | 0 => 1
  | n + 1 => (n + 1) * fa n
theorem ch_0 (n : Nat) : ych n 0 = 1 := by cases n <;> rfl
theorem ch_s (n k : Nat) : ych (n + 1) (k + 1) = ych n k + ych n (k + 1) := rfl
theorem ch_mul : ∀ n k, (n + 1) * ych n k = ych (n + 1) (k + 1) * (k + 1) := by
  intro n
  induction n with
  | zero =>
    intro k
    cases k with
    | zero => rfl
    | succ k => show 1 * 0 = (ych 0 (k + 1) + ych 0 (k + 2)) * (k + 2); rw [show ych 0 (k + 1) = 0 from rfl, show ych 0 (k + 2) = 0 from rfl]; omega
  | succ n ih =>
    intro k
    cases k with
    | zero =>
      have h1 := ih 0
      rw [ch_0] at h1
      rw [ch_0, ch_s, ch_0]
      omega
    | succ k =>
      have h1 := ih k
      have h2 := ih (k + 1)
      rw [ch_s (n + 1) (k + 1)]
      have e : ych (n + 1) (k + 1) = ych n k + ych n (k + 1) := rfl
      have g1 : (n + 1 + 1) * ych (n + 1) (k + 1) = (n + 1) * ych n k + (n + 1) * ych n (k + 1) + ych (n + 1) (k + 1) := by
        rw [Nat.succ_mul, e, Nat.mul_add]
      have g2 : (ych (n + 1) (k + 1) + ych (n + 1) (k + 1 + 1)) * (k + 1 + 1) = ych (n + 1) (k + 1) * (k + 1) + ych (n + 1) (k + 1) + ych (n + 1) (k + 1 + 1) * (k + 1 + 1) := by
        rw [Nat.add_mul, Nat.mul_succ]
      rw [g1, g2, h1, h2]
      omega
theorem ch_fa : ∀ b a, ych (a + b) b * fa a * fa b = fa (a + b) := by
  intro b
  induction b with
  | zero => intro a; rw [ch_0]; show 1 * fa a * 1 = fa (a + 0); rw [Nat.one_mul, Nat.mul_one, Nat.add_zero]
  | succ b ih =>
    intro a
    have h := ch_mul (a + b) b
    have h2 := ih a
    show ych (a + b + 1) (b + 1) * fa a * ((b + 1) * fa b) = (a + b + 1) * fa (a + b)
    rw [← h2]
    have : ych (a + b + 1) (b + 1) * fa a * ((b + 1) * fa b) = (ych (a + b + 1) (b + 1) * (b + 1)) * (fa a * fa b) := by ac_rfl
    rw [this, ← h]
    ac_rfl
theorem fa_pos : ∀ n, 0 < fa n := by
  intro n
  induction n with
  | zero => exact Nat.zero_lt_one
  | succ n ih => exact Nat.mul_pos (Nat.succ_pos n) ih
/-- one factor more, and by one more -/
theorem ch_step (a k : Nat) : ych (a + k) k * (a + (k + 1)) / (k + 1) = ych (a + (k + 1)) (k + 1) := by
  have h := ch_mul (a + k) k
  rw [show a + (k + 1) = a + k + 1 by omega, Nat.mul_comm, h, Nat.mul_div_cancel _ (Nat.succ_pos k)]
theorem ch_stepX (x a k : Nat) : x * ych (a + k) k * (a + (k + 1)) / (k + 1) = x * ych (a + (k + 1)) (k + 1) := by
  have h := ch_mul (a + k) k
  have : x * ych (a + k) k * (a + (k + 1)) = x * ych (a + (k + 1)) (k + 1) * (k + 1) := by
    rw [Nat.mul_assoc, show a + (k + 1) = a + k + 1 by omega, Nat.mul_comm (ych (a + k) k), h, Nat.mul_assoc]
  rw [this, Nat.mul_div_cancel _ (Nat.succ_pos k)]
/-- of the first houses: the sum, the products -/
def wS (l : Nat → Nat) : Nat → Nat
  | 0 => 0
  | h + 1 => wS l h + l h
def wF (l : Nat → Nat) : Nat → Nat
  | 0 => 1
  | h + 1 => wF l h * fa (l h)
def wX (l : Nat → Nat) : Nat → Nat
  | 0 => 1
  | h + 1 => wX l h * ych (wS l h + l h) (l h)
def wY (B : Nat) (l : Nat → Nat) : Nat → Nat
  | 0 => 1
  | h + 1 => wY B l h * ych (B - wS l h) (l h)
theorem wX_fa (l : Nat → Nat) : ∀ h, wX l h * wF l h = fa (wS l h) := by
  intro h
  induction h with
  | zero => rfl
  | succ h ih =>
    have := ch_fa (l h) (wS l h)
    show wX l h * ych (wS l h + l h) (l h) * (wF l h * fa (l h)) = fa (wS l h + l h)
    rw [← this, ← ih]
    ac_rfl
theorem wY_fa (B : Nat) (l : Nat → Nat) : ∀ h, wS l h ≤ B → wY B l h * wF l h * fa (B - wS l h) = fa B := by
  intro h
  induction h with
  | zero => intro _; show 1 * 1 * fa (B - 0) = fa B; rw [Nat.sub_zero, Nat.one_mul]
  | succ h ih =>
    intro hb
    have hb' : wS l h + l h ≤ B := hb
    have h1 := ch_fa (l h) (B - wS l h - l h)
    rw [show B - wS l h - l h + l h = B - wS l h by omega] at h1
    have h2 := ih (by omega)
    show wY B l h * ych (B - wS l h) (l h) * (wF l h * fa (l h)) * fa (B - (wS l h + l h)) = fa B
    rw [← h2, ← h1, show B - (wS l h + l h) = B - wS l h - l h by omega]
    ac_rfl
theorem wF_pos (l : Nat → Nat) : ∀ h, 0 < wF l h := by
  intro h
  induction h with
  | zero => exact Nat.zero_lt_one
  | succ h ih => exact Nat.mul_pos ih (fa_pos _)
theorem wXY (l : Nat → Nat) (h : Nat) : wX l h = wY (wS l h) l h := by
  have h1 := wX_fa l h
  have h2 := wY_fa (wS l h) l h (Nat.le_refl _)
  rw [Nat.sub_self, show fa 0 = 1 from rfl, Nat.mul_one] at h2
  exact Nat.eq_of_mul_eq_mul_right (wF_pos l h) (h1.trans h2.symm)
theorem fa_mono : ∀ b a, a ≤ b → fa a ≤ fa b := by
  intro b
  induction b with
  | zero => intro a h; obtain rfl : a = 0 := by omega
            exact Nat.le_refl _
  | succ b ih =>
    intro a h
    by_cases z : a = b + 1
    · subst z; exact Nat.le_refl _
    · refine Nat.le_trans (ih a (by omega)) ?_
      show fa b ≤ (b + 1) * fa b
      exact Nat.le_mul_of_pos_left _ (Nat.succ_pos b)
theorem le_of_mulF {x f y : Nat} (hf : 0 < f) (h : x * f ≤ y) : x ≤ y := Nat.le_trans (Nat.le_mul_of_pos_right x hf) h
theorem fa16 : fa 16 = 20922789888000 := by decide
section T20
variable {c : Nat} {N : Nat → Nat} {U U' U'' : cU} {M M' M'' : mS} {m m' : Nat → Int32}
theorem wS_mono (l : Nat → Nat) : ∀ h k, h ≤ k → wS l h ≤ wS l k := by
  intro h k
  induction k with
  | zero => intro hk; obtain rfl : h = 0 := by omega
            exact Nat.le_refl _
  | succ k ih =>
    intro hk
    by_cases z : h = k + 1
    · subst z; exact Nat.le_refl _
    · exact Nat.le_trans (ih (by omega)) (Nat.le_add_right _ _)
/-- the houses share the burnt ones -/
theorem wS_bu (I : RI c N U) : wS (fun h => ylo N U (nI h)) (N 0) = bu N U := by
  have n0 := RI_n0 I
  have H : ∀ n, n ≤ N 4 → wS (fun h => cn n (fun e => decide (U.2 4 (8 * e + 3) = nI h) && bz (U.2 4 (8 * e + 7)))) (N 0) = cn n (fun e => bz (U.2 4 (8 * e + 7))) := by
    intro n
    induction n with
    | zero =>
      intro _
      have Z : ∀ k, wS (fun h => cn 0 (fun e => decide (U.2 4 (8 * e + 3) = nI h) && bz (U.2 4 (8 * e + 7)))) k = 0 := by
        intro k
        induction k with
        | zero => rfl
        | succ k ih => show wS _ k + 0 = 0; rw [ih]
      exact Z (N 0)
    | succ n ih =>
      intro hn
      have ih' := ih (by omega)
      obtain ⟨q, hq, eq⟩ := (RI_ent I n (by omega)).2.2.2.2.2.1
      cases z : bz (U.2 4 (8 * n + 7)) with
      | false =>
        rw [cn_s0 z, ← ih']
        have : (fun h => cn (n + 1) (fun e => decide (U.2 4 (8 * e + 3) = nI h) && bz (U.2 4 (8 * e + 7)))) = fun h => cn n (fun e => decide (U.2 4 (8 * e + 3) = nI h) && bz (U.2 4 (8 * e + 7))) := by
          funext h
          exact cn_s0 (by rw [z, Bool.and_false])
        rw [this]
      | true =>
        rw [cn_s1 z, ← ih']
        -- one house has one more
        have G : ∀ k, k ≤ N 0 → wS (fun h => cn (n + 1) (fun e => decide (U.2 4 (8 * e + 3) = nI h) && bz (U.2 4 (8 * e + 7)))) k = wS (fun h => cn n (fun e => decide (U.2 4 (8 * e + 3) = nI h) && bz (U.2 4 (8 * e + 7)))) k + (if q < k then 1 else 0) := by
          intro k
          induction k with
          | zero => intro _; rfl
          | succ k ihk =>
            intro hk
            show wS _ k + cn (n + 1) _ = wS _ k + cn n _ + _
            rw [ihk (by omega)]
            by_cases y : q = k
            · subst y
              rw [cn_s1 (by rw [eq, z, decide_eq_true rfl]; rfl), if_neg (by omega), if_pos (by omega)]
              omega
            · rw [cn_s0 (by rw [eq, decide_eq_false (fun w => y ((nI_eq (by omega) (by omega)).mp w))]; rfl)]
              by_cases x : q < k
              · rw [if_pos x, if_pos (by omega)]; omega
              · rw [if_neg x, if_neg (by omega)]; omega
        rw [G (N 0) (Nat.le_refl _), if_pos hq]
  exact H (N 4) (Nat.le_refl _)
theorem op_ways (I : RI c N U) (R : yRM N U (M.2 0)) : ∃ v M', h_X1_ways N U = some (v, U) ∧ g_X6_ways M = some (v, M') ∧ M'.1 0 = 0 ∧ yRM N U (M'.2 0) ∧ yKM M M' := by
  have n0 := RI_n0 I
  have hb : bu N U ≤ 16 := RI_bur I
  have hSB := wS_bu I
  let l : Nat → Nat := fun h => ylo N U (nI h)
  have hl : ∀ h, ylo N U (nI h) = l h := fun h => rfl
  have hS : ∀ h, h ≤ N 0 → wS l h ≤ 16 := fun h hh => Nat.le_trans (wS_mono l h (N 0) hh) (by rw [hSB]; exact hb)
  have hf16 : ∀ n, n ≤ 16 → fa n ≤ 20922789888000 := fun n hn => by rw [← fa16]; exact fa_mono 16 n hn
  have hX : ∀ h k, h ≤ N 0 → wS l h + k ≤ 16 → wX l h * ych (wS l h + k) k ≤ 20922789888000 := by
    intro h k hh hk
    have h1 := ch_fa k (wS l h)
    have h2 := wX_fa l h
    refine Nat.le_trans (le_of_mulF (f := wF l h * fa k) (Nat.mul_pos (wF_pos l h) (fa_pos k)) (Nat.le_of_eq ?_)) (hf16 (wS l h + k) hk)
    rw [← h1, ← h2]; ac_rfl
  have hlo : ∀ h, h_X1_lost N (nI h) U = some (nI (l h), U) := fun h => h_lostN I (nI h)
  -- the component
  have HC : h_X1_ways N U = some (lN (wX l (N 0)), U) := by
    unfold h_X1_ways h_X1_ways_7
    refine zlp3_it (n := N 0) (fun h => lN (wX l h)) (fun h => nI (wS l h)) (fun h => nI h) (fun _ => U) (fun h rf hh => ?_) (fun rf => ?_) NN (NN_lt (by omega))
    · unfold h_X1_ways_7_b h_X1_ways_22
      rw [RI_hou I, nleF hh (by omega)]
      have hs1 := hS (h + 1) (by omega)
      have hs1' : wS l h + l h ≤ 16 := hs1
      refine (congrArg (fun z => zlp3 (h_X1_ways_22_b N rf (nI h)) NN z (nI (wS l h)) 1 U) (show lN (wX l h) = lN (wX l h * ych (wS l h + 0) 0) by rw [ch_0, Nat.mul_one])).trans ?_
      refine zlp3_it (n := l h) (fun k => lN (wX l h * ych (wS l h + k) k)) (fun k => nI (wS l h + k)) (fun k => nI (k + 1)) (fun _ => U) (fun k rg hk => ?_) (fun rg => ?_) NN (NN_lt (by omega))
      · unfold h_X1_ways_22_b
        have b1 := hX h k (by omega) (by omega)
        have b2 : wX l h * ych (wS l h + k) k * (wS l h + (k + 1)) ≤ 20922789888000 * 16 := Nat.mul_le_mul b1 (by omega)
        rw [hlo, zb2_at, if_neg (nI_nlt (by omega) (by omega)), zl_at, nI_1, show wS l h + k + 1 = wS l h + (k + 1) by omega, nI_l (by omega), nI_l (by omega), lN_mul]
        unfold zdivJ
        rw [if_neg (fun q => by
          have := (pk_lEQ (a := k + 1) (b := 0) (by omega) (by omega)).mp q
          omega), pk_lDiv (by omega) (by omega) (by omega), ch_stepX, bd_at, zl_at, nI_1]
      · unfold h_X1_ways_22_b
        rw [hlo, zb2_at, if_pos (nI_lt (by omega) (by omega)), zl_at, nI_1]
        rfl
    · unfold h_X1_ways_7_b
      rw [RI_hou I, if_pos (Int32.le_refl _)]
  -- the model
  have hY : ∀ h, h ≤ N 0 → wY (bu N U) l h ≤ 20922789888000 := by
    intro h hh
    have h2 := wY_fa (bu N U) l h (by rw [← hSB]; exact wS_mono l h (N 0) hh)
    rw [Nat.mul_assoc] at h2
    exact Nat.le_trans (le_of_mulF (Nat.mul_pos (wF_pos l h) (fa_pos _)) (Nat.le_of_eq h2)) (hf16 _ hb)
  have hSB' : ∀ h, h ≤ N 0 → wS l h ≤ bu N U := fun h hh => by rw [← hSB]; exact wS_mono l h (N 0) hh
  have hCh : ∀ B k, k ≤ B → B ≤ 16 → ych B k ≤ 20922789888000 := by
    intro B k hk hB
    have h1 := ch_fa k (B - k)
    rw [show B - k + k = B by omega, Nat.mul_assoc] at h1
    exact Nat.le_trans (le_of_mulF (Nat.mul_pos (fa_pos _) (fa_pos _)) (Nat.le_of_eq h1)) (hf16 B hB)
  have GC : ∃ M', g_X6_ways M = some (lN (wY (bu N U) l (N 0)), M') ∧ M'.1 0 = 0 ∧ yRM N U (M'.2 0) ∧ yKM M M' := by
    have E : g_X6_ways M = zlp3 g_X6_ways_15_b NN (nI (bu N U)) 1 0 (mset M 0 0) := by
      unfold g_X6_ways g_X6_ways_15
      rw [zl_at, g_burntN (M := mset M 0 0) I R, zb2_at]
      rfl
    -- from any house on
    have L : ∀ j h f (M0 : mS), h + j = N 0 → j < f → yRM N U (M0.2 0) → yKM M M0 → M0.1 0 = 0 → ∃ M', zlp3 g_X6_ways_15_b f (nI (bu N U - wS l h)) (lN (wY (bu N U) l h)) (nI h) M0 = some (lN (wY (bu N U) l (N 0)), M') ∧ M'.1 0 = 0 ∧ yRM N U (M'.2 0) ∧ yKM M M' := by
      intro j
      induction j with
      | zero =>
        intro h f M0 hj hf R0 K0 z0
        obtain ⟨f, rfl⟩ : ∃ f', f = f' + 1 := ⟨f - 1, by omega⟩
        obtain rfl : h = N 0 := by omega
        refine ⟨M0, ?_, z0, R0, K0⟩
        rw [zlp3_s]
        unfold g_X6_ways_15_b
        rw [g_m1, bd_at, RM_m1 R0, if_pos (Int32.le_refl _)]
      | succ j ih =>
        intro h f M0 hj hf R0 K0 z0
        obtain ⟨f, rfl⟩ : ∃ f', f = f' + 1 := ⟨f - 1, by omega⟩
        obtain ⟨a, b, s1, s2, s3⟩ := op_sifts (M := M0) I R0
        have hs0 := hSB' h (by omega)
        have hs1 : wS l h + l h ≤ bu N U := hSB' (h + 1) (by omega)
        obtain ⟨M', e1, e2, e3, e4⟩ := ih (h + 1) f (siM M0 b (bu N U)) (by omega) (by omega) R0 (KM_t K0 KM_si) z0
        refine ⟨M', ?_, e2, e3, e4⟩
        rw [zlp3_s]
        generalize zlp3 g_X6_ways_15_b f = rf at e1
        unfold g_X6_ways_15_b g_X6_ways_40
        rw [g_m1, bd_at, RM_m1 R0, nleF (show h < N 0 by omega) (by omega), s2, zb2_at, hl]
        refine (congrArg (fun z => zlp2 (g_X6_ways_40_b rf (nI (bu N U - wS l h)) (lN (wY (bu N U) l h)) (nI h) (nI (l h))) NN z 1 (siM M0 b (bu N U))) (show (1 : Int64) = lN (ych (bu N U - wS l h - l h + 0) 0) by rw [ch_0]; rfl)).trans ?_
        refine zlp2_it (n := l h) (fun k => lN (ych (bu N U - wS l h - l h + k) k)) (fun k => nI (k + 1)) (fun _ => siM M0 b (bu N U)) (fun k rg hk => ?_) (fun rg => ?_) NN (NN_lt (by omega))
        · unfold g_X6_ways_40_b
          have b1 := hCh (bu N U - wS l h - l h + k) k (by omega) (by omega)
          have b2 : ych (bu N U - wS l h - l h + k) k * (bu N U - wS l h - l h + (k + 1)) ≤ 20922789888000 * 16 := Nat.mul_le_mul b1 (by omega)
          rw [if_neg (nI_nlt (by omega) (by omega)), pk_sub (by omega), nI_add, nI_l (by omega), nI_l (by omega), lN_mul]
          unfold zdivJ
          rw [if_neg (fun q => by
            have := (pk_lEQ (a := k + 1) (b := 0) (by omega) (by omega)).mp q
            omega), pk_lDiv (by omega) (by omega) (by omega), ch_step, bd_at, zl_at, nI_1]
        · unfold g_X6_ways_40_b
          rw [if_pos (nI_lt (by omega) (by omega)), zl_at, zl_at, zl_at, nI_1, pk_sub (by omega), lN_mul, show bu N U - wS l h - l h + l h = bu N U - wS l h by omega, show bu N U - wS l h - l h = bu N U - (wS l h + l h) by omega]
          exact e1
    obtain ⟨M', e1, e2⟩ := L (N 0) 0 NN (mset M 0 0) (by omega) (NN_lt (by omega)) R KM_set rfl
    exact ⟨M', E.trans e1, e2⟩
  obtain ⟨M', e1, e2⟩ := GC
  refine ⟨_, M', HC, ?_, e2⟩
  rw [e1, wXY l (N 0), show wS l (N 0) = bu N U from hSB]
end T20
section T21
variable {c : Nat} {N : Nat → Nat} {U U' U'' : cU} {M M' M'' : mS} {m m' : Nat → Int32}
def cntV (N : Nat → Nat) (U : cU) (l : Int32) (p : Int32) : Int32 :=
  if p = 6 then nI (bu N U) else if p = 11 then ysm (N 0) (fun e => U.2 0 e) else if p = 12 then ysm (N 4) (fun e => U.2 4 (8 * e + 5)) else if p = 0 then nI (N 0) else if p = 1 then nI (N 1) else if p = 2 then nI (N 2) else if p = 3 then U.1 0 else if p = 4 then l else if p = 5 then nI (N 4) else if p = 7 then U.1 4 else if p = 8 then U.1 2 else if p = 9 then U.1 3 else if p = 10 then nI (N 3) else -1
theorem op_countG (I : RI c N U) (R : yRM N U (M.2 0)) (p : Int32) : g_X6_count p M = some (cntV N U (M.2 0 10) p, mset M 0 0) := by
  have n0 := RI_n0 I
  have n4 := RI_n4 I
  have g10 : mL (mset M 0 0) 0 10 = some (M.2 0 10) := mL_n (k := 10) (show 10 < 942 by omega) (by omega)
  have H45 : ∀ d, g_X6_count_45 p d 0 0 (mset M 0 0) = some ((if p = 6 then nI (bu N U) else if p = 11 then d else if p = 12 then ysm (N 4) (fun e => U.2 4 (8 * e + 5)) else if p = 0 then nI (N 0) else if p = 1 then nI (N 1) else if p = 2 then nI (N 2) else if p = 3 then U.1 0 else if p = 4 then M.2 0 10 else if p = 5 then nI (N 4) else if p = 7 then U.1 4 else if p = 8 then U.1 2 else if p = 9 then U.1 3 else if p = 10 then nI (N 3) else -1), mset M 0 0) := by
    intro d
    unfold g_X6_count_45
    have q := zlp2_sum (F := g_X6_count_45_b p d) (a0 := 0) (n := N 4) (f := fun e => U.2 4 (8 * e + 5)) (t := mset M 0 0) (r := fun a => some ((if p = 6 then nI (bu N U) else if p = 11 then d else if p = 12 then a else if p = 0 then nI (N 0) else if p = 1 then nI (N 1) else if p = 2 then nI (N 2) else if p = 3 then U.1 0 else if p = 4 then M.2 0 10 else if p = 5 then nI (N 4) else if p = 7 then U.1 4 else if p = 8 then U.1 2 else if p = 9 then U.1 3 else if p = 10 then nI (N 3) else -1), mset M 0 0)) (fun i acc rf hi => ?_) (fun acc rf => ?_) NN (NN_lt (by omega))
    · simpa only [i_0add] using q
    · have e4 : (mset M 0 0).2 0 4 = nI (N 4) := RM_m4 R
      have e5 : (mset M 0 0).2 0 (122 + 7 * i + 5) = U.2 4 (8 * i + 5) := (RM_mE R i hi).2.2.2.2.2.1
      unfold g_X6_count_45_b
      rw [g_m4, bd_at, e4, nleF hi (by omega), g_oE5 (by omega), zb2_at, e5, zl_at, zl_at, nI_1]
    · have e0 : (mset M 0 0).2 0 0 = U.1 0 := RM_m0 R
      have e1 : (mset M 0 0).2 0 1 = nI (N 0) := RM_m1 R
      have e2 : (mset M 0 0).2 0 2 = nI (N 1) := RM_m2 R
      have e3 : (mset M 0 0).2 0 3 = nI (N 2) := RM_m3 R
      have e4 : (mset M 0 0).2 0 4 = nI (N 4) := RM_m4 R
      have e5 : (mset M 0 0).2 0 5 = nI (N 3) := RM_m5 R
      have e6 : (mset M 0 0).2 0 6 = U.1 2 := RM_m6 R
      have e7 : (mset M 0 0).2 0 7 = U.1 3 := RM_m7 R
      have e8 : (mset M 0 0).2 0 8 = U.1 4 := RM_m8 R
      have eb : g_X6_burntNow (mset M 0 0) = some (nI (bu N U), mset M 0 0) := g_burntN (M := mset M 0 0) I R
      unfold g_X6_count_45_b
      simp only [g_m0, g_m1, g_m2, g_m3, g_m4, g_m5, g_m6, g_m7, g_m8, g10, bd_at, e0, e1, e2, e3, e4, e5, e6, e7, e8, eb, zb2_at, Int32.le_refl, if_true]
      by_cases z6 : p = 6
      · rw [if_neg (fun q => q z6), if_pos z6]
      rw [if_pos z6, if_neg z6]
      by_cases z11 : p = 11
      · rw [if_neg (fun q => q z11), if_pos z11]
      rw [if_pos z11, if_neg z11]
      by_cases z12 : p = 12
      · rw [if_neg (fun q => q z12), if_pos z12]
      rw [if_pos z12, if_neg z12]
      by_cases z0 : p = 0
      · rw [if_neg (fun q => q z0), if_pos z0]
      rw [if_pos z0, if_neg z0]
      by_cases z1 : p = 1
      · rw [if_neg (fun q => q z1), if_pos z1]
      rw [if_pos z1, if_neg z1]
      by_cases z2 : p = 2
      · rw [if_neg (fun q => q z2), if_pos z2]
      rw [if_pos z2, if_neg z2]
      by_cases z3 : p = 3
      · rw [if_neg (fun q => q z3), if_pos z3]
      rw [if_pos z3, if_neg z3]
      by_cases z4 : p = 4
      · rw [if_neg (fun q => q z4), if_pos z4]
      rw [if_pos z4, if_neg z4]
      by_cases z5 : p = 5
      · rw [if_neg (fun q => q z5), if_pos z5]
      rw [if_pos z5, if_neg z5]
      by_cases z7 : p = 7
      · rw [if_neg (fun q => q z7), if_pos z7]
      rw [if_pos z7, if_neg z7]
      by_cases z8 : p = 8
      · rw [if_neg (fun q => q z8), if_pos z8]
      rw [if_pos z8, if_neg z8]
      by_cases z9 : p = 9
      · rw [if_neg (fun q => q z9), if_pos z9]
      rw [if_pos z9, if_neg z9]
      by_cases z10 : p = 10
      · rw [if_neg (fun q => q z10), if_pos z10]
      rw [if_pos z10, if_neg z10]
  unfold g_X6_count g_X6_count_12 cntV
  rw [zl_at]
  have q := zlp2_sum (F := g_X6_count_12_b p 0) (a0 := 0) (n := N 0) (f := fun e => U.2 0 e) (t := mset M 0 0) (r := fun a => g_X6_count_45 p a 0 0 (mset M 0 0)) (fun i acc rf hi => ?_) (fun acc rf => ?_) NN (NN_lt (by omega))
  · rw [q, H45, i_0add]
  · have e1 : (mset M 0 0).2 0 1 = nI (N 0) := RM_m1 R
    have eD : (mset M 0 0).2 0 (12 + i) = U.2 0 i := RM_mD R i (by omega)
    unfold g_X6_count_12_b
    rw [g_m1, bd_at, e1, nleF hi (by omega), g_mD (by omega), bd_at, eD, zl_at, zl_at, nI_1]
  · have e1 : (mset M 0 0).2 0 1 = nI (N 0) := RM_m1 R
    unfold g_X6_count_12_b
    rw [g_m1, bd_at, e1, if_pos (Int32.le_refl _)]
end T21
