/-! pure land: R5 R6 R7 R8 R9 S1 (see wip/D-94657w/pl) -/
/-! plans: numbers of states, by digits -/
/-- none of a set rests -/
def ycan (b : Nat) : Nat → Nat → Nat → Bool
  | 0, _, _ => true
  | k + 1, s, p => (decide (p % 2 = 0) || decide (s % b = 0)) && ycan b k (s / b) (p / 2)
/-- who rests how long, a day on -/
def nx (b r : Nat) : Nat → Nat → Nat → Nat
  | 0, _, _ => 0
  | k + 1, s, p => (if p % 2 = 1 then r else s % b - 1) + b * nx b r k (s / b) (p / 2)
/-- the same state by digits of four -/
def cv (b : Nat) : Nat → Nat → Nat
  | 0, _ => 0
  | k + 1, s => s % b + 4 * cv b k (s / b)
theorem can_cv {b : Nat} (h0 : 0 < b) (h4 : b ≤ 4) : ∀ k s p, ycan 4 k (cv b k s) p = ycan b k s p := by
  intro k
  induction k with
  | zero => intro s p; rfl
  | succ k ih =>
    intro s p
    have hm := Nat.mod_lt s h0
    show ((decide (p % 2 = 0) || decide ((s % b + 4 * cv b k (s / b)) % 4 = 0)) && ycan 4 k ((s % b + 4 * cv b k (s / b)) / 4) (p / 2)) = ((decide (p % 2 = 0) || decide (s % b = 0)) && ycan b k (s / b) (p / 2))
    rw [show (s % b + 4 * cv b k (s / b)) % 4 = s % b by omega, show (s % b + 4 * cv b k (s / b)) / 4 = cv b k (s / b) by omega, ih]
theorem nx_dg {b r s p : Nat} (h : b = r + 1) : (if p % 2 = 1 then r else s % b - 1) < b := by
  have := Nat.mod_lt s (show 0 < b by omega)
  split <;> omega
theorem nx_cv {b r : Nat} (h : b = r + 1) (h4 : b ≤ 4) : ∀ k s p, nx 4 r k (cv b k s) p = cv b k (nx b r k s p) := by
  intro k
  induction k with
  | zero => intro s p; rfl
  | succ k ih =>
    intro s p
    have hm := Nat.mod_lt s (show 0 < b by omega)
    have hd := nx_dg (s := s) (p := p) h
    show (if p % 2 = 1 then r else (s % b + 4 * cv b k (s / b)) % 4 - 1) + 4 * nx 4 r k ((s % b + 4 * cv b k (s / b)) / 4) (p / 2) = ((if p % 2 = 1 then r else s % b - 1) + b * nx b r k (s / b) (p / 2)) % b + 4 * cv b k (((if p % 2 = 1 then r else s % b - 1) + b * nx b r k (s / b) (p / 2)) / b)
    rw [show (s % b + 4 * cv b k (s / b)) % 4 = s % b by omega, show (s % b + 4 * cv b k (s / b)) / 4 = cv b k (s / b) by omega, ih, Nat.add_mul_mod_self_left, Nat.mod_eq_of_lt hd, Nat.add_mul_div_left _ _ (show 0 < b by omega), Nat.div_eq_of_lt hd, Nat.zero_add]
theorem nx_lt {b r : Nat} (h : r < b) : ∀ k s p, (∀ q : Nat, q % b - 1 < b) → nx b r k s p < b ^ k := by
  intro k
  induction k with
  | zero => intro s p _; exact Nat.zero_lt_one
  | succ k ih =>
    intro s p hq
    have h1 := ih (s / b) (p / 2) hq
    have h2 : (if p % 2 = 1 then r else s % b - 1) < b := by
      have := hq s
      split <;> omega
    show (if p % 2 = 1 then r else s % b - 1) + b * nx b r k (s / b) (p / 2) < b ^ (k + 1)
    have h3 : b * (nx b r k (s / b) (p / 2) + 1) ≤ b * b ^ k := Nat.mul_le_mul_left b h1
    rw [Nat.pow_succ, Nat.mul_comm (b ^ k) b]
    rw [Nat.mul_succ] at h3
    omega
theorem nx_ltb {b r : Nat} (h : r < b) (k s p : Nat) : nx b r k s p < b ^ k := nx_lt h k s p (fun q => by have := Nat.mod_lt q (show 0 < b by omega); omega)
/-- the greatest of the first -/
def ymx : Nat → (Nat → Nat) → Nat
  | 0, _ => 0
  | n + 1, f => max (ymx n f) (f n)
theorem mx_eq {n : Nat} {f g : Nat → Nat} (h : ∀ i, i < n → f i = g i) : ymx n f = ymx n g := by
  induction n with
  | zero => rfl
  | succ n ih => show max (ymx n f) (f n) = max (ymx n g) (g n); rw [ih (fun i hi => h i (by omega)), h n (by omega)]
theorem mx_le {n B : Nat} {f : Nat → Nat} (h : ∀ i, i < n → f i ≤ B) : ymx n f ≤ B := by
  induction n with
  | zero => exact Nat.zero_le _
  | succ n ih => exact Nat.max_le.mpr ⟨ih (fun i hi => h i (by omega)), h n (by omega)⟩
theorem mx_skip {f : Nat → Nat} {a : Nat} : ∀ b, a ≤ b → (∀ i, a ≤ i → i < b → f i = 0) → ymx b f = ymx a f := by
  intro b
  induction b with
  | zero => intro h _; obtain rfl : a = 0 := by omega
            rfl
  | succ b ih =>
    intro h hz
    by_cases z : a = b + 1
    · subst z; rfl
    · show max (ymx b f) (f b) = _
      rw [ih (by omega) (fun i h1 h2 => hz i h1 (by omega)), hz b (by omega) (by omega)]
      exact Nat.max_eq_left (Nat.zero_le _)
theorem mx_ge {f : Nat → Nat} : ∀ n i, i < n → f i ≤ ymx n f := by
  intro n
  induction n with
  | zero => intro i h; omega
  | succ n ih =>
    intro i h
    by_cases z : i = n
    · subst z; exact Nat.le_max_right _ _
    · exact Nat.le_trans (ih i (by omega)) (Nat.le_max_left _ _)
theorem mx_at {f : Nat → Nat} : ∀ n, 0 < ymx n f → ∃ i, i < n ∧ f i = ymx n f := by
  intro n
  induction n with
  | zero => intro h; exact absurd h (Nat.lt_irrefl 0)
  | succ n ih =>
    intro h
    by_cases z : ymx n f ≤ f n
    · exact ⟨n, by omega, (Nat.max_eq_right z).symm⟩
    · have e : ymx (n + 1) f = ymx n f := Nat.max_eq_left (by omega)
      obtain ⟨i, hi, ei⟩ := ih (by omega)
      exact ⟨i, by omega, by rw [e]; exact ei⟩
/-- the most in so many days, from a state -/
def vv (b r K L : Nat) (w : Nat → Nat) : Nat → Nat → Nat
  | 0, _ => 0
  | j + 1, s => ymx (2 ^ K) (fun p => if pcn 16 p ≤ L ∧ ycan b K s p = true then su w K 0 p + vv b r K L w j (nx b r K s p) else 0)
theorem vv_cv {b r K L : Nat} {w : Nat → Nat} (h : b = r + 1) (h4 : b ≤ 4) : ∀ j s, vv 4 r K L w j (cv b K s) = vv b r K L w j s := by
  intro j
  induction j with
  | zero => intro s; rfl
  | succ j ih =>
    intro s
    refine mx_eq fun p hp => ?_
    rw [can_cv (by omega) h4, nx_cv h h4, ih]
theorem su_leK {t : Nat → Nat} (K s : Nat) (h : ∀ j, j < K → t j ≤ 9801) : su t K 0 s ≤ 9801 * K := su_le K 0 s (fun j hj => h j (by omega))
theorem vv_le {b r K L : Nat} {w : Nat → Nat} (hw : ∀ j, j < K → w j ≤ 9801) : ∀ j s, vv b r K L w j s ≤ 9801 * K * j := by
  intro j
  induction j with
  | zero => intro s; exact Nat.le_refl _
  | succ j ih =>
    intro s
    refine mx_le fun p hp => ?_
    by_cases z : pcn 16 p ≤ L ∧ ycan b K s p = true
    · rw [if_pos z]
      have h1 := ih (nx b r K s p)
      have h2 := su_leK K p hw
      rw [Nat.mul_succ]; omega
    · rw [if_neg z]; exact Nat.zero_le _
theorem cv_0 {b : Nat} : ∀ k, cv b k 0 = 0 := by
  intro k
  induction k with
  | zero => rfl
  | succ k ih => show 0 % b + 4 * cv b k (0 / b) = 0; rw [Nat.zero_div, ih, Nat.zero_mod]
/-! by places -/
theorem nx_ns (b r : Nat) : ∀ k s p, nx b r k s p = ns k (fun i => b ^ i * (if p / 2 ^ i % 2 = 1 then r else s / b ^ i % b - 1)) := by
  intro k
  induction k with
  | zero => intro s p; rfl
  | succ k ih =>
    intro s p
    rw [ns_front]
    show (if p % 2 = 1 then r else s % b - 1) + b * nx b r k (s / b) (p / 2) = b ^ 0 * (if p / 2 ^ 0 % 2 = 1 then r else s / b ^ 0 % b - 1) + _
    rw [ih, Nat.pow_zero, Nat.pow_zero, Nat.div_one, Nat.div_one, Nat.one_mul]
    congr 1
    have H : ∀ n, b * ns n (fun i => b ^ i * (if p / 2 / 2 ^ i % 2 = 1 then r else s / b / b ^ i % b - 1)) = ns n (fun i => b ^ (i + 1) * (if p / 2 ^ (i + 1) % 2 = 1 then r else s / b ^ (i + 1) % b - 1)) := by
      intro n
      induction n with
      | zero => rfl
      | succ n ihn =>
        show b * (ns n _ + b ^ n * _) = ns n _ + b ^ (n + 1) * _
        rw [Nat.mul_add, ihn, Nat.div_div_eq_div_mul, Nat.div_div_eq_div_mul, Nat.pow_succ, Nat.pow_succ, Nat.mul_comm 2 (2 ^ n), Nat.mul_comm b (b ^ n), ← Nat.mul_assoc, Nat.mul_comm b (b ^ n)]
    exact H k
/-- who ycan walk, as bits -/
def rs (b : Nat) : Nat → Nat → Nat
  | 0, _ => 0
  | k + 1, s => (if s % b = 0 then 1 else 0) + 2 * rs b k (s / b)
theorem rs_ns (b : Nat) : ∀ k s, rs b k s = ns k (fun i => if s / b ^ i % b = 0 then 2 ^ i else 0) := by
  intro k
  induction k with
  | zero => intro s; rfl
  | succ k ih =>
    intro s
    rw [ns_front]
    show (if s % b = 0 then 1 else 0) + 2 * rs b k (s / b) = (if s / b ^ 0 % b = 0 then 2 ^ 0 else 0) + _
    rw [ih, Nat.pow_zero, Nat.div_one, Nat.pow_zero]
    congr 1
    have H : ∀ n, 2 * ns n (fun i => if s / b / b ^ i % b = 0 then 2 ^ i else 0) = ns n (fun i => if s / b ^ (i + 1) % b = 0 then 2 ^ (i + 1) else 0) := by
      intro n
      induction n with
      | zero => rfl
      | succ n ihn =>
        show 2 * (ns n _ + if s / b / b ^ n % b = 0 then 2 ^ n else 0) = ns n _ + if s / b ^ (n + 1) % b = 0 then 2 ^ (n + 1) else 0
        rw [Nat.mul_add, ihn, Nat.div_div_eq_div_mul, Nat.pow_succ, Nat.mul_comm b (b ^ n)]
        congr 1
        by_cases z : s / (b ^ n * b) % b = 0
        · rw [if_pos z, if_pos z, Nat.pow_succ, Nat.mul_comm]
        · rw [if_neg z, if_neg z]
    exact H k
theorem rs_lt (b : Nat) : ∀ k s, rs b k s < 2 ^ k := by
  intro k
  induction k with
  | zero => intro s; exact Nat.zero_lt_one
  | succ k ih =>
    intro s
    have := ih (s / b)
    show (if s % b = 0 then 1 else 0) + 2 * rs b k (s / b) < 2 ^ (k + 1)
    rw [Nat.pow_succ]
    split <;> omega
theorem land_half (a b : Nat) : a &&& b = (if a % 2 = 1 ∧ b % 2 = 1 then 1 else 0) + 2 * (a / 2 &&& b / 2) := by
  have h1 : (a &&& b) / 2 = a / 2 &&& b / 2 := Nat.and_div_two
  have h2 := Nat.and_mod_two_eq_one (a := a) (b := b)
  have h3 : (a &&& b) % 2 < 2 := Nat.mod_lt _ (by omega)
  by_cases z : a % 2 = 1 ∧ b % 2 = 1
  · rw [if_pos z]
    have := h2.mpr z
    omega
  · rw [if_neg z]
    have : ¬ (a &&& b) % 2 = 1 := fun q => z (h2.mp q)
    omega
theorem can_rs {b : Nat} : ∀ k s p, p < 2 ^ k → (ycan b k s p = true ↔ p &&& rs b k s = p) := by
  intro k
  induction k with
  | zero =>
    intro s p hp
    obtain rfl : p = 0 := by omega
    exact ⟨fun _ => Nat.zero_and _, fun _ => rfl⟩
  | succ k ih =>
    intro s p hp
    have hp2 : p / 2 < 2 ^ k := by rw [Nat.pow_succ] at hp; omega
    have h := ih (s / b) (p / 2) hp2
    have e : rs b (k + 1) s = (if s % b = 0 then 1 else 0) + 2 * rs b k (s / b) := rfl
    have e2 : rs b (k + 1) s / 2 = rs b k (s / b) := by rw [e]; split <;> omega
    have e1 : rs b (k + 1) s % 2 = if s % b = 0 then 1 else 0 := by rw [e]; split <;> omega
    rw [land_half, e2, e1]
    show ((decide (p % 2 = 0) || decide (s % b = 0)) && ycan b k (s / b) (p / 2)) = true ↔ _
    rw [Bool.and_eq_true, h, Bool.or_eq_true, decide_eq_true_iff, decide_eq_true_iff]
    have hle : p / 2 &&& rs b k (s / b) ≤ p / 2 := Nat.and_le_left
    constructor
    · rintro ⟨h1, h2⟩
      rw [h2]
      rcases h1 with h1 | h1
      · rw [if_neg (fun q => by omega)]; omega
      · by_cases z : p % 2 = 1
        · rw [if_pos ⟨z, by rw [if_pos h1]⟩]; omega
        · rw [if_neg (fun q => z q.1)]; omega
    · intro q
      by_cases z : p % 2 = 1
      · by_cases y : s % b = 0
        · rw [if_pos ⟨z, by rw [if_pos y]⟩] at q
          exact ⟨Or.inr y, by omega⟩
        · rw [if_neg (fun w => by rw [if_neg y] at w; omega)] at q
          omega
      · rw [if_neg (fun w => z w.1)] at q
        exact ⟨Or.inl (by omega), by omega⟩
section T22
variable {c : Nat} {N : Nat → Nat} {U U' U'' : cU} {M M' M'' : mS} {m m' : Nat → Int32}
/-- the component's plan: six, base, line, sums -/
def yPL (U : cU) (K b L : Nat) (w : Nat → Nat) : Prop := U.1 21 = nI K ∧ U.1 22 = nI b ∧ U.1 23 = nI L ∧ ∀ p, p < 2 ^ K → U.2 7 p = nI (su w K 0 p)
theorem bpow {b K : Nat} (hb : b ≤ 4) (hK : K ≤ 6) : b ^ K ≤ 4096 := by
  have h1 : b ^ K ≤ 4 ^ K := Nat.pow_le_pow_left hb K
  have h2 : 4 ^ K ≤ 4 ^ 6 := Nat.pow_le_pow_right (by omega) hK
  omega
theorem bpow2 {K : Nat} (hK : K ≤ 6) : 2 ^ K ≤ 64 := by
  have h2 : 2 ^ K ≤ 2 ^ 6 := Nat.pow_le_pow_right (by omega) hK
  omega
theorem h_states {K b L : Nat} {w : Nat → Nat} (P : yPL U K b L w) (hK : K ≤ 6) (hb : b ≤ 4) : h_X5_states N U = some (nI (b ^ K), U) := by
  unfold h_X5_states h_X5_states_4
  refine zlp2_it (n := K) (fun i => nI (b ^ i)) (fun i => nI i) (fun _ => U) (fun i rf hi => ?_) (fun rf => ?_) NN (NN_lt (by omega))
  · unfold h_X5_states_4_b
    rw [P.1, nleF hi (by omega), P.2.1, nI_mul, zl_at, zl_at, nI_1, Nat.pow_succ]
  · unfold h_X5_states_4_b
    rw [P.1, if_pos (Int32.le_refl _)]
theorem zdiv_at {a d : Nat} (ha : a < 2 ^ 31) (h0 : 0 < d) (hd : d < 2 ^ 31) : zdiv (nI a) (nI d) = some (nI (a / d)) := by
  unfold zdiv
  rw [if_neg (nI_ne0 h0 hd), pk_div ha h0 hd]
theorem zrem_at {a d : Nat} (ha : a < 2 ^ 31) (h0 : 0 < d) (hd : d < 2 ^ 31) : zrem (nI a) (nI d) = some (nI (a % d)) := by
  unfold zrem
  rw [if_neg (nI_ne0 h0 hd), pk_rem ha h0 hd]
theorem nx_or (a b : Nat) : nI a ||| nI b = nI (a ||| b) := by
  apply Int32.toBitVec_inj.1
  show BitVec.ofNat 32 a ||| BitVec.ofNat 32 b = BitVec.ofNat 32 (a ||| b)
  apply BitVec.eq_of_getLsbD_eq
  intro i hi
  simp [hi]
theorem ns_pow_lt (b s : Nat) : ∀ n, ns n (fun i => if s / b ^ i % b = 0 then 2 ^ i else 0) < 2 ^ n := by
  intro n
  induction n with
  | zero => exact Nat.zero_lt_one
  | succ n ih =>
    show ns n _ + (if s / b ^ n % b = 0 then 2 ^ n else 0) < 2 ^ (n + 1)
    rw [Nat.pow_succ]
    split <;> omega
theorem div_le {s b i : Nat} : s / b ^ i ≤ s := Nat.div_le_self _ _
theorem h_rested {K b L : Nat} {w : Nat → Nat} (P : yPL U K b L w) (hK : K ≤ 6) (h0 : 0 < b) (hb : b ≤ 4) {s : Nat} (hs : s < 4096) : h_X5_rested N (nI s) U = some (nI (rs b K s), U) := by
  unfold h_X5_rested h_X5_rested_7
  rw [rs_ns]
  refine (congrArg (fun z => zlp3 (h_X5_rested_7_b N) NN 0 z 0 U) (show nI s = nI (s / b ^ 0) by rw [Nat.pow_zero, Nat.div_one])).trans ?_
  refine zlp3_it (n := K) (fun i => nI (ns i (fun i => if s / b ^ i % b = 0 then 2 ^ i else 0))) (fun i => nI (s / b ^ i)) (fun i => nI i) (fun _ => U) (fun i rf hi => ?_) (fun rf => ?_) NN (NN_lt (by omega))
  · have hsi : s / b ^ i ≤ s := div_le
    have hlt := ns_pow_lt b s i
    unfold h_X5_rested_7_b h_X5_rested_34
    rw [P.1, nleF hi (by omega), P.2.1, zrem_at (by omega) h0 (by omega), bd_at, zdiv_at (by omega) h0 (by omega)]
    simp only [bd_at, zl_at]
    rw [Nat.div_div_eq_div_mul, ← Nat.pow_succ, yshl1 (by omega)]
    show _ = rf (nI (ns i _ + if s / b ^ i % b = 0 then 2 ^ i else 0)) _ _ U
    by_cases z : s / b ^ i % b = 0
    · have e := Nat.two_pow_add_eq_or_of_lt hlt 1
      rw [Nat.mul_one] at e
      rw [z, if_neg (fun q => q (show nI 0 = 0 from rfl)), nx_or, nI_1, if_pos rfl, Nat.or_comm, ← e, Nat.add_comm]
    · have z2 : ¬ nI (s / b ^ i % b) = 0 := nI_ne0 (by omega) (by have := Nat.mod_lt (s / b ^ i) h0; omega)
      rw [if_pos z2, show (0 : Int32) = nI 0 from rfl, nx_or, Nat.or_zero, nI_1, if_neg z]
      rfl
  · unfold h_X5_rested_7_b
    rw [P.1, if_pos (Int32.le_refl _)]
theorem h_behind {K b L r : Nat} {w : Nat → Nat} (P : yPL U K b L w) (hK : K ≤ 6) (hr : b = r + 1) (hb : b ≤ 4) {s p : Nat} (hs : s < 4096) (hp : p < 64) : h_X5_behind N (nI s) (nI p) U = some (nI (nx b r K s p), U) := by
  unfold h_X5_behind h_X5_behind_11
  rw [nx_ns]
  refine (congrArg (fun z => zlp4 (h_X5_behind_11_b N (nI p)) NN 0 1 z 0 U) (show nI s = nI (s / b ^ 0) by rw [Nat.pow_zero, Nat.div_one])).trans ?_
  refine zlp4_it (n := K) (fun k => nI (ns k (fun i => b ^ i * (if p / 2 ^ i % 2 = 1 then r else s / b ^ i % b - 1)))) (fun i => nI (b ^ i)) (fun i => nI (s / b ^ i)) (fun i => nI i) (fun _ => U) (fun i rf hi => ?_) (fun rf => ?_) NN (NN_lt (by omega))
  · have hsi : s / b ^ i ≤ s := div_le
    have hm := Nat.mod_lt (s / b ^ i) (show 0 < b by omega)
    have e55 : ∀ x, h_X5_behind_55 N rf (nI p) (nI (b ^ i)) (nI (s / b ^ i)) (nI i) (nI (ns i (fun i => b ^ i * (if p / 2 ^ i % 2 = 1 then r else s / b ^ i % b - 1)))) (nI (b ^ i)) (nI x) U = rf (nI (ns i (fun i => b ^ i * (if p / 2 ^ i % 2 = 1 then r else s / b ^ i % b - 1)) + b ^ i * x)) (nI (b ^ (i + 1))) (nI (s / b ^ (i + 1))) (nI (i + 1)) U := by
      intro x
      unfold h_X5_behind_55
      rw [nI_mul, nI_add, zl_at, P.2.1, zdiv_at (by omega) (by omega) (by omega), bd_at, Nat.div_div_eq_div_mul, ← Nat.pow_succ, nI_mul, zl_at, zl_at, nI_1, ← Nat.pow_succ]
    unfold h_X5_behind_11_b
    rw [P.1, nleF hi (by omega), sbit (by omega) (by omega), P.2.1, zrem_at (by omega) (by omega) (by omega), bd_at]
    show _ = rf (nI (ns i _ + b ^ i * (if p / 2 ^ i % 2 = 1 then r else s / b ^ i % b - 1))) _ _ _ U
    have e1 : nI b - 1 = nI r := by rw [hr]; exact nI_pred r
    by_cases z : p / 2 ^ i % 2 = 1
    · rw [z, if_neg (fun q => q (show nI 1 = 1 from rfl)), if_pos rfl, e1, e55]
    · have z0 : p / 2 ^ i % 2 = 0 := by omega
      have e2 : zmax 0 (nI (s / b ^ i % b) - 1) = nI (s / b ^ i % b - 1) := by
        unfold zmax
        by_cases y : s / b ^ i % b = 0
        · rw [y]; rfl
        · obtain ⟨q, hq⟩ : ∃ q, s / b ^ i % b = q + 1 := ⟨s / b ^ i % b - 1, by omega⟩
          rw [hq, nI_pred, Nat.add_sub_cancel]
          by_cases x : q = 0
          · subst x; rfl
          · rw [if_pos (show (0 : Int32) < nI q from nI_lt (a := 0) (by omega) (by omega))]
      rw [z0, if_pos (show ¬ nI 0 = 1 by decide), if_neg (by omega), e2, e55]
  · unfold h_X5_behind_11_b
    rw [P.1, if_pos (Int32.le_refl _)]
theorem zmax_nI {a b : Nat} (ha : a < 2 ^ 31) (hb : b < 2 ^ 31) : zmax (nI a) (nI b) = nI (max a b) := by
  unfold zmax
  by_cases h : a < b
  · rw [if_pos (nI_lt h hb), Nat.max_eq_right (by omega)]
  · rw [if_neg (nI_nlt (by omega) ha), Nat.max_eq_left (by omega)]
/-- what a day brings at most, from a state -/
theorem h_most {K b L r j : Nat} {w : Nat → Nat} (P : yPL U K b L w) (hK : K ≤ 6) (hr : b = r + 1) (hb : b ≤ 4) (hL : L ≤ 6) (hw : ∀ i, i < K → w i ≤ 9801) (hj : j ≤ 61) {s : Nat} (hs : s < b ^ K) (hn : ∀ q, q < b ^ K → U.2 (9 - uw U) q = nI (vv b r K L w j q)) : h_X5_most N (nI s) U = some (nI (vv b r K L w (j + 1) s), U) := by
  have hbK := bpow hb hK
  have h2K := bpow2 hK
  unfold h_X5_most h_X5_most_11
  rw [h_rested P hK (by omega) hb (by omega), zb2_at]
  have hF := rs_lt b K s
  -- from any set on
  have H : ∀ p f a, p < 2 ^ K → p &&& rs b K s = p → p < f → a ≤ 9801 * K * (j + 1) → zlp2 (h_X5_most_11_b N (nI s) (nI (rs b K s))) f (nI a) (nI p) U = some (nI (max a (ymx (p + 1) (fun p => if pcn 16 p ≤ L ∧ p &&& rs b K s = p then su w K 0 p + vv b r K L w j (nx b r K s p) else 0))), U) := by
    intro p
    induction p using Nat.strongRecOn with
    | ind p ih =>
      intro f a hp hsub hf ha
      obtain ⟨f, rfl⟩ : ∃ f', f = f' + 1 := ⟨f - 1, by omega⟩
      have hcan : ycan b K s p = true := (can_rs K s p hp).mpr hsub
      have hq1 := su_leK K p hw
      have hq2 := vv_le (b := b) (r := r) (L := L) hw j (nx b r K s p)
      have hKj : 9801 * K * (j + 1) ≤ 9801 * 6 * 62 := Nat.mul_le_mul (Nat.mul_le_mul_left _ hK) (by omega)
      have hKj' : 9801 * K * (j + 1) = 9801 * K * j + 9801 * K := Nat.mul_succ _ _
      -- behind this set
      have T : ∀ a', a' ≤ 9801 * K * (j + 1) → h_X5_most_48 N (zlp2 (h_X5_most_11_b N (nI s) (nI (rs b K s))) f) (nI s) (nI (rs b K s)) (nI a') (nI p) U = some (nI (max a' (ymx p (fun p => if pcn 16 p ≤ L ∧ p &&& rs b K s = p then su w K 0 p + vv b r K L w j (nx b r K s p) else 0))), U) := by
        intro a' ha'
        unfold h_X5_most_48
        by_cases z : p = 0
        · subst z
          rw [if_neg (fun q => q (show nI 0 = 0 from rfl))]
          show some (nI a', U) = some (nI (max a' 0), U)
          rw [Nat.max_eq_left (Nat.zero_le _)]
        · have e1 : nI p - 1 = nI (p - 1) := by
            obtain ⟨q, rfl⟩ : ∃ q, p = q + 1 := ⟨p - 1, by omega⟩
            exact nI_pred q
          have hle : (p - 1) &&& rs b K s ≤ p - 1 := Nat.and_le_left
          rw [if_pos (nI_ne0 (by omega) (by omega)), e1, nx_and, zl_at, ih ((p - 1) &&& rs b K s) (by omega) f a' (by omega) (by rw [Nat.and_assoc, Nat.and_self]) (by omega) ha']
          congr 4
          refine (mx_skip p (by omega) (fun i h1 h2 => ?_)).symm
          rw [if_neg]
          rintro ⟨-, h3⟩
          have := sub_next (F := rs b K s) (s := p) (t := i) (by omega) (by omega) hsub h3 h2
          omega
      rw [zlp2_s]
      generalize zlp2 (h_X5_most_11_b N (nI s) (nI (rs b K s))) f = rf at T
      unfold h_X5_most_11_b
      have hbc : bcf (nI p) = nI (pcn 16 p) := bc_p (n := 16) (by omega) (by omega)
      have hpc : pcn 16 p ≤ 16 := by
        rw [pcn_ns]
        have H : ∀ n, ns n (fun k => p / 2 ^ k % 2) ≤ n := by
          intro n
          induction n with
          | zero => exact Nat.le_refl _
          | succ n ih => show ns n _ + p / 2 ^ n % 2 ≤ n + 1; omega
        exact H 16
      rw [h_bc, zb2_at, hbc, P.2.2.1]
      have em : ∀ g : Nat → Nat, ymx (p + 1) g = max (ymx p g) (g p) := fun _ => rfl
      by_cases z : pcn 16 p ≤ L
      · have hx := nx_ltb (b := b) (r := r) (by omega) K s p
        rw [if_neg (nI_nlt z (by omega)), uL_at (by omega) (by omega), bd_at, h_behind P hK hr hb (by omega) (by omega), zb2_at, uL_at (by omega) (by omega), bd_at, P.2.2.2 p hp, hn _ hx, nI_add, zmax_nI (by omega) (by omega), zl_at, T _ (Nat.max_le.mpr ⟨ha, by omega⟩), em, if_pos ⟨z, hsub⟩]
        congr 3
        omega
      · rw [if_pos (nI_lt (by omega) (by omega)), T a ha, em, if_neg (fun q => z q.1)]
        congr 3
        omega
  rw [show (0 : Int32) = nI 0 from rfl, H (rs b K s) NN 0 hF (Nat.and_self _) (NN_lt (by omega)) (Nat.zero_le _)]
  congr 3
  rw [Nat.max_eq_right (Nat.zero_le _)]
  show _ = ymx (2 ^ K) _
  rw [mx_skip (2 ^ K) hF (fun i h1 h2 => ?_)]
  · refine mx_eq fun i hi => ?_
    by_cases z : pcn 16 i ≤ L ∧ i &&& rs b K s = i
    · rw [if_pos z, if_pos ⟨z.1, (can_rs K s i (by omega)).mpr z.2⟩]
    · rw [if_neg z, if_neg (fun q => z ⟨q.1, (can_rs K s i (by omega)).mp q.2⟩)]
  · rw [if_neg]
    rintro ⟨-, h3⟩
    have h4 := (can_rs K s i h2).mp h3
    have : i &&& rs b K s ≤ rs b K s := Nat.and_le_right
    omega
end T22
section T23
variable {c : Nat} {N : Nat → Nat} {U U' U'' : cU} {M M' M'' : mS} {m m' : Nat → Int32}
/-- the model's plan: six and what each counts -/
def yPM (M : mS) (K : Nat) (w : Nat → Nat) : Prop := M.1 18 = nI K ∧ ∀ i, i < K → M.2 5 i = nI (w i)
theorem g_cby {K L : Nat} {w : Nat → Nat} (P : yPM M K w) (hK : K ≤ 6) (hL : L ≤ 6) (hw : ∀ i, i < K → w i ≤ 9801) {s p : Nat} (hs : s < 4096) (hp : p < 64) : g_X6_countedBy (nI s) (nI p) (nI L) M = some (if pcn 16 p ≤ L ∧ ycan 4 K s p = true then nI (su w K 0 p) else -1, M) := by
  have hpc : pcn 16 p ≤ 16 := by
    rw [pcn_ns]
    have H : ∀ n, ns n (fun k => p / 2 ^ k % 2) ≤ n := by
      intro n
      induction n with
      | zero => exact Nat.le_refl _
      | succ n ih => show ns n _ + p / 2 ^ n % 2 ≤ n + 1; omega
    exact H 16
  unfold g_X6_countedBy
  rw [g_bits (by omega), zb2_at]
  by_cases z : pcn 16 p ≤ L
  · rw [if_pos (nI_le z (by omega))]
    unfold g_X6_countedBy_19
    -- from any place on
    have H : ∀ j k f a, k + j = K → j < f → zlp3 (g_X6_countedBy_19_b (nI p)) f (nI a) (nI (s / 4 ^ k)) (nI k) M = some (if ycan 4 j (s / 4 ^ k) (p / 2 ^ k) = true then nI (a + su w j k (p / 2 ^ k)) else -1, M) := by
      intro j
      induction j with
      | zero =>
        intro k f a hk hf
        obtain ⟨f, rfl⟩ : ∃ f', f = f' + 1 := ⟨f - 1, by omega⟩
        rw [zlp3_s]
        unfold g_X6_countedBy_19_b
        obtain rfl : k = K := by omega
        rw [P.1, if_pos (Int32.le_refl _)]
        rfl
      | succ j ih =>
        intro k f a hk hf
        obtain ⟨f, rfl⟩ : ∃ f', f = f' + 1 := ⟨f - 1, by omega⟩
        have ih' := fun a => ih (k + 1) f a (by omega) (by omega)
        rw [zlp3_s]
        generalize zlp3 (g_X6_countedBy_19_b (nI p)) f = rf at ih'
        unfold g_X6_countedBy_19_b
        have hsi : s / 4 ^ k ≤ s := Nat.div_le_self _ _
        have e59 : ∀ a, g_X6_countedBy_59 rf (nI p) (nI a) (nI (s / 4 ^ k)) (nI k) M = rf (nI a) (nI (s / 4 ^ (k + 1))) (nI (k + 1)) M := by
          intro a
          unfold g_X6_countedBy_59
          rw [show (4 : Int32) = nI 4 from rfl, pk_div (by omega) (by omega) (by omega), zl_at, zl_at, nI_1, Nat.div_div_eq_div_mul, ← Nat.pow_succ]
        have em : nI (s / 4 ^ k) - nI (s / 4 ^ k) / 4 * 4 = nI (s / 4 ^ k % 4) := pk_rem (d := 4) (by omega) (by omega) (by omega)
        have ec : ycan 4 (j + 1) (s / 4 ^ k) (p / 2 ^ k) = ((decide (p / 2 ^ k % 2 = 0) || decide (s / 4 ^ k % 4 = 0)) && ycan 4 j (s / 4 ^ (k + 1)) (p / 2 ^ (k + 1))) := by
          show ((decide (p / 2 ^ k % 2 = 0) || decide (s / 4 ^ k % 4 = 0)) && ycan 4 j (s / 4 ^ k / 4) (p / 2 ^ k / 2)) = _
          rw [Nat.div_div_eq_div_mul, Nat.div_div_eq_div_mul, ← Nat.pow_succ, ← Nat.pow_succ]
        have es : su w (j + 1) k (p / 2 ^ k) = p / 2 ^ k % 2 * w k + su w j (k + 1) (p / 2 ^ (k + 1)) := by
          show p / 2 ^ k % 2 * w k + su w j (k + 1) (p / 2 ^ k / 2) = _
          rw [Nat.div_div_eq_div_mul, ← Nat.pow_succ]
        rw [P.1, nleF (show k < K by omega) (by omega), sbit (by omega) (by omega), ec, es, em]
        by_cases y : p / 2 ^ k % 2 = 1
        · rw [y, if_neg (fun q => q (show nI 1 = 1 from rfl))]
          by_cases x : s / 4 ^ k % 4 = 0
          · rw [x, if_pos (show nI 0 ≤ 0 from Int32.le_refl _), mL_n (j := 5) (show k < 6 by omega) (by omega), bd_at, P.2 k (by omega), nI_add, zl_at, e59, ih']
            simp [Nat.add_assoc]
          · have x1 : ¬ nI (s / 4 ^ k % 4) ≤ 0 := nI_nle (by omega) (by omega)
            rw [if_neg x1, decide_eq_false x]
            rfl
        · have y0 : p / 2 ^ k % 2 = 0 := by omega
          rw [y0, if_pos (show ¬ nI 0 = 1 by decide), e59, ih']
          simp
    have h0 := H K 0 NN 0 (by omega) (NN_lt (by omega))
    simp only [Nat.pow_zero, Nat.div_one, Nat.zero_add] at h0
    rw [show (0 : Int32) = nI 0 from rfl, h0]
    by_cases y : ycan 4 K s p = true
    · rw [if_pos y, if_pos ⟨z, y⟩]
    · rw [if_neg y, if_neg (fun q => y q.2)]
  · rw [if_neg (nI_ge (by omega) (by omega)), if_neg (fun q => z q.1)]
theorem g_dayOn {K r : Nat} {w : Nat → Nat} (P : yPM M K w) (h7 : M.2 0 7 = nI r) (hK : K ≤ 6) (hr : r ≤ 3) {s p : Nat} (hs : s < 4096) (hp : p < 64) : g_X6_dayOn (nI s) (nI p) M = some (nI (nx 4 r K s p), M) := by
  unfold g_X6_dayOn g_X6_dayOn_11
  rw [nx_ns]
  refine (congrArg (fun z => zlp4 (g_X6_dayOn_11_b (nI p)) NN 0 1 z 0 M) (show nI s = nI (s / 4 ^ 0) by rw [Nat.pow_zero, Nat.div_one])).trans ?_
  refine zlp4_it (n := K) (fun k => nI (ns k (fun i => 4 ^ i * (if p / 2 ^ i % 2 = 1 then r else s / 4 ^ i % 4 - 1)))) (fun i => nI (4 ^ i)) (fun i => nI (s / 4 ^ i)) (fun i => nI i) (fun _ => M) (fun i rf hi => ?_) (fun rf => ?_) NN (NN_lt (by omega))
  · have hsi : s / 4 ^ i ≤ s := Nat.div_le_self _ _
    have e57 : ∀ x, g_X6_dayOn_57 rf (nI p) (nI (ns i (fun i => 4 ^ i * (if p / 2 ^ i % 2 = 1 then r else s / 4 ^ i % 4 - 1)))) (nI (4 ^ i)) (nI (s / 4 ^ i)) (nI i) (nI x) M = rf (nI (ns i (fun i => 4 ^ i * (if p / 2 ^ i % 2 = 1 then r else s / 4 ^ i % 4 - 1)) + 4 ^ i * x)) (nI (4 ^ (i + 1))) (nI (s / 4 ^ (i + 1))) (nI (i + 1)) M := by
      intro x
      unfold g_X6_dayOn_57
      rw [nI_mul, nI_add, zl_at, show (4 : Int32) = nI 4 from rfl, nI_mul, zl_at, pk_div (by omega) (by omega) (by omega), zl_at, zl_at, nI_1, Nat.div_div_eq_div_mul, ← Nat.pow_succ]
    have em : nI (s / 4 ^ i) - nI (s / 4 ^ i) / 4 * 4 = nI (s / 4 ^ i % 4) := pk_rem (d := 4) (by omega) (by omega) (by omega)
    unfold g_X6_dayOn_11_b
    rw [P.1, nleF hi (by omega), sbit (by omega) (by omega), em]
    show _ = rf (nI (ns i _ + 4 ^ i * (if p / 2 ^ i % 2 = 1 then r else s / 4 ^ i % 4 - 1))) _ _ _ M
    by_cases z : p / 2 ^ i % 2 = 1
    · rw [z, if_neg (fun q => q (show nI 1 = 1 from rfl)), if_pos rfl, g_m7, bd_at, h7, e57]
    · have z0 : p / 2 ^ i % 2 = 0 := by omega
      rw [z0, if_pos (show ¬ nI 0 = 1 by decide), if_neg (show ¬ (0 : Nat) = 1 by omega)]
      by_cases y : s / 4 ^ i % 4 = 0
      · rw [y, if_pos (show nI 0 ≤ 0 from Int32.le_refl _)]
        exact e57 0
      · have y1 : ¬ nI (s / 4 ^ i % 4) ≤ 0 := nI_nle (by omega) (by omega)
        obtain ⟨q, hq⟩ : ∃ q, s / 4 ^ i % 4 = q + 1 := ⟨s / 4 ^ i % 4 - 1, by omega⟩
        rw [if_neg y1, hq, nI_pred, Nat.add_sub_cancel]
        exact e57 q
  · unfold g_X6_dayOn_11_b
    rw [P.1, if_pos (Int32.le_refl _)]
/-- the model's two arrays of states -/
def ymv (M : mS) (f g : Nat → Int32) : mS := (M.1, fun q => if q = 6 then f else if q = 7 then g else M.2 q)
theorem mv_6 {f g : Nat → Int32} {k : Nat} {x : Int32} : mj (ymv M f g) 6 k x = ymv M (upd f k x) g := by
  refine Prod.ext rfl (funext fun q => ?_)
  show (if q = 6 then upd f k x else if q = 6 then f else if q = 7 then g else M.2 q) = if q = 6 then upd f k x else if q = 7 then g else M.2 q
  by_cases h : q = 6
  · rw [if_pos h, if_pos h]
  · rw [if_neg h, if_neg h, if_neg h]
theorem mv_7 {f g : Nat → Int32} {k : Nat} {x : Int32} : mj (ymv M f g) 7 k x = ymv M f (upd g k x) := by
  refine Prod.ext rfl (funext fun q => ?_)
  show (if q = 7 then upd g k x else if q = 6 then f else if q = 7 then g else M.2 q) = if q = 6 then f else if q = 7 then upd g k x else M.2 q
  by_cases h : q = 7
  · subst h; rfl
  · rw [if_neg h, if_neg h, if_neg h]
theorem PM_mv {K : Nat} {w : Nat → Nat} {f g : Nat → Int32} (P : yPM M K w) : yPM (ymv M f g) K w := P
theorem m1_ne {n : Nat} (h : n < 2 ^ 31) : ¬ nI n = -1 := bI_ne h
/-- a row of the model is filled -/
theorem g_row {K r L : Nat} {w : Nat → Nat} (P : yPM M K w) (h7 : M.2 0 7 = nI r) (hK : K ≤ 6) (hr : r ≤ 3) (hL : L ≤ 6) (hw : ∀ i, i < K → w i ≤ 9801) {j : Nat} (hj : j ≤ 61) {g : Nat → Int32} (hg : ∀ q, q < 4 ^ K → g q = nI (vv 4 r K L w j q)) (rec175 rec236 : Int32 → mS → Option (Int32 × mS)) (v1 v3 v4 v5 : Int32) {s : Nat} (hs : s < 4 ^ K) (f : Nat → Int32) (hf0 : f s = 0) :
    ∃ f', (∀ q, q ≠ s → f' q = f q) ∧ f' s = nI (vv 4 r K L w (j + 1) s) ∧ g_X6_plan_254 rec175 rec236 v1 (nI L) v3 v4 v5 (nI s) 0 (ymv M f g) = rec236 (nI (s + 1)) (ymv M f' g) := by
  have h4K : 4 ^ K ≤ 4096 := bpow (by omega) hK
  have h2K := bpow2 hK
  let val : Nat → Nat := fun p => if pcn 16 p ≤ L ∧ ycan 4 K s p = true then su w K 0 p + vv 4 r K L w j (nx 4 r K s p) else 0
  have hval : ∀ p, p < 2 ^ K → val p ≤ 9801 * K * (j + 1) := by
    intro p hp
    show (if pcn 16 p ≤ L ∧ ycan 4 K s p = true then su w K 0 p + vv 4 r K L w j (nx 4 r K s p) else 0) ≤ _
    have h1 := su_leK K p hw
    have h2 := vv_le (b := 4) (r := r) (L := L) hw j (nx 4 r K s p)
    rw [Nat.mul_succ]
    split <;> omega
  have hKj : 9801 * K * (j + 1) ≤ 9801 * 6 * 62 := Nat.mul_le_mul (Nat.mul_le_mul_left _ hK) (by omega)
  refine ⟨upd f s (nI (ymx (2 ^ K) val)), fun q hq => upd_no hq, upd_at, ?_⟩
  have e0 : ymv M f g = ymv M (upd f s (nI (ymx 0 val))) g := by
    have : upd f s (nI (ymx 0 val)) = f := by
      funext q
      by_cases h : q = s
      · subst h; rw [upd_at, hf0]; rfl
      · rw [upd_no h]
    rw [this]
  unfold g_X6_plan_254
  rw [e0]
  refine zlp1_it (n := 2 ^ K) (fun i => nI i) (fun i => ymv M (upd f s (nI (ymx i val))) g) (fun p rf hp => ?_) (fun rf => ?_) NN (NN_lt (by omega))
  · have hmx : ymx p val ≤ 9801 * K * (j + 1) := mx_le fun i hi => hval i (by omega)
    have hv := hval p hp
    have e18 : (ymv M (upd f s (nI (ymx p val))) g).1 18 = nI K := P.1
    have em : ymx (p + 1) val = max (ymx p val) (val p) := rfl
    have hx := nx_ltb (b := 4) (r := r) (by omega) K s p
    unfold g_X6_plan_254_b
    rw [e18, yshl1 (by omega), nleF hp (by omega), g_cby (PM_mv P) hK hL hw (by omega) (by omega), zb2_at, em]
    by_cases z : pcn 16 p ≤ L ∧ ycan 4 K s p = true
    · have ev : val p = su w K 0 p + vv 4 r K L w j (nx 4 r K s p) := if_pos z
      have h1 := su_leK K p hw
      have h6 : mL (ymv M (upd f s (nI (ymx p val))) g) 6 (nI s) = some (nI (ymx p val)) := by
        rw [mL_n (j := 6) (show s < 4096 by omega) (by omega)]
        show some (upd f s (nI (ymx p val)) s) = _
        rw [upd_at]
      have e7 : (ymv M (upd f s (nI (ymx p val))) g).2 7 (nx 4 r K s p) = nI (vv 4 r K L w j (nx 4 r K s p)) := hg _ hx
      have e333 : ∀ x, g_X6_plan_333 rec175 rec236 rf v1 (nI L) v3 v4 v5 (nI s) (nI p) (nI s) (nI x) (ymv M (upd f s (nI (ymx p val))) g) = rf (nI (p + 1)) (ymv M (upd f s (nI x)) g) := by
        intro x
        unfold g_X6_plan_333 g_X6_plan_334
        have hu : upd (upd f s (nI (ymx p val))) s (nI x) = upd f s (nI x) := by
          funext q
          by_cases h : q = s
          · subst h; rw [upd_at, upd_at]
          · rw [upd_no h, upd_no h, upd_no h]
        rw [mj_set (j := 6) (show s < 4096 by omega), bd_at, mv_6, zl_at, nI_1, hu]
      rw [if_pos z, if_pos (m1_ne (by omega)), g_dayOn (PM_mv P) h7 hK hr (by omega) (by omega), zb2_at, mL_n (j := 7) (show nx 4 r K s p < 4096 by omega) (by omega), bd_at, e7, nI_add, zl_at, h6, bd_at, ← ev]
      by_cases y : val p ≤ ymx p val
      · rw [if_pos (nI_le y (by omega)), bd_at, e333, Nat.max_eq_left y]
      · rw [if_neg (nI_ge (by omega) (by omega)), e333, Nat.max_eq_right (by omega)]
    · have ev : val p = 0 := if_neg z
      rw [if_neg z, if_neg (fun q => q rfl), ev, Nat.max_eq_left (Nat.zero_le _)]
      unfold g_X6_plan_334
      rw [zl_at, nI_1]
  · have e18 : (ymv M (upd f s (nI (ymx (2 ^ K) val))) g).1 18 = nI K := P.1
    unfold g_X6_plan_254_b
    rw [e18, yshl1 (by omega), if_pos (Int32.le_refl _), zl_at, nI_1]
end T23
section T24
variable {c : Nat} {N : Nat → Nat} {U U' U'' : cU} {M M' M'' : mS} {m m' : Nat → Int32}
theorem mv_mv {f g f' g' : Nat → Int32} : ymv (ymv M f g) f' g' = ymv M f' g' := by
  refine Prod.ext rfl (funext fun q => ?_)
  show (if q = 6 then f' else if q = 7 then g' else if q = 6 then f else if q = 7 then g else M.2 q) = if q = 6 then f' else if q = 7 then g' else M.2 q
  by_cases h : q = 6
  · rw [if_pos h, if_pos h]
  · by_cases h2 : q = 7
    · rw [if_neg h, if_pos h2, if_neg h, if_pos h2]
    · rw [if_neg h, if_neg h2, if_neg h, if_neg h2, if_neg h, if_neg h2]
/-- all rows of a day -/
theorem g_rows {K r L : Nat} {w : Nat → Nat} (P : yPM M K w) (h7 : M.2 0 7 = nI r) (hK : K ≤ 6) (hr : r ≤ 3) (hL : L ≤ 6) (hw : ∀ i, i < K → w i ≤ 9801) {j : Nat} (hj : j ≤ 61) {g : Nat → Int32} (hg : ∀ q, q < 4 ^ K → g q = nI (vv 4 r K L w j q)) (rec175 : Int32 → mS → Option (Int32 × mS)) (v1 v3 v5 : Int32) :
    ∀ n s k f, s + n = 4 ^ K → n < k → (∀ q, q < s → f q = nI (vv 4 r K L w (j + 1) q)) → ∃ f', (∀ q, q < 4 ^ K → f' q = nI (vv 4 r K L w (j + 1) q)) ∧ zlp1 (g_X6_plan_236_b rec175 v1 (nI L) v3 (nI (4 ^ K)) v5) k (nI s) (ymv M f g) = rec175 v5 (ymv M f' g) := by
  have h4K : 4 ^ K ≤ 4096 := bpow (by omega) hK
  intro n
  induction n with
  | zero =>
    intro s k f hs hk hf
    obtain ⟨k, rfl⟩ : ∃ k', k = k' + 1 := ⟨k - 1, by omega⟩
    refine ⟨f, fun q hq => hf q (by omega), ?_⟩
    rw [zlp1_s]
    unfold g_X6_plan_236_b
    rw [if_pos (nI_le (by omega) (by omega))]
  | succ n ih =>
    intro s k f hs hk hf
    obtain ⟨k, rfl⟩ : ∃ k', k = k' + 1 := ⟨k - 1, by omega⟩
    obtain ⟨f1, h1, h2, h3⟩ := g_row P h7 hK hr hL hw hj hg rec175 (zlp1 (g_X6_plan_236_b rec175 v1 (nI L) v3 (nI (4 ^ K)) v5) k) v1 v3 (nI (4 ^ K)) v5 (s := s) (by omega) (upd f s 0) upd_at
    obtain ⟨f', h4, h5⟩ := ih (s + 1) k f1 (by omega) (by omega) (fun q hq => by
      by_cases z : q = s
      · subst z; exact h2
      · rw [h1 q z, upd_no z]; exact hf q (by omega))
    refine ⟨f', h4, ?_⟩
    rw [← h5, ← h3, zlp1_s]
    generalize zlp1 (g_X6_plan_236_b rec175 v1 (nI L) v3 (nI (4 ^ K)) v5) k = rf
    unfold g_X6_plan_236_b
    rw [nleF (show s < 4 ^ K by omega) (by omega), mj_set (j := 6) (show s < 4096 by omega), bd_at, mv_6]
/-- a day -/
theorem g_day {K r L : Nat} {w : Nat → Nat} (P : yPM M K w) (h7 : M.2 0 7 = nI r) (hK : K ≤ 6) (hr : r ≤ 3) (hL : L ≤ 6) (hw : ∀ i, i < K → w i ≤ 9801) {j : Nat} (hj : j ≤ 61) {f g : Nat → Int32} (hf : ∀ q, q < 4 ^ K → f q = nI (vv 4 r K L w j q)) (rec175 : Int32 → mS → Option (Int32 × mS)) (v1 v3 v5 : Int32) :
    ∃ f' g', (∀ q, q < 4 ^ K → f' q = nI (vv 4 r K L w (j + 1) q)) ∧ (∀ q, q < 4 ^ K → g' q = nI (vv 4 r K L w j q)) ∧ g_X6_plan_206 rec175 v1 (nI L) v3 (nI (4 ^ K)) v5 0 (ymv M f g) = rec175 v5 (ymv M f' g') := by
  have h4K : 4 ^ K ≤ 4096 := bpow (by omega) hK
  let cg : Nat → Nat → Int32 := fun i q => if q < i then f q else g q
  have hcg : ∀ q, q < 4 ^ K → cg (4 ^ K) q = nI (vv 4 r K L w j q) := fun q hq => (if_pos hq).trans (hf q hq)
  obtain ⟨f', h1, h2⟩ := g_rows P h7 hK hr hL hw hj hcg rec175 v1 v3 v5 (4 ^ K) 0 NN f (by omega) (NN_lt (by omega)) (fun q hq => absurd hq (Nat.not_lt_zero q))
  refine ⟨f', cg (4 ^ K), h1, hcg, ?_⟩
  rw [← h2]
  have e0 : ymv M f g = ymv M f (cg 0) := by
    have : cg 0 = g := funext fun q => if_neg (Nat.not_lt_zero q)
    rw [this]
  unfold g_X6_plan_206
  rw [e0]
  refine zlp1_it (n := 4 ^ K) (fun i => nI i) (fun i => ymv M f (cg i)) (fun i rf hi => ?_) (fun rf => ?_) NN (NN_lt (by omega))
  · unfold g_X6_plan_206_b
    have e6 : mL (ymv M f (cg i)) 6 (nI i) = some (f i) := mL_n (j := 6) (show i < 4096 by omega) (by omega)
    have ec : upd (cg i) i (f i) = cg (i + 1) := by
      funext q
      show (if q = i then f i else if q < i then f q else g q) = if q < i + 1 then f q else g q
      by_cases h : q = i
      · subst h; rw [if_pos rfl, if_pos (by omega)]
      · by_cases h2 : q < i
        · rw [if_neg h, if_pos h2, if_pos (by omega)]
        · rw [if_neg h, if_neg h2, if_neg (by omega)]
    rw [nleF hi (by omega), e6, bd_at, mj_set (j := 7) (show i < 4096 by omega), bd_at, mv_7, zl_at, nI_1, ec]
  · unfold g_X6_plan_206_b
    rw [if_pos (Int32.le_refl _)]
    rfl
/-- all days -/
theorem g_days {K r L J dd h : Nat} {w : Nat → Nat} (P : yPM M K w) (h7 : M.2 0 7 = nI r) (hK : K ≤ 6) (hr : r ≤ 3) (hL : L ≤ 6) (hw : ∀ i, i < K → w i ≤ 9801) (hh : h < 8) (hD : M.2 0 (12 + h) = nI dd) (hdd : dd < 2 ^ 31) (hJ : J ≤ 61) (hlt : ∀ i, i < J → vv 4 r K L w i 0 < dd) (hend : J = 61 ∨ dd ≤ vv 4 r K L w J 0) (v3 : Int32) :
    ∀ n j k f g, j + n = J → n < k → (∀ q, q < 4 ^ K → f q = nI (vv 4 r K L w j q)) → (1 ≤ j → ∀ q, q < 4 ^ K → g q = nI (vv 4 r K L w (j - 1) q)) →
      ∃ f' g', (1 ≤ J → ∀ q, q < 4 ^ K → g' q = nI (vv 4 r K L w (J - 1) q)) ∧ zlp1 (g_X6_plan_175_b (nI h) (nI L) v3 (nI (4 ^ K))) k (nI j) (ymv M f g) = g_X6_plan_349 (nI h) (nI L) v3 (nI J) (ymv M f' g') := by
  have h4K : 4 ^ K ≤ 4096 := bpow (by omega) hK
  have hp4 : 0 < 4 ^ K := Nat.pow_pos (by omega)
  have hV : ∀ j, j ≤ 62 → vv 4 r K L w j 0 < 2 ^ 31 := fun j hj => by
    have := vv_le (b := 4) (r := r) (L := L) hw j 0
    have h2 : 9801 * K * j ≤ 9801 * 6 * 62 := Nat.mul_le_mul (Nat.mul_le_mul_left _ hK) hj
    omega
  intro n
  induction n with
  | zero =>
    intro j k f g hj hk hf hg
    obtain ⟨k, rfl⟩ : ∃ k', k = k' + 1 := ⟨k - 1, by omega⟩
    obtain rfl : j = J := by omega
    refine ⟨f, g, hg, ?_⟩
    rw [zlp1_s]
    unfold g_X6_plan_175_b
    by_cases z : j = 61
    · subst z
      rw [if_pos (show (60 : Int32) < nI 61 by decide)]
    · have e0 : mL (ymv M f g) 6 0 = some (nI (vv 4 r K L w j 0)) := by
        have := mL_n (M := ymv M f g) (j := 6) (k := 0) (show 0 < 4096 by omega) (by omega)
        rw [show (0 : Int32) = nI 0 from rfl, this]
        exact congrArg some (hf 0 hp4)
      have eD : mL (ymv M f g) 0 (12 + nI h) = some (nI dd) := by
        rw [g_mD hh]; exact congrArg some hD
      have hle := hend.resolve_left z
      have := hV j (by omega)
      rw [if_neg (show ¬ (60 : Int32) < nI j from nI_nlt (a := 60) (by omega) (by omega)), e0, bd_at, eD, bd_at, if_pos (nI_le hle (by omega))]
  | succ n ih =>
    intro j k f g hj hk hf hg
    obtain ⟨k, rfl⟩ : ∃ k', k = k' + 1 := ⟨k - 1, by omega⟩
    obtain ⟨f1, g1, h1, h2, h3⟩ := g_day P h7 hK hr hL hw (j := j) (by omega) (f := f) (g := g) hf (zlp1 (g_X6_plan_175_b (nI h) (nI L) v3 (nI (4 ^ K))) k) (nI h) v3 (nI (j + 1))
    obtain ⟨f', g', h4, h5⟩ := ih (j + 1) k f1 g1 (by omega) (by omega) h1 (fun _ => h2)
    refine ⟨f', g', h4, ?_⟩
    rw [← h5, ← h3, zlp1_s]
    generalize zlp1 (g_X6_plan_175_b (nI h) (nI L) v3 (nI (4 ^ K))) k = rf
    unfold g_X6_plan_175_b
    have e0 : mL (ymv M f g) 6 0 = some (nI (vv 4 r K L w j 0)) := by
      have := mL_n (M := ymv M f g) (j := 6) (k := 0) (show 0 < 4096 by omega) (by omega)
      rw [show (0 : Int32) = nI 0 from rfl, this]
      exact congrArg some (hf 0 hp4)
    have eD : mL (ymv M f g) 0 (12 + nI h) = some (nI dd) := by
      rw [g_mD hh]; exact congrArg some hD
    have := hV j (by omega)
    rw [if_neg (show ¬ (60 : Int32) < nI j from nI_nlt (a := 60) (by omega) (by omega)), e0, bd_at, eD, bd_at, if_neg (nI_ge (hlt j (by omega)) hdd), zl_at, nI_1]
/-- a set that begins it -/
def fst (b r K L : Nat) (w : Nat → Nat) (J dd : Nat) (p : Nat) : Bool := decide (pcn 16 p ≤ L ∧ dd ≤ su w K 0 p + vv b r K L w (J - 1) (nx b r K 0 p))
theorem can_0 (b : Nat) : ∀ k p, ycan b k 0 p = true := by
  intro k
  induction k with
  | zero => intro p; rfl
  | succ k ih =>
    intro p
    show ((decide (p % 2 = 0) || decide (0 % b = 0)) && ycan b k (0 / b) (p / 2)) = true
    rw [Nat.zero_mod, Nat.zero_div, ih, decide_eq_true rfl, Bool.or_true]
    rfl
theorem fst_cv {b r K L : Nat} {w : Nat → Nat} (h : b = r + 1) (h4 : b ≤ 4) (J dd p : Nat) : fst 4 r K L w J dd p = fst b r K L w J dd p := by
  unfold fst
  rw [show nx 4 r K 0 p = cv b K (nx b r K 0 p) by rw [← nx_cv h h4, cv_0], vv_cv h h4]
theorem fst_ex {b r K L : Nat} {w : Nat → Nat} {J dd : Nat} (hJ : 1 ≤ J) (h0 : 0 < dd) (h : dd ≤ vv b r K L w J 0) : ∃ p, p < 2 ^ K ∧ fst b r K L w J dd p = true := by
  obtain ⟨J, rfl⟩ : ∃ j, J = j + 1 := ⟨J - 1, by omega⟩
  have h2 : dd ≤ ymx (2 ^ K) (fun p => if pcn 16 p ≤ L ∧ ycan b K 0 p = true then su w K 0 p + vv b r K L w J (nx b r K 0 p) else 0) := h
  obtain ⟨p, hp, e⟩ := mx_at (2 ^ K) (Nat.lt_of_lt_of_le h0 h2)
  refine ⟨p, hp, decide_eq_true ?_⟩
  rw [← e] at h2
  by_cases z : pcn 16 p ≤ L ∧ ycan b K 0 p = true
  · rw [if_pos z] at h2
    exact ⟨z.1, h2⟩
  · rw [if_neg z] at h2; omega
theorem g_first {K r L J dd h p : Nat} {w : Nat → Nat} (P : yPM M K w) (h7 : M.2 0 7 = nI r) (hK : K ≤ 6) (hr : r ≤ 3) (hL : L ≤ 6) (hw : ∀ i, i < K → w i ≤ 9801) (hh : h < 8) (hD : M.2 0 (12 + h) = nI dd) (hdd : dd < 2 ^ 31) (hJ1 : 1 ≤ J) (hJ : J ≤ 60) {g : Nat → Int32} (hg : ∀ q, q < 4 ^ K → M.2 7 q = nI (vv 4 r K L w (J - 1) q)) (hp : p < 2 ^ K) (hp1 : fst 4 r K L w J dd p = true) (hp2 : ∀ i, i < p → fst 4 r K L w J dd i = false) : g_X6_plan_368 (nI h) (nI L) (nI J) 0 M = some (nI p, M) := by
  have h4K : 4 ^ K ≤ 4096 := bpow (by omega) hK
  have h2K := bpow2 hK
  unfold g_X6_plan_368
  have step : ∀ i, i < 2 ^ K → ∀ rf, g_X6_plan_368_b (nI h) (nI L) (nI J) rf (nI i) M = if fst 4 r K L w J dd i = true then some (nI i, M) else rf (nI (i + 1)) M := by
    intro i hi rf
    have hx := nx_ltb (b := 4) (r := r) (by omega) K 0 i
    have h1 := su_leK K i hw
    have h2 := vv_le (b := 4) (r := r) (L := L) hw (J - 1) (nx 4 r K 0 i)
    have h3 : 9801 * K * (J - 1) ≤ 9801 * 6 * 62 := Nat.mul_le_mul (Nat.mul_le_mul_left _ hK) (by omega)
    unfold g_X6_plan_368_b g_X6_plan_430
    rw [P.1, yshl1 (by omega), nleF hi (by omega), if_neg (nI_nle (by omega) (by omega)), show (0 : Int32) = nI 0 from rfl, g_cby P hK hL hw (by omega) (by omega), zb2_at]
    by_cases z : pcn 16 i ≤ L
    · rw [if_pos (show pcn 16 i ≤ L ∧ ycan 4 K 0 i = true from ⟨z, can_0 4 K i⟩), if_neg (m1_ne (by omega)), g_dayOn P h7 hK hr (by omega) (by omega), zb2_at, mL_n (j := 7) (show nx 4 r K 0 i < 4096 by omega) (by omega), bd_at, hg _ hx, g_mD hh, bd_at, hD, nI_add]
      by_cases y : dd ≤ su w K 0 i + vv 4 r K L w (J - 1) (nx 4 r K 0 i)
      · rw [if_neg (nI_nlt y (by omega)), if_pos (show fst 4 r K L w J dd i = true from decide_eq_true ⟨z, y⟩)]
      · rw [if_pos (nI_lt (by omega) hdd), zl_at, nI_1, if_neg]
        intro q
        exact y (of_decide_eq_true q).2
    · rw [if_neg (show ¬ (pcn 16 i ≤ L ∧ ycan 4 K 0 i = true) from fun q => z q.1), if_pos rfl, zl_at, nI_1, if_neg]
      intro q
      exact z (of_decide_eq_true q).1
  refine zlp1_it (n := p) (fun i => nI i) (fun _ => M) (fun i rf hi => ?_) (fun rf => ?_) NN (NN_lt (by omega))
  · rw [step i (by omega), if_neg (by rw [hp2 i hi]; decide)]
  · rw [step p hp, if_pos hp1]
theorem g_first0 {K L h : Nat} {w : Nat → Nat} (P : yPM M K w) (hK : K ≤ 6) : g_X6_plan_368 (nI h) (nI L) (nI 0) 0 M = some (0, M) := by
  have h2K := bpow2 hK
  have h2p : 0 < 2 ^ K := Nat.pow_pos (by omega)
  unfold g_X6_plan_368
  have e : NN = 99999 + 1 := rfl
  rw [e, zlp1_s]
  unfold g_X6_plan_368_b
  rw [P.1, yshl1 (by omega), if_neg (show ¬ nI (2 ^ K) ≤ 0 from nI_ge (a := 0) h2p (by omega)), if_pos (show nI 0 ≤ 0 from Int32.le_refl _)]
/-- how the plan answers -/
def yPA (b r K L : Nat) (w : Nat → Nat) (dd : Nat) (v3 x : Int32) : Prop :=
  ((∀ i, i < 61 → vv b r K L w i 0 < dd) ∧ x = -1) ∨ ∃ J, J < 61 ∧ dd ≤ vv b r K L w J 0 ∧ (∀ i, i < J → vv b r K L w i 0 < dd) ∧
    ((v3 = 0 ∧ x = nI J) ∨ (¬ v3 = 0 ∧ J = 0 ∧ x = 0) ∨ (¬ v3 = 0 ∧ 1 ≤ J ∧ ∃ p, p < 2 ^ K ∧ x = nI p ∧ fst b r K L w J dd p = true ∧ ∀ i, i < p → fst b r K L w J dd i = false))
theorem PA_cv {b r K L dd : Nat} {w : Nat → Nat} {v3 x : Int32} (h : b = r + 1) (h4 : b ≤ 4) (A : yPA 4 r K L w dd v3 x) : yPA b r K L w dd v3 x := by
  have e : ∀ j, vv 4 r K L w j 0 = vv b r K L w j 0 := fun j => by
    have := vv_cv (K := K) (L := L) (w := w) h h4 j 0
    rwa [cv_0] at this
  rcases A with ⟨h1, h2⟩ | ⟨J, h1, h2, h3, h5⟩
  · exact Or.inl ⟨fun i hi => by rw [← e]; exact h1 i hi, h2⟩
  · refine Or.inr ⟨J, h1, by rw [← e]; exact h2, fun i hi => by rw [← e]; exact h3 i hi, ?_⟩
    rcases h5 with h5 | h5 | ⟨g1, g2, p, g3, g4, g5, g6⟩
    · exact Or.inl h5
    · exact Or.inr (Or.inl h5)
    · exact Or.inr (Or.inr ⟨g1, g2, p, g3, g4, by rw [← fst_cv h h4]; exact g5, fun i hi => by rw [← fst_cv h h4]; exact g6 i hi⟩)
theorem PA_one {b r K L dd : Nat} {w : Nat → Nat} {v3 x y : Int32} (A : yPA b r K L w dd v3 x) (B : yPA b r K L w dd v3 y) : x = y := by
  rcases A with ⟨h1, h2⟩ | ⟨J, h1, h2, h3, h5⟩
  · rcases B with ⟨g1, g2⟩ | ⟨J', g1, g2, g3, g5⟩
    · rw [h2, g2]
    · have := h1 J' g1; omega
  · rcases B with ⟨g1, g2⟩ | ⟨J', g1, g2, g3, g5⟩
    · have := g1 J h1; omega
    · have eJ : J = J' := by
        rcases Nat.lt_trichotomy J J' with z | z | z
        · have := g3 J z; omega
        · exact z
        · have := h3 J' z; omega
      subst eJ
      rcases h5 with ⟨a1, a2⟩ | ⟨a1, a2, a3⟩ | ⟨a1, a2, p, a3, a4, a5, a6⟩
      · rcases g5 with ⟨b1, b2⟩ | ⟨b1, _⟩ | ⟨b1, _⟩
        · rw [a2, b2]
        · exact absurd a1 b1
        · exact absurd a1 b1
      · rcases g5 with ⟨b1, b2⟩ | ⟨b1, b2, b3⟩ | ⟨b1, b2, _⟩
        · exact absurd b1 a1
        · rw [a3, b3]
        · omega
      · rcases g5 with ⟨b1, b2⟩ | ⟨b1, b2, b3⟩ | ⟨b1, b2, p', b3, b4, b5, b6⟩
        · exact absurd b1 a1
        · omega
        · have eP : p = p' := by
            rcases Nat.lt_trichotomy p p' with z | z | z
            · have := b6 p z; rw [a5] at this; cases this
            · exact z
            · have := a6 p' z; rw [b5] at this; cases this
          rw [a4, b4, eP]
theorem g_plan121 {K r L dd h : Nat} {w : Nat → Nat} (P : yPM M K w) (h7 : M.2 0 7 = nI r) (hK : K ≤ 6) (hr : r ≤ 3) (hL : L ≤ 6) (hw : ∀ i, i < K → w i ≤ 9801) (hh : h < 8) (hD : M.2 0 (12 + h) = nI dd) (hdd : dd < 2 ^ 31) (v3 : Int32) : ∃ x f g, g_X6_plan_121 (nI h) (nI L) v3 M = some (x, ymv M f g) ∧ yPA 4 r K L w dd v3 x := by
  have h4K : 4 ^ K ≤ 4096 := bpow (by omega) hK
  -- zeros
  let zf : Nat → Nat → Int32 := fun i q => if q < i then 0 else M.2 6 q
  have E : g_X6_plan_121 (nI h) (nI L) v3 M = zlp1 (g_X6_plan_175_b (nI h) (nI L) v3 (nI (4 ^ K))) NN (nI 0) (ymv M (zf (4 ^ K)) (M.2 7)) := by
    unfold g_X6_plan_121 g_X6_plan_127
    refine zlp2_it (F := g_X6_plan_127_b (nI h) (nI L) v3) (n := K) (fun i => nI (4 ^ i)) (fun i => nI i) (fun _ => M) (fun i rf hi => ?_) (fun rf => ?_) NN (NN_lt (by omega))
    · unfold g_X6_plan_127_b
      rw [P.1, nleF hi (by omega), show (4 : Int32) = nI 4 from rfl, nI_mul, zl_at, zl_at, nI_1, ← Nat.pow_succ]
    · unfold g_X6_plan_127_b g_X6_plan_151
      rw [P.1, if_pos (Int32.le_refl _)]
      have e0 : M = ymv M (zf 0) (M.2 7) := by
        refine Prod.ext rfl (funext fun q => ?_)
        show M.2 q = if q = 6 then zf 0 else if q = 7 then M.2 7 else M.2 q
        by_cases h : q = 6
        · subst h; rw [if_pos rfl]; funext q; exact (if_neg (Nat.not_lt_zero q)).symm
        · by_cases h2 : q = 7
          · subst h2; rfl
          · rw [if_neg h, if_neg h2]
      refine (congrArg (zlp1 (g_X6_plan_151_b (nI h) (nI L) v3 (nI (4 ^ K))) NN 0) e0).trans ?_
      refine zlp1_it (n := 4 ^ K) (fun i => nI i) (fun i => ymv M (zf i) (M.2 7)) (fun i rf hi => ?_) (fun rf => ?_) NN (NN_lt (by omega))
      · unfold g_X6_plan_151_b
        have ez : upd (zf i) i 0 = zf (i + 1) := by
          funext q
          show (if q = i then 0 else if q < i then 0 else M.2 6 q) = if q < i + 1 then 0 else M.2 6 q
          by_cases h : q = i
          · subst h; rw [if_pos rfl, if_pos (by omega)]
          · by_cases h2 : q < i
            · rw [if_neg h, if_pos h2, if_pos (by omega)]
            · rw [if_neg h, if_neg h2, if_neg (by omega)]
        rw [nleF hi (by omega), mj_set (j := 6) (show i < 4096 by omega), bd_at, mv_6, zl_at, nI_1, ez]
      · unfold g_X6_plan_151_b
        rw [if_pos (Int32.le_refl _)]
        rfl
  have hz : ∀ q, q < 4 ^ K → zf (4 ^ K) q = nI (vv 4 r K L w 0 q) := fun q hq => if_pos hq
  rcases yff (fun j => decide (dd ≤ vv 4 r K L w j 0)) 61 with hno | ⟨J, hJ, hJ1, hJ2⟩
  · have hlt : ∀ i, i < 61 → vv 4 r K L w i 0 < dd := fun i hi => by
      have := of_decide_eq_false (hno i hi)
      omega
    obtain ⟨f', g', h1, h2⟩ := g_days P h7 hK hr hL hw hh hD hdd (Nat.le_refl 61) hlt (Or.inl rfl) v3 61 0 NN (zf (4 ^ K)) (M.2 7) (by omega) (NN_lt (by omega)) hz (fun q => by omega)
    refine ⟨-1, f', g', ?_, Or.inl ⟨hlt, rfl⟩⟩
    rw [E, h2]
    unfold g_X6_plan_349
    rw [if_neg (show ¬ nI 61 ≤ 60 by decide)]
  · have hlt : ∀ i, i < J → vv 4 r K L w i 0 < dd := fun i hi => by
      have := of_decide_eq_false (hJ2 i hi)
      omega
    have hle : dd ≤ vv 4 r K L w J 0 := of_decide_eq_true hJ1
    obtain ⟨f', g', h1, h2⟩ := g_days P h7 hK hr hL hw hh hD hdd (by omega) hlt (Or.inr hle) v3 J 0 NN (zf (4 ^ K)) (M.2 7) (by omega) (NN_lt (by omega)) hz (fun q => by omega)
    have e60 : nI J ≤ 60 := nI_le (b := 60) (by omega) (by omega)
    by_cases v0 : v3 = 0
    · refine ⟨nI J, f', g', ?_, Or.inr ⟨J, hJ, hle, hlt, Or.inl ⟨v0, rfl⟩⟩⟩
      rw [E, h2]
      unfold g_X6_plan_349
      rw [if_pos e60, if_neg (fun q => q v0)]
    · by_cases J0 : J = 0
      · subst J0
        refine ⟨0, f', g', ?_, Or.inr ⟨0, hJ, hle, hlt, Or.inr (Or.inl ⟨v0, rfl, rfl⟩)⟩⟩
        rw [E, h2]
        unfold g_X6_plan_349
        rw [if_pos e60, if_pos v0]
        exact g_first0 (M := ymv M f' g') P hK
      · have dd0 : 0 < dd := by
          have := hlt 0 (by omega)
          omega
        obtain ⟨p0, hp0, hp1⟩ := fst_ex (J := J) (by omega) dd0 hle
        rcases yff (fst 4 r K L w J dd) (2 ^ K) with hn | ⟨p, a1, a2, a3⟩
        · rw [hn p0 hp0] at hp1; cases hp1
        · refine ⟨nI p, f', g', ?_, Or.inr ⟨J, hJ, hle, hlt, Or.inr (Or.inr ⟨v0, by omega, p, a1, rfl, a2, a3⟩)⟩⟩
          rw [E, h2]
          unfold g_X6_plan_349
          rw [if_pos e60, if_pos v0]
          exact g_first (M := ymv M f' g') (g := g') P h7 hK hr hL hw hh hD hdd (by omega) (by omega) (h1 (by omega)) a1 a2 a3
end T24
section T25
variable {c : Nat} {N : Nat → Nat} {U U' U'' : cU} {M M' M'' : mS} {m m' : Nat → Int32}
/-- only the plan's places have changed -/
def SP (U U' : cU) : Prop := (∀ t, t ≠ 6 → t ≠ 7 → U'.2 t = U.2 t) ∧ ∀ k, k < 14 ∨ 24 ≤ k → U'.1 k = U.1 k
theorem SP_r : SP U U := ⟨fun _ _ _ => rfl, fun _ _ => rfl⟩
theorem SP_t (h : SP U U') (h' : SP U' U'') : SP U U'' := ⟨fun t a b => (h'.1 t a b).trans (h.1 t a b), fun k a => (h'.2 k a).trans (h.2 k a)⟩
theorem SP_SC (h : ySC U U') : SP U U' := ⟨fun t _ _ => by rw [h.1], fun k hk => h.2 k (by omega)⟩
theorem SP_set {k : Nat} {x : Int32} (h : 14 ≤ k ∧ k < 24) : SP U (uset U k x) := ⟨fun _ _ _ => rfl, fun j _ => if_neg (by omega)⟩
theorem SP_tab {t i : Nat} {x : Int32} (h : t = 6 ∨ t = 7) : SP U (utab U t i x) := ⟨fun q a b => if_neg (by omega), fun _ _ => rfl⟩
theorem SP_RI (h : SP U U') (I : RI c N U) : RI c N U' := RI_scr I (fun k hk _ => h.2 k (by omega)) (fun t _ => h.1 t (by omega) (by omega))
theorem SP_RM (h : SP U U') (R : yRM N U m) : yRM N U' m := RM_scr R (fun k hk => h.2 k (by omega)) (fun t _ => h.1 t (by omega) (by omega))
theorem SP_KU (h : SP U U') : KU U U' := ⟨fun k _ h2 => h.2 k (by omega), h.1 10 (by omega) (by omega), h.1 3 (by omega) (by omega)⟩
def u7 (U : cU) (f : Nat → Int32) : cU := (U.1, fun q => if q = 7 then f else U.2 q)
theorem u7_tab {f : Nat → Int32} {k : Nat} {x : Int32} : utab (u7 U f) 7 k x = u7 U (upd f k x) := by
  refine Prod.ext rfl (funext fun q => ?_)
  show (if q = 7 then upd f k x else if q = 7 then f else U.2 q) = if q = 7 then upd f k x else U.2 q
  by_cases h : q = 7
  · rw [if_pos h, if_pos h]
  · rw [if_neg h, if_neg h, if_neg h]
theorem SP_u7 {f : Nat → Int32} : SP U (u7 U f) := ⟨fun q a b => if_neg b, fun _ _ => rfl⟩
/-- the sums of all sets -/
theorem h_sums {lw : Bool} {nb : cU → Option Int32} {K : Nat} {w : Nat → Nat} (hK : K ≤ 6) (h21 : U.1 21 = nI K) (hw : ∀ i, i < K → U.2 6 i = nI (w i)) : ∃ f, (∀ p, p < 2 ^ K → f p = nI (su w K 0 p)) ∧ h_X5_begins_129 N lw nb U = some ((), u7 U f) := by
  have h2K := bpow2 hK
  let F : Nat → Nat → Int32 := fun i q => if q < i then nI (su w K 0 q) else U.2 7 q
  refine ⟨F (2 ^ K), fun p hp => if_pos hp, ?_⟩
  have e0 : U = u7 U (F 0) := by
    refine Prod.ext rfl (funext fun q => ?_)
    show U.2 q = if q = 7 then F 0 else U.2 q
    by_cases h : q = 7
    · subst h; rw [if_pos rfl]; funext q; exact (if_neg (Nat.not_lt_zero q)).symm
    · rw [if_neg h]
  unfold h_X5_begins_129 h_X5_begins_131
  refine (congrArg (zlp1 (h_X5_begins_131_b N lw nb) NN 0) e0).trans ?_
  refine zlp1_it (n := 2 ^ K) (fun i => nI i) (fun i => u7 U (F i)) (fun p rf hp => ?_) (fun rf => ?_) NN (NN_lt (by omega))
  · have e21 : ∀ f, (u7 U f).1 21 = nI K := fun _ => h21
    unfold h_X5_begins_131_b h_X5_begins_151
    rw [e21, yshl1 (by omega), nleF hp (by omega), uSt_at (by omega) (by omega), bd_at, u7_tab]
    refine zlp1_it (F := h_X5_begins_151_b N lw nb rf (nI p)) (n := K) (fun k => nI k) (fun k => u7 U (upd (F p) p (nI (ns k (fun i => p / 2 ^ i % 2 * w i))))) (fun k rg hk => ?_) (fun rg => ?_) NN (NN_lt (by omega))
    · unfold h_X5_begins_151_b
      have e7 : uL (u7 U (upd (F p) p (nI (ns k (fun i => p / 2 ^ i % 2 * w i))))) 7 64 (nI p) = some (nI (ns k (fun i => p / 2 ^ i % 2 * w i))) := by
        rw [uL_at (by omega) (by omega)]
        show some (upd (F p) p (nI (ns k (fun i => p / 2 ^ i % 2 * w i))) p) = _
        rw [upd_at]
      have e6 : uL (u7 U (upd (F p) p (nI (ns k (fun i => p / 2 ^ i % 2 * w i))))) 6 6 (nI k) = some (nI (w k)) := by
        rw [uL_at (by omega) (by omega)]
        exact congrArg some (hw k hk)
      have hu : upd (upd (F p) p (nI (ns k (fun i => p / 2 ^ i % 2 * w i)))) p (nI (ns (k + 1) (fun i => p / 2 ^ i % 2 * w i))) = upd (F p) p (nI (ns (k + 1) (fun i => p / 2 ^ i % 2 * w i))) := by
        funext q
        by_cases h : q = p
        · subst h; rw [upd_at, upd_at]
        · rw [upd_no h, upd_no h, upd_no h]
      rw [e21, nleF hk (by omega), e7, bd_at, e6, bd_at, sbit (by omega) (by omega), nI_mul, nI_add, uSt_at (by omega) (by omega), bd_at, u7_tab, zl_at, nI_1]
      show rg (nI (k + 1)) (u7 U (upd (upd (F p) p _) p (nI (ns (k + 1) (fun i => p / 2 ^ i % 2 * w i))))) = _
      rw [hu]
    · unfold h_X5_begins_151_b
      have eF : upd (F p) p (nI (ns K (fun i => p / 2 ^ i % 2 * w i))) = F (p + 1) := by
        funext q
        show (if q = p then nI (ns K (fun i => p / 2 ^ i % 2 * w i)) else if q < p then nI (su w K 0 q) else U.2 7 q) = if q < p + 1 then nI (su w K 0 q) else U.2 7 q
        by_cases h : q = p
        · subst h
          rw [if_pos rfl, if_pos (by omega), su_ns]
          congr 1
          exact ns_eq fun i _ => by rw [Nat.zero_add]
        · by_cases h2 : q < p
          · rw [if_neg h, if_pos h2, if_pos (by omega)]
          · rw [if_neg h, if_neg h2, if_neg (by omega)]
      rw [e21, if_pos (Int32.le_refl _), zl_at, nI_1, eF]
  · have e21 : ∀ f, (u7 U f).1 21 = nI K := fun _ => h21
    unfold h_X5_begins_131_b
    rw [e21, yshl1 (by omega), if_pos (Int32.le_refl _)]
/-- both sides have the same six -/
def yPB (c : Nat) (N : Nat → Nat) (U : cU) (M : mS) (b L : Nat) (t : cU) (s : mS) : Prop :=
  RI c N t ∧ yRM N t (s.2 0) ∧ SP U t ∧ t.1 22 = nI b ∧ t.1 23 = nI L ∧ yKM M s ∧ s.2 0 = M.2 0 ∧ s.1 0 = M.1 0 ∧
    ∃ (K : Nat) (w : Nat → Nat), K ≤ 6 ∧ (∀ i, i < K → w i ≤ 9801) ∧ t.1 21 = nI K ∧ s.1 18 = nI K ∧ (∀ i, i < K → t.2 6 i = nI (w i)) ∧ ∀ i, i < K → s.2 5 i = nI (w i)
theorem op_six {lw : Bool} {nb : cU → Option Int32} (I : RI c N U) (R : yRM N U (M.2 0)) (LW : LK lw nb (M.2 0)) {j b L : Nat} (hj : j < N 0) (v3 : Int32) {t0 : cU} {s0 : mS} (hP : yPB c N U M b L t0 s0) :
    ∃ t s, yPB c N U M b L t s ∧ h_X5_begins_28 N lw nb (nI j) 0 t0 = h_X5_begins_129 N lw nb t ∧ g_X6_plan_48 (nI j) (nI L) v3 0 s0 = g_X6_plan_121 (nI j) (nI L) v3 s := by
  have n1 := RI_n1 I
  have n0 := RI_n0 I
  have n2 := RI_n2 I
  refine lk1 (n := N 1) (fun _ t s => yPB c N U M b L t s) (fun A B => ∃ t s, yPB c N U M b L t s ∧ A = h_X5_begins_129 N lw nb t ∧ B = g_X6_plan_121 (nI j) (nI L) v3 s) (fun i t s hi hp => ?_) (fun t s hp => ?_) 0 t0 s0 (Nat.zero_le _) hP NN NN (NN_lt (by omega)) (NN_lt (by omega))
  · obtain ⟨p1, p2, p3, p4, p5, p6, p7, p8, K, w, k1, k2, k3, k4, k5, k6⟩ := hp
    have m2 := RM_m2 p2
    have w2 := (RM_mW p2 i hi).2.2.1
    by_cases z6 : 6 ≤ K
    · refine Or.inr ⟨_, _, ⟨t, s, ⟨p1, p2, p3, p4, p5, p6, p7, p8, K, w, k1, k2, k3, k4, k5, k6⟩, rfl, rfl⟩, fun rf => ?_, fun rg => ?_⟩
      · unfold h_X5_begins_28_b
        rw [ofN, nleF hi (by omega), k3, if_pos (show (6 : Int32) ≤ nI K from nI_le (a := 6) z6 (by omega))]
      · unfold g_X6_plan_48_b
        rw [g_m2, bd_at, m2, nleF hi (by omega), k4, if_pos (show (6 : Int32) ≤ nI K from nI_le (a := 6) z6 (by omega))]
    · have z6' : ¬ (6 : Int32) ≤ nI K := nI_ge (b := 6) (by omega) (by omega)
      by_cases hw : t.2 1 (4 * i + 3) = nI j
      · obtain ⟨v, t1, s1, a1, a2, a3, a4, a5, a6, a7, a8, a9⟩ := op_counted (M := s) p1 p2 (by rw [p7]; exact LW) hi (nI j) (Nat.le_refl (N 2)) (Or.inl rfl)
        obtain ⟨q, hq, rfl⟩ := a3
        have t121 : t1.1 21 = nI K := (a4.2 21 (by omega)).trans k3
        have hPB : yPB c N U M b L (uset (utab t1 6 K (nI q)) 21 (nI (K + 1))) (mset (mj s1 5 K (nI q)) 18 (nI (K + 1))) := by
          have sp : SP t (uset (utab t1 6 K (nI q)) 21 (nI (K + 1))) := SP_t (SP_SC a4) (SP_t (SP_tab (Or.inl rfl)) (SP_set (by omega)))
          refine ⟨SP_RI sp p1, ?_, SP_t p3 sp, ?_, ?_, KM_t p6 (KM_t a5 ⟨⟨rfl, rfl, rfl⟩, rfl, rfl, fun _ _ => rfl⟩), ?_, ?_, K + 1, fun i => if i = K then q else w i, by omega, fun i hi => ?_, rfl, rfl, fun i hi => ?_, fun i hi => ?_⟩
          · show yRM N _ (s1.2 0)
            rw [a6]
            exact SP_RM sp p2
          · exact (a4.2 22 (by omega)).trans p4
          · exact (a4.2 23 (by omega)).trans p5
          · exact a6.trans p7
          · exact a7.trans p8
          · show (if i = K then q else w i) ≤ 9801
            by_cases z : i = K
            · rw [if_pos z]; exact hq
            · rw [if_neg z]; exact k2 i (by omega)
          · show upd (t1.2 6) K (nI q) i = nI (if i = K then q else w i)
            by_cases z : i = K
            · subst z; rw [upd_at, if_pos rfl]
            · rw [upd_no z, if_neg z, a4.1]; exact k5 i (by omega)
          · show upd (s1.2 5) K (nI q) i = nI (if i = K then q else w i)
            by_cases z : i = K
            · subst z; rw [upd_at, if_pos rfl]
            · rw [upd_no z, if_neg z, a8]; exact k6 i (by omega)
        refine Or.inl ⟨_, _, hPB, fun rf => ?_, fun rg => ?_⟩
        · unfold h_X5_begins_28_b h_X5_begins_123
          rw [ofN, nleF hi (by omega), k3, if_neg z6', vix_at hi (by omega), bd_at, if_pos hw, ofN, a1, zb2_at, uSt_at (by omega) (by omega), bd_at]
          show zl (uset (utab t1 6 K (nI q)) 21 (t1.1 21 + 1)) _ = _
          rw [t121, nI_1, zl_at, zl_at, nI_1]
        · unfold g_X6_plan_48_b g_X6_plan_115
          rw [g_m2, bd_at, m2, nleF hi (by omega), k4, if_neg z6', g_oW2 (by omega), zb2_at, w2, if_pos hw, g_m3, bd_at, RM_m3 p2, a2, zb2_at, k4, mj_set (j := 5) (show K < 6 by omega), bd_at]
          show zl (mset (mj s1 5 K (nI q)) 18 (s1.1 18 + 1)) _ = _
          rw [a9, k4, nI_1, zl_at, zl_at, nI_1]
      · refine Or.inl ⟨t, s, ⟨p1, p2, p3, p4, p5, p6, p7, p8, K, w, k1, k2, k3, k4, k5, k6⟩, fun rf => ?_, fun rg => ?_⟩
        · unfold h_X5_begins_28_b h_X5_begins_123
          rw [ofN, nleF hi (by omega), k3, if_neg z6', vix_at hi (by omega), bd_at, if_neg hw, zl_at, nI_1]
        · unfold g_X6_plan_48_b g_X6_plan_115
          rw [g_m2, bd_at, m2, nleF hi (by omega), k4, if_neg z6', g_oW2 (by omega), zb2_at, w2, if_neg hw, zl_at, nI_1]
  · have m2 := RM_m2 hp.2.1
    refine ⟨_, _, ⟨t, s, hp, rfl, rfl⟩, fun rf => ?_, fun rg => ?_⟩
    · unfold h_X5_begins_28_b
      rw [ofN, if_pos (Int32.le_refl _)]
    · unfold g_X6_plan_48_b
      rw [g_m2, bd_at, m2, if_pos (Int32.le_refl _)]
/-- the plan: what begins it, and how the model answers -/
theorem op_plan {lw : Bool} {nb : cU → Option Int32} (I : RI c N U) (R : yRM N U (M.2 0)) (hc : c < 1000000) (LW : LK lw nb (M.2 0)) {j L : Nat} (hj : j < N 0) (h1 : 1 ≤ L) (h6 : L ≤ 6) (v3 : Int32) :
    ∃ K r w dd U' x M', K ≤ 6 ∧ r ≤ 3 ∧ (∀ i, i < K → w i ≤ 9801) ∧ U.2 0 j = nI dd ∧ dd < 2 ^ 30 ∧ h_X5_begins N lw nb (nI j) (nI L) U = some ((), U') ∧ yPL U' K (r + 1) L w ∧ SP U U' ∧
      g_X6_plan (nI j) (nI L) v3 M = some (x, M') ∧ yPA (r + 1) r K L w dd v3 x ∧ M'.1 0 = 0 ∧ yRM N U' (M'.2 0) ∧ yKM M M' := by
  have n0 := RI_n0 I
  obtain ⟨r, hr, er⟩ := RI_rst I
  obtain ⟨dd, hdd, ed⟩ := RI_deb I j (by omega)
  have sp0 : SP U (uset (uset (uset U 21 0) 22 (nI (r + 1))) 23 (nI L)) := SP_t (SP_t (SP_set (by omega)) (SP_set (by omega))) (SP_set (by omega))
  have hP0 : yPB c N U (mset M 0 0) (r + 1) L (uset (uset (uset U 21 0) 22 (nI (r + 1))) 23 (nI L)) (mset (mset M 0 0) 18 0) :=
    ⟨SP_RI sp0 I, SP_RM sp0 R, sp0, rfl, rfl, ⟨⟨rfl, rfl, rfl⟩, rfl, rfl, fun _ _ => rfl⟩, rfl, rfl, 0, fun _ => 0, by omega, fun i hi => by omega, rfl, rfl, fun i hi => by omega, fun i hi => by omega⟩
  obtain ⟨t, s, ⟨p1, p2, p3, p4, p5, p6, p7, p8, K, w, k1, k2, k3, k4, k5, k6⟩, e1, e2⟩ := op_six (M := mset M 0 0) I R LW hj v3 hP0
  obtain ⟨f, hf, e3⟩ := h_sums (U := t) (N := N) (lw := lw) (nb := nb) k1 k3 k5
  have h7 : s.2 0 7 = nI r := by rw [p7]; exact (RM_m7 R).trans er
  have hD : s.2 0 (12 + j) = nI dd := by rw [p7]; exact (RM_mD R j (by omega)).trans ed
  obtain ⟨x, f9, g9, e4, A⟩ := g_plan121 (M := s) (L := L) ⟨k4, k6⟩ h7 k1 hr h6 k2 (show j < 8 by omega) hD (by omega) v3
  refine ⟨K, r, w, dd, u7 t f, x, ymv s f9 g9, k1, hr, k2, ed, by omega, ?_, ⟨k3, p4, p5, hf⟩, SP_t p3 SP_u7, ?_, PA_cv rfl (by omega) A, p8, ?_, KM_t KM_set (KM_t p6 ⟨⟨rfl, rfl, rfl⟩, rfl, rfl, fun _ _ => rfl⟩)⟩
  · unfold h_X5_begins
    have er1 : (uset U 21 0).1 3 + 1 = nI (r + 1) := by
      show U.1 3 + 1 = _
      rw [er, nI_1]
    rw [zl_at, er1, zl_at, zl_at, e1, e3]
  · have hin : (1 : Int32) ≤ nI L ∧ nI L ≤ 6 := ⟨nI_le (a := 1) h1 (by omega), nI_le (b := 6) h6 (by omega)⟩
    unfold g_X6_plan g_X6_plan_28
    rw [g_house_ok (RM_m1 R) hj (by omega), zb2_at, if_pos ne10, g_in1 hin, zb2_at, if_pos ne10, zl_at, m_set1, if_pos le00, zl_at, e2, e4]
  · exact SP_RM (SP_t p3 SP_u7) R |> fun q => by
      show yRM N _ (s.2 0)
      rw [p7]
      exact q
theorem g_plan_no1 (I : RI c N U) (R : yRM N U (M.2 0)) {p q v3 : Int32} (h : p < 0 ∨ nI (N 0) ≤ p) : g_X6_plan p q v3 M = some (0, mset M 0 1) := by
  have n0 := RI_n0 I
  unfold g_X6_plan g_X6_plan_28
  rw [g_house_no (RM_m1 R) h (by omega), zb2_at, if_neg ne00, zl_at, m_set1, if_neg (by decide)]
theorem g_plan_no2 (I : RI c N U) (R : yRM N U (M.2 0)) {j : Nat} {q v3 : Int32} (hj : j < N 0) (h : ¬ ((1 : Int32) ≤ q ∧ q ≤ 6)) : g_X6_plan (nI j) q v3 M = some (0, mset M 0 2) := by
  have n0 := RI_n0 I
  unfold g_X6_plan g_X6_plan_28
  rw [g_house_ok (RM_m1 R) hj (by omega), zb2_at, if_pos ne10, g_in0 h, zb2_at, if_neg ne00, zl_at, m_set1, if_neg (by decide)]
/-- the component's first set -/
theorem h_first {K r L J dd p : Nat} {w : Nat → Nat} (P : yPL U K (r + 1) L w) (hK : K ≤ 6) (hr : r ≤ 3) (hL : L ≤ 6) (hw : ∀ i, i < K → w i ≤ 9801) (hdd : dd < 2 ^ 31) (hJ : J ≤ 60) (hn : ∀ q, q < (r + 1) ^ K → U.2 (9 - uw U) q = nI (vv (r + 1) r K L w (J - 1) q)) (hp : p < 2 ^ K) (hp1 : fst (r + 1) r K L w J dd p = true) (hp2 : ∀ i, i < p → fst (r + 1) r K L w J dd i = false) : h_X5_first N (nI dd) U = some (nI p, U) := by
  have hbK := bpow (b := r + 1) (by omega) hK
  have h2K := bpow2 hK
  unfold h_X5_first h_X5_first_2
  have step : ∀ i, i < 2 ^ K → ∀ rf, h_X5_first_2_b N (nI dd) rf (nI i) U = if fst (r + 1) r K L w J dd i = true then some (nI i, U) else rf (nI (i + 1)) U := by
    intro i hi rf
    have hx := nx_ltb (b := r + 1) (r := r) (by omega) K 0 i
    have h1 := su_leK K i hw
    have h2 := vv_le (b := r + 1) (r := r) (L := L) hw (J - 1) (nx (r + 1) r K 0 i)
    have h3 : 9801 * K * (J - 1) ≤ 9801 * 6 * 62 := Nat.mul_le_mul (Nat.mul_le_mul_left _ hK) (by omega)
    have hpc : pcn 16 i ≤ 16 := by
      rw [pcn_ns]
      have H : ∀ n, ns n (fun k => i / 2 ^ k % 2) ≤ n := by
        intro n
        induction n with
        | zero => exact Nat.le_refl _
        | succ n ih => show ns n _ + i / 2 ^ n % 2 ≤ n + 1; omega
      exact H 16
    unfold h_X5_first_2_b h_X5_first_35
    rw [h_bc, zb2_at, bc_p (n := 16) (by omega) (by omega), P.2.2.1]
    by_cases z : pcn 16 i ≤ L
    · rw [if_neg (nI_nlt z (by omega)), uL_at (by omega) (by omega), bd_at, show (0 : Int32) = nI 0 from rfl, h_behind P hK rfl (by omega) (by omega) (by omega), zb2_at, uL_at (by omega) (by omega), bd_at, P.2.2.2 i hi, hn _ hx, nI_add]
      by_cases y : dd ≤ su w K 0 i + vv (r + 1) r K L w (J - 1) (nx (r + 1) r K 0 i)
      · rw [if_pos (nI_le y (by omega)), if_pos (show fst (r + 1) r K L w J dd i = true from decide_eq_true ⟨z, y⟩)]
      · rw [if_neg (nI_ge (by omega) hdd), zl_at, nI_1, if_neg]
        intro q
        exact y (of_decide_eq_true q).2
    · rw [if_pos (nI_lt (by omega) (by omega)), zl_at, nI_1, if_neg]
      intro q
      exact z (of_decide_eq_true q).1
  refine zlp1_it (n := p) (fun i => nI i) (fun _ => U) (fun i rf hi => ?_) (fun rf => ?_) NN (NN_lt (by omega))
  · rw [step i (by omega), if_neg (by rw [hp2 i hi]; decide)]
  · rw [step p hp, if_pos hp1]
end T25
section T26
variable {c : Nat} {N : Nat → Nat} {U U' U'' : cU} {M M' M'' : mS} {m m' : Nat → Int32}
/-- each of the first k turns is worn once less -/
def wd : Nat → cU → cU
  | 0, U => U
  | k + 1, U => utab (wd k U) 2 (3 * k + 1) (zmax 0 ((wd k U).2 2 (3 * k + 1) - 1))
def wdm : Nat → mS → mS
  | 0, M => M
  | k + 1, M => ms (wdm k M) (68 + 3 * k + 1) ((wdm k M).2 0 (68 + 3 * k + 1) - (if (wdm k M).2 0 (68 + 3 * k + 1) ≤ 0 then 0 else 1))
theorem wd_1 (U : cU) : ∀ k, (wd k U).1 = U.1 := by
  intro k
  induction k with
  | zero => rfl
  | succ k ih => exact ih
theorem wd_t (U : cU) {q : Nat} (hq : q ≠ 2) : ∀ k, (wd k U).2 q = U.2 q := by
  intro k
  induction k with
  | zero => rfl
  | succ k ih =>
    show (if q = 2 then _ else (wd k U).2 q) = _
    rw [if_neg hq, ih]
theorem wd_x {x : Nat} (hx : x ≤ 999) : zmax 0 (nI x - 1) = nI (x - 1) ∧ nI x - (if nI x ≤ 0 then 0 else 1) = nI (x - 1) := by
  cases x with
  | zero => exact ⟨rfl, rfl⟩
  | succ x =>
    rw [nI_pred, Nat.add_sub_cancel]
    refine ⟨?_, ?_⟩
    · unfold zmax
      by_cases z : x = 0
      · subst z; rfl
      · rw [if_pos (show (0 : Int32) < nI x from nI_lt (a := 0) (by omega) (by omega))]
    · rw [if_neg (nI_nle (by omega) (by omega)), nI_pred]
theorem wd_ok (I : RI c N U) (R : yRM N U (M.2 0)) : ∀ k, k ≤ N 2 → RI c N (wd k U) ∧ yRM N (wd k U) ((wdm k M).2 0) ∧ yKM M (wdm k M) ∧ (wdm k M).1 = M.1 ∧ ∀ e, e < N 4 → (wdm k M).2 0 (122 + 7 * e + 3) = M.2 0 (122 + 7 * e + 3) := by
  intro k
  induction k with
  | zero => intro _; exact ⟨I, R, KM_r, rfl, fun _ _ => rfl⟩
  | succ k ih =>
    intro hk
    obtain ⟨a1, a2, a3, a4, a5⟩ := ih (by omega)
    have n2 := RI_n2 I
    obtain ⟨x, hx, ex⟩ := (RI_tur a1 k (by omega)).2.1
    obtain ⟨w1, w2⟩ := wd_x hx
    have em := (RM_mT a2 k (by omega)).2.1
    refine ⟨?_, ?_, ?_, a4, fun e he => ?_⟩
    · show RI c N (utab (wd k U) 2 (3 * k + 1) _)
      rw [ex, w1]
      exact RIs_wear a1 (nI_bd (by omega))
    · show yRM N (utab (wd k U) 2 (3 * k + 1) _) (upd ((wdm k M).2 0) (68 + 3 * k + 1) _)
      rw [em, ex, w1, w2]
      exact RM_wear (by omega) a1 a2
    · exact KM_t a3 (KM_ms (by omega) (by omega) (by omega))
    · show upd ((wdm k M).2 0) (68 + 3 * k + 1) _ (122 + 7 * e + 3) = _
      rw [upd_no (by omega), a5 e he]
/-- what is mended later than e is mended at e -/
def mdm (e : Nat) : Nat → mS → mS
  | 0, M => M
  | t + 1, M => if (mdm e t M).2 0 (68 + 3 * t + 2) ≤ nI e then mdm e t M else ms (mdm e t M) (68 + 3 * t + 2) (nI e)
theorem mdm_ok {e : Nat} (he : e < 60) : ∀ t, t ≤ 10 → yKM M (mdm e t M) ∧ (mdm e t M).1 = M.1 ∧ (∀ j, (∀ i, i < t → j ≠ 68 + 3 * i + 2) → (mdm e t M).2 0 j = M.2 0 j) ∧ ∀ i, i < t → (mdm e t M).2 0 (68 + 3 * i + 2) = if M.2 0 (68 + 3 * i + 2) ≤ nI e then M.2 0 (68 + 3 * i + 2) else nI e := by
  intro t
  induction t with
  | zero => intro _; exact ⟨KM_r, rfl, fun _ _ => rfl, fun i hi => absurd hi (Nat.not_lt_zero i)⟩
  | succ t ih =>
    intro ht
    obtain ⟨a1, a2, a3, a4⟩ := ih (by omega)
    have e0 : (mdm e t M).2 0 (68 + 3 * t + 2) = M.2 0 (68 + 3 * t + 2) := a3 _ (fun i hi => by omega)
    unfold mdm
    rw [e0]
    by_cases z : M.2 0 (68 + 3 * t + 2) ≤ nI e
    · rw [if_pos z]
      refine ⟨a1, a2, fun j hj => a3 j (fun i hi => hj i (by omega)), fun i hi => ?_⟩
      by_cases y : i = t
      · subst y; rw [e0, if_pos z]
      · exact a4 i (by omega)
    · rw [if_neg z]
      refine ⟨KM_t a1 (KM_ms (by omega) (by omega) (by omega)), a2, fun j hj => ?_, fun i hi => ?_⟩
      · rw [ms_no (hj t (by omega))]; exact a3 j (fun i hi => hj i (by omega))
      · by_cases y : i = t
        · subst y; rw [ms_at, if_neg z]
        · rw [ms_no (by omega)]; exact a4 i (by omega)
theorem RI_del {n : Nat} (I : RI c N U) (h : N 4 = n + 1) : RI c (N4p N n) U := by
  obtain ⟨n0, n1, n2, n3, n4, hou, txt, lim, rst, day, ser, deb, wal, tur, off, ent, bur⟩ := I
  have e4 : N4p N n 4 = n := rfl
  refine ⟨n0, n1, n2, n3, by rw [e4]; omega, hou, txt, lim, rst, day, ser, deb, wal, tur, off, fun e he => ent e (by rw [e4] at he; omega), ?_⟩
  rw [e4]
  rw [h] at bur
  exact Nat.le_trans (Nat.le_add_right _ _) bur
theorem RM_del {n : Nat} (I : RI c N U) (R : yRM N U m) (h : N 4 = n + 1) (h4 : m' 4 = nI n) (hm : ∀ j, j ≠ 4 → (∀ i, i < N 2 → j ≠ 68 + 3 * i + 2) → m' j = m j) (ht : ∀ i, i < N 2 → m' (68 + 3 * i + 2) = if m (68 + 3 * i + 2) ≤ nI n then m (68 + 3 * i + 2) else nI n) : yRM (N4p N n) U m' := by
  have n1 := RI_n1 I
  have n2 := RI_n2 I
  have n3 := RI_n3 I
  have n4 := RI_n4 I
  obtain ⟨r0, r1, r2, r3, r4, r5, r6, r7, r8, r9, rD, rW, rT, rF, rE⟩ := R
  refine ⟨by rw [hm 0 (by omega) (by omega)]; exact r0, by rw [hm 1 (by omega) (by omega)]; exact r1, by rw [hm 2 (by omega) (by omega)]; exact r2, by rw [hm 3 (by omega) (by omega)]; exact r3, h4, by rw [hm 5 (by omega) (by omega)]; exact r5, by rw [hm 6 (by omega) (by omega)]; exact r6, by rw [hm 7 (by omega) (by omega)]; exact r7, by rw [hm 8 (by omega) (by omega)]; exact r8, by rw [hm 9 (by omega) (by omega)]; exact r9, fun h hh => by rw [hm _ (by omega) (by omega)]; exact rD h hh, fun i hi => ?_, fun i hi => ?_, fun i hi => ?_, fun e he => ?_⟩
  · have hi' : i < N 1 := hi
    rw [hm _ (by omega) (by omega), hm _ (by omega) (by omega), hm _ (by omega) (by omega), hm _ (by omega) (by omega)]
    exact rW i hi
  · have hi' : i < N 2 := hi
    obtain ⟨a, b, k, hk, d, e⟩ := rT i hi
    rw [hm _ (by omega) (by omega), hm _ (by omega) (by omega)]
    refine ⟨a, b, min k n, Nat.min_le_right _ _, ?_, fun q hq => ?_⟩
    · rw [ht i hi', d]
      by_cases z : k ≤ n
      · rw [if_pos (nI_le z (by omega)), Nat.min_eq_left z]
      · rw [if_neg (nI_ge (by omega) (by omega)), Nat.min_eq_right (by omega)]
    · have hq' : q < n := hq
      have := e q (by omega)
      rw [← this]
      omega
  · have hi' : i < N 3 := hi
    rw [hm _ (by omega) (by omega), hm _ (by omega) (by omega)]
    exact rF i hi
  · have he' : e < n := he
    rw [hm _ (by omega) (by omega), hm _ (by omega) (by omega), hm _ (by omega) (by omega), hm _ (by omega) (by omega), hm _ (by omega) (by omega), hm _ (by omega) (by omega), hm _ (by omega) (by omega)]
    exact rE e (by omega)
/-- a walk undone: the model's side, and what it leaves of the component -/
theorem op_undo (I : RI c N U) (R : yRM N U (M.2 0)) (hc : c < 1000000) {n : Nat} (h4 : N 4 = n + 1) (hb : U.2 4 (8 * n + 7) = 0) :
    ∃ h k M', h < 8 ∧ k ≤ N 2 ∧ U.2 4 (8 * n + 3) = nI h ∧ U.2 4 (8 * n + 4) = nI k ∧ g_X6_undo M = some (nI n, M') ∧ RI (c + 100) (N4p N n) (wd k (utab U 0 h (U.2 0 h + U.2 4 (8 * n + 5)))) ∧ yRM (N4p N n) (wd k (utab U 0 h (U.2 0 h + U.2 4 (8 * n + 5)))) (M'.2 0) ∧ yKM M M' ∧ M'.1 0 = 0 := by
  have n0 := RI_n0 I
  have n2 := RI_n2 I
  have n4 := RI_n4 I
  obtain ⟨-, -, -, -, -, i5, i6, i7, -, -⟩ := RI_ent I n (by omega)
  obtain ⟨h, hh, eh⟩ := i5
  obtain ⟨k, hk, ek⟩ := i6
  obtain ⟨t, ht, et⟩ := i7
  obtain ⟨r0, r1, r2, r3, r4, r5, r6⟩ := RM_mE R n (by omega)
  obtain ⟨d, hd, ed⟩ := RI_deb I h (by omega)
  have I0 : RI (c + 100) N U := RI_mono (by omega) I
  have I1 : RI (c + 100) N (utab U 0 h (U.2 0 h + U.2 4 (8 * n + 5))) := RIs_debt I0 (by rw [ed, et, nI_add]; exact nI_bd (by omega))
  have R1 : yRM N (utab U 0 h (U.2 0 h + U.2 4 (8 * n + 5))) ((ms (mset M 0 0) (12 + h) (U.2 0 h + U.2 4 (8 * n + 5))).2 0) := RM_debt (by omega) I R
  obtain ⟨a1, a2, a3, a4, a5⟩ := wd_ok (M := ms (mset M 0 0) (12 + h) (U.2 0 h + U.2 4 (8 * n + 5))) I1 R1 k hk
  generalize hM2 : wdm k (ms (mset M 0 0) (12 + h) (U.2 0 h + U.2 4 (8 * n + 5))) = M2 at a2 a3 a4 a5
  obtain ⟨b1, b2, b3, b4⟩ := mdm_ok (M := ms M2 4 (nI n)) (e := n) (by omega) (N 2) n2
  refine ⟨h, k, mdm n (N 2) (ms M2 4 (nI n)), by omega, hk, eh, ek, ?_, RI_del a1 h4, RM_del a1 a2 h4 ?_ ?_ ?_, KM_t KM_set (KM_t (KM_ms (by omega) (by omega) (by omega)) (KM_t a3 (KM_t (KM_ms (by omega) (by omega) (by omega)) b1))), ?_⟩
  · have e4 : (mset M 0 0).2 0 4 = nI (n + 1) := by
      have := RM_m4 R
      rw [h4] at this; exact this
    have e6 : (mset M 0 0).2 0 (122 + 7 * n + 6) = 0 := r6.trans hb
    have e2 : (mset M 0 0).2 0 (122 + 7 * n + 2) = nI h := r2.trans eh
    have e5 : (mset M 0 0).2 0 (122 + 7 * n + 5) = U.2 4 (8 * n + 5) := r5
    have eD : (mset M 0 0).2 0 (12 + h) = U.2 0 h := RM_mD R h (by omega)
    have G1 : g_X6_undo M = g_X6_undo_56 (nI n) 0 (ms (mset M 0 0) (12 + h) (U.2 0 h + U.2 4 (8 * n + 5))) := by
      unfold g_X6_undo
      rw [zl_at, g_m4, bd_at, e4, nI_pred, zl_at, if_neg (nI_pos (by omega)), g_oE6 (by omega), zb2_at, e6, if_pos (show ¬ (0 : Int32) = 1 by decide), g_oE2 (by omega), zb2_at, e2, g_mD (by omega), bd_at, g_oE5 (by omega), zb2_at, e5, eD, g_sD (by omega), bd_at]
    rw [G1]
    unfold g_X6_undo_56
    -- the turns
    have H1 : zlp1 (g_X6_undo_56_b (nI n)) NN 0 (ms (mset M 0 0) (12 + h) (U.2 0 h + U.2 4 (8 * n + 5))) = g_X6_undo_111 (nI n) 0 (ms M2 4 (nI n)) := by
      refine zlp1_it (n := k) (fun i => nI i) (fun i => wdm i (ms (mset M 0 0) (12 + h) (U.2 0 h + U.2 4 (8 * n + 5)))) (fun i rf hi => ?_) (fun rf => ?_) NN (NN_lt (by omega))
      · obtain ⟨-, -, -, -, w5⟩ := wd_ok (M := ms (mset M 0 0) (12 + h) (U.2 0 h + U.2 4 (8 * n + 5))) I1 R1 i (by omega)
        have e3 := w5 n (by omega)
        have e3' : (ms (mset M 0 0) (12 + h) (U.2 0 h + U.2 4 (8 * n + 5))).2 0 (122 + 7 * n + 3) = nI k := by
          rw [ms_no (by omega)]; exact r3.trans ek
        rw [e3'] at e3
        unfold g_X6_undo_56_b g_X6_undo_94
        have l1 : mL (wdm i (ms (mset M 0 0) (12 + h) (U.2 0 h + U.2 4 (8 * n + 5)))) 0 (68 + 3 * nI i + 1) = some ((wdm i (ms (mset M 0 0) (12 + h) (U.2 0 h + U.2 4 (8 * n + 5)))).2 0 (68 + 3 * i + 1)) := g_lT (d := 1) (by omega) (by omega)
        have s1 : ∀ x, mSt (wdm i (ms (mset M 0 0) (12 + h) (U.2 0 h + U.2 4 (8 * n + 5)))) 0 (68 + 3 * nI i + 1) x = some (ms (wdm i (ms (mset M 0 0) (12 + h) (U.2 0 h + U.2 4 (8 * n + 5)))) (68 + 3 * i + 1) x) := fun x => g_sT (d := 1) (by omega) (by omega)
        rw [g_oE3 (by omega), zb2_at, e3, nleF hi (by omega), l1, bd_at, g_oT1 (by omega), zb2_at, s1, s1, bd_at, bd_at, zl_at, zl_at, nI_1]
        show _ = rf (nI (i + 1)) (ms _ (68 + 3 * i + 1) (_ - (if _ ≤ 0 then 0 else 1)))
        by_cases z : (wdm i (ms (mset M 0 0) (12 + h) (U.2 0 h + U.2 4 (8 * n + 5)))).2 0 (68 + 3 * i + 1) ≤ 0
        · rw [if_pos z, if_pos z]
        · rw [if_neg z, if_neg z]
      · have e3 := a5 n (by omega)
        have e3' : (ms (mset M 0 0) (12 + h) (U.2 0 h + U.2 4 (8 * n + 5))).2 0 (122 + 7 * n + 3) = nI k := by
          rw [ms_no (by omega)]; exact r3.trans ek
        rw [e3'] at e3
        unfold g_X6_undo_56_b
        rw [hM2, g_oE3 (by omega), zb2_at, e3, if_pos (Int32.le_refl _), show (4 : Int32) = nI 4 from rfl, g_set (by omega), bd_at]
    rw [H1]
    unfold g_X6_undo_111
    refine zlp1_it (n := N 2) (fun i => nI i) (fun i => mdm n i (ms M2 4 (nI n))) (fun i rf hi => ?_) (fun rf => ?_) NN (NN_lt (by omega))
    · obtain ⟨c1, c2, c3, yc4⟩ := mdm_ok (M := ms M2 4 (nI n)) (e := n) (by omega) i (by omega)
      have e3 : (mdm n i (ms M2 4 (nI n))).2 0 3 = nI (N 2) := by
        rw [c3 3 (fun i hi => by omega), ms_no (by omega)]; exact RM_m3 a2
      have s2 : ∀ x, mSt (mdm n i (ms M2 4 (nI n))) 0 (68 + 3 * nI i + 2) x = some (ms (mdm n i (ms M2 4 (nI n))) (68 + 3 * i + 2) x) := fun x => g_sT (d := 2) (by omega) (by omega)
      unfold g_X6_undo_111_b g_X6_undo_145
      rw [g_m3, bd_at, e3, nleF hi (by omega), g_oT2 (by omega), zb2_at, s2, bd_at, zl_at, zl_at, nI_1]
      show _ = rf (nI (i + 1)) (if _ ≤ nI n then _ else _)
      by_cases z : (mdm n i (ms M2 4 (nI n))).2 0 (68 + 3 * i + 2) ≤ nI n
      · rw [if_pos z, if_pos z]
      · rw [if_neg z, if_neg z]
    · have e3 : (mdm n (N 2) (ms M2 4 (nI n))).2 0 3 = nI (N 2) := by
        rw [b3 3 (fun i hi => by omega), ms_no (by omega)]; exact RM_m3 a2
      unfold g_X6_undo_111_b
      rw [g_m3, bd_at, e3, if_pos (Int32.le_refl _)]
  · rw [b3 4 (fun i hi => by omega), ms_at]
  · intro j j4 hj
    rw [b3 j hj, ms_no j4]
  · intro i hi
    rw [b4 i hi, ms_no (by omega)]
  · rw [b2]
    show M2.1 0 = 0
    rw [a4]
    rfl
theorem g_undo_no (I : RI c N U) (R : yRM N U (M.2 0)) (h : N 4 = 0 ∨ ∃ n, N 4 = n + 1 ∧ ¬ U.2 4 (8 * n + 7) = 0) : g_X6_undo M = some (-1, mset M 0 0) := by
  have n4 := RI_n4 I
  have e4 : (mset M 0 0).2 0 4 = nI (N 4) := RM_m4 R
  unfold g_X6_undo
  rw [zl_at, g_m4, bd_at, e4]
  rcases h with h | ⟨n, h, hb⟩
  · rw [h, zl_at, if_pos (by decide)]
  · have e6 : (mset M 0 0).2 0 (122 + 7 * n + 6) = 1 := by
      have r6 := (RM_mE R n (by omega)).2.2.2.2.2.2
      have b := bd1 (RI_ent I n (by omega)).2.2.2.2.2.2.2.2.2
      exact r6.trans (b.resolve_left hb)
    rw [h, nI_pred, zl_at, if_neg (nI_pos (by omega)), g_oE6 (by omega), zb2_at, e6, if_neg (fun q => q rfl)]
end T26
