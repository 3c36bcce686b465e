/-! pure land: P1 P2 P3 P4 P5 (see wip/D-94657w/pl) -/
/-! loops by sequences -/
theorem zlp0_it {τ β : Type} {F : (τ → Option β) → τ → Option β} {R : Option β} {n : Nat} (t : Nat → τ) (hs : ∀ i rf, i < n → F rf (t i) = rf (t (i + 1))) (he : ∀ rf, F rf (t n) = R) : ∀ k, n < k → zlp0 F k (t 0) = R := by
  have H : ∀ j i, i + j = n → ∀ k, j < k → zlp0 F k (t i) = R := by
    intro j
    induction j with
    | zero => intro i e k hk; obtain ⟨k', rfl⟩ : ∃ k', k = k' + 1 := ⟨k - 1, by omega⟩; obtain rfl : i = n := by omega
              exact he _
    | succ j ih => intro i e k hk; obtain ⟨k', rfl⟩ : ∃ k', k = k' + 1 := ⟨k - 1, by omega⟩
                   exact (hs i _ (by omega)).trans (ih (i + 1) (by omega) k' (by omega))
  exact H n 0 (by omega)
theorem zlp1_it {A1 τ β : Type} {F : (A1 → τ → Option β) → A1 → τ → Option β} {R : Option β} {n : Nat} (a : Nat → A1) (t : Nat → τ) (hs : ∀ i rf, i < n → F rf (a i) (t i) = rf (a (i + 1)) (t (i + 1))) (he : ∀ rf, F rf (a n) (t n) = R) : ∀ k, n < k → zlp1 F k (a 0) (t 0) = R := by
  have H : ∀ j i, i + j = n → ∀ k, j < k → zlp1 F k (a i) (t i) = R := by
    intro j
    induction j with
    | zero => intro i e k hk; obtain ⟨k', rfl⟩ : ∃ k', k = k' + 1 := ⟨k - 1, by omega⟩; obtain rfl : i = n := by omega
              exact he _
    | succ j ih => intro i e k hk; obtain ⟨k', rfl⟩ : ∃ k', k = k' + 1 := ⟨k - 1, by omega⟩
                   exact (hs i _ (by omega)).trans (ih (i + 1) (by omega) k' (by omega))
  exact H n 0 (by omega)
theorem zlp2_it {A1 A2 τ β : Type} {F : (A1 → A2 → τ → Option β) → A1 → A2 → τ → Option β} {R : Option β} {n : Nat} (a : Nat → A1) (b : Nat → A2) (t : Nat → τ) (hs : ∀ i rf, i < n → F rf (a i) (b i) (t i) = rf (a (i + 1)) (b (i + 1)) (t (i + 1))) (he : ∀ rf, F rf (a n) (b n) (t n) = R) : ∀ k, n < k → zlp2 F k (a 0) (b 0) (t 0) = R := by
  have H : ∀ j i, i + j = n → ∀ k, j < k → zlp2 F k (a i) (b i) (t i) = R := by
    intro j
    induction j with
    | zero => intro i e k hk; obtain ⟨k', rfl⟩ : ∃ k', k = k' + 1 := ⟨k - 1, by omega⟩; obtain rfl : i = n := by omega
              exact he _
    | succ j ih => intro i e k hk; obtain ⟨k', rfl⟩ : ∃ k', k = k' + 1 := ⟨k - 1, by omega⟩
                   exact (hs i _ (by omega)).trans (ih (i + 1) (by omega) k' (by omega))
  exact H n 0 (by omega)
theorem zlp3_it {A1 A2 A3 τ β : Type} {F : (A1 → A2 → A3 → τ → Option β) → A1 → A2 → A3 → τ → Option β} {R : Option β} {n : Nat} (a : Nat → A1) (b : Nat → A2) (c : Nat → A3) (t : Nat → τ) (hs : ∀ i rf, i < n → F rf (a i) (b i) (c i) (t i) = rf (a (i + 1)) (b (i + 1)) (c (i + 1)) (t (i + 1))) (he : ∀ rf, F rf (a n) (b n) (c n) (t n) = R) : ∀ k, n < k → zlp3 F k (a 0) (b 0) (c 0) (t 0) = R := by
  have H : ∀ j i, i + j = n → ∀ k, j < k → zlp3 F k (a i) (b i) (c i) (t i) = R := by
    intro j
    induction j with
    | zero => intro i e k hk; obtain ⟨k', rfl⟩ : ∃ k', k = k' + 1 := ⟨k - 1, by omega⟩; obtain rfl : i = n := by omega
              exact he _
    | succ j ih => intro i e k hk; obtain ⟨k', rfl⟩ : ∃ k', k = k' + 1 := ⟨k - 1, by omega⟩
                   exact (hs i _ (by omega)).trans (ih (i + 1) (by omega) k' (by omega))
  exact H n 0 (by omega)
theorem zlp4_it {A1 A2 A3 A4 τ β : Type} {F : (A1 → A2 → A3 → A4 → τ → Option β) → A1 → A2 → A3 → A4 → τ → Option β} {R : Option β} {n : Nat} (a : Nat → A1) (b : Nat → A2) (c : Nat → A3) (d : Nat → A4) (t : Nat → τ) (hs : ∀ i rf, i < n → F rf (a i) (b i) (c i) (d i) (t i) = rf (a (i + 1)) (b (i + 1)) (c (i + 1)) (d (i + 1)) (t (i + 1))) (he : ∀ rf, F rf (a n) (b n) (c n) (d n) (t n) = R) : ∀ k, n < k → zlp4 F k (a 0) (b 0) (c 0) (d 0) (t 0) = R := by
  have H : ∀ j i, i + j = n → ∀ k, j < k → zlp4 F k (a i) (b i) (c i) (d i) (t i) = R := by
    intro j
    induction j with
    | zero => intro i e k hk; obtain ⟨k', rfl⟩ : ∃ k', k = k' + 1 := ⟨k - 1, by omega⟩; obtain rfl : i = n := by omega
              exact he _
    | succ j ih => intro i e k hk; obtain ⟨k', rfl⟩ : ∃ k', k = k' + 1 := ⟨k - 1, by omega⟩
                   exact (hs i _ (by omega)).trans (ih (i + 1) (by omega) k' (by omega))
  exact H n 0 (by omega)
/-- a sum -/
def ysm : Nat → (Nat → Int32) → Int32
  | 0, _ => 0
  | n + 1, f => ysm n f + f n
theorem sm_s (n : Nat) (f : Nat → Int32) : ysm (n + 1) f = ysm n f + f n := rfl
theorem sm_0 (f : Nat → Int32) : ysm 0 f = 0 := rfl
theorem sm_eq {n : Nat} {f g : Nat → Int32} (h : ∀ i, i < n → f i = g i) : ysm n f = ysm n g := by
  induction n with
  | zero => rfl
  | succ n ih => rw [sm_s, sm_s, ih (fun i hi => h i (by omega)), h n (by omega)]
theorem NN_lt {n : Nat} (h : n < 100000) : n < NN := h
theorem vix_at {n i : Nat} (h : i < n) (hn : n < 2 ^ 31) : vix n (nI i) = some i := by
  unfold vix
  rw [if_neg (nI_in h hn), nI_clamp (by omega)]
theorem ofN (n : Nat) : Int32.ofNat n = nI n := rfl
theorem i_add0 (x : Int32) : x + 0 = x := Int32.add_zero x
theorem i_0add (x : Int32) : 0 + x = x := Int32.zero_add x
theorem zl_at {α β : Type} (x : α) (K : α → Option β) : zl x K = K x := rfl
theorem bd_at {α β : Type} (a : α) (K : α → Option β) : (some a).bind K = K a := rfl
theorem zb2_at {α τ β : Type} (a : α) (s : τ) (K : α → τ → Option β) : zb2 (some (a, s)) K = K a s := rfl
theorem mL_n {M : mS} {j k : Nat} (hk : k < mAL j) (h9 : k < 100000) : mL M j (nI k) = some (M.2 j k) := by
  unfold mL
  rw [if_neg (nI_in hk (show mAL j < 2 ^ 31 by unfold mAL; split <;> omega)), nI_clamp (by omega)]
theorem zlp2_sum {τ β : Type} {F : (Int32 → Int32 → τ → Option β) → Int32 → Int32 → τ → Option β} {n : Nat} {a0 : Int32} {f : Nat → Int32} {t : τ} {r : Int32 → Option β} (hs : ∀ i acc rf, i < n → F rf acc (nI i) t = rf (acc + f i) (nI (i + 1)) t) (he : ∀ acc rf, F rf acc (nI n) t = r acc) (k : Nat) (hk : n < k) : zlp2 F k a0 0 t = r (a0 + ysm n f) := by
  have h := zlp2_it (F := F) (n := n) (R := r (a0 + ysm n f)) (fun i => a0 + ysm i f) (fun i => nI i) (fun _ => t) (fun i rf hi => (hs i _ rf hi).trans (by rw [sm_s, Int32.add_assoc])) (fun rf => he _ rf) k hk
  have e : a0 + ysm 0 f = a0 := Int32.add_zero a0
  simpa only [e, nI_0] using h
theorem zlp2_sum0 {τ : Type} {F : (Int32 → Int32 → τ → Option (Int32 × τ)) → Int32 → Int32 → τ → Option (Int32 × τ)} {n : Nat} {f : Nat → Int32} {t : τ} (hs : ∀ i acc rf, i < n → F rf acc (nI i) t = rf (acc + f i) (nI (i + 1)) t) (he : ∀ acc rf, F rf acc (nI n) t = some (acc, t)) (k : Nat) (hk : n < k) : zlp2 F k 0 0 t = some (ysm n f, t) := by
  have h := zlp2_sum (F := F) (a0 := 0) (r := fun a => some (a, t)) hs he k hk
  simpa only [i_0add] using h
section T1
variable {N : Nat → Nat} {U : cU} {M : mS}
theorem h_beads (h4 : N 4 ≤ 60) (h : Int32) : h_X2_beads N h U = some (ysm (N 4) (fun e => if U.2 4 (8 * e + 3) = h then 1 else 0), U) := by
  unfold h_X2_beads h_X2_beads_4
  refine zlp2_sum0 (fun i acc rf hi => ?_) (fun acc rf => ?_) NN (NN_lt (by omega))
  · simp only [h_X2_beads_4_b, h_X2_beads_39, ofN, nI_leI (show N 4 < 2 ^ 31 by omega) (show i < 2 ^ 31 by omega), Nat.not_le.mpr hi, if_false, vix_at hi (show N 4 < 2 ^ 31 by omega), bd_at, zl_at, nI_1]
    split <;> simp_all
  · simp only [h_X2_beads_4_b, ofN, nI_leI (show N 4 < 2 ^ 31 by omega) (show N 4 < 2 ^ 31 by omega), Nat.le_refl, if_true]
end T1
/-! ===== the two sides' sums ===== -/
theorem nleF {a b : Nat} {β : Type} {x y : β} (h : b < a) (ha : a < 2 ^ 31) : (if nI a ≤ nI b then x else y) = y := if_neg (nI_ge h ha)
theorem nI_mul (a b : Nat) : nI a * nI b = nI (a * b) := (Int32.ofNat_mul a b).symm
section T2
variable {N : Nat → Nat} {U : cU} {M : mS}

theorem g_oE0 {e : Nat} (he : e < 60) : g_X6_ofEntry (nI e) 0 M = some (M.2 0 (122 + 7 * e + 0), M) := by
  unfold g_X6_ofEntry
  have h1 : (122 : Int32) + 7 * nI e + 0 = nI (122 + 7 * e + 0) := by
    rw [show (122 : Int32) = nI 122 from rfl, show (7 : Int32) = nI 7 from rfl, show (0 : Int32) = nI 0 from rfl, nI_mul, nI_add, nI_add]
  rw [h1, mL_n (j := 0) (k := 122 + 7 * e + 0) (show _ < 942 by omega) (by omega)]
  rfl
theorem g_oE1 {e : Nat} (he : e < 60) : g_X6_ofEntry (nI e) 1 M = some (M.2 0 (122 + 7 * e + 1), M) := by
  unfold g_X6_ofEntry
  have h1 : (122 : Int32) + 7 * nI e + 1 = nI (122 + 7 * e + 1) := by
    rw [show (122 : Int32) = nI 122 from rfl, show (7 : Int32) = nI 7 from rfl, show (1 : Int32) = nI 1 from rfl, nI_mul, nI_add, nI_add]
  rw [h1, mL_n (j := 0) (k := 122 + 7 * e + 1) (show _ < 942 by omega) (by omega)]
  rfl
theorem g_oE2 {e : Nat} (he : e < 60) : g_X6_ofEntry (nI e) 2 M = some (M.2 0 (122 + 7 * e + 2), M) := by
  unfold g_X6_ofEntry
  have h1 : (122 : Int32) + 7 * nI e + 2 = nI (122 + 7 * e + 2) := by
    rw [show (122 : Int32) = nI 122 from rfl, show (7 : Int32) = nI 7 from rfl, show (2 : Int32) = nI 2 from rfl, nI_mul, nI_add, nI_add]
  rw [h1, mL_n (j := 0) (k := 122 + 7 * e + 2) (show _ < 942 by omega) (by omega)]
  rfl
theorem g_oE3 {e : Nat} (he : e < 60) : g_X6_ofEntry (nI e) 3 M = some (M.2 0 (122 + 7 * e + 3), M) := by
  unfold g_X6_ofEntry
  have h1 : (122 : Int32) + 7 * nI e + 3 = nI (122 + 7 * e + 3) := by
    rw [show (122 : Int32) = nI 122 from rfl, show (7 : Int32) = nI 7 from rfl, show (3 : Int32) = nI 3 from rfl, nI_mul, nI_add, nI_add]
  rw [h1, mL_n (j := 0) (k := 122 + 7 * e + 3) (show _ < 942 by omega) (by omega)]
  rfl
theorem g_oE4 {e : Nat} (he : e < 60) : g_X6_ofEntry (nI e) 4 M = some (M.2 0 (122 + 7 * e + 4), M) := by
  unfold g_X6_ofEntry
  have h1 : (122 : Int32) + 7 * nI e + 4 = nI (122 + 7 * e + 4) := by
    rw [show (122 : Int32) = nI 122 from rfl, show (7 : Int32) = nI 7 from rfl, show (4 : Int32) = nI 4 from rfl, nI_mul, nI_add, nI_add]
  rw [h1, mL_n (j := 0) (k := 122 + 7 * e + 4) (show _ < 942 by omega) (by omega)]
  rfl
theorem g_oE5 {e : Nat} (he : e < 60) : g_X6_ofEntry (nI e) 5 M = some (M.2 0 (122 + 7 * e + 5), M) := by
  unfold g_X6_ofEntry
  have h1 : (122 : Int32) + 7 * nI e + 5 = nI (122 + 7 * e + 5) := by
    rw [show (122 : Int32) = nI 122 from rfl, show (7 : Int32) = nI 7 from rfl, show (5 : Int32) = nI 5 from rfl, nI_mul, nI_add, nI_add]
  rw [h1, mL_n (j := 0) (k := 122 + 7 * e + 5) (show _ < 942 by omega) (by omega)]
  rfl
theorem g_oE6 {e : Nat} (he : e < 60) : g_X6_ofEntry (nI e) 6 M = some (M.2 0 (122 + 7 * e + 6), M) := by
  unfold g_X6_ofEntry
  have h1 : (122 : Int32) + 7 * nI e + 6 = nI (122 + 7 * e + 6) := by
    rw [show (122 : Int32) = nI 122 from rfl, show (7 : Int32) = nI 7 from rfl, show (6 : Int32) = nI 6 from rfl, nI_mul, nI_add, nI_add]
  rw [h1, mL_n (j := 0) (k := 122 + 7 * e + 6) (show _ < 942 by omega) (by omega)]
  rfl
theorem g_oEw {e w : Nat} (he : e < 60) (hw : w < 7) : g_X6_ofEntry (nI e) (nI w) M = some (M.2 0 (122 + 7 * e + w), M) := by
  unfold g_X6_ofEntry
  have h1 : (122 : Int32) + 7 * nI e + nI w = nI (122 + 7 * e + w) := by
    rw [show (122 : Int32) = nI 122 from rfl, show (7 : Int32) = nI 7 from rfl, nI_mul, nI_add, nI_add]
  rw [h1, mL_n (j := 0) (k := 122 + 7 * e + w) (show _ < 942 by omega) (by omega)]
  rfl
theorem g_oT0 {e : Nat} (he : e < 10) : g_X6_ofTurn (nI e) 0 M = some (M.2 0 (68 + 3 * e + 0), M) := by
  unfold g_X6_ofTurn
  have h1 : (68 : Int32) + 3 * nI e + 0 = nI (68 + 3 * e + 0) := by
    rw [show (68 : Int32) = nI 68 from rfl, show (3 : Int32) = nI 3 from rfl, show (0 : Int32) = nI 0 from rfl, nI_mul, nI_add, nI_add]
  rw [h1, mL_n (j := 0) (k := 68 + 3 * e + 0) (show _ < 942 by omega) (by omega)]
  rfl
theorem g_oT1 {e : Nat} (he : e < 10) : g_X6_ofTurn (nI e) 1 M = some (M.2 0 (68 + 3 * e + 1), M) := by
  unfold g_X6_ofTurn
  have h1 : (68 : Int32) + 3 * nI e + 1 = nI (68 + 3 * e + 1) := by
    rw [show (68 : Int32) = nI 68 from rfl, show (3 : Int32) = nI 3 from rfl, show (1 : Int32) = nI 1 from rfl, nI_mul, nI_add, nI_add]
  rw [h1, mL_n (j := 0) (k := 68 + 3 * e + 1) (show _ < 942 by omega) (by omega)]
  rfl
theorem g_oT2 {e : Nat} (he : e < 10) : g_X6_ofTurn (nI e) 2 M = some (M.2 0 (68 + 3 * e + 2), M) := by
  unfold g_X6_ofTurn
  have h1 : (68 : Int32) + 3 * nI e + 2 = nI (68 + 3 * e + 2) := by
    rw [show (68 : Int32) = nI 68 from rfl, show (3 : Int32) = nI 3 from rfl, show (2 : Int32) = nI 2 from rfl, nI_mul, nI_add, nI_add]
  rw [h1, mL_n (j := 0) (k := 68 + 3 * e + 2) (show _ < 942 by omega) (by omega)]
  rfl
theorem g_oTw {e w : Nat} (he : e < 10) (hw : w < 3) : g_X6_ofTurn (nI e) (nI w) M = some (M.2 0 (68 + 3 * e + w), M) := by
  unfold g_X6_ofTurn
  have h1 : (68 : Int32) + 3 * nI e + nI w = nI (68 + 3 * e + w) := by
    rw [show (68 : Int32) = nI 68 from rfl, show (3 : Int32) = nI 3 from rfl, nI_mul, nI_add, nI_add]
  rw [h1, mL_n (j := 0) (k := 68 + 3 * e + w) (show _ < 942 by omega) (by omega)]
  rfl
theorem g_oW0 {e : Nat} (he : e < 12) : g_X6_ofWalker (nI e) 0 M = some (M.2 0 (20 + 4 * e + 0), M) := by
  unfold g_X6_ofWalker
  have h1 : (20 : Int32) + 4 * nI e + 0 = nI (20 + 4 * e + 0) := by
    rw [show (20 : Int32) = nI 20 from rfl, show (4 : Int32) = nI 4 from rfl, show (0 : Int32) = nI 0 from rfl, nI_mul, nI_add, nI_add]
  rw [h1, mL_n (j := 0) (k := 20 + 4 * e + 0) (show _ < 942 by omega) (by omega)]
  rfl
theorem g_oW1 {e : Nat} (he : e < 12) : g_X6_ofWalker (nI e) 1 M = some (M.2 0 (20 + 4 * e + 1), M) := by
  unfold g_X6_ofWalker
  have h1 : (20 : Int32) + 4 * nI e + 1 = nI (20 + 4 * e + 1) := by
    rw [show (20 : Int32) = nI 20 from rfl, show (4 : Int32) = nI 4 from rfl, show (1 : Int32) = nI 1 from rfl, nI_mul, nI_add, nI_add]
  rw [h1, mL_n (j := 0) (k := 20 + 4 * e + 1) (show _ < 942 by omega) (by omega)]
  rfl
theorem g_oW2 {e : Nat} (he : e < 12) : g_X6_ofWalker (nI e) 2 M = some (M.2 0 (20 + 4 * e + 2), M) := by
  unfold g_X6_ofWalker
  have h1 : (20 : Int32) + 4 * nI e + 2 = nI (20 + 4 * e + 2) := by
    rw [show (20 : Int32) = nI 20 from rfl, show (4 : Int32) = nI 4 from rfl, show (2 : Int32) = nI 2 from rfl, nI_mul, nI_add, nI_add]
  rw [h1, mL_n (j := 0) (k := 20 + 4 * e + 2) (show _ < 942 by omega) (by omega)]
  rfl
theorem g_oW3 {e : Nat} (he : e < 12) : g_X6_ofWalker (nI e) 3 M = some (M.2 0 (20 + 4 * e + 3), M) := by
  unfold g_X6_ofWalker
  have h1 : (20 : Int32) + 4 * nI e + 3 = nI (20 + 4 * e + 3) := by
    rw [show (20 : Int32) = nI 20 from rfl, show (4 : Int32) = nI 4 from rfl, show (3 : Int32) = nI 3 from rfl, nI_mul, nI_add, nI_add]
  rw [h1, mL_n (j := 0) (k := 20 + 4 * e + 3) (show _ < 942 by omega) (by omega)]
  rfl
theorem g_oWw {e w : Nat} (he : e < 12) (hw : w < 4) : g_X6_ofWalker (nI e) (nI w) M = some (M.2 0 (20 + 4 * e + w), M) := by
  unfold g_X6_ofWalker
  have h1 : (20 : Int32) + 4 * nI e + nI w = nI (20 + 4 * e + w) := by
    rw [show (20 : Int32) = nI 20 from rfl, show (4 : Int32) = nI 4 from rfl, nI_mul, nI_add, nI_add]
  rw [h1, mL_n (j := 0) (k := 20 + 4 * e + w) (show _ < 942 by omega) (by omega)]
  rfl
theorem g_m0 : mL M 0 0 = some (M.2 0 0) := mL_n (k := 0) (show 0 < 942 by omega) (by omega)
theorem g_m1 : mL M 0 1 = some (M.2 0 1) := mL_n (k := 1) (show 1 < 942 by omega) (by omega)
theorem g_m2 : mL M 0 2 = some (M.2 0 2) := mL_n (k := 2) (show 2 < 942 by omega) (by omega)
theorem g_m3 : mL M 0 3 = some (M.2 0 3) := mL_n (k := 3) (show 3 < 942 by omega) (by omega)
theorem g_m4 : mL M 0 4 = some (M.2 0 4) := mL_n (k := 4) (show 4 < 942 by omega) (by omega)
theorem g_m5 : mL M 0 5 = some (M.2 0 5) := mL_n (k := 5) (show 5 < 942 by omega) (by omega)
theorem g_m6 : mL M 0 6 = some (M.2 0 6) := mL_n (k := 6) (show 6 < 942 by omega) (by omega)
theorem g_m7 : mL M 0 7 = some (M.2 0 7) := mL_n (k := 7) (show 7 < 942 by omega) (by omega)
theorem g_m8 : mL M 0 8 = some (M.2 0 8) := mL_n (k := 8) (show 8 < 942 by omega) (by omega)
theorem g_m9 : mL M 0 9 = some (M.2 0 9) := mL_n (k := 9) (show 9 < 942 by omega) (by omega)
theorem g_m10 : mL M 0 10 = some (M.2 0 10) := mL_n (k := 10) (show 10 < 942 by omega) (by omega)
theorem g_m11 : mL M 0 11 = some (M.2 0 11) := mL_n (k := 11) (show 11 < 942 by omega) (by omega)
theorem g_mD {h : Nat} (hh : h < 8) : mL M 0 (12 + nI h) = some (M.2 0 (12 + h)) := by rw [show (12 : Int32) = nI 12 from rfl, nI_add]; exact mL_n (show _ < 942 by omega) (by omega)
theorem g_mF {h : Nat} (hh : h < 12) : mL M 0 (98 + 2 * nI h) = some (M.2 0 (98 + 2 * h)) := by rw [show (98 : Int32) = nI 98 from rfl, show (2 : Int32) = nI 2 from rfl, nI_mul, nI_add]; exact mL_n (show _ < 942 by omega) (by omega)
theorem g_mF1 {h : Nat} (hh : h < 12) : mL M 0 (98 + 2 * nI h + 1) = some (M.2 0 (98 + 2 * h + 1)) := by rw [show (98 : Int32) = nI 98 from rfl, show (2 : Int32) = nI 2 from rfl, nI_mul, nI_add, nI_1]; exact mL_n (show _ < 942 by omega) (by omega)
theorem uL_at {t n i : Nat} (hi : i < n) (hn : n < 2 ^ 31) : uL U t n (nI i) = some (U.2 t i) := by unfold uL; rw [if_neg (nI_in hi hn), nI_clamp (by omega)]
theorem h_burnt (h4 : N 4 ≤ 60) : h_X2_burnt N U = some (ysm (N 4) (fun e => if U.2 4 (8 * e + 7) = 0 then 0 else 1), U) := by
  unfold h_X2_burnt h_X2_burnt_4
  refine zlp2_sum0 (fun i acc rf hi => ?_) (fun acc rf => ?_) NN (NN_lt (by omega))
  · simp only [h_X2_burnt_4_b, h_X2_burnt_38, ofN, nleF hi (show N 4 < 2 ^ 31 by omega), vix_at hi (show N 4 < 2 ^ 31 by omega), bd_at, zl_at, zb2_at, nI_1]
    repeat (split <;> simp_all)
  · simp only [h_X2_burnt_4_b, ofN, Int32.le_refl, if_true]
theorem h_lost (h4 : N 4 ≤ 60) (h : Int32) : h_X1_lost N h U = some (ysm (N 4) (fun e => if U.2 4 (8 * e + 3) = h ∧ ¬ U.2 4 (8 * e + 7) = 0 then 1 else 0), U) := by
  unfold h_X1_lost h_X1_lost_4
  refine zlp2_sum0 (fun i acc rf hi => ?_) (fun acc rf => ?_) NN (NN_lt (by omega))
  · simp only [h_X1_lost_4_b, h_X1_lost_64, h_X1_lost_65, ofN, nleF hi (show N 4 < 2 ^ 31 by omega), vix_at hi (show N 4 < 2 ^ 31 by omega), bd_at, zl_at, zb2_at, nI_1]
    repeat (split <;> simp_all)
  · simp only [h_X1_lost_4_b, ofN, Int32.le_refl, if_true]
theorem h_known (h4 : N 4 ≤ 60) (h : Int32) : h_X1_known N h U = some (ysm (N 4) (fun e => if U.2 4 (8 * e + 3) = h ∧ U.2 4 (8 * e + 7) = 0 then U.2 4 (8 * e + 5) else 0), U) := by
  unfold h_X1_known h_X1_known_4
  refine zlp2_sum0 (fun i acc rf hi => ?_) (fun acc rf => ?_) NN (NN_lt (by omega))
  · simp only [h_X1_known_4_b, h_X1_known_60, h_X1_known_61, ofN, nleF hi (show N 4 < 2 ^ 31 by omega), vix_at hi (show N 4 < 2 ^ 31 by omega), bd_at, zl_at, zb2_at, nI_1]
    repeat (split <;> simp_all)
  · simp only [h_X1_known_4_b, ofN, Int32.le_refl, if_true]
theorem h_paces (h2 : N 2 ≤ 10) {k : Nat} (hk : k ≤ N 2) : h_X2_paces N (nI k) U = some (ysm (k) (fun e => U.2 2 (3 * e)), U) := by
  unfold h_X2_paces h_X2_paces_4
  refine zlp2_sum0 (fun i acc rf hi => ?_) (fun acc rf => ?_) NN (NN_lt (by omega))
  · simp only [h_X2_paces_4_b, ofN, nleF hi (show k < 2 ^ 31 by omega), vix_at (show i < N 2 by omega) (show N 2 < 2 ^ 31 by omega), bd_at, zl_at, zb2_at, nI_1]
    skip
  · simp only [h_X2_paces_4_b, ofN, Int32.le_refl, if_true]
theorem h_sumT (h4 : N 4 ≤ 60) (a0 : Int32) : h_X1_sum_39 N 0 a0 0 U = some (a0 + ysm (N 4) (fun e => U.2 4 (8 * e + 5)), U) := by
  unfold h_X1_sum_39
  refine zlp2_sum (r := fun a => some (a, U)) (fun i acc rf hi => ?_) (fun acc rf => ?_) NN (NN_lt (by omega))
  · simp only [h_X1_sum_39_b, ofN, nleF hi (show N 4 < 2 ^ 31 by omega), vix_at hi (show N 4 < 2 ^ 31 by omega), bd_at, zl_at, nI_1, not_true, if_false]
  · simp only [h_X1_sum_39_b, ofN, Int32.le_refl, if_true]
theorem h_sum39 (h4 : N 4 ≤ 60) (a0 : Int32) : h_X1_sum_39 N 1 a0 0 U = some (a0, U) := by
  unfold h_X1_sum_39
  have e : NN = 99999 + 1 := rfl
  rw [e, zlp2_s]
  unfold h_X1_sum_39_b
  by_cases h : Int32.ofNat (N 4) ≤ 0
  · rw [if_pos h]
  · rw [if_neg h, if_pos (by decide)]
theorem h_sum0 (h4 : N 4 ≤ 60) : h_X1_sum N 0 U = some (ysm (N 4) (fun e => U.2 4 (8 * e + 5)), U) := by
  unfold h_X1_sum h_X1_sum_4
  have e : NN = 99999 + 1 := rfl
  rw [e, zlp2_s]
  unfold h_X1_sum_4_b h_X1_sum_37
  rw [if_pos rfl, h_sumT h4, i_0add]
  exact ite_self _
theorem h_sum1 (h4 : N 4 ≤ 60) {H : Nat} (hH : H ≤ 8) (h1 : U.1 1 = nI H) : h_X1_sum N 1 U = some (ysm H (fun e => U.2 0 e), U) := by
  unfold h_X1_sum h_X1_sum_4
  refine zlp2_sum0 (fun i acc rf hi => ?_) (fun acc rf => ?_) NN (NN_lt (by omega))
  · simp only [h_X1_sum_4_b, h1, nleF hi (show H < 2 ^ 31 by omega), uL_at (show i < 8 by omega) (show 8 < 2 ^ 31 by omega), bd_at, zl_at, nI_1, if_neg (show ¬ (1 : Int32) = 0 by decide)]
  · simp only [h_X1_sum_4_b, h1, Int32.le_refl, if_true, h_X1_sum_37, h_sum39 h4]
theorem h_houseW (h1 : N 1 ≤ 12) (h : Int32) : h_X1_house_43 N h 0 0 U = some (.inl (ysm (N 1) (fun e => if U.2 1 (4 * e + 3) = h then 1 else 0)), U) := by
  unfold h_X1_house_43
  have q := zlp2_sum (F := h_X1_house_43_b N h) (a0 := 0) (n := N 1) (f := fun e => if U.2 1 (4 * e + 3) = h then 1 else 0) (t := U) (r := fun a => some (.inl a, U)) (fun i acc rf hi => ?_) (fun acc rf => ?_) NN (NN_lt (by omega))
  · simpa only [i_0add] using q
  · simp only [h_X1_house_43_b, h_X1_house_86, ofN, nleF hi (show N 1 < 2 ^ 31 by omega), vix_at hi (show N 1 < 2 ^ 31 by omega), bd_at, zl_at, nI_1]
    split <;> simp_all
  · simp only [h_X1_house_43_b, ofN, Int32.le_refl, if_true]
theorem h_missed (h4 : N 4 ≤ 60) (h2 : N 2 ≤ 10) {t : Nat} (ht : t < N 2) : h_X2_missed N (nI t) U = some (-(U.2 2 (3 * t + 1)) + ysm (N 4) (fun e => if U.2 4 (8 * e + 4) ≤ nI t then 0 else if U.2 4 (8 * e) ≤ U.2 2 (3 * t + 2) then 0 else 1), U) := by
  unfold h_X2_missed h_X2_missed_21
  simp only [vix_at ht (show N 2 < 2 ^ 31 by omega), bd_at, zl_at]
  refine zlp2_sum (r := fun a => some (a, U)) (fun i acc rf hi => ?_) (fun acc rf => ?_) NN (NN_lt (by omega))
  · simp only [h_X2_missed_21_b, h_X2_missed_73, h_X2_missed_74, ofN, nleF hi (show N 4 < 2 ^ 31 by omega), vix_at hi (show N 4 < 2 ^ 31 by omega), bd_at, zl_at, nI_1]
    repeat (split <;> simp_all)
  · simp only [h_X2_missed_21_b, ofN, Int32.le_refl, if_true]
theorem h_price {n : Nat} (h3 : N 3 ≤ 12) (s : Int32) : h_X1_priceOf N s U = some (ysm (N 3) (fun k => (s >>> ((nI k) &&& 31) &&& 1) * U.2 3 (2 * k + 1)), U) := by
  unfold h_X1_priceOf h_X1_priceOf_4
  refine zlp2_sum0 (fun i acc rf hi => ?_) (fun acc rf => ?_) NN (NN_lt (by omega))
  · simp only [h_X1_priceOf_4_b, ofN, nleF hi (show N 3 < 2 ^ 31 by omega), vix_at hi (show N 3 < 2 ^ 31 by omega), bd_at, zl_at, nI_1]
  · simp only [h_X1_priceOf_4_b, ofN, Int32.le_refl, if_true]

theorem g_beads {n : Nat} (h4 : M.2 0 4 = nI n) (hn : n ≤ 60) (h : Int32) : g_X6_beadsOf h M = some (ysm n (fun e => if M.2 0 (122 + 7 * e + 2) = h then 1 else 0), M) := by
  unfold g_X6_beadsOf g_X6_beadsOf_4
  refine zlp2_sum0 (fun i acc rf hi => ?_) (fun acc rf => ?_) NN (NN_lt (by omega))
  · simp only [g_X6_beadsOf_4_b, g_X6_beadsOf_30, g_m4, h4, nleF hi (show n < 2 ^ 31 by omega), g_oE2 (M := M) (show i < 60 by omega), bd_at, zl_at, zb2_at, nI_1]
    split <;> simp_all
  · simp only [g_X6_beadsOf_4_b, g_m4, h4, bd_at, Int32.le_refl, if_true]
theorem g_burntNow {n : Nat} (h4 : M.2 0 4 = nI n) (hn : n ≤ 60) : g_X6_burntNow M = some (ysm n (fun e => M.2 0 (122 + 7 * e + 6)), M) := by
  unfold g_X6_burntNow g_X6_burntNow_4
  refine zlp2_sum0 (fun i acc rf hi => ?_) (fun acc rf => ?_) NN (NN_lt (by omega))
  · simp only [g_X6_burntNow_4_b, g_m4, h4, nleF hi (show n < 2 ^ 31 by omega), g_oE6 (M := M) (show i < 60 by omega), bd_at, zl_at, zb2_at, nI_1]
  · simp only [g_X6_burntNow_4_b, g_m4, h4, bd_at, Int32.le_refl, if_true]
theorem g_known {n : Nat} (h4 : M.2 0 4 = nI n) (hn : n ≤ 60) (h : Int32) : g_X6_knownOf h M = some (ysm n (fun e => if M.2 0 (122 + 7 * e + 6) = 0 ∧ M.2 0 (122 + 7 * e + 2) = h then M.2 0 (122 + 7 * e + 5) else 0), M) := by
  unfold g_X6_knownOf g_X6_knownOf_4
  refine zlp2_sum0 (fun i acc rf hi => ?_) (fun acc rf => ?_) NN (NN_lt (by omega))
  · simp only [g_X6_knownOf_4_b, g_X6_knownOf_44, g_X6_knownOf_45, g_m4, h4, nleF hi (show n < 2 ^ 31 by omega), g_oE6 (M := M) (show i < 60 by omega), g_oE2 (M := M) (show i < 60 by omega), g_oE5 (M := M) (show i < 60 by omega), bd_at, zl_at, zb2_at, nI_1]
    repeat (split <;> simp_all)
  · simp only [g_X6_knownOf_4_b, g_m4, h4, bd_at, Int32.le_refl, if_true]
theorem g_paces {k : Nat} (hk : k ≤ 10) : g_X6_pacesOf (nI k) M = some (ysm k (fun t => M.2 0 (68 + 3 * t + 0)), M) := by
  unfold g_X6_pacesOf g_X6_pacesOf_4
  refine zlp2_sum0 (fun i acc rf hi => ?_) (fun acc rf => ?_) NN (NN_lt (by omega))
  · simp only [g_X6_pacesOf_4_b, nleF hi (show k < 2 ^ 31 by omega), g_oT0 (M := M) (show i < 10 by omega), bd_at, zl_at, zb2_at, nI_1]
  · simp only [g_X6_pacesOf_4_b, bd_at, Int32.le_refl, if_true]

end T2
/-! ===== the relation of the component's world and the model's row ===== -/
def bd (b : Nat) (x : Int32) : Prop := ∃ n, n ≤ b ∧ x = nI n
def bdp (b : Nat) (x : Int32) : Prop := ∃ n, (n ≤ b ∧ 0 < n) ∧ x = nI n
theorem bdp_mono {a b : Nat} {x : Int32} (h : bdp a x) (hab : a ≤ b) : bdp b x := by
  obtain ⟨n, h1, h2⟩ := h
  exact ⟨n, by omega, h2⟩
theorem bd_mono {a b : Nat} {x : Int32} (h : bd a x) (hab : a ≤ b) : bd b x := by
  obtain ⟨n, h1, h2⟩ := h
  exact ⟨n, by omega, h2⟩
theorem bd_nI {n b : Nat} (h : n ≤ b) : bd b (nI n) := ⟨n, h, rfl⟩
/-- how many -/
def cn : Nat → (Nat → Bool) → Nat
  | 0, _ => 0
  | n + 1, p => cn n p + (if p n then 1 else 0)
theorem cn_le (n : Nat) (p : Nat → Bool) : cn n p ≤ n := by
  induction n with
  | zero => exact Nat.le_refl 0
  | succ n ih => show cn n p + _ ≤ n + 1; split <;> omega
theorem cn_eq {n : Nat} {p q : Nat → Bool} (h : ∀ i, i < n → p i = q i) : cn n p = cn n q := by
  induction n with
  | zero => rfl
  | succ n ih => show cn n p + _ = cn n q + _; rw [ih (fun i hi => h i (by omega)), h n (by omega)]
theorem sm_cn (n : Nat) (p : Nat → Bool) : ysm n (fun i => if p i = true then 1 else 0) = nI (cn n p) := by
  induction n with
  | zero => rfl
  | succ n ih =>
    rw [sm_s, ih]
    show nI (cn n p) + (if p n = true then 1 else 0) = nI (cn n p + (if p n = true then 1 else 0))
    split
    · exact nI_1 _
    · exact Int32.add_zero _
def bz (x : Int32) : Bool := if x = 0 then false else true

def RI (c : Nat) (N : Nat → Nat) (U : cU) : Prop :=
  (N 0 ≤ 8) ∧ (N 1 ≤ 12) ∧ (N 2 ≤ 10) ∧ (N 3 ≤ 12) ∧ (N 4 ≤ 60) ∧ (U.1 1 = nI (N 0)) ∧ (bd 10 (U.1 0)) ∧ (bd 999 (U.1 2)) ∧ (bd 3 (U.1 3)) ∧ (bd c (U.1 4)) ∧ (bd c (U.1 6)) ∧ (∀ h, h < 8 → bd (100000 + 100 * c) (U.2 0 h)) ∧ (∀ i, i < N 1 → bd 3 (U.2 1 (4 * i)) ∧ bd 99 (U.2 1 (4 * i + 1)) ∧ bd 100 (U.2 1 (4 * i + 2)) ∧ ∃ h, h < N 0 ∧ U.2 1 (4 * i + 3) = nI h) ∧ (∀ t, t < N 2 → bd 99 (U.2 2 (3 * t)) ∧ bd 999 (U.2 2 (3 * t + 1)) ∧ bd c (U.2 2 (3 * t + 2)) ∧ U.2 2 (3 * t + 2) ≤ U.1 6) ∧ (∀ k, k < N 3 → bd 99999 (U.2 3 (2 * k)) ∧ bd 999 (U.2 3 (2 * k + 1))) ∧ (∀ e, e < N 4 → bdp c (U.2 4 (8 * e)) ∧ U.2 4 (8 * e) ≤ U.1 6 ∧ bd c (U.2 4 (8 * e + 1)) ∧ U.2 4 (8 * e + 1) ≤ U.1 4 ∧ (∃ w, w < N 1 ∧ U.2 4 (8 * e + 2) = nI w) ∧ (∃ h, h < N 0 ∧ U.2 4 (8 * e + 3) = nI h) ∧ (∃ k, k ≤ N 2 ∧ U.2 4 (8 * e + 4) = nI k) ∧ bd 9801 (U.2 4 (8 * e + 5)) ∧ bd 1 (U.2 4 (8 * e + 6)) ∧ bd 1 (U.2 4 (8 * e + 7))) ∧ (cn (N 4) (fun e => bz (U.2 4 (8 * e + 7))) ≤ 16)
theorem RI_n0 {c : Nat} {N : Nat → Nat} {U : cU} (R : RI c N U) : N 0 ≤ 8 := R.1
theorem RI_n1 {c : Nat} {N : Nat → Nat} {U : cU} (R : RI c N U) : N 1 ≤ 12 := R.2.1
theorem RI_n2 {c : Nat} {N : Nat → Nat} {U : cU} (R : RI c N U) : N 2 ≤ 10 := R.2.2.1
theorem RI_n3 {c : Nat} {N : Nat → Nat} {U : cU} (R : RI c N U) : N 3 ≤ 12 := R.2.2.2.1
theorem RI_n4 {c : Nat} {N : Nat → Nat} {U : cU} (R : RI c N U) : N 4 ≤ 60 := R.2.2.2.2.1
theorem RI_hou {c : Nat} {N : Nat → Nat} {U : cU} (R : RI c N U) : U.1 1 = nI (N 0) := R.2.2.2.2.2.1
theorem RI_txt {c : Nat} {N : Nat → Nat} {U : cU} (R : RI c N U) : bd 10 (U.1 0) := R.2.2.2.2.2.2.1
theorem RI_lim {c : Nat} {N : Nat → Nat} {U : cU} (R : RI c N U) : bd 999 (U.1 2) := R.2.2.2.2.2.2.2.1
theorem RI_rst {c : Nat} {N : Nat → Nat} {U : cU} (R : RI c N U) : bd 3 (U.1 3) := R.2.2.2.2.2.2.2.2.1
theorem RI_day {c : Nat} {N : Nat → Nat} {U : cU} (R : RI c N U) : bd c (U.1 4) := R.2.2.2.2.2.2.2.2.2.1
theorem RI_ser {c : Nat} {N : Nat → Nat} {U : cU} (R : RI c N U) : bd c (U.1 6) := R.2.2.2.2.2.2.2.2.2.2.1
theorem RI_deb {c : Nat} {N : Nat → Nat} {U : cU} (R : RI c N U) : ∀ h, h < 8 → bd (100000 + 100 * c) (U.2 0 h) := R.2.2.2.2.2.2.2.2.2.2.2.1
theorem RI_wal {c : Nat} {N : Nat → Nat} {U : cU} (R : RI c N U) : ∀ i, i < N 1 → bd 3 (U.2 1 (4 * i)) ∧ bd 99 (U.2 1 (4 * i + 1)) ∧ bd 100 (U.2 1 (4 * i + 2)) ∧ ∃ h, h < N 0 ∧ U.2 1 (4 * i + 3) = nI h := R.2.2.2.2.2.2.2.2.2.2.2.2.1
theorem RI_tur {c : Nat} {N : Nat → Nat} {U : cU} (R : RI c N U) : ∀ t, t < N 2 → bd 99 (U.2 2 (3 * t)) ∧ bd 999 (U.2 2 (3 * t + 1)) ∧ bd c (U.2 2 (3 * t + 2)) ∧ U.2 2 (3 * t + 2) ≤ U.1 6 := R.2.2.2.2.2.2.2.2.2.2.2.2.2.1
theorem RI_off {c : Nat} {N : Nat → Nat} {U : cU} (R : RI c N U) : ∀ k, k < N 3 → bd 99999 (U.2 3 (2 * k)) ∧ bd 999 (U.2 3 (2 * k + 1)) := R.2.2.2.2.2.2.2.2.2.2.2.2.2.2.1
theorem RI_ent {c : Nat} {N : Nat → Nat} {U : cU} (R : RI c N U) : ∀ e, e < N 4 → bdp c (U.2 4 (8 * e)) ∧ U.2 4 (8 * e) ≤ U.1 6 ∧ bd c (U.2 4 (8 * e + 1)) ∧ U.2 4 (8 * e + 1) ≤ U.1 4 ∧ (∃ w, w < N 1 ∧ U.2 4 (8 * e + 2) = nI w) ∧ (∃ h, h < N 0 ∧ U.2 4 (8 * e + 3) = nI h) ∧ (∃ k, k ≤ N 2 ∧ U.2 4 (8 * e + 4) = nI k) ∧ bd 9801 (U.2 4 (8 * e + 5)) ∧ bd 1 (U.2 4 (8 * e + 6)) ∧ bd 1 (U.2 4 (8 * e + 7)) := R.2.2.2.2.2.2.2.2.2.2.2.2.2.2.2.1
theorem RI_bur {c : Nat} {N : Nat → Nat} {U : cU} (R : RI c N U) : cn (N 4) (fun e => bz (U.2 4 (8 * e + 7))) ≤ 16 := R.2.2.2.2.2.2.2.2.2.2.2.2.2.2.2.2
def yRM (N : Nat → Nat) (U : cU) (m : Nat → Int32) : Prop :=
  (m 0 = U.1 0) ∧ (m 1 = nI (N 0)) ∧ (m 2 = nI (N 1)) ∧ (m 3 = nI (N 2)) ∧ (m 4 = nI (N 4)) ∧ (m 5 = nI (N 3)) ∧ (m 6 = U.1 2) ∧ (m 7 = U.1 3) ∧ (m 8 = U.1 4) ∧ (m 9 = U.1 5) ∧ (∀ h, h < 8 → m (12 + h) = U.2 0 h) ∧ (∀ i, i < N 1 → m (20 + 4 * i + 0) = U.2 1 (4 * i) ∧ m (20 + 4 * i + 1) = U.2 1 (4 * i + 1) ∧ m (20 + 4 * i + 2) = U.2 1 (4 * i + 3) ∧ m (20 + 4 * i + 3) = U.2 1 (4 * i + 2)) ∧ (∀ t, t < N 2 → m (68 + 3 * t + 0) = U.2 2 (3 * t) ∧ m (68 + 3 * t + 1) = U.2 2 (3 * t + 1) ∧ ∃ k, k ≤ N 4 ∧ m (68 + 3 * t + 2) = nI k ∧ ∀ e, e < N 4 → (k ≤ e ↔ ¬ U.2 4 (8 * e) ≤ U.2 2 (3 * t + 2))) ∧ (∀ k, k < N 3 → m (98 + 2 * k) = U.2 3 (2 * k) ∧ m (98 + 2 * k + 1) = U.2 3 (2 * k + 1)) ∧ (∀ e, e < N 4 → m (122 + 7 * e + 0) = U.2 4 (8 * e + 1) ∧ m (122 + 7 * e + 1) = U.2 4 (8 * e + 2) ∧ m (122 + 7 * e + 2) = U.2 4 (8 * e + 3) ∧ m (122 + 7 * e + 3) = U.2 4 (8 * e + 4) ∧ m (122 + 7 * e + 4) = U.2 4 (8 * e + 6) ∧ m (122 + 7 * e + 5) = U.2 4 (8 * e + 5) ∧ m (122 + 7 * e + 6) = U.2 4 (8 * e + 7))
theorem RM_m0 {m : Nat → Int32} {N : Nat → Nat} {U : cU} (R : yRM N U m) : m 0 = U.1 0 := R.1
theorem RM_m1 {m : Nat → Int32} {N : Nat → Nat} {U : cU} (R : yRM N U m) : m 1 = nI (N 0) := R.2.1
theorem RM_m2 {m : Nat → Int32} {N : Nat → Nat} {U : cU} (R : yRM N U m) : m 2 = nI (N 1) := R.2.2.1
theorem RM_m3 {m : Nat → Int32} {N : Nat → Nat} {U : cU} (R : yRM N U m) : m 3 = nI (N 2) := R.2.2.2.1
theorem RM_m4 {m : Nat → Int32} {N : Nat → Nat} {U : cU} (R : yRM N U m) : m 4 = nI (N 4) := R.2.2.2.2.1
theorem RM_m5 {m : Nat → Int32} {N : Nat → Nat} {U : cU} (R : yRM N U m) : m 5 = nI (N 3) := R.2.2.2.2.2.1
theorem RM_m6 {m : Nat → Int32} {N : Nat → Nat} {U : cU} (R : yRM N U m) : m 6 = U.1 2 := R.2.2.2.2.2.2.1
theorem RM_m7 {m : Nat → Int32} {N : Nat → Nat} {U : cU} (R : yRM N U m) : m 7 = U.1 3 := R.2.2.2.2.2.2.2.1
theorem RM_m8 {m : Nat → Int32} {N : Nat → Nat} {U : cU} (R : yRM N U m) : m 8 = U.1 4 := R.2.2.2.2.2.2.2.2.1
theorem RM_m9 {m : Nat → Int32} {N : Nat → Nat} {U : cU} (R : yRM N U m) : m 9 = U.1 5 := R.2.2.2.2.2.2.2.2.2.1
theorem RM_mD {m : Nat → Int32} {N : Nat → Nat} {U : cU} (R : yRM N U m) : ∀ h, h < 8 → m (12 + h) = U.2 0 h := R.2.2.2.2.2.2.2.2.2.2.1
theorem RM_mW {m : Nat → Int32} {N : Nat → Nat} {U : cU} (R : yRM N U m) : ∀ i, i < N 1 → m (20 + 4 * i + 0) = U.2 1 (4 * i) ∧ m (20 + 4 * i + 1) = U.2 1 (4 * i + 1) ∧ m (20 + 4 * i + 2) = U.2 1 (4 * i + 3) ∧ m (20 + 4 * i + 3) = U.2 1 (4 * i + 2) := R.2.2.2.2.2.2.2.2.2.2.2.1
theorem RM_mT {m : Nat → Int32} {N : Nat → Nat} {U : cU} (R : yRM N U m) : ∀ t, t < N 2 → m (68 + 3 * t + 0) = U.2 2 (3 * t) ∧ m (68 + 3 * t + 1) = U.2 2 (3 * t + 1) ∧ ∃ k, k ≤ N 4 ∧ m (68 + 3 * t + 2) = nI k ∧ ∀ e, e < N 4 → (k ≤ e ↔ ¬ U.2 4 (8 * e) ≤ U.2 2 (3 * t + 2)) := R.2.2.2.2.2.2.2.2.2.2.2.2.1
theorem RM_mF {m : Nat → Int32} {N : Nat → Nat} {U : cU} (R : yRM N U m) : ∀ k, k < N 3 → m (98 + 2 * k) = U.2 3 (2 * k) ∧ m (98 + 2 * k + 1) = U.2 3 (2 * k + 1) := R.2.2.2.2.2.2.2.2.2.2.2.2.2.1
theorem RM_mE {m : Nat → Int32} {N : Nat → Nat} {U : cU} (R : yRM N U m) : ∀ e, e < N 4 → m (122 + 7 * e + 0) = U.2 4 (8 * e + 1) ∧ m (122 + 7 * e + 1) = U.2 4 (8 * e + 2) ∧ m (122 + 7 * e + 2) = U.2 4 (8 * e + 3) ∧ m (122 + 7 * e + 3) = U.2 4 (8 * e + 4) ∧ m (122 + 7 * e + 4) = U.2 4 (8 * e + 6) ∧ m (122 + 7 * e + 5) = U.2 4 (8 * e + 5) ∧ m (122 + 7 * e + 6) = U.2 4 (8 * e + 7) := R.2.2.2.2.2.2.2.2.2.2.2.2.2.2

/-- how an answer of the component and one of the model (with what it says it has thrown) agree -/
def yans (cd : Nat → Int32) (r : Int32 ⊕ Nat) (v t : Int32) : Prop := match r with
  | .inl x => t = 0 ∧ v = x
  | .inr k => t = cd k
theorem nI_i0 : (0 : Int32) = nI 0 := rfl
theorem x_m1 {n : Nat} (x : Int32) (h : n < 2 ^ 31) : (nI n - 1 < x) ↔ (nI n ≤ x) := by
  rw [Int32.lt_iff_toInt_lt, Int32.le_iff_toInt_le]
  cases n with
  | zero =>
    rw [show nI 0 - 1 = (-1 : Int32) from rfl, show (-1 : Int32).toInt = -1 from rfl, show (nI 0).toInt = 0 from rfl]
    omega
  | succ n => rw [nI_pred, nI_toInt (by omega), nI_toInt h]; omega
section T3
variable {N : Nat → Nat} {U : cU} {M : mS}
theorem h_there_ok {i n : Nat} (hi : i < n) (hn : n < 2 ^ 31) : h_X1_there N (nI i) (nI n) U = some (.inl (), U) := by
  unfold h_X1_there h_X1_in
  rw [if_neg (nI_pos (by omega)), if_neg (fun q => nI_ge hi hn ((x_m1 _ hn).mp q))]
  rfl
theorem h_there_no {x : Int32} {n : Nat} (hx : x < 0 ∨ nI n ≤ x) (hn : n < 2 ^ 31) : h_X1_there N x (nI n) U = some (.inr 2, U) := by
  unfold h_X1_there h_X1_in
  by_cases h0 : x < 0
  · rw [if_pos h0]; rfl
  · rw [if_neg h0, if_pos ((x_m1 _ hn).mpr (hx.resolve_left h0))]; rfl
theorem h_houseAt_ok {i n : Nat} (h1 : U.1 1 = nI n) (hi : i < n) (hn : n < 2 ^ 31) : h_X1_houseAt N (nI i) U = some (.inl (), U) := by
  unfold h_X1_houseAt
  rw [h1, h_there_ok hi hn]
  rfl
theorem h_houseAt_no {x : Int32} {n : Nat} (h1 : U.1 1 = nI n) (hx : x < 0 ∨ nI n ≤ x) (hn : n < 2 ^ 31) : h_X1_houseAt N x U = some (.inr 2, U) := by
  unfold h_X1_houseAt
  rw [h1, h_there_no hx hn]
  rfl
theorem g_in_ok {i n : Nat} (hi : i < n) (hn : n < 2 ^ 31) : g_X6_isIn (nI i) 0 (nI n - 1) M = some (1, M) := by
  unfold g_X6_isIn
  rw [if_neg (nI_pos (by omega)), if_neg (fun q => nI_ge hi hn ((x_m1 _ hn).mp q))]
theorem g_in_no {x : Int32} {n : Nat} (hx : x < 0 ∨ nI n ≤ x) (hn : n < 2 ^ 31) : g_X6_isIn x 0 (nI n - 1) M = some (0, M) := by
  unfold g_X6_isIn
  by_cases h0 : x < 0
  · rw [if_pos h0]
  · rw [if_neg h0, if_pos ((x_m1 _ hn).mpr (hx.resolve_left h0))]
/-- within bounds -/
theorem h_in1 {x a b : Int32} (h : a ≤ x ∧ x ≤ b) : h_X1_in N x a b U = some (1, U) := by
  unfold h_X1_in
  rw [if_neg (Int32.not_lt.mpr h.1), if_neg (Int32.not_lt.mpr h.2)]
theorem h_in0 {x a b : Int32} (h : ¬ (a ≤ x ∧ x ≤ b)) : h_X1_in N x a b U = some (0, U) := by
  unfold h_X1_in
  by_cases h0 : x < a
  · rw [if_pos h0]
  · rw [if_neg h0, if_pos (Int32.not_le.mp fun q => h ⟨Int32.not_lt.mp h0, q⟩)]
theorem g_in1 {x a b : Int32} (h : a ≤ x ∧ x ≤ b) : g_X6_isIn x a b M = some (1, M) := by
  unfold g_X6_isIn
  rw [if_neg (Int32.not_lt.mpr h.1), if_neg (Int32.not_lt.mpr h.2)]
theorem g_in0 {x a b : Int32} (h : ¬ (a ≤ x ∧ x ≤ b)) : g_X6_isIn x a b M = some (0, M) := by
  unfold g_X6_isIn
  by_cases h0 : x < a
  · rw [if_pos h0]
  · rw [if_neg h0, if_pos (Int32.not_le.mp fun q => h ⟨Int32.not_lt.mp h0, q⟩)]
theorem h_asked1 {x b : Int32} (h : (0 : Int32) ≤ x ∧ x ≤ b) : h_X1_asked N x b U = some (.inl (), U) := by
  unfold h_X1_asked
  rw [h_in1 h]; rfl
theorem h_asked0 {x b : Int32} (h : ¬ ((0 : Int32) ≤ x ∧ x ≤ b)) : h_X1_asked N x b U = some (.inr 3, U) := by
  unfold h_X1_asked
  rw [h_in0 h]; rfl
theorem g_house_ok {i n : Nat} (h1 : M.2 0 1 = nI n) (hi : i < n) (hn : n < 2 ^ 31) : g_X6_isHouse (nI i) M = some (1, M) := by
  unfold g_X6_isHouse
  rw [g_m1, bd_at, h1, g_in_ok hi hn]; rfl
theorem g_house_no {x : Int32} {n : Nat} (h1 : M.2 0 1 = nI n) (hx : x < 0 ∨ nI n ≤ x) (hn : n < 2 ^ 31) : g_X6_isHouse x M = some (0, M) := by
  unfold g_X6_isHouse
  rw [g_m1, bd_at, h1, g_in_no hx hn]; rfl
theorem g_walker_ok {i n : Nat} (h1 : M.2 0 2 = nI n) (hi : i < n) (hn : n < 2 ^ 31) : g_X6_isWalker (nI i) M = some (1, M) := by
  unfold g_X6_isWalker
  rw [g_m2, bd_at, h1, g_in_ok hi hn]; rfl
theorem g_walker_no {x : Int32} {n : Nat} (h1 : M.2 0 2 = nI n) (hx : x < 0 ∨ nI n ≤ x) (hn : n < 2 ^ 31) : g_X6_isWalker x M = some (0, M) := by
  unfold g_X6_isWalker
  rw [g_m2, bd_at, h1, g_in_no hx hn]; rfl
theorem g_turn_ok {i n : Nat} (h1 : M.2 0 3 = nI n) (hi : i < n) (hn : n < 2 ^ 31) : g_X6_isTurn (nI i) M = some (1, M) := by
  unfold g_X6_isTurn
  rw [g_m3, bd_at, h1, g_in_ok hi hn]; rfl
theorem g_turn_no {x : Int32} {n : Nat} (h1 : M.2 0 3 = nI n) (hx : x < 0 ∨ nI n ≤ x) (hn : n < 2 ^ 31) : g_X6_isTurn x M = some (0, M) := by
  unfold g_X6_isTurn
  rw [g_m3, bd_at, h1, g_in_no hx hn]; rfl
theorem g_entry_ok {i n : Nat} (h1 : M.2 0 4 = nI n) (hi : i < n) (hn : n < 2 ^ 31) : g_X6_isEntry (nI i) M = some (1, M) := by
  unfold g_X6_isEntry
  rw [g_m4, bd_at, h1, g_in_ok hi hn]; rfl
theorem g_entry_no {x : Int32} {n : Nat} (h1 : M.2 0 4 = nI n) (hx : x < 0 ∨ nI n ≤ x) (hn : n < 2 ^ 31) : g_X6_isEntry x M = some (0, M) := by
  unfold g_X6_isEntry
  rw [g_m4, bd_at, h1, g_in_no hx hn]; rfl
/-- a number from 0 on that is at most b -/
theorem x_upto {x : Int32} {b : Nat} (hb : b < 2 ^ 31) (h : (0 : Int32) ≤ x ∧ x ≤ nI b) : ∃ j, j ≤ b ∧ x = nI j :=
  nI_of2 (nI_toInt hb) (Int32.not_lt.mpr h.1) h.2
theorem m_set2 (k : Nat) (x : Int32) : (mset M k x).2 = M.2 := rfl
theorem m_set1 (k : Nat) (x : Int32) : (mset M k x).1 k = x := if_pos rfl
theorem m_setn {k j : Nat} (x : Int32) (h : j ≠ k) : (mset M k x).1 j = M.1 j := if_neg h
def cdA : Nat → Int32 := fun k => if k = 2 then 1 else 2

end T3
theorem ne10 : ¬ (1 : Int32) = 0 := by decide
theorem le00 : (0 : Int32) ≤ 0 := by decide
theorem ne00 : ¬ ¬ (0 : Int32) = 0 := by decide
section T4
variable {c : Nat} {N : Nat → Nat} {U : cU} {M : mS}
theorem zbt_i {α τ β : Type} (a : α) (s : τ) (E : Nat → τ → Option β) (K : α → τ → Option β) : zbt (some (.inl a, s)) E K = K a s := rfl
theorem zbt_r {α τ β : Type} (a : Nat) (s : τ) (E : Nat → τ → Option β) (K : α → τ → Option β) : zbt (some (.inr a, s)) E K = E a s := rfl
theorem RM_set {k : Nat} {x : Int32} (R : yRM N U (M.2 0)) : yRM N U ((mset M k x).2 0) := R
theorem op_beads (I : RI c N U) (R : yRM N U (M.2 0)) (h : Int32) : ∃ v, h_X2_beads N h U = some (v, U) ∧ g_X6_beadsOf h M = some (v, M) := by
  refine ⟨_, h_beads (RI_n4 I) h, ?_⟩
  rw [g_beads (RM_m4 R) (RI_n4 I)]
  congr 2
  refine sm_eq fun e he => ?_
  rw [((RM_mE R) e he).2.2.1]
theorem g_houseW {n : Nat} (h2 : M.2 0 2 = nI n) (hn : n ≤ 12) (h : Int32) : g_X6_house_44 h 1 0 0 M = some (ysm n (fun e => if M.2 0 (20 + 4 * e + 2) = h then 1 else 0), M) := by
  unfold g_X6_house_44
  refine zlp2_sum0 (fun i acc rf hi => ?_) (fun acc rf => ?_) NN (NN_lt (by omega))
  · simp only [g_X6_house_44_b, g_X6_house_72, g_m2, h2, nleF hi (show n < 2 ^ 31 by omega), g_oW2 (M := M) (show i < 12 by omega), bd_at, zl_at, zb2_at, nI_1]
    split <;> simp_all
  · simp only [g_X6_house_44_b, g_m2, h2, bd_at, Int32.le_refl, if_true]
    rfl
theorem g_house44_skip {n : Nat} (h2 : M.2 0 2 = nI n) (hn : n ≤ 12) (h w : Int32) (R : Option (Int32 × mS)) (he : ∀ a, (if ¬ w = 0 then
      if ¬ w = 1 then
        zb2 (g_X6_beadsOf h M) fun x7 M8 =>
        some (x7, M8)
      else
        some (a, M)
    else
      (mL M 0 (12 + h)).bind fun x9 =>
      some (x9, M)) = R) : g_X6_house_44 h w 0 0 M = R := by
  unfold g_X6_house_44
  have q := zlp2_sum (F := g_X6_house_44_b h w) (a0 := 0) (n := n) (f := (fun e => if M.2 0 (20 + 4 * e + 2) = h then 1 else 0)) (t := M) (r := fun _ => R) (fun i acc rf hi => ?_) (fun acc rf => ?_) NN (NN_lt (by omega))
  · exact q
  · simp only [g_X6_house_44_b, g_X6_house_72, g_m2, h2, nleF hi (show n < 2 ^ 31 by omega), g_oW2 (M := M) (show i < 12 by omega), bd_at, zl_at, zb2_at, nI_1]
    split <;> simp_all
  · simp only [g_X6_house_44_b, g_m2, h2, bd_at, Int32.le_refl, if_true]
    exact he acc
theorem op_house (I : RI c N U) (R : yRM N U (M.2 0)) (p q : Int32) : ∃ r v t, h_X1_house N p q U = some (r, U) ∧ g_X6_house p q M = some (v, mset M 0 t) ∧ yans cdA r v t := by
  have n0 := RI_n0 I
  have n1 := RI_n1 I
  have h31 : N 0 < 2 ^ 31 := by omega
  rcases (show (p < 0 ∨ nI (N 0) ≤ p) ∨ ∃ j : Nat, j < N 0 ∧ p = nI j from or_assoc.mpr (pk_ix p h31)) with hp | ⟨j, hj, rfl⟩
  · refine ⟨.inr 2, 0, 1, ?_, ?_, rfl⟩
    · unfold h_X1_house
      rw [h_houseAt_no (RI_hou I) hp h31, zbt_r]
    · unfold g_X6_house
      rw [g_house_no (RM_m1 R) hp h31, zb2_at]
      rfl
  · by_cases hq : (0 : Int32) ≤ q ∧ q ≤ 2
    · obtain ⟨w, hw, rfl⟩ := x_upto (b := 2) (by omega) hq
      have E1 : h_X1_house N (nI j) (nI w) U = (if ¬ nI w = 0 then
          if ¬ nI w = 2 then
            h_X1_house_43 N (nI j) 0 0 U
          else
            zb2 (h_X2_beads N (nI j) U) fun x8 U9 =>
            some (.inl x8, U9)
        else
          (uL U 0 8 (nI j)).bind fun x10 =>
          some (.inl x10, U)) := by
        unfold h_X1_house
        rw [h_houseAt_ok (RI_hou I) hj h31, zbt_i, h_asked1 hq, zbt_i]
      have E2 : g_X6_house (nI j) (nI w) M = g_X6_house_44 (nI j) (nI w) 0 0 (mset M 0 0) := by
        unfold g_X6_house g_X6_house_27
        rw [g_house_ok (RM_m1 R) hj h31, zb2_at, if_pos ne10, g_in1 hq, zb2_at, if_pos ne10, zl_at, m_set1, if_pos le00]
      rw [E1, E2]
      have hw3 : w = 0 ∨ w = 1 ∨ w = 2 := by omega
      rcases hw3 with rfl | rfl | rfl
      · refine ⟨.inl (U.2 0 j), U.2 0 j, 0, ?_, ?_, ⟨rfl, rfl⟩⟩
        · rw [if_neg (fun q => q rfl), uL_at (by omega) (by omega)]; rfl
        · refine g_house44_skip (M := mset M 0 0) (n := N 1) (RM_m2 R) n1 _ _ _ fun a => ?_
          rw [if_neg (fun q => q rfl), g_mD (M := mset M 0 0) (show j < 8 by omega)]
          show some ((M.2 0 (12 + j), mset M 0 0)) = _
          rw [RM_mD R j (by omega)]
      · refine ⟨.inl (ysm (N 1) (fun e => if U.2 1 (4 * e + 3) = nI j then 1 else 0)), _, 0, ?_, g_houseW (M := mset M 0 0) (RM_m2 R) n1 (nI j), rfl, ?_⟩
        · rw [if_pos (by decide), if_pos (by decide), h_houseW n1]
        · refine sm_eq fun e he => ?_
          show (if M.2 0 (20 + 4 * e + 2) = nI j then (1 : Int32) else 0) = _
          rw [(RM_mW R e he).2.2.1]
      · obtain ⟨v, e1, e2⟩ := op_beads (M := mset M 0 0) I R (nI j)
        refine ⟨.inl v, v, 0, ?_, ?_, ⟨rfl, rfl⟩⟩
        · rw [if_pos (by decide), if_neg (fun q => q rfl), e1]; rfl
        · refine g_house44_skip (M := mset M 0 0) (n := N 1) (RM_m2 R) n1 _ _ _ fun a => ?_
          rw [if_pos (by decide), if_pos (by decide), e2]; rfl
    · refine ⟨.inr 3, 0, 2, ?_, ?_, rfl⟩
      · unfold h_X1_house
        rw [h_houseAt_ok (RI_hou I) hj h31, zbt_i, h_asked0 hq, zbt_r]
      · unfold g_X6_house
        rw [g_house_ok (RM_m1 R) hj h31, zb2_at, if_pos ne10, g_in0 hq, zb2_at]
        rfl
end T4
section T5
variable {c : Nat} {N : Nat → Nat} {U : cU} {M : mS}
theorem ix_cases (x : Int32) {n : Nat} (h : n < 2 ^ 31) : (x < 0 ∨ nI n ≤ x) ∨ ∃ j : Nat, j < n ∧ x = nI j := or_assoc.mpr (pk_ix x h)
/-- the latest day, by the rows of two functions -/
def ld (who day : Nat → Int32) (w : Int32) : Nat → Int32
  | 0 => -1
  | n + 1 => if who n = w then day n else ld who day w n
theorem ld_eq {a b a' b' : Nat → Int32} {w : Int32} {n : Nat} (h : ∀ e, e < n → a e = a' e ∧ b e = b' e) : ld a b w n = ld a' b' w n := by
  induction n with
  | zero => rfl
  | succ n ih =>
    show (if a n = w then b n else ld a b w n) = (if a' n = w then b' n else ld a' b' w n)
    rw [(h n (by omega)).1, (h n (by omega)).2, ih fun e he => h e (by omega)]
theorem h_last (h4 : N 4 ≤ 60) (w : Int32) : ∀ k, k ≤ N 4 → ∀ f, k < f → zlp1 (h_X1_walker_98_b N w) f (nI k - 1) U = some (.inl (ld (fun e => U.2 4 (8 * e + 2)) (fun e => U.2 4 (8 * e + 1)) w k), U) := by
  intro k
  induction k with
  | zero =>
    intro _ f hf
    obtain ⟨f, rfl⟩ : ∃ f', f = f' + 1 := ⟨f - 1, by omega⟩
    rw [zlp1_s]
    unfold h_X1_walker_98_b
    rw [if_pos (show nI 0 - 1 < 0 by decide)]
    rfl
  | succ k ih =>
    intro hk f hf
    obtain ⟨f, rfl⟩ : ∃ f', f = f' + 1 := ⟨f - 1, by omega⟩
    have ih' := ih (by omega) f (by omega)
    rw [zlp1_s]
    generalize zlp1 (h_X1_walker_98_b N w) f = rf at ih' ⊢
    unfold h_X1_walker_98_b
    rw [nI_pred, if_neg (nI_pos (by omega)), vix_at (show k < N 4 by omega) (by omega), bd_at, bd_at, zl_at, ← Int32.sub_eq_add_neg, ih']
    show (if ¬ U.2 4 (8 * k + 2) = w then _ else _) = some (Sum.inl (if U.2 4 (8 * k + 2) = w then U.2 4 (8 * k + 1) else _), U)
    by_cases e : U.2 4 (8 * k + 2) = w
    · rw [if_neg (fun q => q e), if_pos e]
    · rw [if_pos e, if_neg e]
theorem g_last {n : Nat} (h4 : M.2 0 4 = nI n) (hn : n ≤ 60) (w : Int32) : g_X6_walker_56 w (-1) 0 M = some (ld (fun e => M.2 0 (122 + 7 * e + 1)) (fun e => M.2 0 (122 + 7 * e + 0)) w n, M) := by
  unfold g_X6_walker_56
  refine zlp2_it (n := n) (fun i => ld (fun e => M.2 0 (122 + 7 * e + 1)) (fun e => M.2 0 (122 + 7 * e + 0)) w i) (fun i => nI i) (fun _ => M) (fun i rf hi => ?_) (fun rf => ?_) NN (NN_lt (by omega))
  · simp only [g_X6_walker_56_b, g_X6_walker_86, g_m4, h4, nleF hi (show n < 2 ^ 31 by omega), g_oE1 (M := M) (show i < 60 by omega), g_oE0 (M := M) (show i < 60 by omega), bd_at, zl_at, zb2_at, nI_1]
    show _ = rf (if M.2 0 (122 + 7 * i + 1) = w then _ else _) _ _
    by_cases e : M.2 0 (122 + 7 * i + 1) = w
    · rw [if_neg (fun q => q e), if_pos e]
    · rw [if_pos e, if_neg e]
  · simp only [g_X6_walker_56_b, g_m4, h4, bd_at, Int32.le_refl, if_true]
theorem op_walker (I : RI c N U) (R : yRM N U (M.2 0)) (p q : Int32) : ∃ r v t, h_X1_walker N p q U = some (r, U) ∧ g_X6_walker p q M = some (v, mset M 0 t) ∧ yans cdA r v t := by
  have n1 := RI_n1 I
  have n4 := RI_n4 I
  have h31 : N 1 < 2 ^ 31 := by omega
  rcases ix_cases p h31 with hp | ⟨j, hj, rfl⟩
  · refine ⟨.inr 2, 0, 1, ?_, ?_, rfl⟩
    · unfold h_X1_walker
      rw [ofN, h_there_no hp h31, zbt_r]
    · unfold g_X6_walker
      rw [g_walker_no (RM_m2 R) hp h31, zb2_at]
      rfl
  · by_cases hq : (0 : Int32) ≤ q ∧ q ≤ 4
    · obtain ⟨w, hw, rfl⟩ := x_upto (b := 4) (by omega) hq
      have E1 : h_X1_walker N (nI j) (nI w) U = (if (nI w).toInt < 0 ∨ 3 < (nI w).toInt then
          zl ((Int32.ofNat (N 4)) - 1) fun x6 =>
          h_X1_walker_98 N (nI j) x6 U
        else if nI w = 0 then
          some (.inl (U.2 1 (4 * j)), U)
        else if nI w = 1 then
          some (.inl (U.2 1 (4 * j + 1)), U)
        else if nI w = 2 then
          some (.inl (U.2 1 (4 * j + 3)), U)
        else if nI w = 3 then
          some (.inl (U.2 1 (4 * j + 2)), U)
        else none) := by
        unfold h_X1_walker
        rw [ofN, h_there_ok hj h31, zbt_i, h_asked1 hq, zbt_i, vix_at hj h31, bd_at]
      have E2 : g_X6_walker (nI j) (nI w) M = (if 4 ≤ nI w then
          g_X6_walker_56 (nI j) (-1) 0 (mset M 0 0)
        else
          zb2 (g_X6_ofWalker (nI j) (nI w) (mset M 0 0)) fun x12 M13 =>
          some (x12, M13)) := by
        unfold g_X6_walker g_X6_walker_27
        rw [g_walker_ok (RM_m2 R) hj h31, zb2_at, if_pos ne10, g_in1 hq, zb2_at, if_pos ne10, zl_at, m_set1, if_pos le00]
      rw [E1, E2]
      obtain ⟨r0, r1, r2, r3⟩ := RM_mW R j hj
      have hw3 : w = 0 ∨ w = 1 ∨ w = 2 ∨ w = 3 ∨ w = 4 := by omega
      rcases hw3 with rfl | rfl | rfl | rfl | rfl
      · exact ⟨.inl (U.2 1 (4 * j)), _, 0, rfl, by rw [if_neg (by decide), g_oWw (by omega) (by decide)]; rfl, rfl, r0⟩
      · exact ⟨.inl (U.2 1 (4 * j + 1)), _, 0, rfl, by rw [if_neg (by decide), g_oWw (by omega) (by decide)]; rfl, rfl, r1⟩
      · exact ⟨.inl (U.2 1 (4 * j + 3)), _, 0, rfl, by rw [if_neg (by decide), g_oWw (by omega) (by decide)]; rfl, rfl, r2⟩
      · exact ⟨.inl (U.2 1 (4 * j + 2)), _, 0, rfl, by rw [if_neg (by decide), g_oWw (by omega) (by decide)]; rfl, rfl, r3⟩
      · refine ⟨.inl (ld (fun e => U.2 4 (8 * e + 2)) (fun e => U.2 4 (8 * e + 1)) (nI j) (N 4)), ld (fun e => M.2 0 (122 + 7 * e + 1)) (fun e => M.2 0 (122 + 7 * e + 0)) (nI j) (N 4), 0, ?_, ?_, rfl, ?_⟩
        · rw [if_pos (by decide), zl_at]
          exact h_last n4 _ (N 4) (Nat.le_refl _) NN (NN_lt (by omega))
        · rw [if_pos (by decide)]
          exact g_last (M := mset M 0 0) (n := N 4) (RM_m4 R) n4 (nI j)
        · exact ld_eq fun e he => ⟨(RM_mE R e he).2.1, (RM_mE R e he).1⟩
    · refine ⟨.inr 3, 0, 2, ?_, ?_, rfl⟩
      · unfold h_X1_walker
        rw [ofN, h_there_ok hj h31, zbt_i, h_asked0 hq, zbt_r]
      · unfold g_X6_walker
        rw [g_walker_ok (RM_m2 R) hj h31, zb2_at, if_pos ne10, g_in0 hq, zb2_at]
        rfl
theorem op_entry (I : RI c N U) (R : yRM N U (M.2 0)) (p q : Int32) : ∃ r v t, h_X1_entry N p q U = some (r, U) ∧ g_X6_entry p q M = some (v, mset M 0 t) ∧ yans cdA r v t := by
  have n4 := RI_n4 I
  have h31 : N 4 < 2 ^ 31 := by omega
  rcases ix_cases p h31 with hp | ⟨j, hj, rfl⟩
  · refine ⟨.inr 2, 0, 1, ?_, ?_, rfl⟩
    · unfold h_X1_entry
      rw [ofN, h_there_no hp h31, zbt_r]
    · unfold g_X6_entry
      rw [g_entry_no (RM_m4 R) hp h31, zb2_at]
      rfl
  · by_cases hq : (0 : Int32) ≤ q ∧ q ≤ 5
    · obtain ⟨w, hw, rfl⟩ := x_upto (b := 5) (by omega) hq
      have E1 : h_X1_entry N (nI j) (nI w) U = (if ¬ nI w = 5 then
          if (U.2 4 (8 * j + 7)) = 0 then
            if (nI w).toInt < 0 ∨ 3 < (nI w).toInt then
              if (U.2 4 (8 * j + 6)) = 0 then
                some (.inl (0 : Int32), U)
              else
                some (.inl (1 : Int32), U)
            else if nI w = 0 then
              some (.inl (U.2 4 (8 * j + 1)), U)
            else if nI w = 1 then
              some (.inl (U.2 4 (8 * j + 2)), U)
            else if nI w = 2 then
              some (.inl (U.2 4 (8 * j + 3)), U)
            else if nI w = 3 then
              some (.inl (U.2 4 (8 * j + 4)), U)
            else none
          else
            some (.inl ((-1) : Int32), U)
        else
          some (.inl (U.2 4 (8 * j + 5)), U)) := by
        unfold h_X1_entry
        rw [ofN, h_there_ok hj h31, zbt_i, h_asked1 hq, zbt_i, vix_at hj h31, bd_at]
      have E2 : g_X6_entry (nI j) (nI w) M = (if ¬ M.2 0 (122 + 7 * j + 6) = 1 then
          some (M.2 0 (122 + 7 * j + w), mset M 0 0)
        else
          if 5 ≤ nI w then
            some (M.2 0 (122 + 7 * j + w), mset M 0 0)
          else
            some (((-1) : Int32), mset M 0 0)) := by
        unfold g_X6_entry g_X6_entry_27 g_X6_entry_59
        rw [g_entry_ok (RM_m4 R) hj h31, zb2_at, if_pos ne10, g_in1 hq, zb2_at, if_pos ne10, zl_at, m_set1, if_pos le00, g_oE6 (M := mset M 0 0) (by omega), zb2_at, g_oEw (M := mset M 0 0) (by omega) (by omega), zb2_at]
        rfl
      rw [E1, E2]
      obtain ⟨r0, r1, r2, r3, r4, r5, r6⟩ := RM_mE R j hj
      obtain ⟨-, -, -, -, -, -, -, -, i6, i7⟩ := RI_ent I j hj
      obtain ⟨b, hb, e7⟩ := i7
      obtain ⟨d, hd, e6⟩ := i6
      have hw3 : w = 0 ∨ w = 1 ∨ w = 2 ∨ w = 3 ∨ w = 4 ∨ w = 5 := by omega
      have hb2 : b = 0 ∨ b = 1 := by omega
      have hd2 : d = 0 ∨ d = 1 := by omega
      rw [r6, e7]
      rcases hb2 with rfl | rfl
      · rw [if_pos (show ¬ nI 0 = 1 by decide), if_pos (show nI 0 = 0 from rfl)]
        rcases hw3 with rfl | rfl | rfl | rfl | rfl | rfl
        · exact ⟨.inl (U.2 4 (8 * j + 1)), _, 0, rfl, rfl, rfl, r0⟩
        · exact ⟨.inl (U.2 4 (8 * j + 2)), _, 0, rfl, rfl, rfl, r1⟩
        · exact ⟨.inl (U.2 4 (8 * j + 3)), _, 0, rfl, rfl, rfl, r2⟩
        · exact ⟨.inl (U.2 4 (8 * j + 4)), _, 0, rfl, rfl, rfl, r3⟩
        · rcases hd2 with rfl | rfl
          · exact ⟨.inl 0, _, 0, by rw [e6]; rfl, rfl, rfl, by rw [r4, e6]; rfl⟩
          · exact ⟨.inl 1, _, 0, by rw [e6]; rfl, rfl, rfl, by rw [r4, e6]; rfl⟩
        · exact ⟨.inl (U.2 4 (8 * j + 5)), _, 0, rfl, rfl, rfl, r5⟩
      · rw [if_neg (show ¬ ¬ nI 1 = 1 by decide), if_neg (show ¬ nI 1 = 0 by decide)]
        rcases hw3 with rfl | rfl | rfl | rfl | rfl | rfl
        · exact ⟨.inl (-1), -1, 0, rfl, rfl, rfl, rfl⟩
        · exact ⟨.inl (-1), -1, 0, rfl, rfl, rfl, rfl⟩
        · exact ⟨.inl (-1), -1, 0, rfl, rfl, rfl, rfl⟩
        · exact ⟨.inl (-1), -1, 0, rfl, rfl, rfl, rfl⟩
        · exact ⟨.inl (-1), -1, 0, rfl, rfl, rfl, rfl⟩
        · exact ⟨.inl (U.2 4 (8 * j + 5)), _, 0, rfl, rfl, rfl, r5⟩
    · refine ⟨.inr 3, 0, 2, ?_, ?_, rfl⟩
      · unfold h_X1_entry
        rw [ofN, h_there_ok hj h31, zbt_i, h_asked0 hq, zbt_r]
      · unfold g_X6_entry
        rw [g_entry_ok (RM_m4 R) hj h31, zb2_at, if_pos ne10, g_in0 hq, zb2_at]
        rfl
end T5
