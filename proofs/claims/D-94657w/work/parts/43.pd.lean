/-! pure land: B1 B2 (see wip/D-94657w/pl) -/
def bcN (n : Nat) : Nat :=
  (fun x5 : Nat => x5 &&& 63) ((fun x4 : Nat => x4 + x4 / 2 ^ 16) ((fun x3 : Nat => x3 + x3 / 2 ^ 8) ((fun x2 : Nat => (x2 + x2 / 2 ^ 4) &&& 252645135) ((fun x1 : Nat => (x1 &&& 858993459) + (x1 / 2 ^ 2 &&& 858993459)) (n - (n / 2 ^ 1 &&& 1431655765))))))
/-- how many of the first n bits are set -/
def pcn : Nat → Nat → Nat
  | 0, _ => 0
  | n + 1, s => s % 2 + pcn n (s / 2)
/-- the same in the kernel's own words -/
def bcR (n : Nat) : Nat :=
  (fun x5 : Nat => Nat.land x5 63) ((fun x4 : Nat => Nat.add x4 (Nat.div x4 65536)) ((fun x3 : Nat => Nat.add x3 (Nat.div x3 256)) ((fun x2 : Nat => Nat.land (Nat.add x2 (Nat.div x2 16)) 252645135) ((fun x1 : Nat => Nat.add (Nat.land x1 858993459) (Nat.land (Nat.div x1 4) 858993459)) (Nat.sub n (Nat.land (Nat.div n 2) 1431655765))))))
theorem bcN_R (n : Nat) : bcN n = bcR n := rfl
def allR : Nat → (Nat → Bool) → Bool
  | 0, _ => true
  | n + 1, p => and (p n) (allR n p)
theorem allR_at {p : Nat → Bool} : ∀ n, allR n p = true → ∀ i, i < n → p i = true := by
  intro n
  induction n with
  | zero => intro _ i hi; omega
  | succ n ih =>
    intro h i hi
    have h' : (p n && allR n p) = true := h
    rw [Bool.and_eq_true] at h'
    by_cases z : i = n
    · subst z; exact h'.1
    · exact ih h'.2 i (by omega)
def ckR (k a b : Nat) : Bool := (fun n => Nat.beq (bcR n) (Nat.add (Nat.mod n 2) (bcR (Nat.div n 2)))) (Nat.add (Nat.mul 4096 k) (Nat.add (Nat.mul 64 a) b))
set_option maxRecDepth 100000
theorem ck_0 : allR 64 (fun a => allR 64 (fun b => ckR 0 a b)) = true := by decide +kernel
theorem ck_1 : allR 64 (fun a => allR 64 (fun b => ckR 1 a b)) = true := by decide +kernel
theorem ck_2 : allR 64 (fun a => allR 64 (fun b => ckR 2 a b)) = true := by decide +kernel
theorem ck_3 : allR 64 (fun a => allR 64 (fun b => ckR 3 a b)) = true := by decide +kernel
theorem ck_4 : allR 64 (fun a => allR 64 (fun b => ckR 4 a b)) = true := by decide +kernel
theorem ck_5 : allR 64 (fun a => allR 64 (fun b => ckR 5 a b)) = true := by decide +kernel
theorem ck_6 : allR 64 (fun a => allR 64 (fun b => ckR 6 a b)) = true := by decide +kernel
theorem ck_7 : allR 64 (fun a => allR 64 (fun b => ckR 7 a b)) = true := by decide +kernel
theorem ck_8 : allR 64 (fun a => allR 64 (fun b => ckR 8 a b)) = true := by decide +kernel
theorem ck_9 : allR 64 (fun a => allR 64 (fun b => ckR 9 a b)) = true := by decide +kernel
theorem ck_10 : allR 64 (fun a => allR 64 (fun b => ckR 10 a b)) = true := by decide +kernel
theorem ck_11 : allR 64 (fun a => allR 64 (fun b => ckR 11 a b)) = true := by decide +kernel
theorem ck_12 : allR 64 (fun a => allR 64 (fun b => ckR 12 a b)) = true := by decide +kernel
theorem ck_13 : allR 64 (fun a => allR 64 (fun b => ckR 13 a b)) = true := by decide +kernel
theorem ck_14 : allR 64 (fun a => allR 64 (fun b => ckR 14 a b)) = true := by decide +kernel
theorem ck_15 : allR 64 (fun a => allR 64 (fun b => ckR 15 a b)) = true := by decide +kernel
theorem ck_all : ∀ k, k < 16 → allR 64 (fun a => allR 64 (fun b => ckR k a b)) = true := by
  intro k hk
  match k, hk with
  | 0, _ => exact ck_0
  | 1, _ => exact ck_1
  | 2, _ => exact ck_2
  | 3, _ => exact ck_3
  | 4, _ => exact ck_4
  | 5, _ => exact ck_5
  | 6, _ => exact ck_6
  | 7, _ => exact ck_7
  | 8, _ => exact ck_8
  | 9, _ => exact ck_9
  | 10, _ => exact ck_10
  | 11, _ => exact ck_11
  | 12, _ => exact ck_12
  | 13, _ => exact ck_13
  | 14, _ => exact ck_14
  | 15, _ => exact ck_15
  | k + 16, h => exact absurd h (by omega)
theorem bcR_step {n : Nat} (h : n < 65536) : bcR n = n % 2 + bcR (n / 2) := by
  have h1 := allR_at 64 (allR_at 64 (ck_all (n / 4096) (by omega)) (n / 64 % 64) (by omega)) (n % 64) (by omega)
  have e : 4096 * (n / 4096) + (64 * (n / 64 % 64) + n % 64) = n := by omega
  have h2 : Nat.beq (bcR (4096 * (n / 4096) + (64 * (n / 64 % 64) + n % 64))) ((4096 * (n / 4096) + (64 * (n / 64 % 64) + n % 64)) % 2 + bcR ((4096 * (n / 4096) + (64 * (n / 64 % 64) + n % 64)) / 2)) = true := h1
  rw [e] at h2
  exact Nat.eq_of_beq_eq_true h2
theorem bcN_pc : ∀ k n, n < 2 ^ k → k ≤ 16 → bcN n = pcn k n := by
  intro k
  induction k with
  | zero => intro n h _; obtain rfl : n = 0 := by omega
            rfl
  | succ k ih =>
    intro n h hk
    have h16 : 2 ^ (k + 1) ≤ 2 ^ 16 := Nat.pow_le_pow_right (by omega) hk
    rw [bcN_R, bcR_step (by omega)]
    show _ = n % 2 + pcn k (n / 2)
    rw [← ih (n / 2) (by rw [Nat.pow_succ] at h; omega) (by omega), bcN_R]
def allB : Nat → (Nat → Bool) → Bool
  | 0, _ => true
  | n + 1, p => p n && allB n p
theorem allB_at {p : Nat → Bool} : ∀ n, allB n p = true → ∀ i, i < n → p i = true := by
  intro n
  induction n with
  | zero => intro _ i hi; omega
  | succ n ih =>
    intro h i hi
    have h' : (p n && allB n p) = true := h
    rw [Bool.and_eq_true] at h'
    by_cases z : i = n
    · subst z; exact h'.1
    · exact ih h'.2 i (by omega)
set_option maxRecDepth 100000
theorem sub_next_d : ∀ F, F < 64 → ∀ s, s < 64 → (! Nat.beq (s &&& F) s || allB s (fun t => ! Nat.beq (t &&& F) t || Nat.ble t ((s - 1) &&& F))) = true := by decide +kernel
theorem sub_next {F s t : Nat} (hF : F < 64) (hs : s < 64) (h1 : s &&& F = s) (h2 : t &&& F = t) (h3 : t < s) : t ≤ (s - 1) &&& F := by
  have h := sub_next_d F hF s hs
  rw [show Nat.beq (s &&& F) s = true by rw [h1]; exact Nat.beq_refl s] at h
  have h := allB_at s h t h3
  rw [show Nat.beq (t &&& F) t = true by rw [h2]; exact Nat.beq_refl t] at h
  exact Nat.le_of_ble_eq_true h
