/-! pure land: P6 P7 P8 P9 (see wip/D-94657w/pl) -/
section T6
variable {c : Nat} {N : Nat → Nat} {U : cU} {M : mS} {m : Nat → Int32}
/-- a place of the row is written -/
def ms (M : mS) (k : Nat) (x : Int32) : mS := (M.1, fun q => if q = 0 then upd (M.2 0) k x else M.2 q)
theorem ms_0 {k : Nat} {x : Int32} : (ms M k x).2 0 = upd (M.2 0) k x := rfl
theorem ms_1 {k : Nat} {x : Int32} : (ms M k x).1 = M.1 := rfl
theorem g_set {k : Nat} {x : Int32} (hk : k < 942) : mSt M 0 (nI k) x = some (ms M k x) := by
  unfold mSt
  have h1 : ¬ (nI k < 0 ∨ mAL 0 ≤ (nI k).toNatClampNeg) := nI_in hk (by decide)
  rw [if_neg h1, nI_clamp (by omega)]
  rfl
theorem uSt_at {t n i : Nat} {x : Int32} (hi : i < n) (hn : n < 2 ^ 31) : uSt U t n (nI i) x = some (utab U t i x) := by unfold uSt; rw [if_neg (nI_in hi hn), nI_clamp (by omega)]
theorem g_sD {h : Nat} {x : Int32} (hh : h < 8) : mSt M 0 (12 + nI h) x = some (ms M (12 + h) x) := by rw [show (12 : Int32) = nI 12 from rfl, nI_add]; exact g_set (by omega)
theorem g_s4 {k : Nat} {x : Int32} (hk : k < 10) : mSt M 0 (nI k) x = some (ms M k x) := g_set (by omega)
theorem i_lin {a b d i : Nat} : nI a + nI b * nI i + nI d = nI (a + b * i + d) := by rw [nI_mul, nI_add, nI_add]
theorem g_sT {t d : Nat} {x : Int32} (ht : t < 10) (hd : d < 3) : mSt M 0 (68 + 3 * nI t + nI d) x = some (ms M (68 + 3 * t + d) x) := by
  rw [show (68 : Int32) = nI 68 from rfl, show (3 : Int32) = nI 3 from rfl, i_lin]; exact g_set (by omega)
theorem g_lT {t d : Nat} (ht : t < 10) (hd : d < 3) : mL M 0 (68 + 3 * nI t + nI d) = some (M.2 0 (68 + 3 * t + d)) := by
  rw [show (68 : Int32) = nI 68 from rfl, show (3 : Int32) = nI 3 from rfl, i_lin]; exact mL_n (show _ < 942 by omega) (by omega)
theorem g_sW {i d : Nat} {x : Int32} (hi : i < 12) (hd : d < 4) : mSt M 0 (20 + 4 * nI i + nI d) x = some (ms M (20 + 4 * i + d) x) := by
  rw [show (20 : Int32) = nI 20 from rfl, show (4 : Int32) = nI 4 from rfl, i_lin]; exact g_set (by omega)
theorem g_sE {e d : Nat} {x : Int32} (he : e < 60) (hd : d < 7) : mSt M 0 (122 + 7 * nI e + nI d) x = some (ms M (122 + 7 * e + d) x) := by
  rw [show (122 : Int32) = nI 122 from rfl, show (7 : Int32) = nI 7 from rfl, i_lin]; exact g_set (by omega)
theorem RM_scr {U' : cU} (R : yRM N U m) (h1 : ∀ k, k < 7 → U'.1 k = U.1 k) (h2 : ∀ t, t < 5 → U'.2 t = U.2 t) : yRM N U' m := by
  unfold yRM
  rw [h1 0 (by omega), h1 2 (by omega), h1 3 (by omega), h1 4 (by omega), h1 5 (by omega), h2 0 (by omega), h2 1 (by omega), h2 2 (by omega), h2 3 (by omega), h2 4 (by omega)]
  exact R
theorem RI_scr {U' : cU} (R : RI c N U) (h1 : ∀ k, k < 7 → k ≠ 5 → U'.1 k = U.1 k) (h2 : ∀ t, t < 5 → U'.2 t = U.2 t) : RI c N U' := by
  unfold RI
  rw [h1 0 (by omega) (by omega), h1 1 (by omega) (by omega), h1 2 (by omega) (by omega), h1 3 (by omega) (by omega), h1 4 (by omega) (by omega), h1 6 (by omega) (by omega), h2 0 (by omega), h2 1 (by omega), h2 2 (by omega), h2 3 (by omega), h2 4 (by omega)]
  exact R
theorem RI_mono {c' : Nat} (h : c ≤ c') (I : RI c N U) : RI c' N U := by
  obtain ⟨n0, n1, n2, n3, n4, hou, txt, lim, rst, day, ser, deb, wal, tur, off, ent, bur⟩ := I
  refine ⟨n0, n1, n2, n3, n4, hou, txt, lim, rst, bd_mono day (by omega), bd_mono ser (by omega), fun h hh => bd_mono (deb h hh) (by omega), wal, fun t ht => ?_, off, fun e he => ?_, bur⟩
  · obtain ⟨a, b, d, e⟩ := tur t ht
    exact ⟨a, b, bd_mono d (by omega), e⟩
  · obtain ⟨a, b, d, e⟩ := ent e he
    exact ⟨bdp_mono a (by omega), b, bd_mono d (by omega), e⟩
theorem upd_at {f : Nat → Int32} {k : Nat} {x : Int32} : upd f k x k = x := if_pos rfl
theorem upd_no {f : Nat → Int32} {k j : Nat} {x : Int32} (h : j ≠ k) : upd f k x j = f j := if_neg h

theorem RM_day {x : Int32} (I : RI c N U) (R : yRM N U m) : yRM N (uset U 4 x) (upd m (8) x) := by
  have n0 := RI_n0 I
  have n1 := RI_n1 I
  have n2 := RI_n2 I
  have n3 := RI_n3 I
  have n4 := RI_n4 I
  obtain ⟨r0, r1, r2, r3, r4, r5, r6, r7, r8, r9, rD, rW, rT, rF, rE⟩ := R
  refine ⟨by rw [upd_no (by omega)]; exact r0,
    by rw [upd_no (by omega)]; exact r1,
    by rw [upd_no (by omega)]; exact r2,
    by rw [upd_no (by omega)]; exact r3,
    by rw [upd_no (by omega)]; exact r4,
    by rw [upd_no (by omega)]; exact r5,
    by rw [upd_no (by omega)]; exact r6,
    by rw [upd_no (by omega)]; exact r7,
    by rw [upd_at]; rfl,
    by rw [upd_no (by omega)]; exact r9,
    fun h hh => by rw [upd_no (by omega)]; exact rD h hh,
    fun i hi => by obtain ⟨a, b, d, e⟩ := rW i hi; exact ⟨by rw [upd_no (by omega)]; exact a, by rw [upd_no (by omega)]; exact b, by rw [upd_no (by omega)]; exact d, by rw [upd_no (by omega)]; exact e⟩,
    fun i hi => by obtain ⟨a, b, k, hk, d, e⟩ := rT i hi; exact ⟨by rw [upd_no (by omega)]; exact a, by rw [upd_no (by omega)]; exact b, k, hk, by rw [upd_no (by omega)]; exact d, e⟩,
    fun i hi => by obtain ⟨a, b⟩ := rF i hi; exact ⟨by rw [upd_no (by omega)]; exact a, by rw [upd_no (by omega)]; exact b⟩,
    fun i hi => by obtain ⟨a0, a1, a2, a3, a4, a5, a6⟩ := rE i hi; exact ⟨by rw [upd_no (by omega)]; exact a0, by rw [upd_no (by omega)]; exact a1, by rw [upd_no (by omega)]; exact a2, by rw [upd_no (by omega)]; exact a3, by rw [upd_no (by omega)]; exact a4, by rw [upd_no (by omega)]; exact a5, by rw [upd_no (by omega)]; exact a6⟩⟩
theorem RM_seed {x : Int32} (I : RI c N U) (R : yRM N U m) : yRM N (uset U 5 x) (upd m (9) x) := by
  have n0 := RI_n0 I
  have n1 := RI_n1 I
  have n2 := RI_n2 I
  have n3 := RI_n3 I
  have n4 := RI_n4 I
  obtain ⟨r0, r1, r2, r3, r4, r5, r6, r7, r8, r9, rD, rW, rT, rF, rE⟩ := R
  refine ⟨by rw [upd_no (by omega)]; exact r0,
    by rw [upd_no (by omega)]; exact r1,
    by rw [upd_no (by omega)]; exact r2,
    by rw [upd_no (by omega)]; exact r3,
    by rw [upd_no (by omega)]; exact r4,
    by rw [upd_no (by omega)]; exact r5,
    by rw [upd_no (by omega)]; exact r6,
    by rw [upd_no (by omega)]; exact r7,
    by rw [upd_no (by omega)]; exact r8,
    by rw [upd_at]; rfl,
    fun h hh => by rw [upd_no (by omega)]; exact rD h hh,
    fun i hi => by obtain ⟨a, b, d, e⟩ := rW i hi; exact ⟨by rw [upd_no (by omega)]; exact a, by rw [upd_no (by omega)]; exact b, by rw [upd_no (by omega)]; exact d, by rw [upd_no (by omega)]; exact e⟩,
    fun i hi => by obtain ⟨a, b, k, hk, d, e⟩ := rT i hi; exact ⟨by rw [upd_no (by omega)]; exact a, by rw [upd_no (by omega)]; exact b, k, hk, by rw [upd_no (by omega)]; exact d, e⟩,
    fun i hi => by obtain ⟨a, b⟩ := rF i hi; exact ⟨by rw [upd_no (by omega)]; exact a, by rw [upd_no (by omega)]; exact b⟩,
    fun i hi => by obtain ⟨a0, a1, a2, a3, a4, a5, a6⟩ := rE i hi; exact ⟨by rw [upd_no (by omega)]; exact a0, by rw [upd_no (by omega)]; exact a1, by rw [upd_no (by omega)]; exact a2, by rw [upd_no (by omega)]; exact a3, by rw [upd_no (by omega)]; exact a4, by rw [upd_no (by omega)]; exact a5, by rw [upd_no (by omega)]; exact a6⟩⟩
theorem RM_lim {x : Int32} (I : RI c N U) (R : yRM N U m) : yRM N (uset U 2 x) (upd m (6) x) := by
  have n0 := RI_n0 I
  have n1 := RI_n1 I
  have n2 := RI_n2 I
  have n3 := RI_n3 I
  have n4 := RI_n4 I
  obtain ⟨r0, r1, r2, r3, r4, r5, r6, r7, r8, r9, rD, rW, rT, rF, rE⟩ := R
  refine ⟨by rw [upd_no (by omega)]; exact r0,
    by rw [upd_no (by omega)]; exact r1,
    by rw [upd_no (by omega)]; exact r2,
    by rw [upd_no (by omega)]; exact r3,
    by rw [upd_no (by omega)]; exact r4,
    by rw [upd_no (by omega)]; exact r5,
    by rw [upd_at]; rfl,
    by rw [upd_no (by omega)]; exact r7,
    by rw [upd_no (by omega)]; exact r8,
    by rw [upd_no (by omega)]; exact r9,
    fun h hh => by rw [upd_no (by omega)]; exact rD h hh,
    fun i hi => by obtain ⟨a, b, d, e⟩ := rW i hi; exact ⟨by rw [upd_no (by omega)]; exact a, by rw [upd_no (by omega)]; exact b, by rw [upd_no (by omega)]; exact d, by rw [upd_no (by omega)]; exact e⟩,
    fun i hi => by obtain ⟨a, b, k, hk, d, e⟩ := rT i hi; exact ⟨by rw [upd_no (by omega)]; exact a, by rw [upd_no (by omega)]; exact b, k, hk, by rw [upd_no (by omega)]; exact d, e⟩,
    fun i hi => by obtain ⟨a, b⟩ := rF i hi; exact ⟨by rw [upd_no (by omega)]; exact a, by rw [upd_no (by omega)]; exact b⟩,
    fun i hi => by obtain ⟨a0, a1, a2, a3, a4, a5, a6⟩ := rE i hi; exact ⟨by rw [upd_no (by omega)]; exact a0, by rw [upd_no (by omega)]; exact a1, by rw [upd_no (by omega)]; exact a2, by rw [upd_no (by omega)]; exact a3, by rw [upd_no (by omega)]; exact a4, by rw [upd_no (by omega)]; exact a5, by rw [upd_no (by omega)]; exact a6⟩⟩
theorem RM_rst {x : Int32} (I : RI c N U) (R : yRM N U m) : yRM N (uset U 3 x) (upd m (7) x) := by
  have n0 := RI_n0 I
  have n1 := RI_n1 I
  have n2 := RI_n2 I
  have n3 := RI_n3 I
  have n4 := RI_n4 I
  obtain ⟨r0, r1, r2, r3, r4, r5, r6, r7, r8, r9, rD, rW, rT, rF, rE⟩ := R
  refine ⟨by rw [upd_no (by omega)]; exact r0,
    by rw [upd_no (by omega)]; exact r1,
    by rw [upd_no (by omega)]; exact r2,
    by rw [upd_no (by omega)]; exact r3,
    by rw [upd_no (by omega)]; exact r4,
    by rw [upd_no (by omega)]; exact r5,
    by rw [upd_no (by omega)]; exact r6,
    by rw [upd_at]; rfl,
    by rw [upd_no (by omega)]; exact r8,
    by rw [upd_no (by omega)]; exact r9,
    fun h hh => by rw [upd_no (by omega)]; exact rD h hh,
    fun i hi => by obtain ⟨a, b, d, e⟩ := rW i hi; exact ⟨by rw [upd_no (by omega)]; exact a, by rw [upd_no (by omega)]; exact b, by rw [upd_no (by omega)]; exact d, by rw [upd_no (by omega)]; exact e⟩,
    fun i hi => by obtain ⟨a, b, k, hk, d, e⟩ := rT i hi; exact ⟨by rw [upd_no (by omega)]; exact a, by rw [upd_no (by omega)]; exact b, k, hk, by rw [upd_no (by omega)]; exact d, e⟩,
    fun i hi => by obtain ⟨a, b⟩ := rF i hi; exact ⟨by rw [upd_no (by omega)]; exact a, by rw [upd_no (by omega)]; exact b⟩,
    fun i hi => by obtain ⟨a0, a1, a2, a3, a4, a5, a6⟩ := rE i hi; exact ⟨by rw [upd_no (by omega)]; exact a0, by rw [upd_no (by omega)]; exact a1, by rw [upd_no (by omega)]; exact a2, by rw [upd_no (by omega)]; exact a3, by rw [upd_no (by omega)]; exact a4, by rw [upd_no (by omega)]; exact a5, by rw [upd_no (by omega)]; exact a6⟩⟩
theorem RM_txt {x : Int32} (I : RI c N U) (R : yRM N U m) : yRM N (uset U 0 x) (upd m (0) x) := by
  have n0 := RI_n0 I
  have n1 := RI_n1 I
  have n2 := RI_n2 I
  have n3 := RI_n3 I
  have n4 := RI_n4 I
  obtain ⟨r0, r1, r2, r3, r4, r5, r6, r7, r8, r9, rD, rW, rT, rF, rE⟩ := R
  refine ⟨by rw [upd_at]; rfl,
    by rw [upd_no (by omega)]; exact r1,
    by rw [upd_no (by omega)]; exact r2,
    by rw [upd_no (by omega)]; exact r3,
    by rw [upd_no (by omega)]; exact r4,
    by rw [upd_no (by omega)]; exact r5,
    by rw [upd_no (by omega)]; exact r6,
    by rw [upd_no (by omega)]; exact r7,
    by rw [upd_no (by omega)]; exact r8,
    by rw [upd_no (by omega)]; exact r9,
    fun h hh => by rw [upd_no (by omega)]; exact rD h hh,
    fun i hi => by obtain ⟨a, b, d, e⟩ := rW i hi; exact ⟨by rw [upd_no (by omega)]; exact a, by rw [upd_no (by omega)]; exact b, by rw [upd_no (by omega)]; exact d, by rw [upd_no (by omega)]; exact e⟩,
    fun i hi => by obtain ⟨a, b, k, hk, d, e⟩ := rT i hi; exact ⟨by rw [upd_no (by omega)]; exact a, by rw [upd_no (by omega)]; exact b, k, hk, by rw [upd_no (by omega)]; exact d, e⟩,
    fun i hi => by obtain ⟨a, b⟩ := rF i hi; exact ⟨by rw [upd_no (by omega)]; exact a, by rw [upd_no (by omega)]; exact b⟩,
    fun i hi => by obtain ⟨a0, a1, a2, a3, a4, a5, a6⟩ := rE i hi; exact ⟨by rw [upd_no (by omega)]; exact a0, by rw [upd_no (by omega)]; exact a1, by rw [upd_no (by omega)]; exact a2, by rw [upd_no (by omega)]; exact a3, by rw [upd_no (by omega)]; exact a4, by rw [upd_no (by omega)]; exact a5, by rw [upd_no (by omega)]; exact a6⟩⟩
theorem RM_debt {x : Int32} {h : Nat} (hh : h < 8) (I : RI c N U) (R : yRM N U m) : yRM N (utab U 0 h x) (upd m (12 + h) x) := by
  have n0 := RI_n0 I
  have n1 := RI_n1 I
  have n2 := RI_n2 I
  have n3 := RI_n3 I
  have n4 := RI_n4 I
  obtain ⟨r0, r1, r2, r3, r4, r5, r6, r7, r8, r9, rD, rW, rT, rF, rE⟩ := R
  refine ⟨by rw [upd_no (by omega)]; exact r0,
    by rw [upd_no (by omega)]; exact r1,
    by rw [upd_no (by omega)]; exact r2,
    by rw [upd_no (by omega)]; exact r3,
    by rw [upd_no (by omega)]; exact r4,
    by rw [upd_no (by omega)]; exact r5,
    by rw [upd_no (by omega)]; exact r6,
    by rw [upd_no (by omega)]; exact r7,
    by rw [upd_no (by omega)]; exact r8,
    by rw [upd_no (by omega)]; exact r9,
    fun j hj => by
      show upd m (12 + h) x (12 + j) = upd (U.2 0) h x j
      by_cases e : j = h
      · subst e; rw [upd_at, upd_at]
      · rw [upd_no (by omega), upd_no e]; exact rD j hj,
    fun i hi => by obtain ⟨a, b, d, e⟩ := rW i hi; exact ⟨by rw [upd_no (by omega)]; exact a, by rw [upd_no (by omega)]; exact b, by rw [upd_no (by omega)]; exact d, by rw [upd_no (by omega)]; exact e⟩,
    fun i hi => by obtain ⟨a, b, k, hk, d, e⟩ := rT i hi; exact ⟨by rw [upd_no (by omega)]; exact a, by rw [upd_no (by omega)]; exact b, k, hk, by rw [upd_no (by omega)]; exact d, e⟩,
    fun i hi => by obtain ⟨a, b⟩ := rF i hi; exact ⟨by rw [upd_no (by omega)]; exact a, by rw [upd_no (by omega)]; exact b⟩,
    fun i hi => by obtain ⟨a0, a1, a2, a3, a4, a5, a6⟩ := rE i hi; exact ⟨by rw [upd_no (by omega)]; exact a0, by rw [upd_no (by omega)]; exact a1, by rw [upd_no (by omega)]; exact a2, by rw [upd_no (by omega)]; exact a3, by rw [upd_no (by omega)]; exact a4, by rw [upd_no (by omega)]; exact a5, by rw [upd_no (by omega)]; exact a6⟩⟩
theorem RM_wear {x : Int32} {t : Nat} (ht : t < N 2) (I : RI c N U) (R : yRM N U m) : yRM N (utab U 2 (3 * t + 1) x) (upd m (68 + 3 * t + 1) x) := by
  have n0 := RI_n0 I
  have n1 := RI_n1 I
  have n2 := RI_n2 I
  have n3 := RI_n3 I
  have n4 := RI_n4 I
  obtain ⟨r0, r1, r2, r3, r4, r5, r6, r7, r8, r9, rD, rW, rT, rF, rE⟩ := R
  refine ⟨by rw [upd_no (by omega)]; exact r0,
    by rw [upd_no (by omega)]; exact r1,
    by rw [upd_no (by omega)]; exact r2,
    by rw [upd_no (by omega)]; exact r3,
    by rw [upd_no (by omega)]; exact r4,
    by rw [upd_no (by omega)]; exact r5,
    by rw [upd_no (by omega)]; exact r6,
    by rw [upd_no (by omega)]; exact r7,
    by rw [upd_no (by omega)]; exact r8,
    by rw [upd_no (by omega)]; exact r9,
    fun h hh => by rw [upd_no (by omega)]; exact rD h hh,
    fun i hi => by obtain ⟨a, b, d, e⟩ := rW i hi; exact ⟨by rw [upd_no (by omega)]; exact a, by rw [upd_no (by omega)]; exact b, by rw [upd_no (by omega)]; exact d, by rw [upd_no (by omega)]; exact e⟩,
    fun i hi => by
      obtain ⟨a, b, k, hk, d, e⟩ := rT i hi
      show upd m (68 + 3 * t + 1) x (68 + 3 * i + 0) = upd (U.2 2) (3 * t + 1) x (3 * i) ∧ upd m (68 + 3 * t + 1) x (68 + 3 * i + 1) = upd (U.2 2) (3 * t + 1) x (3 * i + 1) ∧ ∃ k, k ≤ N 4 ∧ upd m (68 + 3 * t + 1) x (68 + 3 * i + 2) = nI k ∧ ∀ e, e < N 4 → (k ≤ e ↔ ¬ U.2 4 (8 * e) ≤ upd (U.2 2) (3 * t + 1) x (3 * i + 2))
      refine ⟨by rw [upd_no (by omega), upd_no (by omega)]; exact a, ?_, k, hk, by rw [upd_no (by omega)]; exact d, by rw [upd_no (by omega)]; exact e⟩
      by_cases q : i = t
      · subst q; rw [upd_at, upd_at]
      · rw [upd_no (by omega), upd_no (by omega)]; exact b,
    fun i hi => by obtain ⟨a, b⟩ := rF i hi; exact ⟨by rw [upd_no (by omega)]; exact a, by rw [upd_no (by omega)]; exact b⟩,
    fun i hi => by obtain ⟨a0, a1, a2, a3, a4, a5, a6⟩ := rE i hi; exact ⟨by rw [upd_no (by omega)]; exact a0, by rw [upd_no (by omega)]; exact a1, by rw [upd_no (by omega)]; exact a2, by rw [upd_no (by omega)]; exact a3, by rw [upd_no (by omega)]; exact a4, by rw [upd_no (by omega)]; exact a5, by rw [upd_no (by omega)]; exact a6⟩⟩
theorem RM_whouse {x : Int32} {j : Nat} (hj : j < N 1) (I : RI c N U) (R : yRM N U m) : yRM N (utab U 1 (4 * j + 3) x) (upd m (20 + 4 * j + 2) x) := by
  have n0 := RI_n0 I
  have n1 := RI_n1 I
  have n2 := RI_n2 I
  have n3 := RI_n3 I
  have n4 := RI_n4 I
  obtain ⟨r0, r1, r2, r3, r4, r5, r6, r7, r8, r9, rD, rW, rT, rF, rE⟩ := R
  refine ⟨by rw [upd_no (by omega)]; exact r0,
    by rw [upd_no (by omega)]; exact r1,
    by rw [upd_no (by omega)]; exact r2,
    by rw [upd_no (by omega)]; exact r3,
    by rw [upd_no (by omega)]; exact r4,
    by rw [upd_no (by omega)]; exact r5,
    by rw [upd_no (by omega)]; exact r6,
    by rw [upd_no (by omega)]; exact r7,
    by rw [upd_no (by omega)]; exact r8,
    by rw [upd_no (by omega)]; exact r9,
    fun h hh => by rw [upd_no (by omega)]; exact rD h hh,
    fun i hi => by
      obtain ⟨a, b, d, e⟩ := rW i hi
      show upd m (20 + 4 * j + 2) x (20 + 4 * i + 0) = upd (U.2 1) (4 * j + 3) x (4 * i) ∧ upd m (20 + 4 * j + 2) x (20 + 4 * i + 1) = upd (U.2 1) (4 * j + 3) x (4 * i + 1) ∧ upd m (20 + 4 * j + 2) x (20 + 4 * i + 2) = upd (U.2 1) (4 * j + 3) x (4 * i + 3) ∧ upd m (20 + 4 * j + 2) x (20 + 4 * i + 3) = upd (U.2 1) (4 * j + 3) x (4 * i + 2)
      refine ⟨by rw [upd_no (by omega), upd_no (by omega)]; exact a, by rw [upd_no (by omega), upd_no (by omega)]; exact b, ?_, by rw [upd_no (by omega), upd_no (by omega)]; exact e⟩
      by_cases q : i = j
      · subst q; rw [upd_at, upd_at]
      · rw [upd_no (by omega), upd_no (by omega)]; exact d,
    fun i hi => by obtain ⟨a, b, k, hk, d, e⟩ := rT i hi; exact ⟨by rw [upd_no (by omega)]; exact a, by rw [upd_no (by omega)]; exact b, k, hk, by rw [upd_no (by omega)]; exact d, e⟩,
    fun i hi => by obtain ⟨a, b⟩ := rF i hi; exact ⟨by rw [upd_no (by omega)]; exact a, by rw [upd_no (by omega)]; exact b⟩,
    fun i hi => by obtain ⟨a0, a1, a2, a3, a4, a5, a6⟩ := rE i hi; exact ⟨by rw [upd_no (by omega)]; exact a0, by rw [upd_no (by omega)]; exact a1, by rw [upd_no (by omega)]; exact a2, by rw [upd_no (by omega)]; exact a3, by rw [upd_no (by omega)]; exact a4, by rw [upd_no (by omega)]; exact a5, by rw [upd_no (by omega)]; exact a6⟩⟩
theorem RM_burn {x : Int32} {j : Nat} (hj : j < N 4) (I : RI c N U) (R : yRM N U m) : yRM N (utab U 4 (8 * j + 7) x) (upd m (122 + 7 * j + 6) x) := by
  have n0 := RI_n0 I
  have n1 := RI_n1 I
  have n2 := RI_n2 I
  have n3 := RI_n3 I
  have n4 := RI_n4 I
  obtain ⟨r0, r1, r2, r3, r4, r5, r6, r7, r8, r9, rD, rW, rT, rF, rE⟩ := R
  refine ⟨by rw [upd_no (by omega)]; exact r0,
    by rw [upd_no (by omega)]; exact r1,
    by rw [upd_no (by omega)]; exact r2,
    by rw [upd_no (by omega)]; exact r3,
    by rw [upd_no (by omega)]; exact r4,
    by rw [upd_no (by omega)]; exact r5,
    by rw [upd_no (by omega)]; exact r6,
    by rw [upd_no (by omega)]; exact r7,
    by rw [upd_no (by omega)]; exact r8,
    by rw [upd_no (by omega)]; exact r9,
    fun h hh => by rw [upd_no (by omega)]; exact rD h hh,
    fun i hi => by obtain ⟨a, b, d, e⟩ := rW i hi; exact ⟨by rw [upd_no (by omega)]; exact a, by rw [upd_no (by omega)]; exact b, by rw [upd_no (by omega)]; exact d, by rw [upd_no (by omega)]; exact e⟩,
    fun i hi => by
      obtain ⟨a, b, k, hk, d, e⟩ := rT i hi
      refine ⟨by rw [upd_no (by omega)]; exact a, by rw [upd_no (by omega)]; exact b, k, hk, by rw [upd_no (by omega)]; exact d, fun q hq => ?_⟩
      show k ≤ q ↔ ¬ upd (U.2 4) (8 * j + 7) x (8 * q) ≤ U.2 2 (3 * i + 2)
      rw [upd_no (by omega)]
      exact e q hq,
    fun i hi => by obtain ⟨a, b⟩ := rF i hi; exact ⟨by rw [upd_no (by omega)]; exact a, by rw [upd_no (by omega)]; exact b⟩,
    fun i hi => by
      obtain ⟨a0, a1, a2, a3, a4, a5, a6⟩ := rE i hi
      refine ⟨?_, ?_, ?_, ?_, ?_, ?_, ?_⟩
      · show upd m (122 + 7 * j + 6) x (122 + 7 * i + 0) = upd (U.2 4) (8 * j + 7) x (8 * i + 1)
        rw [upd_no (by omega), upd_no (by omega)]; exact a0
      · show upd m (122 + 7 * j + 6) x (122 + 7 * i + 1) = upd (U.2 4) (8 * j + 7) x (8 * i + 2)
        rw [upd_no (by omega), upd_no (by omega)]; exact a1
      · show upd m (122 + 7 * j + 6) x (122 + 7 * i + 2) = upd (U.2 4) (8 * j + 7) x (8 * i + 3)
        rw [upd_no (by omega), upd_no (by omega)]; exact a2
      · show upd m (122 + 7 * j + 6) x (122 + 7 * i + 3) = upd (U.2 4) (8 * j + 7) x (8 * i + 4)
        rw [upd_no (by omega), upd_no (by omega)]; exact a3
      · show upd m (122 + 7 * j + 6) x (122 + 7 * i + 4) = upd (U.2 4) (8 * j + 7) x (8 * i + 6)
        rw [upd_no (by omega), upd_no (by omega)]; exact a4
      · show upd m (122 + 7 * j + 6) x (122 + 7 * i + 5) = upd (U.2 4) (8 * j + 7) x (8 * i + 5)
        rw [upd_no (by omega), upd_no (by omega)]; exact a5
      · show upd m (122 + 7 * j + 6) x (122 + 7 * i + 6) = upd (U.2 4) (8 * j + 7) x (8 * i + 7)
        by_cases q : i = j
        · subst q; rw [upd_at, upd_at]
        · rw [upd_no (by omega), upd_no (by omega)]; exact a6⟩
theorem RIs_day {x : Int32} (I : RI c N U) (hx : bd c x) (h0 : U.1 4 ≤ x) : RI c N (uset U 4 x) := by
  obtain ⟨n0, n1, n2, n3, n4, hou, txt, lim, rst, day, ser, deb, wal, tur, off, ent, bur⟩ := I
  refine ⟨n0, n1, n2, n3, n4, hou, txt, lim, rst, hx, ser, deb, wal, tur, off, fun e he => ?_, bur⟩
  obtain ⟨a, b, d, e, f⟩ := ent e he
  exact ⟨a, b, d, Int32.le_trans e h0, f⟩
theorem RIs_seed {x : Int32} (I : RI c N U) : RI c N (uset U 5 x) := I
theorem RIs_debt {x : Int32} {h : Nat} (I : RI c N U) (hx : bd (100000 + 100 * c) x) : RI c N (utab U 0 h x) := by
  obtain ⟨n0, n1, n2, n3, n4, hou, txt, lim, rst, day, ser, deb, wal, tur, off, ent, bur⟩ := I
  refine ⟨n0, n1, n2, n3, n4, hou, txt, lim, rst, day, ser, fun j hj => ?_, wal, tur, off, ent, bur⟩
  show bd _ (upd (U.2 0) h x j)
  by_cases q : j = h
  · subst q; rw [upd_at]; exact hx
  · rw [upd_no q]; exact deb j hj
theorem RIs_wear {x : Int32} {t : Nat} (I : RI c N U) (hx : bd 999 x) : RI c N (utab U 2 (3 * t + 1) x) := by
  obtain ⟨n0, n1, n2, n3, n4, hou, txt, lim, rst, day, ser, deb, wal, tur, off, ent, bur⟩ := I
  refine ⟨n0, n1, n2, n3, n4, hou, txt, lim, rst, day, ser, deb, wal, fun j hj => ?_, off, ent, bur⟩
  obtain ⟨a, b, d, e⟩ := tur j hj
  show bd 99 (upd (U.2 2) (3 * t + 1) x (3 * j)) ∧ bd 999 (upd (U.2 2) (3 * t + 1) x (3 * j + 1)) ∧ bd c (upd (U.2 2) (3 * t + 1) x (3 * j + 2)) ∧ upd (U.2 2) (3 * t + 1) x (3 * j + 2) ≤ U.1 6
  rw [upd_no (show 3 * j ≠ 3 * t + 1 by omega), upd_no (show 3 * j + 2 ≠ 3 * t + 1 by omega)]
  refine ⟨a, ?_, d, e⟩
  by_cases q : j = t
  · subst q; rw [upd_at]; exact hx
  · rw [upd_no (by omega)]; exact b
theorem RIs_whouse {x : Int32} {t : Nat} (I : RI c N U) (hx : ∃ h, h < N 0 ∧ x = nI h) : RI c N (utab U 1 (4 * t + 3) x) := by
  obtain ⟨n0, n1, n2, n3, n4, hou, txt, lim, rst, day, ser, deb, wal, tur, off, ent, bur⟩ := I
  refine ⟨n0, n1, n2, n3, n4, hou, txt, lim, rst, day, ser, deb, fun j hj => ?_, tur, off, ent, bur⟩
  obtain ⟨a, b, d, e⟩ := wal j hj
  show bd 3 (upd (U.2 1) (4 * t + 3) x (4 * j)) ∧ bd 99 (upd (U.2 1) (4 * t + 3) x (4 * j + 1)) ∧ bd 100 (upd (U.2 1) (4 * t + 3) x (4 * j + 2)) ∧ ∃ h, h < N 0 ∧ upd (U.2 1) (4 * t + 3) x (4 * j + 3) = nI h
  rw [upd_no (show 4 * j ≠ 4 * t + 3 by omega), upd_no (show 4 * j + 1 ≠ 4 * t + 3 by omega), upd_no (show 4 * j + 2 ≠ 4 * t + 3 by omega)]
  refine ⟨a, b, d, ?_⟩
  by_cases q : j = t
  · subst q; rw [upd_at]; exact hx
  · rw [upd_no (by omega)]; exact e
theorem RIs_mend {t : Nat} (I : RI c N U) : RI c N (utab U 2 (3 * t + 2) (U.1 6)) := by
  obtain ⟨n0, n1, n2, n3, n4, hou, txt, lim, rst, day, ser, deb, wal, tur, off, ent, bur⟩ := I
  refine ⟨n0, n1, n2, n3, n4, hou, txt, lim, rst, day, ser, deb, wal, fun j hj => ?_, off, ent, bur⟩
  obtain ⟨a, b, d, e⟩ := tur j hj
  show bd 99 (upd (U.2 2) (3 * t + 2) (U.1 6) (3 * j)) ∧ bd 999 (upd (U.2 2) (3 * t + 2) (U.1 6) (3 * j + 1)) ∧ bd c (upd (U.2 2) (3 * t + 2) (U.1 6) (3 * j + 2)) ∧ upd (U.2 2) (3 * t + 2) (U.1 6) (3 * j + 2) ≤ U.1 6
  rw [upd_no (show 3 * j ≠ 3 * t + 2 by omega), upd_no (show 3 * j + 1 ≠ 3 * t + 2 by omega)]
  refine ⟨a, b, ?_⟩
  by_cases q : j = t
  · subst q; rw [upd_at]; exact ⟨ser, Int32.le_refl _⟩
  · rw [upd_no (by omega)]; exact ⟨d, e⟩
theorem RM_mend {t : Nat} (ht : t < N 2) (I : RI c N U) (R : yRM N U m) : yRM N (utab U 2 (3 * t + 2) (U.1 6)) (upd m (68 + 3 * t + 2) (nI (N 4))) := by
  have n0 := RI_n0 I
  have n1 := RI_n1 I
  have n2 := RI_n2 I
  have n3 := RI_n3 I
  have n4 := RI_n4 I
  have hE := RI_ent I
  obtain ⟨r0, r1, r2, r3, r4, r5, r6, r7, r8, r9, rD, rW, rT, rF, rE⟩ := R
  refine ⟨by rw [upd_no (by omega)]; exact r0, by rw [upd_no (by omega)]; exact r1, by rw [upd_no (by omega)]; exact r2, by rw [upd_no (by omega)]; exact r3, by rw [upd_no (by omega)]; exact r4, by rw [upd_no (by omega)]; exact r5, by rw [upd_no (by omega)]; exact r6, by rw [upd_no (by omega)]; exact r7, by rw [upd_no (by omega)]; exact r8, by rw [upd_no (by omega)]; exact r9, fun h hh => by rw [upd_no (by omega)]; exact rD h hh, fun i hi => by obtain ⟨a, b, d, e⟩ := rW i hi; exact ⟨by rw [upd_no (by omega)]; exact a, by rw [upd_no (by omega)]; exact b, by rw [upd_no (by omega)]; exact d, by rw [upd_no (by omega)]; exact e⟩, fun i hi => ?_, fun i hi => by obtain ⟨a, b⟩ := rF i hi; exact ⟨by rw [upd_no (by omega)]; exact a, by rw [upd_no (by omega)]; exact b⟩, fun i hi => by obtain ⟨a0, a1, a2, a3, a4, a5, a6⟩ := rE i hi; exact ⟨by rw [upd_no (by omega)]; exact a0, by rw [upd_no (by omega)]; exact a1, by rw [upd_no (by omega)]; exact a2, by rw [upd_no (by omega)]; exact a3, by rw [upd_no (by omega)]; exact a4, by rw [upd_no (by omega)]; exact a5, by rw [upd_no (by omega)]; exact a6⟩⟩
  obtain ⟨a, b, k, hk, d, e⟩ := rT i hi
  show upd m (68 + 3 * t + 2) (nI (N 4)) (68 + 3 * i + 0) = upd (U.2 2) (3 * t + 2) (U.1 6) (3 * i) ∧ upd m (68 + 3 * t + 2) (nI (N 4)) (68 + 3 * i + 1) = upd (U.2 2) (3 * t + 2) (U.1 6) (3 * i + 1) ∧ ∃ k, k ≤ N 4 ∧ upd m (68 + 3 * t + 2) (nI (N 4)) (68 + 3 * i + 2) = nI k ∧ ∀ e, e < N 4 → (k ≤ e ↔ ¬ U.2 4 (8 * e) ≤ upd (U.2 2) (3 * t + 2) (U.1 6) (3 * i + 2))
  refine ⟨by rw [upd_no (by omega), upd_no (by omega)]; exact a, by rw [upd_no (by omega), upd_no (by omega)]; exact b, ?_⟩
  by_cases q : i = t
  · subst q
    refine ⟨N 4, Nat.le_refl _, upd_at, fun e he => ?_⟩
    rw [upd_at]
    exact ⟨fun q => absurd he (by omega), fun q => absurd (hE e he).2.1 q⟩
  · refine ⟨k, hk, by rw [upd_no (by omega)]; exact d, fun e' he => ?_⟩
    rw [upd_no (by omega)]
    exact e e' he

end T6
section T7
variable {c : Nat} {N : Nat → Nat} {U U' U'' : cU} {M M' M'' : mS} {m : Nat → Int32}
def KU (U U' : cU) : Prop := (∀ k, 8 ≤ k → k < 13 → U'.1 k = U.1 k) ∧ U'.2 10 = U.2 10 ∧ U'.2 3 = U.2 3
def yKM (M M' : mS) : Prop := (M'.1 3 = M.1 3 ∧ M'.1 6 = M.1 6 ∧ M'.1 10 = M.1 10) ∧ M'.2 1 = M.2 1 ∧ M'.2 3 = M.2 3 ∧ ∀ j, (j = 10 ∨ j = 11 ∨ 542 ≤ j) → M'.2 0 j = M.2 0 j
theorem KU_r : KU U U := ⟨fun _ _ _ => rfl, rfl, rfl⟩
theorem KU_t (h : KU U U') (h' : KU U' U'') : KU U U'' := ⟨fun k a b => (h'.1 k a b).trans (h.1 k a b), h'.2.1.trans h.2.1, h'.2.2.trans h.2.2⟩
theorem KM_r : yKM M M := ⟨⟨rfl, rfl, rfl⟩, rfl, rfl, fun _ _ => rfl⟩
theorem KM_t (h : yKM M M') (h' : yKM M' M'') : yKM M M'' := ⟨⟨h'.1.1.trans h.1.1, h'.1.2.1.trans h.1.2.1, h'.1.2.2.trans h.1.2.2⟩, h'.2.1.trans h.2.1, h'.2.2.1.trans h.2.2.1, fun j hj => (h'.2.2.2 j hj).trans (h.2.2.2 j hj)⟩
theorem KM_set {x : Int32} : yKM M (mset M 0 x) := ⟨⟨rfl, rfl, rfl⟩, rfl, rfl, fun _ _ => rfl⟩
theorem KM_ms {k : Nat} {x : Int32} (h1 : k ≠ 10) (h2 : k ≠ 11) (h3 : k < 542) : yKM M (ms M k x) := ⟨⟨rfl, rfl, rfl⟩, rfl, rfl, fun j hj => upd_no (by omega)⟩
theorem KU_set {k : Nat} {x : Int32} (h : k < 8 ∨ 13 ≤ k) : KU U (uset U k x) := ⟨fun j _ _ => if_neg (by omega), rfl, rfl⟩
theorem KU_tab {t i : Nat} {x : Int32} (h : t ≠ 10 ∧ t ≠ 3) : KU U (utab U t i x) := ⟨fun _ _ _ => rfl, if_neg (fun q => h.1 q.symm), if_neg (fun q => h.2 q.symm)⟩
theorem sm_from (n k : Nat) (f : Nat → Int32) (h : k ≤ n) : ysm n (fun e => if e < k then 0 else f e) = ysm (n - k) (fun i => f (k + i)) := by
  obtain ⟨j, rfl⟩ : ∃ j, n = k + j := ⟨n - k, by omega⟩
  rw [Nat.add_sub_cancel_left]
  clear h
  induction j with
  | zero =>
    show ysm k _ = 0
    have H : ∀ q, q ≤ k → ysm q (fun e => if e < k then 0 else f e) = 0 := by
      intro q
      induction q with
      | zero => intro _; rfl
      | succ q ih =>
        intro hq
        rw [sm_s, ih (by omega), if_pos (by omega)]
        rfl
    exact H k (Nat.le_refl _)
  | succ j ih =>
    rw [show k + (j + 1) = (k + j) + 1 by omega, sm_s, sm_s, ih, if_neg (by omega)]
theorem g_missedOf {n k t : Nat} (h4 : M.2 0 4 = nI n) (hn : n ≤ 60) (ht : t < 10) (hk : M.2 0 (68 + 3 * t + 2) = nI k) (hkn : k ≤ n) : g_X6_missedOf (nI t) M = some (ysm n (fun e => if e < k then 0 else if M.2 0 (122 + 7 * e + 3) ≤ nI t then 0 else 1) - M.2 0 (68 + 3 * t + 1), M) := by
  unfold g_X6_missedOf g_X6_missedOf_9
  rw [g_oT2 (M := M) ht, zb2_at, hk, sm_from n k _ hkn]
  have q := zlp2_it (F := g_X6_missedOf_9_b (nI t)) (n := n - k) (R := some (ysm (n - k) (fun i => if M.2 0 (122 + 7 * (k + i) + 3) ≤ nI t then 0 else 1) - M.2 0 (68 + 3 * t + 1), M)) (fun i => ysm i (fun i => if M.2 0 (122 + 7 * (k + i) + 3) ≤ nI t then 0 else 1)) (fun i => nI (k + i)) (fun _ => M) (fun i rf hi => ?_) (fun rf => ?_) NN (NN_lt (by omega))
  · exact q
  · simp only [g_X6_missedOf_9_b, g_X6_missedOf_35, g_m4, h4, nleF (show k + i < n by omega) (show n < 2 ^ 31 by omega), g_oE3 (M := M) (show k + i < 60 by omega), bd_at, zl_at, zb2_at, nI_1, sm_s, Nat.add_assoc]
    split <;> simp_all
  · simp only [g_X6_missedOf_9_b, g_m4, h4, bd_at, show k + (n - k) = n by omega, Int32.le_refl, if_true, g_oT1 (M := M) ht, zb2_at]
theorem op_missedOf (I : RI c N U) (R : yRM N U (M.2 0)) {t : Nat} (ht : t < N 2) : ∃ v, h_X2_missed N (nI t) U = some (v, U) ∧ g_X6_missedOf (nI t) M = some (v, M) := by
  have n4 := RI_n4 I
  have n2 := RI_n2 I
  obtain ⟨a, b, k, hk, d, e⟩ := RM_mT R t ht
  refine ⟨_, h_missed n4 n2 ht, ?_⟩
  rw [g_missedOf (n := N 4) (k := k) (RM_m4 R) n4 (by omega) d hk, b]
  congr 2
  rw [Int32.sub_eq_add_neg, Int32.add_comm]
  congr 1
  refine sm_eq fun i hi => ?_
  have e' := e i hi
  rw [(RM_mE R i hi).2.2.2.1]
  by_cases q : i < k
  · rw [if_pos q]
    have : U.2 4 (8 * i) ≤ U.2 2 (3 * t + 2) := by
      by_cases z : U.2 4 (8 * i) ≤ U.2 2 (3 * t + 2)
      · exact z
      · exact absurd (e'.mpr z) (by omega)
    rw [if_pos this, ite_self]
  · rw [if_neg q]
    have : ¬ U.2 4 (8 * i) ≤ U.2 2 (3 * t + 2) := e'.mp (by omega)
    rw [if_neg this]
theorem op_turn (I : RI c N U) (R : yRM N U (M.2 0)) (p q : Int32) : ∃ r v t, h_X1_turn N p q U = some (r, U) ∧ g_X6_turn p q M = some (v, mset M 0 t) ∧ yans cdA r v t := by
  have n2 := RI_n2 I
  have h31 : N 2 < 2 ^ 31 := by omega
  rcases ix_cases p h31 with hp | ⟨j, hj, rfl⟩
  · refine ⟨.inr 2, 0, 1, ?_, ?_, rfl⟩
    · unfold h_X1_turn h_X1_turnAt
      rw [ofN, h_there_no hp h31, zbt_r, zbt_r]
    · unfold g_X6_turn
      rw [g_turn_no (RM_m3 R) hp h31, zb2_at]
      rfl
  · by_cases hq : (0 : Int32) ≤ q ∧ q ≤ 2
    · obtain ⟨w, hw, rfl⟩ := x_upto (b := 2) (by omega) hq
      have E1 : h_X1_turn N (nI j) (nI w) U = (if ¬ nI w = 0 then
          if ¬ nI w = 1 then
            zb2 (h_X2_missed N (nI j) U) fun x5 U6 =>
            some (.inl x5, U6)
          else
            some (.inl (U.2 2 (3 * j + 1)), U)
        else
          some (.inl (U.2 2 (3 * j)), U)) := by
        unfold h_X1_turn h_X1_turnAt
        rw [ofN, h_there_ok hj h31, zbt_i, vix_at hj h31, bd_at, zbt_i, h_asked1 hq, zbt_i]
      have E2 : g_X6_turn (nI j) (nI w) M = (if ¬ nI w = 2 then
          zb2 (g_X6_ofTurn (nI j) (nI w) (mset M 0 0)) fun x6 M7 =>
          some (x6, M7)
        else
          zb2 (g_X6_missedOf (nI j) (mset M 0 0)) fun x8 M9 =>
          some (x8, M9)) := by
        unfold g_X6_turn g_X6_turn_27
        rw [g_turn_ok (RM_m3 R) hj h31, zb2_at, if_pos ne10, g_in1 hq, zb2_at, if_pos ne10, zl_at, m_set1, if_pos le00]
      rw [E1, E2]
      obtain ⟨a, b, -⟩ := RM_mT R j hj
      have hw3 : w = 0 ∨ w = 1 ∨ w = 2 := by omega
      rcases hw3 with rfl | rfl | rfl
      · exact ⟨.inl (U.2 2 (3 * j)), _, 0, rfl, by rw [if_pos (by decide), g_oTw (by omega) (by decide)]; rfl, rfl, a⟩
      · exact ⟨.inl (U.2 2 (3 * j + 1)), _, 0, rfl, by rw [if_pos (by decide), g_oTw (by omega) (by decide)]; rfl, rfl, b⟩
      · obtain ⟨v, e1, e2⟩ := op_missedOf (M := mset M 0 0) I R hj
        refine ⟨.inl v, v, 0, ?_, ?_, rfl, rfl⟩
        · rw [if_pos (by decide), if_pos (by decide), e1]; rfl
        · rw [if_neg (by decide), e2]; rfl
    · refine ⟨.inr 3, 0, 2, ?_, ?_, rfl⟩
      · unfold h_X1_turn h_X1_turnAt
        rw [ofN, h_there_ok hj h31, zbt_i, vix_at hj h31, bd_at, zbt_i, h_asked0 hq, zbt_r]
      · unfold g_X6_turn
        rw [g_turn_ok (RM_m3 R) hj h31, zb2_at, if_pos ne10, g_in0 hq, zb2_at]
        rfl
/-- the first that is so, or none -/
theorem yff (p : Nat → Bool) (n : Nat) : (∀ i, i < n → p i = false) ∨ ∃ j, j < n ∧ p j = true ∧ ∀ i, i < j → p i = false := by
  induction n with
  | zero => exact Or.inl fun i hi => absurd hi (by omega)
  | succ n ih =>
    rcases ih with h | ⟨j, h1, h2, h3⟩
    · cases e : p n with
      | false =>
        refine Or.inl fun i hi => ?_
        by_cases q : i = n
        · subst q; exact e
        · exact h i (by omega)
      | true => exact Or.inr ⟨n, by omega, e, h⟩
    · exact Or.inr ⟨j, by omega, h2, h3⟩
theorem op_missed (I : RI c N U) (R : yRM N U (M.2 0)) : ∃ v, h_X1_missed N U = some (v, U) ∧ g_X6_missed M = some (v, mset M 0 0) := by
  have n2 := RI_n2 I
  have H : ∀ t, t < N 2 → ∃ v, h_X2_missed N (nI t) U = some (v, U) ∧ g_X6_missedOf (nI t) (mset M 0 0) = some (v, mset M 0 0) := fun t ht => op_missedOf (M := mset M 0 0) I R ht
  unfold h_X1_missed h_X1_missed_2 g_X6_missed g_X6_missed_7
  rw [zl_at]
  have m3 : (mset M 0 0).2 0 3 = nI (N 2) := RM_m3 R
  generalize mset M 0 0 = M0 at *
  rcases yff (fun t => match h_X2_missed N (nI t) U with
    | some (v, _) => if v = 0 then false else true
    | none => false) (N 2) with hf | ⟨j, hj, hp, hf⟩
  · refine ⟨-1, ?_, ?_⟩
    · refine zlp1_it (n := N 2) (fun i => nI i) (fun _ => U) (fun i rf hi => ?_) (fun rf => ?_) NN (NN_lt (by omega))
      · obtain ⟨v, e1, e2⟩ := H i hi
        have z := hf i hi
        simp only [e1] at z
        by_cases v0 : v = 0
        · simp only [h_X1_missed_2_b, ofN, nleF hi (show N 2 < 2 ^ 31 by omega), e1, zb2_at, v0, if_true, zl_at, nI_1]
        · rw [if_neg v0] at z; cases z
      · simp only [h_X1_missed_2_b, ofN, Int32.le_refl, if_true]
    · refine zlp1_it (n := N 2) (fun i => nI i) (fun _ => M0) (fun i rf hi => ?_) (fun rf => ?_) NN (NN_lt (by omega))
      · obtain ⟨v, e1, e2⟩ := H i hi
        have z := hf i hi
        simp only [e1] at z
        by_cases v0 : v = 0
        · simp only [g_X6_missed_7_b, g_m3, m3, bd_at, nleF hi (show N 2 < 2 ^ 31 by omega), e2, zb2_at, v0, if_true, zl_at, nI_1]
        · rw [if_neg v0] at z; cases z
      · simp only [g_X6_missed_7_b, g_m3, m3, bd_at, Int32.le_refl, if_true]
  · refine ⟨nI j, ?_, ?_⟩
    · refine zlp1_it (n := j) (fun i => nI i) (fun _ => U) (fun i rf hi => ?_) (fun rf => ?_) NN (NN_lt (by omega))
      · obtain ⟨v, e1, e2⟩ := H i (by omega)
        have z := hf i hi
        simp only [e1] at z
        by_cases v0 : v = 0
        · simp only [h_X1_missed_2_b, ofN, nleF (show i < N 2 by omega) (show N 2 < 2 ^ 31 by omega), e1, zb2_at, v0, if_true, zl_at, nI_1]
        · rw [if_neg v0] at z; cases z
      · obtain ⟨v, e1, e2⟩ := H j (by omega)
        simp only [e1] at hp
        by_cases v0 : v = 0
        · rw [if_pos v0] at hp; cases hp
        · simp only [h_X1_missed_2_b, ofN, nleF hj (show N 2 < 2 ^ 31 by omega), e1, zb2_at, if_neg v0]
    · refine zlp1_it (n := j) (fun i => nI i) (fun _ => M0) (fun i rf hi => ?_) (fun rf => ?_) NN (NN_lt (by omega))
      · obtain ⟨v, e1, e2⟩ := H i (by omega)
        have z := hf i hi
        simp only [e1] at z
        by_cases v0 : v = 0
        · simp only [g_X6_missed_7_b, g_m3, m3, bd_at, nleF (show i < N 2 by omega) (show N 2 < 2 ^ 31 by omega), e2, zb2_at, v0, if_true, zl_at, nI_1]
        · rw [if_neg v0] at z; cases z
      · obtain ⟨v, e1, e2⟩ := H j (by omega)
        simp only [e1] at hp
        by_cases v0 : v = 0
        · rw [if_pos v0] at hp; cases hp
        · simp only [g_X6_missed_7_b, g_m3, m3, bd_at, nleF hj (show N 2 < 2 ^ 31 by omega), e2, zb2_at, if_neg v0]
end T7
section T8
variable {c : Nat} {N : Nat → Nat} {U U' U'' : cU} {M M' M'' : mS} {m : Nat → Int32}
def ycdB : Nat → Int32 := fun k => if k = 2 then 1 else if k = 0 then 2 else 3
def cdC : Nat → Int32 := fun _ => 1
/-- both sides answer alike, and the relation holds behind it -/
def OKo (c : Nat) (N : Nat → Nat) (cd : Nat → Int32) (U : cU) (M : mS) (ho : Option ((Int32 ⊕ Nat) × cU)) (go : Option (Int32 × mS)) : Prop :=
  ∃ r v U' M', ho = some (r, U') ∧ go = some (v, M') ∧ yans cd r v (M'.1 0) ∧ RI c N U' ∧ yRM N U' (M'.2 0) ∧ KU U U' ∧ yKM M M'
theorem OKo_ro {cd : Nat → Int32} {ho : Option ((Int32 ⊕ Nat) × cU)} {go : Option (Int32 × mS)} (I : RI c N U) (R : yRM N U (M.2 0)) (h : ∃ r v t, ho = some (r, U) ∧ go = some (v, mset M 0 t) ∧ yans cd r v t) : OKo c N cd U M ho go := by
  obtain ⟨r, v, t, h1, h2, h3⟩ := h
  exact ⟨r, v, U, mset M 0 t, h1, h2, h3, I, R, KU_r, KM_set⟩
theorem nI_bd {n b : Nat} (h : n ≤ b) : bd b (nI n) := ⟨n, h, rfl⟩
theorem x_in {x : Int32} {a b : Nat} (hb : b < 2 ^ 31) (h : nI a ≤ x ∧ x ≤ nI b) (ha : a < 2 ^ 31) : ∃ j, a ≤ j ∧ j ≤ b ∧ x = nI j := by
  obtain ⟨j, hj, rfl⟩ := x_upto hb ⟨Int32.le_trans (nI_pos' ha) h.1, h.2⟩
  exact ⟨j, (nI_leI ha (by omega)).mp h.1, hj, rfl⟩
theorem h_demand1 : h_X1_demand N 1 U = some (.inl (), U) := rfl
theorem h_demand0 : h_X1_demand N 0 U = some (.inr 0, U) := rfl
theorem h_can1 : h_X1_can N 1 U = some (.inl (), U) := rfl
theorem h_can0 : h_X1_can N 0 U = some (.inr 4, U) := rfl
theorem op_days (I : RI c N U) (R : yRM N U (M.2 0)) (hc : c < 1000000) (p : Int32) : OKo (c + 100) N cdC U M (h_X1_days N p U) (g_X6_days p M) := by
  by_cases hp : (1 : Int32) ≤ p ∧ p ≤ 99
  · obtain ⟨n, h1, h2, rfl⟩ := x_in (a := 1) (b := 99) (by omega) hp (by omega)
    obtain ⟨d, hd, e⟩ := RI_day I
    refine ⟨.inl (U.1 4 + nI n), U.1 4 + nI n, uset U 4 (U.1 4 + nI n), ms (mset M 0 0) 8 (U.1 4 + nI n), ?_, ?_, ⟨rfl, rfl⟩, ?_, ?_, KU_set (by omega), KM_t KM_set (KM_ms (by omega) (by omega) (by omega))⟩
    · unfold h_X1_days
      rw [h_in1 hp, zb2_at, h_demand1, zbt_i, zl_at]
      rfl
    · unfold g_X6_days g_X6_days_16
      rw [g_in1 hp, zb2_at, if_pos ne10, zl_at, m_set1, if_pos le00, g_m8, bd_at, show (8 : Int32) = nI 8 from rfl, g_set (by omega), bd_at, ← show (8 : Int32) = nI 8 from rfl, g_m8, bd_at, ms_0, upd_at]
      have e8 : (mset M 0 0).2 0 8 = U.1 4 := RM_m8 R
      rw [e8]
    · refine RIs_day (RI_mono (Nat.le_add_right c 100) I) ?_ ?_
      · rw [e, nI_add]; exact nI_bd (by omega)
      · rw [e, nI_add]; exact nI_le (by omega) (by omega)
    · exact RM_day I R
  · refine ⟨.inr 0, 0, U, mset M 0 1, ?_, ?_, rfl, RI_mono (Nat.le_add_right c 100) I, R, KU_r, KM_set⟩
    · unfold h_X1_days
      rw [h_in0 hp, zb2_at, h_demand0, zbt_r]
    · unfold g_X6_days g_X6_days_16
      rw [g_in0 hp, zb2_at, if_neg (by decide), zl_at, m_set1, if_neg (by decide)]
theorem op_mend (I : RI c N U) (R : yRM N U (M.2 0)) (p : Int32) : OKo c N cdC U M (h_X1_mend N p U) (g_X6_mend p M) := by
  have n2 := RI_n2 I
  have h31 : N 2 < 2 ^ 31 := by omega
  rcases ix_cases p h31 with hp | ⟨j, hj, rfl⟩
  · refine ⟨.inr 2, 0, U, mset M 0 1, ?_, ?_, rfl, I, R, KU_r, KM_set⟩
    · unfold h_X1_mend h_X1_turnAt
      rw [ofN, h_there_no hp h31, zbt_r, zbt_r]
    · unfold g_X6_mend g_X6_mend_14
      rw [g_turn_no (RM_m3 R) hp h31, zb2_at, if_neg (by decide), zl_at, m_set1, if_neg (by decide)]
  · obtain ⟨a, b, -⟩ := RM_mT R j hj
    have I2 : RI c N (utab U 2 (3 * j + 1) 0) := RIs_wear I (nI_bd (n := 0) (by omega))
    have R2 := RM_wear (x := 0) hj I R
    refine ⟨.inl (U.2 2 (3 * j + 1)), U.2 2 (3 * j + 1), utab (utab U 2 (3 * j + 1) 0) 2 (3 * j + 2) (U.1 6), ms (ms (mset M 0 0) (68 + 3 * j + 1) 0) (68 + 3 * j + 2) (nI (N 4)), ?_, ?_, ⟨rfl, rfl⟩, RIs_mend I2, RM_mend hj I2 R2, KU_t (KU_tab (by omega)) (KU_tab (by omega)), KM_t KM_set (KM_t (KM_ms (by omega) (by omega) (by omega)) (KM_ms (by omega) (by omega) (by omega)))⟩
    · unfold h_X1_mend h_X1_turnAt
      rw [ofN, h_there_ok hj h31, zbt_i, vix_at hj h31, bd_at, zbt_i, zl_at, zl_at]
      rfl
    · unfold g_X6_mend g_X6_mend_14
      rw [g_turn_ok (RM_m3 R) hj h31, zb2_at, if_pos ne10, zl_at, m_set1, if_pos le00, g_oT1 (M := mset M 0 0) (by omega), zb2_at, show (1 : Int32) = nI 1 from rfl, g_sT (by omega) (by omega), bd_at, g_m4, bd_at, show (2 : Int32) = nI 2 from rfl, g_sT (by omega) (by omega), bd_at, ms_0, upd_no (by omega)]
      have e4 : (mset M 0 0).2 0 4 = nI (N 4) := RM_m4 R
      have e1 : (mset M 0 0).2 0 (68 + 3 * j + 1) = U.2 2 (3 * j + 1) := b
      rw [e4, e1]
theorem op_worn (I : RI c N U) (R : yRM N U (M.2 0)) (p q : Int32) : OKo c N cdA U M (h_X1_worn N p q U) (g_X6_worn p q M) := by
  have n2 := RI_n2 I
  have h31 : N 2 < 2 ^ 31 := by omega
  rcases ix_cases p h31 with hp | ⟨j, hj, rfl⟩
  · refine ⟨.inr 2, 0, U, mset M 0 1, ?_, ?_, rfl, I, R, KU_r, KM_set⟩
    · unfold h_X1_worn h_X1_turnAt
      rw [ofN, h_there_no hp h31, zbt_r, zbt_r]
    · unfold g_X6_worn g_X6_worn_29
      rw [g_turn_no (RM_m3 R) hp h31, zb2_at, if_neg (by decide), zl_at, m_set1, if_neg (by decide)]
  · by_cases hq : (0 : Int32) ≤ q ∧ q ≤ 999
    · obtain ⟨w, hw, rfl⟩ := x_upto (b := 999) (by omega) hq
      obtain ⟨a, b, -⟩ := RM_mT R j hj
      refine ⟨.inl (U.2 2 (3 * j + 1)), U.2 2 (3 * j + 1), utab U 2 (3 * j + 1) (nI w), ms (mset M 0 0) (68 + 3 * j + 1) (nI w), ?_, ?_, ⟨rfl, rfl⟩, RIs_wear I (nI_bd hw), RM_wear hj I R, KU_tab (by omega), KM_t KM_set (KM_ms (by omega) (by omega) (by omega))⟩
      · unfold h_X1_worn h_X1_turnAt
        rw [ofN, h_there_ok hj h31, zbt_i, vix_at hj h31, bd_at, zbt_i, h_in1 hq, zb2_at, h_demand1, zbt_i, zl_at]
      · unfold g_X6_worn g_X6_worn_29
        rw [g_turn_ok (RM_m3 R) hj h31, zb2_at, if_pos ne10, g_in1 hq, zb2_at, if_pos ne10, zl_at, m_set1, if_pos le00, g_oT1 (M := mset M 0 0) (by omega), zb2_at, show (1 : Int32) = nI 1 from rfl, g_sT (by omega) (by omega), bd_at]
        have e1 : (mset M 0 0).2 0 (68 + 3 * j + 1) = U.2 2 (3 * j + 1) := b
        rw [e1]
    · refine ⟨.inr 0, 0, U, mset M 0 2, ?_, ?_, rfl, I, R, KU_r, KM_set⟩
      · unfold h_X1_worn h_X1_turnAt
        rw [ofN, h_there_ok hj h31, zbt_i, vix_at hj h31, bd_at, zbt_i, h_in0 hq, zb2_at, h_demand0, zbt_r]
      · unfold g_X6_worn g_X6_worn_29
        rw [g_turn_ok (RM_m3 R) hj h31, zb2_at, if_pos ne10, g_in0 hq, zb2_at, if_neg (by decide), zl_at, m_set1, if_neg (by decide)]
theorem op_seed (I : RI c N U) (R : yRM N U (M.2 0)) (p : Int32) : ∃ v U' M', h_X1_seed N p U = some (v, U') ∧ g_X6_seed p M = some (v, M') ∧ RI c N U' ∧ yRM N U' (M'.2 0) ∧ KU U U' ∧ yKM M M' := by
  refine ⟨U.1 5, uset U 5 p, ms (mset M 0 0) 9 p, ?_, ?_, RIs_seed I, RM_seed I R, KU_set (by omega), KM_t KM_set (KM_ms (by omega) (by omega) (by omega))⟩
  · rfl
  · unfold g_X6_seed
    rw [zl_at, g_m9, bd_at, show (9 : Int32) = nI 9 from rfl, g_set (by omega), bd_at]
    have e : (mset M 0 0).2 0 9 = U.1 5 := RM_m9 R
    rw [e]
end T8
/-- two loops in step -/
theorem lk1 {τ θ β γ : Type} {F : (Int32 → τ → Option β) → Int32 → τ → Option β} {G : (Int32 → θ → Option γ) → Int32 → θ → Option γ} {n : Nat} (P : Nat → τ → θ → Prop) (Q : Option β → Option γ → Prop)
    (hs : ∀ i t s, i < n → P i t s → (∃ t' s', P (i + 1) t' s' ∧ (∀ rf, F rf (nI i) t = rf (nI (i + 1)) t') ∧ (∀ rg, G rg (nI i) s = rg (nI (i + 1)) s')) ∨ ∃ a b, Q a b ∧ (∀ rf, F rf (nI i) t = a) ∧ (∀ rg, G rg (nI i) s = b))
    (he : ∀ t s, P n t s → ∃ a b, Q a b ∧ (∀ rf, F rf (nI n) t = a) ∧ (∀ rg, G rg (nI n) s = b)) :
    ∀ i t s, i ≤ n → P i t s → ∀ k l, n < k → n < l → Q (zlp1 F k (nI i) t) (zlp1 G l (nI i) s) := by
  have H : ∀ j i t s, i + j = n → P i t s → ∀ k l, j < k → j < l → Q (zlp1 F k (nI i) t) (zlp1 G l (nI i) s) := by
    intro j
    induction j with
    | zero =>
      intro i t s e hp k l hk hl
      obtain ⟨k', rfl⟩ : ∃ k', k = k' + 1 := ⟨k - 1, by omega⟩
      obtain ⟨l', rfl⟩ : ∃ l', l = l' + 1 := ⟨l - 1, by omega⟩
      obtain rfl : i = n := by omega
      obtain ⟨a, b, h1, h2, h3⟩ := he t s hp
      rw [zlp1_s, zlp1_s, h2, h3]
      exact h1
    | succ j ih =>
      intro i t s e hp k l hk hl
      obtain ⟨k', rfl⟩ : ∃ k', k = k' + 1 := ⟨k - 1, by omega⟩
      obtain ⟨l', rfl⟩ : ∃ l', l = l' + 1 := ⟨l - 1, by omega⟩
      rcases hs i t s (by omega) hp with ⟨t', s', h1, h2, h3⟩ | ⟨a, b, h1, h2, h3⟩
      · rw [zlp1_s, zlp1_s, h2, h3]
        exact ih (i + 1) t' s' (by omega) h1 k' l' (by omega) (by omega)
      · rw [zlp1_s, zlp1_s, h2, h3]
        exact h1
  intro i t s hi hp k l hk hl
  exact H (n - i) i t s (by omega) hp k l (by omega) (by omega)
section T9
variable {c : Nat} {N : Nat → Nat} {U U' U'' : cU} {M M' M'' : mS} {m : Nat → Int32}
theorem zmin_nI {a b : Nat} (ha : a < 2 ^ 31) (hb : b < 2 ^ 31) : zmin (nI a) (nI b) = nI (min a b) := by
  unfold zmin
  by_cases h : b < a
  · rw [if_pos (nI_lt h ha), Nat.min_eq_right (by omega)]
  · rw [if_neg (nI_nlt (by omega) hb), Nat.min_eq_left (by omega)]
theorem h_two_no {p q : Int32} (I : RI c N U) (h : (p < 0 ∨ nI (N 0) ≤ p) ∨ (q < 0 ∨ nI (N 0) ≤ q)) : h_X1_twoHouses N p q U = some (.inr 2, U) := by
  have n0 := RI_n0 I
  have h31 : N 0 < 2 ^ 31 := by omega
  unfold h_X1_twoHouses
  rcases ix_cases p h31 with hp | ⟨j, hj, rfl⟩
  · rw [h_houseAt_no (RI_hou I) hp h31, zbt_r]
  · have hq : q < 0 ∨ nI (N 0) ≤ q := by
      rcases h with (h | h) | h
      · exact absurd h (nI_pos (by omega))
      · exact absurd h (nI_ge hj h31)
      · exact h
    rw [h_houseAt_ok (RI_hou I) hj h31, zbt_i, h_houseAt_no (RI_hou I) hq h31, zbt_r]
theorem h_two_eq {j : Nat} (I : RI c N U) (hj : j < N 0) : h_X1_twoHouses N (nI j) (nI j) U = some (.inr 0, U) := by
  have n0 := RI_n0 I
  have h31 : N 0 < 2 ^ 31 := by omega
  unfold h_X1_twoHouses h_X1_twoHouses_20
  rw [h_houseAt_ok (RI_hou I) hj h31, zbt_i, h_houseAt_ok (RI_hou I) hj h31, zbt_i, if_pos rfl, h_demand0, zbt_r]
theorem h_two_ok {i j : Nat} (I : RI c N U) (hi : i < N 0) (hj : j < N 0) (h : i ≠ j) : h_X1_twoHouses N (nI i) (nI j) U = some (.inl (), U) := by
  have n0 := RI_n0 I
  have h31 : N 0 < 2 ^ 31 := by omega
  unfold h_X1_twoHouses h_X1_twoHouses_20
  rw [h_houseAt_ok (RI_hou I) hi h31, zbt_i, h_houseAt_ok (RI_hou I) hj h31, zbt_i, if_neg (fun q => h ((nI_eq (by omega) (by omega)).mp q)), h_demand1, zbt_i]
theorem ix2 (p q : Int32) {n : Nat} (h : n < 2 ^ 31) : ((p < 0 ∨ nI n ≤ p) ∨ ∃ i : Nat, i < n ∧ p = nI i ∧ (q < 0 ∨ nI n ≤ q)) ∨ ∃ i j : Nat, i < n ∧ j < n ∧ p = nI i ∧ q = nI j := by
  rcases ix_cases p h with hp | ⟨i, hi, rfl⟩
  · exact Or.inl (Or.inl hp)
  · rcases ix_cases q h with hq | ⟨j, hj, rfl⟩
    · exact Or.inl (Or.inr ⟨i, hi, rfl, hq⟩)
    · exact Or.inr ⟨i, j, hi, hj, rfl, rfl⟩
theorem op_pass (I : RI c N U) (R : yRM N U (M.2 0)) (hc : c < 1000000) (p q n : Int32) : OKo c N ycdB U M (h_X1_pass N p q n U) (g_X6_pass p q n M) := by
  have n0 := RI_n0 I
  have h31 : N 0 < 2 ^ 31 := by omega
  rcases ix2 p q h31 with h | ⟨i, j, hi, hj, rfl, rfl⟩
  · refine ⟨.inr 2, 0, U, mset M 0 1, ?_, ?_, rfl, I, R, KU_r, KM_set⟩
    · unfold h_X1_pass
      rw [h_two_no I (h.elim Or.inl (fun ⟨_, _, _, h⟩ => Or.inr h)), zbt_r]
    · unfold g_X6_pass
      rcases h with h | ⟨i, hi, rfl, h⟩
      · rw [g_house_no (RM_m1 R) h h31, zb2_at, if_pos rfl]
        rfl
      · rw [g_house_ok (RM_m1 R) hi h31, zb2_at, if_neg ne10, g_house_no (RM_m1 R) h h31, zb2_at, if_neg ne00]
        rfl
  · by_cases hij : i = j
    · subst hij
      refine ⟨.inr 0, 0, U, mset M 0 2, ?_, ?_, rfl, I, R, KU_r, KM_set⟩
      · unfold h_X1_pass
        rw [h_two_eq I hi, zbt_r]
      · unfold g_X6_pass
        rw [g_house_ok (RM_m1 R) hi h31, zb2_at, if_neg ne10, g_house_ok (RM_m1 R) hj h31, zb2_at, if_pos ne10, if_pos rfl]
        rfl
    · have nij : ¬ nI i = nI j := fun q => hij ((nI_eq (by omega) (by omega)).mp q)
      by_cases hn : (1 : Int32) ≤ n ∧ n ≤ 99999
      · obtain ⟨w, hw1, hw, rfl⟩ := x_in (a := 1) (b := 99999) (by omega) hn (by omega)
        obtain ⟨da, ha, ea⟩ := RI_deb I i (by omega)
        obtain ⟨db, hb, eb⟩ := RI_deb I j (by omega)
        have ma : M.2 0 (12 + i) = nI da := (RM_mD R i (by omega)).trans ea
        have mb : M.2 0 (12 + j) = nI db := (RM_mD R j (by omega)).trans eb
        have E1 : h_X1_pass N (nI i) (nI j) (nI w) U = (if 99999 < (nI db + nI (min w da)) then h_X1_pass_53 N (nI i) (nI j) (nI (min w da)) 0 U else h_X1_pass_53 N (nI i) (nI j) (nI (min w da)) 1 U) := by
          unfold h_X1_pass
          rw [h_two_ok I hi hj hij, zbt_i, h_in1 hn, zb2_at, h_demand1, zbt_i, uL_at (by omega) (by omega), bd_at, ea, zmin_nI (by omega) (by omega), zl_at, uL_at (by omega) (by omega), bd_at, eb]
        have E2 : g_X6_pass (nI i) (nI j) (nI w) M = g_X6_pass_79 (nI i) (nI j) (nI (min w da)) (mset M 0 0) := by
          unfold g_X6_pass g_X6_pass_41
          rw [g_house_ok (RM_m1 R) hi h31, zb2_at, if_neg ne10, g_house_ok (RM_m1 R) hj h31, zb2_at, if_pos ne10, if_neg nij, g_in1 hn, zb2_at, if_pos ne10, zl_at, m_set1, if_pos le00, g_mD (M := mset M 0 0) (by omega), bd_at, bd_at]
          show (if M.2 0 (12 + i) ≤ nI w then g_X6_pass_79 (nI i) (nI j) (M.2 0 (12 + i)) (mset M 0 0) else _) = _
          rw [ma]
          by_cases q : da ≤ w
          · rw [if_pos (nI_le q (by omega)), Nat.min_eq_right q]
          · rw [if_neg (nI_ge (by omega) (by omega)), Nat.min_eq_left (by omega)]
        have E3 : g_X6_pass_79 (nI i) (nI j) (nI (min w da)) (mset M 0 0) = (if nI db + nI (min w da) ≤ 99999 then g_X6_pass_104 (nI i) (nI j) (nI (min w da)) 0 (mset M 0 0) else g_X6_pass_104 (nI i) (nI j) (nI (min w da)) 3 (mset M 0 0)) := by
          unfold g_X6_pass_79
          rw [g_mD (M := mset M 0 0) (by omega), bd_at]
          show (if M.2 0 (12 + j) + _ ≤ 99999 then _ else _) = _
          rw [mb]
        rw [E1, E2, E3]
        by_cases hs : db + min w da ≤ 99999
        · rw [if_neg (by rw [nI_add]; exact nI_nlt (a := 99999) (b := db + min w da) hs (by omega)), if_pos (by rw [nI_add]; exact nI_le (b := 99999) hs (by omega))]
          have I1 : RI c N (utab U 0 i (nI da - nI (min w da))) := RIs_debt I (by rw [pk_sub (Nat.min_le_right _ _)]; exact nI_bd (by omega))
          have R1 := RM_debt (x := nI da - nI (min w da)) (show i < 8 by omega) I R
          refine ⟨.inl (nI (min w da)), nI (min w da), utab (utab U 0 i (nI da - nI (min w da))) 0 j (nI db + nI (min w da)), ms (ms (mset (mset M 0 0) 0 0) (12 + i) (nI da - nI (min w da))) (12 + j) (nI db + nI (min w da)), ?_, ?_, ⟨rfl, rfl⟩, RIs_debt I1 (by rw [nI_add]; exact nI_bd (by omega)), RM_debt (by omega) I1 R1, KU_t (KU_tab (by omega)) (KU_tab (by omega)), KM_t (KM_t KM_set KM_set) (KM_t (KM_ms (by omega) (by omega) (by omega)) (KM_ms (by omega) (by omega) (by omega)))⟩
          · unfold h_X1_pass_53
            rw [h_can1, zbt_i, uL_at (by omega) (by omega), bd_at, uSt_at (by omega) (by omega), bd_at, uL_at (by omega) (by omega), bd_at, uSt_at (by omega) (by omega), bd_at, ea]
            have e : (utab U 0 i (nI da - nI (min w da))).2 0 j = nI db := (upd_no (fun q => hij q.symm)).trans eb
            rw [e]
          · unfold g_X6_pass_104
            rw [zl_at, m_set1, if_pos le00, g_mD (M := mset (mset M 0 0) 0 0) (by omega), bd_at, g_sD (by omega), bd_at, g_mD (by omega), bd_at, g_sD (by omega), bd_at]
            have e1 : (mset (mset M 0 0) 0 0).2 0 (12 + i) = nI da := ma
            rw [e1]
            have e : (ms (mset (mset M 0 0) 0 0) (12 + i) (nI da - nI (min w da))).2 0 (12 + j) = nI db := (upd_no (by omega)).trans mb
            rw [e]
        · rw [if_pos (by rw [nI_add]; exact nI_lt (show 99999 < db + min w da by omega) (by omega)), if_neg (by rw [nI_add]; exact nI_ge (show 99999 < db + min w da by omega) (by omega))]
          refine ⟨.inr 4, 0, U, mset (mset M 0 0) 0 3, ?_, ?_, rfl, I, R, KU_r, KM_t KM_set KM_set⟩
          · unfold h_X1_pass_53
            rw [h_can0, zbt_r]
          · unfold g_X6_pass_104
            rw [zl_at, m_set1, if_neg (by decide)]
      · refine ⟨.inr 0, 0, U, mset M 0 2, ?_, ?_, rfl, I, R, KU_r, KM_set⟩
        · unfold h_X1_pass
          rw [h_two_ok I hi hj hij, zbt_i, h_in0 hn, zb2_at, h_demand0, zbt_r]
        · unfold g_X6_pass
          rw [g_house_ok (RM_m1 R) hi h31, zb2_at, if_neg ne10, g_house_ok (RM_m1 R) hj h31, zb2_at, if_pos ne10, if_neg nij, g_in0 hn, zb2_at, if_neg ne00]
          rfl
end T9
