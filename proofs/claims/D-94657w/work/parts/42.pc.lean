/-! pure land: Q1 Q2 Q3 Q4 Q5 (see wip/D-94657w/pl) -/
section T10
variable {c : Nat} {N : Nat → Nat} {U U' U'' : cU} {M M' M'' : mS} {m : Nat → Int32}
theorem op_marry (I : RI c N U) (R : yRM N U (M.2 0)) (hc : c < 1000000) (p q : Int32) : OKo c N ycdB U M (h_X1_marry N p q U) (g_X6_marry p q M) := by
  have n0 := RI_n0 I
  have n1 := RI_n1 I
  have h31 : N 0 < 2 ^ 31 := by omega
  rcases ix2 p q h31 with h | ⟨i, j, hi, hj, rfl, rfl⟩
  · refine ⟨.inr 2, 0, U, mset M 0 1, ?_, ?_, rfl, I, R, KU_r, KM_set⟩
    · unfold h_X1_marry
      rw [h_two_no I (h.elim Or.inl (fun ⟨_, _, _, h⟩ => Or.inr h)), zbt_r]
    · unfold g_X6_marry
      rcases h with h | ⟨i, hi, rfl, h⟩
      · rw [g_house_no (RM_m1 R) h h31, zb2_at, if_pos rfl]
        rfl
      · rw [g_house_ok (RM_m1 R) hi h31, zb2_at, if_neg ne10, g_house_no (RM_m1 R) h h31, zb2_at, if_neg ne00]
        rfl
  · by_cases hij : i = j
    · subst hij
      refine ⟨.inr 0, 0, U, mset M 0 2, ?_, ?_, rfl, I, R, KU_r, KM_set⟩
      · unfold h_X1_marry
        rw [h_two_eq I hi, zbt_r]
      · unfold g_X6_marry
        rw [g_house_ok (RM_m1 R) hi h31, zb2_at, if_neg ne10, g_house_ok (RM_m1 R) hj h31, zb2_at, if_pos ne10, if_neg (fun q => q rfl)]
        rfl
    · have nij : ¬ nI i = nI j := fun q => hij ((nI_eq (by omega) (by omega)).mp q)
      obtain ⟨da, ha, ea⟩ := RI_deb I i (by omega)
      obtain ⟨db, hb, eb⟩ := RI_deb I j (by omega)
      have ma : M.2 0 (12 + i) = nI da := (RM_mD R i (by omega)).trans ea
      have mb : M.2 0 (12 + j) = nI db := (RM_mD R j (by omega)).trans eb
      have E1 : h_X1_marry N (nI i) (nI j) U = (if 99999 < (nI da + nI db) then h_X1_marry_35 N (nI i) (nI j) 0 U else h_X1_marry_35 N (nI i) (nI j) 1 U) := by
        unfold h_X1_marry
        rw [h_two_ok I hi hj hij, zbt_i, uL_at (by omega) (by omega), bd_at, ea, uL_at (by omega) (by omega), bd_at, eb]
      have E2 : g_X6_marry (nI i) (nI j) M = (if nI da + nI db ≤ 99999 then g_X6_marry_59 (nI i) (nI j) 0 M else g_X6_marry_59 (nI i) (nI j) 3 M) := by
        unfold g_X6_marry
        rw [g_house_ok (RM_m1 R) hi h31, zb2_at, if_neg ne10, g_house_ok (RM_m1 R) hj h31, zb2_at, if_pos ne10, if_pos nij, g_mD (by omega), bd_at, g_mD (by omega), bd_at, ma, mb]
      rw [E1, E2, nI_add]
      by_cases hs : da + db ≤ 99999
      · have z1 : ¬ (99999 : Int32) < nI (da + db) := nI_nlt (a := 99999) (b := da + db) hs (by omega)
        have z2 : nI (da + db) ≤ (99999 : Int32) := nI_le (b := 99999) hs (by omega)
        rw [if_neg z1, if_pos z2]
        have I1 : RI c N (utab U 0 i (nI (da + db))) := RIs_debt I (nI_bd (by omega))
        have R1 := RM_debt (x := nI (da + db)) (show i < 8 by omega) I R
        have I2 : RI c N (utab (utab U 0 i (nI (da + db))) 0 j 0) := RIs_debt I1 (nI_bd (n := 0) (by omega))
        have R2 := RM_debt (x := 0) (show j < 8 by omega) I1 R1
        have E3 : h_X1_marry_35 N (nI i) (nI j) 1 U = zlp1 (h_X1_marry_71_b N (nI i) (nI j)) NN (nI 0) (utab (utab U 0 i (nI (da + db))) 0 j 0) := by
          unfold h_X1_marry_35 h_X1_marry_71
          rw [h_can1, zbt_i, uL_at (by omega) (by omega), bd_at, uL_at (by omega) (by omega), bd_at, ea, eb, nI_add, uSt_at (by omega) (by omega), bd_at, uSt_at (by omega) (by omega), bd_at]
          rfl
        have E4 : g_X6_marry_59 (nI i) (nI j) 0 M = zlp1 (g_X6_marry_104_b (nI i) (nI j)) NN (nI 0) (ms (ms (mset M 0 0) (12 + i) (nI (da + db))) (12 + j) 0) := by
          unfold g_X6_marry_59 g_X6_marry_104
          rw [zl_at, m_set1, if_pos le00, g_mD (M := mset M 0 0) (by omega), bd_at, g_mD (M := mset M 0 0) (by omega), bd_at]
          show (mSt (mset M 0 0) 0 (12 + nI i) (M.2 0 (12 + i) + M.2 0 (12 + j))).bind _ = _
          rw [ma, mb, nI_add, g_sD (by omega), bd_at, g_sD (by omega), bd_at]
          rfl
        rw [E3, E4]
        refine lk1 (n := N 1) (fun k t s => RI c N t ∧ yRM N t (s.2 0) ∧ KU U t ∧ yKM M s ∧ s.1 0 = 0) (fun a b => OKo c N ycdB U M a b) (fun k t s hk hp => ?_) (fun t s hp => ?_) 0 _ _ (Nat.zero_le _) ⟨I2, R2, KU_t (KU_tab (by omega)) (KU_tab (by omega)), KM_t KM_set (KM_t (KM_ms (by omega) (by omega) (by omega)) (KM_ms (by omega) (by omega) (by omega))), rfl⟩ NN NN (NN_lt (by omega)) (NN_lt (by omega))
        · obtain ⟨p1, p2, p3, p4, p5⟩ := hp
          have w2 := (RM_mW p2 k hk).2.2.1
          by_cases hw : t.2 1 (4 * k + 3) = nI j
          · refine Or.inl ⟨utab t 1 (4 * k + 3) (nI i), ms s (20 + 4 * k + 2) (nI i), ⟨RIs_whouse p1 ⟨i, hi, rfl⟩, RM_whouse hk p1 p2, KU_t p3 (KU_tab (by omega)), KM_t p4 (KM_ms (by omega) (by omega) (by omega)), p5⟩, fun rf => ?_, fun rg => ?_⟩
            · simp only [h_X1_marry_71_b, h_X1_marry_124, ofN, nleF hk (show N 1 < 2 ^ 31 by omega), vix_at hk (show N 1 < 2 ^ 31 by omega), bd_at, hw, not_true, if_false, zl_at, nI_1]
            · have e2 : mSt s 0 (20 + 4 * nI k + 2) (nI i) = some (ms s (20 + 4 * k + 2) (nI i)) := g_sW (d := 2) (by omega) (by omega)
              simp only [g_X6_marry_104_b, g_X6_marry_138, g_m2, RM_m2 p2, bd_at, nleF hk (show N 1 < 2 ^ 31 by omega), g_oW2 (M := s) (show k < 12 by omega), zb2_at, w2, hw, not_true, if_false, e2, zl_at, nI_1]
          · refine Or.inl ⟨t, s, ⟨p1, p2, p3, p4, p5⟩, fun rf => ?_, fun rg => ?_⟩
            · simp only [h_X1_marry_71_b, h_X1_marry_124, ofN, nleF hk (show N 1 < 2 ^ 31 by omega), vix_at hk (show N 1 < 2 ^ 31 by omega), bd_at, hw, not_false_eq_true, if_true, zl_at, nI_1]
            · simp only [g_X6_marry_104_b, g_X6_marry_138, g_m2, RM_m2 p2, bd_at, nleF hk (show N 1 < 2 ^ 31 by omega), g_oW2 (M := s) (show k < 12 by omega), zb2_at, w2, hw, not_false_eq_true, if_true, zl_at, nI_1]
        · obtain ⟨p1, p2, p3, p4, p5⟩ := hp
          refine ⟨some (.inl (t.2 0 i), t), some (s.2 0 (12 + i), s), ⟨_, _, t, s, rfl, rfl, ⟨p5, RM_mD p2 i (by omega)⟩, p1, p2, p3, p4⟩, fun rf => ?_, fun rg => ?_⟩
          · simp only [h_X1_marry_71_b, ofN, Int32.le_refl, if_true, uL_at (U := t) (t := 0) (show i < 8 by omega) (by omega), bd_at]
          · simp only [g_X6_marry_104_b, g_m2, RM_m2 p2, bd_at, Int32.le_refl, if_true, g_mD (M := s) (show i < 8 by omega)]
      · have z1 : (99999 : Int32) < nI (da + db) := nI_lt (a := 99999) (by omega) (by omega)
        have z2 : ¬ nI (da + db) ≤ (99999 : Int32) := nI_ge (a := 99999) (by omega) (by omega)
        rw [if_pos z1, if_neg z2]
        refine ⟨.inr 4, 0, U, mset M 0 3, ?_, ?_, rfl, I, R, KU_r, KM_set⟩
        · unfold h_X1_marry_35
          rw [h_can0, zbt_r]
        · unfold g_X6_marry_59
          rw [zl_at, m_set1, if_neg (by decide)]
end T10
section T11
variable {c : Nat} {N : Nat → Nat} {U U' U'' : cU} {M M' M'' : mS} {m : Nat → Int32}
theorem bz_t {x : Int32} (h : ¬ x = 0) : bz x = true := by unfold bz; rw [if_neg h]
theorem bz_f {x : Int32} (h : x = 0) : bz x = false := by unfold bz; rw [if_pos h]
theorem bz_1 : bz 1 = true := rfl
theorem bd1 {x : Int32} (h : bd 1 x) : x = 0 ∨ x = 1 := by
  obtain ⟨n, hn, rfl⟩ := h
  have : n = 0 ∨ n = 1 := by omega
  rcases this with rfl | rfl
  · exact Or.inl rfl
  · exact Or.inr rfl
theorem h_burntN (I : RI c N U) : h_X2_burnt N U = some (nI (cn (N 4) (fun e => bz (U.2 4 (8 * e + 7)))), U) := by
  rw [h_burnt (RI_n4 I), ← sm_cn]
  congr 2
  refine sm_eq fun i hi => ?_
  by_cases h : U.2 4 (8 * i + 7) = 0
  · rw [if_pos h, bz_f h]; rfl
  · rw [if_neg h, bz_t h]; rfl
theorem g_burntN (I : RI c N U) (R : yRM N U (M.2 0)) : g_X6_burntNow M = some (nI (cn (N 4) (fun e => bz (U.2 4 (8 * e + 7)))), M) := by
  rw [g_burntNow (RM_m4 R) (RI_n4 I), ← sm_cn]
  congr 2
  refine sm_eq fun i hi => ?_
  rw [(RM_mE R i hi).2.2.2.2.2.2]
  rcases bd1 (RI_ent I i hi).2.2.2.2.2.2.2.2.2 with h | h
  · rw [h]; rfl
  · rw [h]; rfl
theorem cn_front (j : Nat) (p : Nat → Bool) : cn (j + 1) p = (if p 0 then 1 else 0) + cn j (fun k => p (k + 1)) := by
  induction j with
  | zero => show 0 + _ = _ + 0; exact (Nat.zero_add _).trans (Nat.add_zero _).symm
  | succ j ih =>
    show cn (j + 1) p + (if p (j + 1) then 1 else 0) = _ + (cn j (fun k => p (k + 1)) + (if p (j + 1) then 1 else 0))
    rw [ih]; exact Nat.add_assoc _ _ _
theorem cn_s1 {n : Nat} {p : Nat → Bool} (h : p n = true) : cn (n + 1) p = cn n p + 1 := by
  show cn n p + (if p n = true then 1 else 0) = _
  rw [if_pos h]
theorem cn_s0 {n : Nat} {p : Nat → Bool} (h : p n = false) : cn (n + 1) p = cn n p := by
  show cn n p + (if p n = true then 1 else 0) = _
  rw [h]; rfl
theorem cn_upd {n i : Nat} {p : Nat → Bool} {f : Nat → Bool} (hi : i < n) (h1 : f i = true) (h2 : ∀ k, k ≠ i → f k = p k) : cn n f = cn n p + (if p i then 0 else 1) := by
  induction n with
  | zero => omega
  | succ n ih =>
    show cn n f + (if f n then 1 else 0) = cn n p + (if p n then 1 else 0) + _
    by_cases e : i = n
    · subst e
      rw [cn_eq (fun k hk => h2 k (by omega)), h1]
      cases p i <;> simp
    · rw [ih (by omega), h2 n (fun q => e q.symm)]
      omega
theorem op_burn (I : RI c N U) (R : yRM N U (M.2 0)) (hc : c < 1000000) (p q : Int32) : OKo c N ycdB U M (h_X1_burn N p q U) (g_X6_burn p q M) := by
  have n4 := RI_n4 I
  have h31 : N 4 < 2 ^ 31 := by omega
  rcases ix2 p q h31 with h | ⟨i, j, hi, hj, rfl, rfl⟩
  · refine ⟨.inr 2, 0, U, mset M 0 1, ?_, ?_, rfl, I, R, KU_r, KM_set⟩
    · unfold h_X1_burn
      rcases h with h | ⟨i, hi, rfl, h⟩
      · rw [ofN, h_there_no h h31, zbt_r]
      · rw [ofN, h_there_ok hi h31, zbt_i, h_there_no h h31, zbt_r]
    · unfold g_X6_burn
      rcases h with h | ⟨i, hi, rfl, h⟩
      · rw [g_entry_no (RM_m4 R) h h31, zb2_at, if_pos rfl]
        rfl
      · rw [g_entry_ok (RM_m4 R) hi h31, zb2_at, if_neg ne10, g_entry_no (RM_m4 R) h h31, zb2_at, if_neg ne00]
        rfl
  · have E1 : h_X1_burn N (nI i) (nI j) U = (if nI j < nI i then h_X1_burn_38 N (nI i) (nI j) 0 U else h_X1_burn_38 N (nI i) (nI j) 1 U) := by
      unfold h_X1_burn
      rw [ofN, h_there_ok hi h31, zbt_i, h_there_ok hj h31, zbt_i]
    have E2 : g_X6_burn (nI i) (nI j) M = (if nI i ≤ nI j then g_X6_burn_31 (nI i) (nI j) 0 M else g_X6_burn_31 (nI i) (nI j) 2 M) := by
      unfold g_X6_burn
      rw [g_entry_ok (RM_m4 R) hi h31, zb2_at, if_neg ne10, g_entry_ok (RM_m4 R) hj h31, zb2_at, if_pos ne10]
    rw [E1, E2]
    by_cases hij : j < i
    · rw [if_pos (nI_lt hij (by omega)), if_neg (nI_ge hij (by omega))]
      refine ⟨.inr 0, 0, U, mset M 0 2, ?_, ?_, rfl, I, R, KU_r, KM_set⟩
      · unfold h_X1_burn_38
        rw [h_demand0, zbt_r]
      · unfold g_X6_burn_31
        rw [zl_at, m_set1, if_neg (by decide)]
    · rw [if_neg (nI_nlt (by omega) (by omega)), if_pos (nI_le (by omega) (by omega))]
      -- how many there will be
      have E3 : h_X1_burn_38 N (nI i) (nI j) 1 U = zlp2 (h_X1_burn_52_b N (nI i) (nI j)) NN (nI (cn (N 4) (fun e => bz (U.2 4 (8 * e + 7))))) (nI i) U := by
        unfold h_X1_burn_38 h_X1_burn_52
        rw [h_demand1, zbt_i, h_burntN I, zb2_at]
      have E4 : g_X6_burn_31 (nI i) (nI j) 0 M = zlp2 (g_X6_burn_51_b (nI i) (nI j)) NN (nI (cn (N 4) (fun e => bz (U.2 4 (8 * e + 7))))) (nI i) (mset M 0 0) := by
        unfold g_X6_burn_31 g_X6_burn_51
        rw [zl_at, m_set1, if_pos le00, g_burntN (M := mset M 0 0) I R, zb2_at]
      have cnt : ∀ k, cn k (fun e => ! bz (U.2 4 (8 * (i + e) + 7))) ≤ k := fun k => cn_le k _
      have cn4 := cn_le (N 4) (fun e => bz (U.2 4 (8 * e + 7)))
      have bur := RI_bur I
      generalize hb : cn (N 4) (fun e => bz (U.2 4 (8 * e + 7))) = b at *
      have E5 : ∀ R, (∀ rf, h_X1_burn_52_b N (nI i) (nI j) rf (nI (b + cn (j + 1 - i) (fun e => ! bz (U.2 4 (8 * (i + e) + 7))))) (nI (i + (j + 1 - i))) U = R) → zlp2 (h_X1_burn_52_b N (nI i) (nI j)) NN (nI b) (nI i) U = R := by
        intro R he
        refine zlp2_it (n := j + 1 - i) (fun k => nI (b + cn k (fun e => ! bz (U.2 4 (8 * (i + e) + 7))))) (fun k => nI (i + k)) (fun _ => U) (fun k rf hk => ?_) he NN (NN_lt (by omega))
        simp only [h_X1_burn_52_b, h_X1_burn_85, if_neg (nI_nlt (show i + k ≤ j by omega) (show j < 2 ^ 31 by omega)), vix_at (show i + k < N 4 by omega) h31, bd_at, zl_at, nI_1, Nat.add_assoc]
        by_cases z : U.2 4 (8 * (i + k) + 7) = 0
        · rw [if_pos z, cn_s1 (by show (! bz (U.2 4 (8 * (i + k) + 7))) = true; rw [bz_f z]; rfl)]
        · rw [if_neg z, cn_s0 (by show (! bz (U.2 4 (8 * (i + k) + 7))) = false; rw [bz_t z]; rfl), i_add0]
      have E6 : ∀ R, (∀ rf, g_X6_burn_51_b (nI i) (nI j) rf (nI (b + cn (j + 1 - i) (fun e => ! bz (U.2 4 (8 * (i + e) + 7))))) (nI (i + (j + 1 - i))) (mset M 0 0) = R) → zlp2 (g_X6_burn_51_b (nI i) (nI j)) NN (nI b) (nI i) (mset M 0 0) = R := by
        intro R0 he
        refine zlp2_it (n := j + 1 - i) (fun k => nI (b + cn k (fun e => ! bz (U.2 4 (8 * (i + e) + 7))))) (fun k => nI (i + k)) (fun _ => mset M 0 0) (fun k rf hk => ?_) he NN (NN_lt (by omega))
        have e6 : (mset M 0 0).2 0 (122 + 7 * (i + k) + 6) = U.2 4 (8 * (i + k) + 7) := (RM_mE R (i + k) (by omega)).2.2.2.2.2.2
        simp only [g_X6_burn_51_b, if_neg (nI_nlt (show i + k ≤ j by omega) (show j < 2 ^ 31 by omega)), g_oE6 (M := mset M 0 0) (show i + k < 60 by omega), e6, zb2_at, zl_at, nI_1]
        show _ = rf _ (nI (i + k + 1)) _
        rcases bd1 (RI_ent I (i + k) (by omega)).2.2.2.2.2.2.2.2.2 with z | z
        · rw [z, cn_s1 (by show (! bz (U.2 4 (8 * (i + k) + 7))) = true; rw [bz_f z]; rfl), show (1 : Int32) - 0 = 1 from rfl, nI_1]
          rfl
        · rw [z, cn_s0 (by show (! bz (U.2 4 (8 * (i + k) + 7))) = false; rw [bz_t (by rw [z]; decide)]; rfl), show (1 : Int32) - 1 = 0 from rfl, i_add0]
      have e9 : i + (j + 1 - i) = j + 1 := by omega
      have cj := cnt (j + 1 - i)
      generalize ht : b + cn (j + 1 - i) (fun e => ! bz (U.2 4 (8 * (i + e) + 7))) = T at *
      rw [e9] at E5 E6
      by_cases hT : T ≤ 16
      · have z1 : ¬ (16 : Int32) < nI T := nI_nlt (a := 16) hT (by omega)
        have z2 : nI T ≤ (16 : Int32) := nI_le (b := 16) hT (by omega)
        rw [E3, E4, E5 (zlp1 (h_X1_burn_110_b N (nI j) (nI T)) NN (nI i) U) (fun rf => by
          unfold h_X1_burn_52_b h_X1_burn_104 h_X1_burn_110
          rw [if_pos (nI_lt (by omega) (by omega)), if_neg z1, h_can1, zbt_i]), E6 (zlp1 (g_X6_burn_103_b (nI j) (nI T)) NN (nI i) (mset (mset M 0 0) 0 0)) (fun rg => by
          unfold g_X6_burn_51_b g_X6_burn_88 g_X6_burn_103
          rw [if_pos (nI_lt (by omega) (by omega)), if_pos z2, zl_at, m_set1, if_pos le00])]
        refine lk1 (n := j + 1) (fun k t s => RI c N t ∧ yRM N t (s.2 0) ∧ KU U t ∧ yKM M s ∧ s.1 0 = 0 ∧ k ≤ j + 1 ∧ cn (N 4) (fun e => bz (t.2 4 (8 * e + 7))) + cn (j + 1 - k) (fun e => ! bz (t.2 4 (8 * (k + e) + 7))) ≤ 16) (fun a b => OKo c N ycdB U M a b) (fun k t s hk hp => ?_) (fun t s hp => ?_) i _ _ (by omega) ⟨I, R, KU_r, KM_t KM_set KM_set, rfl, by omega, by rw [hb, ht]; exact hT⟩ NN NN (NN_lt (by omega)) (NN_lt (by omega))
        · obtain ⟨p1, p2, p3, p4, p5, p6, p7⟩ := hp
          have hk4 : k < N 4 := by omega
          have hcn : cn (N 4) (fun e => bz ((utab t 4 (8 * k + 7) 1).2 4 (8 * e + 7))) = cn (N 4) (fun e => bz (t.2 4 (8 * e + 7))) + (if bz (t.2 4 (8 * k + 7)) then 0 else 1) := by
            refine cn_upd (p := fun e => bz (t.2 4 (8 * e + 7))) hk4 ?_ (fun l hl => ?_)
            · show bz (upd (t.2 4) (8 * k + 7) 1 (8 * k + 7)) = true
              rw [upd_at]; rfl
            · show bz (upd (t.2 4) (8 * k + 7) 1 (8 * l + 7)) = bz (t.2 4 (8 * l + 7))
              rw [upd_no (by omega)]
          have hfr : cn (j + 1 - k) (fun e => ! bz (t.2 4 (8 * (k + e) + 7))) = (if ! bz (t.2 4 (8 * k + 7)) then 1 else 0) + cn (j + 1 - (k + 1)) (fun e => ! bz ((utab t 4 (8 * k + 7) 1).2 4 (8 * (k + 1 + e) + 7))) := by
            rw [show j + 1 - k = (j + 1 - (k + 1)) + 1 by omega, cn_front]
            congr 1
            refine cn_eq fun l hl => ?_
            show (! bz (t.2 4 (8 * (k + (l + 1)) + 7))) = ! bz (upd (t.2 4) (8 * k + 7) 1 (8 * (k + 1 + l) + 7))
            rw [upd_no (by omega), show k + (l + 1) = k + 1 + l by omega]
          have hsum : cn (N 4) (fun e => bz ((utab t 4 (8 * k + 7) 1).2 4 (8 * e + 7))) + cn (j + 1 - (k + 1)) (fun e => ! bz ((utab t 4 (8 * k + 7) 1).2 4 (8 * (k + 1 + e) + 7))) ≤ 16 := by
            rw [hcn]
            rw [hfr] at p7
            cases z : bz (t.2 4 (8 * k + 7)) <;> rw [z] at p7 <;> simp at p7 ⊢ <;> omega
          have I2 : RI c N (utab t 4 (8 * k + 7) 1) := by
            obtain ⟨n0, n1, n2, n3, n4, hou, txt, lim, rst, day, ser, deb, wal, tur, off, ent, bur⟩ := p1
            refine ⟨n0, n1, n2, n3, n4, hou, txt, lim, rst, day, ser, deb, wal, tur, off, fun e he => ?_, by omega⟩
            obtain ⟨a0, a1, a2, a3, a4, a5, a6, a7, a8, a9⟩ := ent e he
            show bdp c (upd (t.2 4) (8 * k + 7) 1 (8 * e)) ∧ upd (t.2 4) (8 * k + 7) 1 (8 * e) ≤ t.1 6 ∧ bd c (upd (t.2 4) (8 * k + 7) 1 (8 * e + 1)) ∧ upd (t.2 4) (8 * k + 7) 1 (8 * e + 1) ≤ t.1 4 ∧ (∃ w, w < N 1 ∧ upd (t.2 4) (8 * k + 7) 1 (8 * e + 2) = nI w) ∧ (∃ h, h < N 0 ∧ upd (t.2 4) (8 * k + 7) 1 (8 * e + 3) = nI h) ∧ (∃ q, q ≤ N 2 ∧ upd (t.2 4) (8 * k + 7) 1 (8 * e + 4) = nI q) ∧ bd 9801 (upd (t.2 4) (8 * k + 7) 1 (8 * e + 5)) ∧ bd 1 (upd (t.2 4) (8 * k + 7) 1 (8 * e + 6)) ∧ bd 1 (upd (t.2 4) (8 * k + 7) 1 (8 * e + 7))
            rw [upd_no (show 8 * e ≠ 8 * k + 7 by omega), upd_no (show 8 * e + 1 ≠ 8 * k + 7 by omega), upd_no (show 8 * e + 2 ≠ 8 * k + 7 by omega), upd_no (show 8 * e + 3 ≠ 8 * k + 7 by omega), upd_no (show 8 * e + 4 ≠ 8 * k + 7 by omega), upd_no (show 8 * e + 5 ≠ 8 * k + 7 by omega), upd_no (show 8 * e + 6 ≠ 8 * k + 7 by omega)]
            refine ⟨a0, a1, a2, a3, a4, a5, a6, a7, a8, ?_⟩
            by_cases z : e = k
            · subst z; rw [upd_at]; exact nI_bd (n := 1) (by omega)
            · rw [upd_no (by omega)]; exact a9
          refine Or.inl ⟨utab t 4 (8 * k + 7) 1, ms s (122 + 7 * k + 6) 1, ⟨I2, RM_burn hk4 p1 p2, KU_t p3 (KU_tab (by omega)), KM_t p4 (KM_ms (by omega) (by omega) (by omega)), p5, by omega, hsum⟩, fun rf => ?_, fun rg => ?_⟩
          · simp only [h_X1_burn_110_b, if_neg (nI_nlt (show k ≤ j by omega) (show j < 2 ^ 31 by omega)), vix_at hk4 h31, bd_at, utabZ, or_true, if_true, zl_at, nI_1]
          · have e2 : mSt s 0 (122 + 7 * nI k + 6) 1 = some (ms s (122 + 7 * k + 6) 1) := g_sE (d := 6) (by omega) (by omega)
            simp only [g_X6_burn_103_b, if_neg (nI_nlt (show k ≤ j by omega) (show j < 2 ^ 31 by omega)), e2, bd_at, zl_at, nI_1]
        · obtain ⟨p1, p2, p3, p4, p5, -⟩ := hp
          refine ⟨some (.inl (nI T), t), some (nI T, s), ⟨_, _, t, s, rfl, rfl, ⟨p5, rfl⟩, p1, p2, p3, p4⟩, fun rf => ?_, fun rg => ?_⟩
          · unfold h_X1_burn_110_b
            rw [if_pos (nI_lt (by omega) (by omega))]
          · unfold g_X6_burn_103_b
            rw [if_pos (nI_lt (by omega) (by omega))]
      · have z1 : (16 : Int32) < nI T := nI_lt (a := 16) (by omega) (by omega)
        have z2 : ¬ nI T ≤ (16 : Int32) := nI_ge (a := 16) (by omega) (by omega)
        refine ⟨.inr 4, 0, U, mset (mset M 0 0) 0 3, ?_, ?_, rfl, I, R, KU_r, KM_t KM_set KM_set⟩
        · rw [E3]
          refine E5 _ (fun rf => ?_)
          unfold h_X1_burn_52_b h_X1_burn_104
          rw [if_pos (nI_lt (by omega) (by omega)), if_pos z1, h_can0, zbt_r]
        · rw [E4]
          refine E6 _ (fun rg => ?_)
          unfold g_X6_burn_51_b g_X6_burn_88
          rw [if_pos (nI_lt (by omega) (by omega)), if_neg z2, zl_at, m_set1, if_neg (by decide)]
end T11
section T12
variable {c : Nat} {N : Nat → Nat} {U U' U'' : cU} {M M' M'' : mS} {m : Nat → Int32}
theorem op_may2 (I : RI c N U) (R : yRM N U (M.2 0)) (hc : c < 1000000) (w nt : Int32) (hnt : nt = 0 ∨ nt = 1) : ∃ v, h_X2_may_56 N w nt 0 U = some (v, U) ∧ g_X6_mayWalk_50 w nt 0 M = some (v, M) ∧ (v = 0 ∨ v = 1) := by
  have n4 := RI_n4 I
  have h31 : N 4 < 2 ^ 31 := by omega
  refine lk1 (n := N 4) (fun k t s => t = U ∧ s = M) (fun a b => ∃ v, a = some (v, U) ∧ b = some (v, M) ∧ (v = 0 ∨ v = 1)) (fun k t s hk hp => ?_) (fun t s hp => ?_) 0 _ _ (Nat.zero_le _) ⟨rfl, rfl⟩ NN NN (NN_lt (by omega)) (NN_lt (by omega))
  · obtain ⟨rfl, rfl⟩ := hp
    obtain ⟨r0, r1, r2, r3, r4, r5, r6⟩ := RM_mE R k hk
    obtain ⟨-, -, i2, i3, -, -, -, -, i8, -⟩ := RI_ent I k hk
    obtain ⟨a, ha, ea⟩ := i2
    obtain ⟨d, hd, ed⟩ := RI_day I
    have had : a ≤ d := by rw [ea, ed] at i3; exact (nI_leI (by omega) (by omega)).mp i3
    obtain ⟨r, hr, er⟩ := RI_rst I
    have m4 := RM_m4 R
    have m7 := RM_m7 R
    have m8 := RM_m8 R
    by_cases hw : t.2 4 (8 * k + 2) = w
    · by_cases q : a = d
      · subst q
        by_cases hn : t.2 4 (8 * k + 6) = nt
        · refine Or.inr ⟨_, _, ⟨0, rfl, rfl, Or.inl rfl⟩, fun rf => ?_, fun rg => ?_⟩
          · unfold h_X2_may_56_b
            rw [ofN, nleF hk h31, vix_at hk h31, bd_at, if_neg (fun z => z hw), ed, ea, if_pos (Int32.le_refl _), if_neg (fun z => z hn)]
          · unfold g_X6_mayWalk_50_b g_X6_mayWalk_109
            rw [g_m4, bd_at, m4, nleF hk h31, g_oE1 (by omega), zb2_at, r1, if_pos hw, g_m8, bd_at, m8, ed, g_oE0 (by omega), zb2_at, r0, ea, zl_at, Int32.sub_self, if_pos le00, if_neg ne00, g_oE4 (by omega), zb2_at, r4, hn]
            unfold g_X6_mayWalk_130
            rcases hnt with rfl | rfl
            · rw [if_pos rfl, if_neg (fun z => z rfl)]
            · rw [if_neg ne10, if_neg (fun z => z rfl)]
        · refine Or.inl ⟨t, s, ⟨rfl, rfl⟩, fun rf => ?_, fun rg => ?_⟩
          · unfold h_X2_may_56_b h_X2_may_134
            rw [ofN, nleF hk h31, vix_at hk h31, bd_at, if_neg (fun z => z hw), ed, ea, if_pos (Int32.le_refl _), if_pos hn, zl_at, nI_1]
          · unfold g_X6_mayWalk_50_b g_X6_mayWalk_109
            rw [g_m4, bd_at, m4, nleF hk h31, g_oE1 (by omega), zb2_at, r1, if_pos hw, g_m8, bd_at, m8, ed, g_oE0 (by omega), zb2_at, r0, ea, zl_at, Int32.sub_self, if_pos le00, if_neg ne00, g_oE4 (by omega), zb2_at, r4]
            unfold g_X6_mayWalk_130 g_X6_mayWalk_135
            rcases hnt with rfl | rfl
            · rw [if_pos rfl, if_pos hn, zl_at, nI_1]
            · rw [if_neg ne10, if_pos hn, zl_at, nI_1]
      · have e1 : nI d - nI a = nI (d - a) := pk_sub had
        have e2 : ¬ nI d ≤ nI a := nI_ge (by omega) (by omega)
        have e3 : ¬ nI (d - a) ≤ 0 := nI_nle (by omega) (by omega)
        have e4 : ¬ nI (d - a) = 0 := nI_ne0 (by omega) (by omega)
        by_cases q2 : r < d - a
        · refine Or.inl ⟨t, s, ⟨rfl, rfl⟩, fun rf => ?_, fun rg => ?_⟩
          · unfold h_X2_may_56_b h_X2_may_134
            rw [ofN, nleF hk h31, vix_at hk h31, bd_at, if_neg (fun z => z hw), ed, ea, if_neg e2, e1, er, if_pos (nI_lt q2 (by omega)), zl_at, nI_1]
          · unfold g_X6_mayWalk_50_b g_X6_mayWalk_109 g_X6_mayWalk_135
            rw [g_m4, bd_at, m4, nleF hk h31, g_oE1 (by omega), zb2_at, r1, if_pos hw, g_m8, bd_at, m8, ed, g_oE0 (by omega), zb2_at, r0, ea, zl_at, e1, if_neg e3, g_m7, bd_at, m7, er, if_neg (nI_ge q2 (by omega)), if_pos e4, zl_at, nI_1]
        · refine Or.inr ⟨_, _, ⟨0, rfl, rfl, Or.inl rfl⟩, fun rf => ?_, fun rg => ?_⟩
          · unfold h_X2_may_56_b
            rw [ofN, nleF hk h31, vix_at hk h31, bd_at, if_neg (fun z => z hw), ed, ea, if_neg e2, e1, er, if_neg (nI_nlt (by omega) (by omega))]
          · unfold g_X6_mayWalk_50_b
            rw [g_m4, bd_at, m4, nleF hk h31, g_oE1 (by omega), zb2_at, r1, if_pos hw, g_m8, bd_at, m8, ed, g_oE0 (by omega), zb2_at, r0, ea, zl_at, e1, if_neg e3, g_m7, bd_at, m7, er, if_pos (nI_le (by omega) (by omega))]
    · refine Or.inl ⟨t, s, ⟨rfl, rfl⟩, fun rf => ?_, fun rg => ?_⟩
      · unfold h_X2_may_56_b h_X2_may_134
        rw [ofN, nleF hk h31, vix_at hk h31, bd_at, if_pos hw, zl_at, nI_1]
      · unfold g_X6_mayWalk_50_b g_X6_mayWalk_135
        rw [g_m4, bd_at, m4, nleF hk h31, g_oE1 (by omega), zb2_at, r1, if_neg hw, zl_at, nI_1]
  · obtain ⟨rfl, rfl⟩ := hp
    refine ⟨_, _, ⟨1, rfl, rfl, Or.inr rfl⟩, fun rf => ?_, fun rg => ?_⟩
    · unfold h_X2_may_56_b
      rw [ofN, if_pos (Int32.le_refl _)]
    · unfold g_X6_mayWalk_50_b
      rw [g_m4, bd_at, RM_m4 R, if_pos (Int32.le_refl _)]
theorem op_may (I : RI c N U) (R : yRM N U (M.2 0)) (hc : c < 1000000) (w nt : Int32) (hnt : nt = 0 ∨ nt = 1) {k : Nat} (hk : k ≤ N 2) : ∃ v, h_X2_may N w (nI k) nt U = some (v, U) ∧ g_X6_mayWalk w (nI k) nt M = some (v, M) ∧ (v = 0 ∨ v = 1 ∧ N 4 < 60 ∧ ∀ t, t < k → U.2 2 (3 * t + 1) < U.1 2) := by
  have n4 := RI_n4 I
  have n2 := RI_n2 I
  have h31 : N 2 < 2 ^ 31 := by omega
  unfold h_X2_may g_X6_mayWalk
  rw [ofN, g_m4, bd_at, RM_m4 R]
  by_cases h60 : nI (N 4) = 60
  · rw [if_neg (fun z => z h60), if_neg (fun z => z h60)]
    exact ⟨0, rfl, rfl, Or.inl rfl⟩
  · rw [if_pos h60, if_pos h60]
    have h60' : N 4 < 60 := by
      refine Nat.lt_of_le_of_ne n4 fun z => h60 ?_
      rw [z]; rfl
    refine lk1 (n := k) (fun j t s => t = U ∧ s = M ∧ ∀ t, t < j → U.2 2 (3 * t + 1) < U.1 2) (fun a b => ∃ v, a = some (v, U) ∧ b = some (v, M) ∧ (v = 0 ∨ v = 1 ∧ N 4 < 60 ∧ ∀ t, t < k → U.2 2 (3 * t + 1) < U.1 2)) (fun j t s hj hp => ?_) (fun t s hp => ?_) 0 _ _ (Nat.zero_le _) ⟨rfl, rfl, fun t ht => absurd ht (by omega)⟩ NN NN (NN_lt (by omega)) (NN_lt (by omega))
    · obtain ⟨rfl, rfl, hw⟩ := hp
      have r1 := (RM_mT R j (by omega)).2.1
      have m6 := RM_m6 R
      by_cases hl : t.2 2 (3 * j + 1) < t.1 2
      · refine Or.inl ⟨t, s, ⟨rfl, rfl, fun i hi => ?_⟩, fun rf => ?_, fun rg => ?_⟩
        · by_cases z : i = j
          · subst z; exact hl
          · exact hw i (by omega)
        · unfold h_X2_may_17_b
          rw [nleF hj (by omega), vix_at (by omega) h31, bd_at, if_pos hl, zl_at, nI_1]
        · unfold g_X6_mayWalk_16_b
          rw [nleF hj (by omega), g_oT1 (by omega), zb2_at, g_m6, bd_at, r1, m6, if_pos hl, zl_at, nI_1]
      · refine Or.inr ⟨_, _, ⟨0, rfl, rfl, Or.inl rfl⟩, fun rf => ?_, fun rg => ?_⟩
        · unfold h_X2_may_17_b
          rw [nleF hj (by omega), vix_at (by omega) h31, bd_at, if_neg hl]
        · unfold g_X6_mayWalk_16_b
          rw [nleF hj (by omega), g_oT1 (by omega), zb2_at, g_m6, bd_at, r1, m6, if_neg hl]
    · obtain ⟨rfl, rfl, hw⟩ := hp
      obtain ⟨v, e1, e2, e3⟩ := op_may2 I R hc w nt hnt
      refine ⟨_, _, ⟨v, rfl, rfl, e3.elim Or.inl (fun z => Or.inr ⟨z, h60', hw⟩)⟩, fun rf => ?_, fun rg => ?_⟩
      · unfold h_X2_may_17_b
        rw [if_pos (Int32.le_refl _), e1]
      · unfold g_X6_mayWalk_16_b
        rw [if_pos (Int32.le_refl _), e2]
end T12
/-- a place of one of the model's arrays is written -/
def mj (M : mS) (j k : Nat) (x : Int32) : mS := (M.1, fun q => if q = j then upd (M.2 j) k x else M.2 q)
theorem mj_set {M : mS} {j k : Nat} {x : Int32} (hk : k < mAL j) : mSt M j (nI k) x = some (mj M j k x) := by
  unfold mSt
  have h1 : ¬ (nI k < 0 ∨ mAL j ≤ (nI k).toNatClampNeg) := nI_in hk (show mAL j < 2 ^ 31 by unfold mAL; split <;> omega)
  have h2 : mAL j ≤ 5000 := by unfold mAL; split <;> omega
  rw [if_neg h1, nI_clamp (by omega)]
  rfl
/-- the law that is asked of the component (lw, nb) is the one that stands in the row m: for every scene both tell one number -/
def LK (lw : Bool) (nb : cU → Option Int32) (m : Nat → Int32) : Prop :=
  (lw = false ∧ m 10 = -1) ∨ (lw = true ∧ ¬ m 10 = -1 ∧ ∀ (s0 s1 s2 s3 s4 s5 s6 : Int32), (s5 = 0 ∨ s5 = 1) → (s6 = 0 ∨ s6 = 1) → ∃ v, bd 99 v ∧
    (∀ U : cU, U.1 14 = s0 → U.1 15 = s1 → U.1 16 = s2 → U.1 17 = s3 → U.1 18 = s4 → U.1 19 = s5 → U.1 20 = s6 → nb U = some v) ∧
    (∀ M : mS, M.1 7 = 542 → M.1 8 = m 11 → M.1 9 = 0 → M.1 10 = -1 → M.1 11 = 0 → M.1 13 = s0 → M.1 14 = s5 → M.1 15 = s6 → M.1 16 = -1 → M.2 4 0 = s1 → M.2 4 1 = s2 → M.2 4 2 = s3 → M.2 4 3 = s4 → (∀ j, 542 ≤ j → j < 942 → M.2 0 j = m j) →
      ∃ n M', g_X6_read 1 M = some (n, M') ∧ M'.2 = M.2 ∧ (∀ k, k ≠ 9 → k ≠ 10 → k ≠ 11 → k ≠ 16 → M'.1 k = M.1 k) ∧ ((M'.1 16 = -1 ∧ v = 0) ∨ (¬ M'.1 16 = -1 ∧ v = M'.1 16))))
theorem LK_congr {lw : Bool} {nb : cU → Option Int32} {m m' : Nat → Int32} (L : LK lw nb m) (h : ∀ j, (j = 10 ∨ j = 11 ∨ (542 ≤ j ∧ j < 942)) → m' j = m j) : LK lw nb m' := by
  rcases L with ⟨h1, h2⟩ | ⟨h1, h2, h3⟩
  · exact Or.inl ⟨h1, by rw [h 10 (by omega)]; exact h2⟩
  · refine Or.inr ⟨h1, by rw [h 10 (by omega)]; exact h2, fun s0 s1 s2 s3 s4 s5 s6 q5 q6 => ?_⟩
    obtain ⟨v, a, b, d⟩ := h3 s0 s1 s2 s3 s4 s5 s6 q5 q6
    refine ⟨v, a, b, fun M z7 z8 z9 z10 z11 z13 z14 z15 z16 f0 f1 f2 f3 hj => d M z7 ?_ z9 z10 z11 z13 z14 z15 z16 f0 f1 f2 f3 fun j q q' => ?_⟩
    · rw [z8, h 11 (by omega)]
    · rw [hj j q q', h j (by omega)]
section T13
variable {c : Nat} {N : Nat → Nat} {U U' U'' : cU} {M M' M'' : mS} {m : Nat → Int32}
/-- only the scene has changed -/
def ySC (U U' : cU) : Prop := U'.2 = U.2 ∧ ∀ k, k < 14 ∨ 21 ≤ k → U'.1 k = U.1 k
theorem SC_r : ySC U U := ⟨rfl, fun _ _ => rfl⟩
theorem SC_t (h : ySC U U') (h' : ySC U' U'') : ySC U U'' := ⟨h'.1.trans h.1, fun k hk => (h'.2 k hk).trans (h.2 k hk)⟩
theorem SC_set {k : Nat} {x : Int32} (h : 14 ≤ k ∧ k < 21) : ySC U (uset U k x) := ⟨rfl, fun j _ => if_neg (by omega)⟩
theorem SC_KU (h : ySC U U') : KU U U' := ⟨fun k _ h2 => h.2 k (by omega), by rw [h.1], by rw [h.1]⟩
theorem SC_RI (h : ySC U U') (I : RI c N U) : RI c N U' := RI_scr I (fun k hk _ => h.2 k (by omega)) (fun t _ => by rw [h.1])
theorem SC_RM (h : ySC U U') (R : yRM N U m) : yRM N U' m := RM_scr R (fun k hk => h.2 k (by omega)) (fun t _ => by rw [h.1])
theorem paces_bd (I : RI c N U) {k : Nat} (hk : k ≤ N 2) : ∃ p, p ≤ 99 * k ∧ ysm k (fun e => U.2 2 (3 * e)) = nI p := by
  induction k with
  | zero => exact ⟨0, by omega, rfl⟩
  | succ k ih =>
    obtain ⟨p, hp, e⟩ := ih (by omega)
    obtain ⟨l, hl, e2⟩ := (RI_tur I k (by omega)).1
    exact ⟨p + l, by omega, by rw [sm_s, e, e2, nI_add]⟩
theorem usetZ_at {k : Nat} {x : Int32} (h : x = 0 ∨ x = 1) : usetZ U k x = some (uset U k x) := if_pos h
theorem mPZ_at {k : Nat} {x : Int32} (h : x = 0 ∨ x = 1) : mPZ M k x = some (mset M k x) := if_pos h
theorem uset_at {k : Nat} {x : Int32} : (uset U k x).1 k = x := if_pos rfl
theorem uset_no {k j : Nat} {x : Int32} (h : j ≠ k) : (uset U k x).1 j = U.1 j := if_neg h
theorem op_counted {lw : Bool} {nb : cU → Option Int32} (I : RI c N U) (R : yRM N U (M.2 0)) (L : LK lw nb (M.2 0)) {w k : Nat} (hw : w < N 1) (h : Int32) (hk : k ≤ N 2) {nt : Int32} (hnt : nt = 0 ∨ nt = 1) :
    ∃ v U' M', h_X1_counted N lw nb (nI w) h (nI k) nt U = some (v, U') ∧ g_X6_countsOf (nI w) h (nI k) nt M = some (v, M') ∧ bd 9801 v ∧ ySC U U' ∧ yKM M M' ∧ M'.2 0 = M.2 0 ∧ M'.1 0 = M.1 0 ∧ M'.2 5 = M.2 5 ∧ M'.1 18 = M.1 18 := by
  have n1 := RI_n1 I
  have n2 := RI_n2 I
  obtain ⟨p, hp, ep⟩ := paces_bd I hk
  have E1 : h_X2_paces N (nI k) U = some (nI p, U) := by rw [h_paces n2 hk, ep]
  have E2 : ∀ M0 : mS, M0.2 0 = M.2 0 → g_X6_pacesOf (nI k) M0 = some (nI p, M0) := by
    intro M0 h0
    rw [g_paces (by omega), ← ep]
    congr 2
    refine sm_eq fun t ht => ?_
    rw [h0]
    exact (RM_mT R t (by omega)).1
  have e10 : nI p * 10 / 10 = nI p := by
    rw [show (10 : Int32) = nI 10 from rfl, pk_mul, pk_div (by omega) (by omega) (by omega), Nat.mul_div_cancel _ (by omega)]
  rcases L with ⟨l1, l2⟩ | ⟨l1, l2, l3⟩
  · subst l1
    refine ⟨nI p, U, M, ?_, ?_, nI_bd (by omega), SC_r, KM_r, rfl, rfl, rfl, rfl⟩
    · unfold h_X1_counted
      rw [E1, zb2_at, if_pos rfl]
    · unfold g_X6_countsOf g_X6_countsOf_189
      rw [E2 M rfl, zb2_at, show (10 : Int32) = nI 10 from rfl, mL_n (j := 0) (k := 10) (show 10 < 942 by omega) (by omega), bd_at, if_pos l2, ← show (10 : Int32) = nI 10 from rfl, e10]
  · subst l1
    obtain ⟨w0, w1, w2, w3⟩ := RM_mW R w hw
    have m8 := RM_m8 R
    -- the scene
    have own : ∃ o : Int32, (o = 0 ∨ o = 1) ∧ o = (if ¬ U.2 1 (4 * w + 3) = h then 0 else 1) := by
      by_cases z : ¬ U.2 1 (4 * w + 3) = h
      · exact ⟨0, Or.inl rfl, by rw [if_pos z]⟩
      · exact ⟨1, Or.inr rfl, by rw [if_neg z]⟩
    obtain ⟨o, ho, eo⟩ := own
    let wear : Int32 := if k = 0 then 0 else U.2 2 (3 * (k - 1) + 1)
    obtain ⟨v, hv, l4, l5⟩ := l3 (U.2 1 (4 * w)) (U.2 1 (4 * w + 1)) wear (nI p) (U.1 4 - U.1 4 / 7 * 7) nt o hnt ho
    -- the model's side
    let F1 : mS := mj (mj (mj (mj M 4 0 (U.2 1 (4 * w + 1))) 4 1 wear) 4 2 (nI p)) 4 3 (U.1 4 - U.1 4 / 7 * 7)
    let F2 : mS := mset (mset (mset F1 13 (U.2 1 (4 * w))) 14 nt) 15 o
    let F3 : mS := mset (mset (mset (mset (mset (mset F2 10 (-1)) 7 542) 8 (M.2 0 11)) 9 0) 11 0) 16 (-1)
    obtain ⟨n, M9, g1, g2, g3, g4⟩ := l5 F3 rfl rfl rfl rfl rfl rfl rfl rfl rfl rfl rfl rfl rfl (fun j _ _ => rfl)
    have G : g_X6_countsOf (nI w) h (nI k) nt M = some (nI p * v / 10, mset M9 10 (M.1 10)) := by
      have G1 : g_X6_countsOf_112 (nI p) o (mset (mset F1 13 (U.2 1 (4 * w))) 14 nt) = some (nI p * v / 10, mset M9 10 (M.1 10)) := by
        unfold g_X6_countsOf_112
        rw [mPZ_at ho, bd_at, zl_at, zl_at, zl_at, show (11 : Int32) = nI 11 from rfl, mL_n (j := 0) (k := 11) (show 11 < 942 by omega) (by omega), bd_at, zl_at, zl_at, zl_at, zl_at]
        show zb2 (g_X6_read 1 F3) _ = _
        rw [g1, zb2_at, zl_at]
        unfold g_X6_countsOf_187 g_X6_countsOf_189
        rw [m_setn _ (by omega)]
        rcases g4 with ⟨a, b⟩ | ⟨a, b⟩
        · rw [if_neg (fun z => z a), b]; rfl
        · rw [if_pos a, ← b]; rfl
      have G2 : g_X6_countsOf_55 (nI w) h nt (nI p) 1 wear (mj M 4 0 (U.2 1 (4 * w + 1))) = some (nI p * v / 10, mset M9 10 (M.1 10)) := by
        unfold g_X6_countsOf_55
        rw [show (1 : Int32) = nI 1 from rfl, mj_set (j := 4) (show 1 < 4 by omega), bd_at, show (2 : Int32) = nI 2 from rfl, mj_set (j := 4) (show 2 < 4 by omega), bd_at, g_m8, bd_at, show (3 : Int32) = nI 3 from rfl, mj_set (j := 4) (show 3 < 4 by omega), bd_at, ← show (2 : Int32) = nI 2 from rfl, g_oW0 (by omega), zb2_at, zl_at, mPZ_at hnt, bd_at, g_oW2 (by omega), zb2_at]
        show (if ¬ M.2 0 (20 + 4 * w + 2) = h then _ else _) = _
        have e8 : (mj (mj (mj M 4 0 (U.2 1 (4 * w + 1))) 4 1 wear) 4 2 (nI p)).2 0 8 = U.1 4 := m8
        have e0 : (mj (mj (mj (mj M 4 0 (U.2 1 (4 * w + 1))) 4 1 wear) 4 2 (nI p)) 4 3 (U.1 4 - U.1 4 / 7 * 7)).2 0 (20 + 4 * w + 0) = U.2 1 (4 * w) := w0
        rw [w2, e8, e0]
        by_cases z : ¬ U.2 1 (4 * w + 3) = h
        · rw [if_pos z]; rw [if_pos z] at eo; rw [← eo]; exact G1
        · rw [if_neg z]; rw [if_neg z] at eo; rw [← show (1 : Int32) = nI 1 from rfl, ← eo]; exact G1
      unfold g_X6_countsOf
      rw [E2 M rfl, zb2_at, show (10 : Int32) = nI 10 from rfl, mL_n (j := 0) (k := 10) (show 10 < 942 by omega) (by omega), bd_at, if_neg l2, g_oW1 (by omega), zb2_at, show (0 : Int32) = nI 0 from rfl, mj_set (j := 4) (show 0 < 4 by omega), bd_at, w1, ← show (10 : Int32) = nI 10 from rfl]
      by_cases k0 : k = 0
      · subst k0
        rw [if_pos (Int32.le_refl _)]
        exact G2
      · have kk : nI k - 1 = nI (k - 1) := by
          obtain ⟨k', rfl⟩ : ∃ k', k = k' + 1 := ⟨k - 1, by omega⟩
          exact nI_pred k'
        have kn : ¬ nI k ≤ nI 0 := nI_ge (by omega) (by omega)
        rw [if_neg kn, kk, g_oT1 (by omega), zb2_at]
        have e1 : (mj M 4 0 (U.2 1 (4 * w + 1))).2 0 (68 + 3 * (k - 1) + 1) = wear := by
          show M.2 0 (68 + 3 * (k - 1) + 1) = if k = 0 then 0 else U.2 2 (3 * (k - 1) + 1)
          rw [if_neg k0]
          exact (RM_mT R (k - 1) (by omega)).2.1
        rw [e1]
        exact G2
    have hv9 : bd 9801 (nI p * v / 10) := by
      obtain ⟨q, hq, rfl⟩ := hv
      have : p * q ≤ 990 * 99 := Nat.mul_le_mul (by omega) hq
      rw [show (10 : Int32) = nI 10 from rfl, pk_mul, pk_div (by omega) (by omega) (by omega)]
      exact nI_bd (by omega)
    have hKM : yKM M (mset M9 10 (M.1 10)) := by
      refine ⟨⟨?_, ?_, rfl⟩, ?_, ?_, fun j _ => ?_⟩
      · exact (m_setn _ (by omega)).trans (g3 3 (by omega) (by omega) (by omega) (by omega))
      · exact (m_setn _ (by omega)).trans (g3 6 (by omega) (by omega) (by omega) (by omega))
      · show M9.2 1 = M.2 1
        rw [g2]; rfl
      · show M9.2 3 = M.2 3
        rw [g2]; rfl
      · show M9.2 0 j = M.2 0 j
        rw [g2]; rfl
    have h20 : (mset M9 10 (M.1 10)).2 0 = M.2 0 := by
      show M9.2 0 = M.2 0
      rw [g2]; rfl
    have h10 : (mset M9 10 (M.1 10)).1 0 = M.1 0 := (m_setn _ (by omega)).trans (g3 0 (by omega) (by omega) (by omega) (by omega))
    have h5 : (mset M9 10 (M.1 10)).2 5 = M.2 5 := by
      show M9.2 5 = M.2 5
      rw [g2]; rfl
    have h18 : (mset M9 10 (M.1 10)).1 18 = M.1 18 := (m_setn _ (by omega)).trans (g3 18 (by omega) (by omega) (by omega) (by omega))
    by_cases k0 : k = 0
    · subst k0
      have p0 : p = 0 := by omega
      subst p0
      refine ⟨0, U, mset M9 10 (M.1 10), ?_, ?_, nI_bd (n := 0) (by omega), SC_r, hKM, h20, h10, h5, h18⟩
      · unfold h_X1_counted
        rw [E1, zb2_at, if_neg (by decide), if_neg (by decide)]
        rfl
      · rw [G, show nI 0 * v = 0 from Int32.zero_mul]
        rfl
    · let S1 : cU := uset (uset (uset (uset (uset (uset U 14 (U.2 1 (4 * w))) 15 (U.2 1 (4 * w + 1))) 16 (U.2 2 (3 * (k - 1) + 1))) 17 (nI p)) 18 (U.1 4 - U.1 4 / 7 * 7)) 19 nt
      have kk : nI k - 1 = nI (k - 1) := by
        obtain ⟨k', rfl⟩ : ∃ k', k = k' + 1 := ⟨k - 1, by omega⟩
        exact nI_pred k'
      have kn : ¬ nI k = 0 := nI_ne0 (by omega) (by omega)
      have hwear : wear = U.2 2 (3 * (k - 1) + 1) := if_neg k0
      have hS : ySC U (uset S1 20 o) := SC_t (SC_t (SC_t (SC_t (SC_t (SC_t (SC_set (by omega)) (SC_set (by omega))) (SC_set (by omega))) (SC_set (by omega))) (SC_set (by omega))) (SC_set (by omega))) (SC_set (by omega))
      refine ⟨nI p * v / 10, uset S1 20 o, mset M9 10 (M.1 10), ?_, G, hv9, hS, hKM, h20, h10, h5, h18⟩
      have C1 : h_X1_counted_142 N true nb (nI p) o S1 = some (nI p * v / 10, uset S1 20 o) := by
        unfold h_X1_counted_142
        rw [usetZ_at ho, bd_at]
        unfold zif
        rw [if_pos rfl, l4 (uset S1 20 o) rfl rfl hwear.symm rfl rfl rfl rfl, bd_at]
      unfold h_X1_counted
      rw [E1, zb2_at, if_neg (by decide), if_pos kn, vix_at hw (by omega), bd_at, zl_at, zl_at, kk, vix_at (by omega) (by omega), bd_at, zl_at, zl_at, zl_at, usetZ_at hnt, bd_at]
      show (if ¬ U.2 1 (4 * w + 3) = h then h_X1_counted_142 N true nb (nI p) 0 S1 else h_X1_counted_142 N true nb (nI p) 1 S1) = _
      by_cases z : ¬ U.2 1 (4 * w + 3) = h
      · rw [if_pos z]; rw [if_pos z] at eo; rw [← eo]; exact C1
      · rw [if_neg z]; rw [if_neg z] at eo; rw [← eo]; exact C1
end T13
section T14
variable {c : Nat} {N : Nat → Nat} {U U' U'' : cU} {M M' M'' : mS} {m m' : Nat → Int32}
theorem h_aWalk_spec (I : RI c N U) (p q k : Int32) :
    ((p < 0 ∨ nI (N 1) ≤ p) ∨ (∃ i, i < N 1 ∧ p = nI i ∧ (q < 0 ∨ nI (N 0) ≤ q))) ∧ h_X1_aWalk N p q k U = some (.inr 2, U)
    ∨ (∃ i j, i < N 1 ∧ j < N 0 ∧ p = nI i ∧ q = nI j ∧ ((¬ ((1 : Int32) ≤ k ∧ k ≤ nI (N 2)) ∧ h_X1_aWalk N p q k U = some (.inr 0, U)) ∨ ∃ l, 1 ≤ l ∧ l ≤ N 2 ∧ k = nI l ∧ h_X1_aWalk N p q k U = some (.inl (), U))) := by
  have n0 := RI_n0 I
  have n1 := RI_n1 I
  have n2 := RI_n2 I
  unfold h_X1_aWalk
  rw [ofN, ofN]
  rcases ix_cases p (n := N 1) (by omega) with hp | ⟨i, hi, rfl⟩
  · rw [h_there_no hp (by omega), zbt_r]
    exact Or.inl ⟨Or.inl hp, rfl⟩
  · rw [h_there_ok hi (by omega), zbt_i]
    rcases ix_cases q (n := N 0) (by omega) with hq | ⟨j, hj, rfl⟩
    · rw [h_houseAt_no (RI_hou I) hq (by omega), zbt_r]
      exact Or.inl ⟨Or.inr ⟨i, hi, rfl, hq⟩, rfl⟩
    · rw [h_houseAt_ok (RI_hou I) hj (by omega), zbt_i]
      refine Or.inr ⟨i, j, hi, hj, rfl, rfl, ?_⟩
      by_cases hk : (1 : Int32) ≤ k ∧ k ≤ nI (N 2)
      · obtain ⟨l, h1, h2, rfl⟩ := x_in (a := 1) (b := N 2) (by omega) hk (by omega)
        rw [h_in1 hk, zb2_at, h_demand1, zbt_i]
        exact Or.inr ⟨l, h1, h2, rfl, rfl⟩
      · rw [h_in0 hk, zb2_at, h_demand0, zbt_r]
        exact Or.inl ⟨hk, rfl⟩
theorem g_refuses1 (I : RI c N U) (R : yRM N U (M.2 0)) {p q k : Int32} (h : (p < 0 ∨ nI (N 1) ≤ p) ∨ (∃ i, i < N 1 ∧ p = nI i ∧ (q < 0 ∨ nI (N 0) ≤ q))) : g_X6_refuses p q k M = some (1, M) := by
  have n0 := RI_n0 I
  have n1 := RI_n1 I
  unfold g_X6_refuses
  rcases h with h | ⟨i, hi, rfl, h⟩
  · rw [g_walker_no (RM_m2 R) h (by omega), zb2_at, if_pos rfl]
  · rw [g_walker_ok (RM_m2 R) hi (by omega), zb2_at, if_neg ne10, g_house_no (RM_m1 R) h (by omega), zb2_at, if_neg ne00]
theorem g_refuses2 (I : RI c N U) (R : yRM N U (M.2 0)) {i j : Nat} {k : Int32} (hi : i < N 1) (hj : j < N 0) (h : ¬ ((1 : Int32) ≤ k ∧ k ≤ nI (N 2))) : g_X6_refuses (nI i) (nI j) k M = some (2, M) := by
  have n0 := RI_n0 I
  have n1 := RI_n1 I
  unfold g_X6_refuses
  rw [g_walker_ok (RM_m2 R) hi (by omega), zb2_at, if_neg ne10, g_house_ok (RM_m1 R) hj (by omega), zb2_at, if_pos ne10, g_m3, bd_at, RM_m3 R, g_in0 h, zb2_at, if_neg ne00]
theorem g_refuses0 (I : RI c N U) (R : yRM N U (M.2 0)) {i j k : Nat} (hi : i < N 1) (hj : j < N 0) (h1 : 1 ≤ k) (h2 : k ≤ N 2) : g_X6_refuses (nI i) (nI j) (nI k) M = some (0, M) := by
  have n0 := RI_n0 I
  have n1 := RI_n1 I
  have n2 := RI_n2 I
  have hin : (1 : Int32) ≤ nI k ∧ nI k ≤ nI (N 2) := ⟨nI_le (a := 1) h1 (by omega), nI_le h2 (by omega)⟩
  unfold g_X6_refuses
  rw [g_walker_ok (RM_m2 R) hi (by omega), zb2_at, if_neg ne10, g_house_ok (RM_m1 R) hj (by omega), zb2_at, if_pos ne10, g_m3, bd_at, RM_m3 R, g_in1 hin, zb2_at, if_pos ne10]
theorem op_counts {lw : Bool} {nb : cU → Option Int32} (I : RI c N U) (R : yRM N U (M.2 0)) (L : LK lw nb (M.2 0)) (p q k : Int32) {nt : Int32} (hnt : nt = 0 ∨ nt = 1) : OKo c N cdA U M (h_X1_counts N lw nb p q k nt U) (g_X6_counts p q k nt M) := by
  rcases h_aWalk_spec I p q k with ⟨h, e⟩ | ⟨i, j, hi, hj, rfl, rfl, h⟩
  · refine ⟨.inr 2, 0, U, mset M 0 1, ?_, ?_, rfl, I, R, KU_r, KM_set⟩
    · unfold h_X1_counts
      rw [e, zbt_r]
    · unfold g_X6_counts
      rw [g_refuses1 I R h, zb2_at, zl_at, m_set1, if_neg (by decide)]
  · rcases h with ⟨h, e⟩ | ⟨l, h1, h2, rfl, e⟩
    · refine ⟨.inr 0, 0, U, mset M 0 2, ?_, ?_, rfl, I, R, KU_r, KM_set⟩
      · unfold h_X1_counts
        rw [e, zbt_r]
      · unfold g_X6_counts
        rw [g_refuses2 I R hi hj h, zb2_at, zl_at, m_set1, if_neg (by decide)]
    · obtain ⟨v, U', M', a1, a2, a3, a4, a5, a6, a7, -, -⟩ := op_counted (M := mset M 0 0) I R L hi (nI j) h2 hnt
      refine ⟨.inl v, v, U', M', ?_, ?_, ⟨a7, rfl⟩, SC_RI a4 I, ?_, SC_KU a4, KM_t KM_set a5⟩
      · unfold h_X1_counts
        rw [e, zbt_i, a1, zb2_at]
      · unfold g_X6_counts
        rw [g_refuses0 I R hi hj h1 h2, zb2_at, zl_at, m_set1, if_pos le00, a2, zb2_at]
      · rw [a6]
        exact SC_RM a4 R
/-! a walk -/
theorem ms_at {k : Nat} {x : Int32} : (ms M k x).2 0 k = x := upd_at
theorem ms_no {k j : Nat} {x : Int32} (h : j ≠ k) : (ms M k x).2 0 j = M.2 0 j := upd_no h
def N4p (N : Nat → Nat) (n : Nat) : Nat → Nat := fun j => if j = 4 then n else N j
def uEnt (U : cU) (e : Nat) (s d w h k nt t b : Int32) : cU := (U.1, fun q => if q = 4 then (fun j => if j = 8 * e then s else if j = 8 * e + 1 then d else if j = 8 * e + 2 then w else if j = 8 * e + 3 then h else if j = 8 * e + 4 then k else if j = 8 * e + 5 then t else if j = 8 * e + 6 then nt else if j = 8 * e + 7 then b else U.2 4 j) else U.2 q)
theorem uEnt_old {e j : Nat} {s d w h k nt t b : Int32} (hj : j < 8 * e) : (uEnt U e s d w h k nt t b).2 4 j = U.2 4 j := by
  show (if j = 8 * e then s else if j = 8 * e + 1 then d else if j = 8 * e + 2 then w else if j = 8 * e + 3 then h else if j = 8 * e + 4 then k else if j = 8 * e + 5 then t else if j = 8 * e + 6 then nt else if j = 8 * e + 7 then b else U.2 4 j) = _
  rw [if_neg (by omega), if_neg (by omega), if_neg (by omega), if_neg (by omega), if_neg (by omega), if_neg (by omega), if_neg (by omega), if_neg (by omega)]
theorem uEnt_new {e : Nat} {s d w h k nt t b : Int32} : (uEnt U e s d w h k nt t b).2 4 (8 * e) = s ∧ (uEnt U e s d w h k nt t b).2 4 (8 * e + 1) = d ∧ (uEnt U e s d w h k nt t b).2 4 (8 * e + 2) = w ∧ (uEnt U e s d w h k nt t b).2 4 (8 * e + 3) = h ∧ (uEnt U e s d w h k nt t b).2 4 (8 * e + 4) = k ∧ (uEnt U e s d w h k nt t b).2 4 (8 * e + 5) = t ∧ (uEnt U e s d w h k nt t b).2 4 (8 * e + 6) = nt ∧ (uEnt U e s d w h k nt t b).2 4 (8 * e + 7) = b := by
  have H : ∀ j, (uEnt U e s d w h k nt t b).2 4 j = (if j = 8 * e then s else if j = 8 * e + 1 then d else if j = 8 * e + 2 then w else if j = 8 * e + 3 then h else if j = 8 * e + 4 then k else if j = 8 * e + 5 then t else if j = 8 * e + 6 then nt else if j = 8 * e + 7 then b else U.2 4 j) := fun _ => rfl
  refine ⟨?_, ?_, ?_, ?_, ?_, ?_, ?_, ?_⟩ <;> rw [H] <;> simp
theorem RI_add {s d w h k nt t : Int32} (I : RI c N U) (h4 : N 4 < 60) (hs : bdp c s) (hs2 : s ≤ U.1 6) (hd : d = U.1 4) (hw : ∃ q, q < N 1 ∧ w = nI q) (hh : ∃ q, q < N 0 ∧ h = nI q) (hk : ∃ q, q ≤ N 2 ∧ k = nI q) (ht : bd 9801 t) (hnt : nt = 0 ∨ nt = 1) : RI c (N4p N (N 4 + 1)) (uEnt U (N 4) s d w h k nt t 0) := by
  obtain ⟨n0, n1, n2, n3, n4, hou, txt, lim, rst, day, ser, deb, wal, tur, off, ent, bur⟩ := I
  refine ⟨n0, n1, n2, n3, h4, hou, txt, lim, rst, day, ser, deb, wal, tur, off, fun e he => ?_, ?_⟩
  · by_cases z : e = N 4
    · subst z
      obtain ⟨q0, q1, q2, q3, q4, q5, q6, q7⟩ := uEnt_new (U := U) (e := N 4) (s := s) (d := d) (w := w) (h := h) (k := k) (nt := nt) (t := t) (b := 0)
      rw [q0, q1, q2, q3, q4, q5, q6, q7]
      refine ⟨hs, hs2, by rw [hd]; exact day, by rw [hd]; exact Int32.le_refl _, hw, hh, hk, ht, ?_, nI_bd (n := 0) (by omega)⟩
      rcases hnt with rfl | rfl
      · exact nI_bd (n := 0) (by omega)
      · exact nI_bd (n := 1) (by omega)
    · have he' : e < N 4 := by
        have : e < N 4 + 1 := he
        omega
      rw [uEnt_old (by omega), uEnt_old (by omega), uEnt_old (by omega), uEnt_old (by omega), uEnt_old (by omega), uEnt_old (by omega), uEnt_old (by omega), uEnt_old (by omega)]
      exact ent e he'
  · show cn (N 4 + 1) _ ≤ 16
    rw [cn_s0 (by
      show bz ((uEnt U (N 4) s d w h k nt t 0).2 4 (8 * N 4 + 7)) = false
      rw [uEnt_new.2.2.2.2.2.2.2]; rfl)]
    rw [cn_eq (fun i hi => by
      show bz ((uEnt U (N 4) s d w h k nt t 0).2 4 (8 * i + 7)) = bz (U.2 4 (8 * i + 7))
      rw [uEnt_old (by omega)])]
    exact bur
theorem RM_add {s d w h k nt t : Int32} (I : RI c N U) (R : yRM N U m) (h4 : N 4 < 60) (hs : ∀ t, t < N 2 → ¬ s ≤ U.2 2 (3 * t + 2))
    (hm : ∀ j, j ≠ 4 → (j < 122 + 7 * N 4 ∨ 122 + 7 * N 4 + 7 ≤ j) → m' j = m j) (m4 : m' 4 = nI (N 4 + 1)) (e0 : m' (122 + 7 * N 4 + 0) = d) (e1 : m' (122 + 7 * N 4 + 1) = w) (e2 : m' (122 + 7 * N 4 + 2) = h) (e3 : m' (122 + 7 * N 4 + 3) = k) (e4 : m' (122 + 7 * N 4 + 4) = nt) (e5 : m' (122 + 7 * N 4 + 5) = t) (e6 : m' (122 + 7 * N 4 + 6) = 0) : yRM (N4p N (N 4 + 1)) (uEnt U (N 4) s d w h k nt t 0) m' := by
  have n0 := RI_n0 I
  have n1 := RI_n1 I
  have n2 := RI_n2 I
  have n3 := RI_n3 I
  obtain ⟨r0, r1, r2, r3, r4, r5, r6, r7, r8, r9, rD, rW, rT, rF, rE⟩ := R
  refine ⟨by rw [hm 0 (by omega) (by omega)]; exact r0, by rw [hm 1 (by omega) (by omega)]; exact r1, by rw [hm 2 (by omega) (by omega)]; exact r2, by rw [hm 3 (by omega) (by omega)]; exact r3, m4, by rw [hm 5 (by omega) (by omega)]; exact r5, by rw [hm 6 (by omega) (by omega)]; exact r6, by rw [hm 7 (by omega) (by omega)]; exact r7, by rw [hm 8 (by omega) (by omega)]; exact r8, by rw [hm 9 (by omega) (by omega)]; exact r9, fun h hh => by rw [hm _ (by omega) (by omega)]; exact rD h hh, fun i hi => ?_, fun i hi => ?_, fun i hi => ?_, fun e he => ?_⟩
  · have hi' : i < N 1 := hi
    rw [hm _ (by omega) (by omega), hm _ (by omega) (by omega), hm _ (by omega) (by omega), hm _ (by omega) (by omega)]
    exact rW i hi
  · have hi' : i < N 2 := hi
    obtain ⟨a, b, k', hk', d', e'⟩ := rT i hi
    rw [hm _ (by omega) (by omega), hm _ (by omega) (by omega), hm _ (by omega) (by omega)]
    refine ⟨a, b, k', Nat.le_succ_of_le hk', d', fun e he => ?_⟩
    by_cases z : e = N 4
    · subst z
      rw [uEnt_new.1]
      exact ⟨fun _ => hs i hi', fun _ => hk'⟩
    · have he' : e < N 4 := by
        have : e < N 4 + 1 := he
        omega
      rw [uEnt_old (by omega)]
      exact e' e he'
  · have hi' : i < N 3 := hi
    rw [hm _ (by omega) (by omega), hm _ (by omega) (by omega)]
    exact rF i hi
  · by_cases z : e = N 4
    · subst z
      obtain ⟨q0, q1, q2, q3, q4, q5, q6, q7⟩ := uEnt_new (U := U) (e := N 4) (s := s) (d := d) (w := w) (h := h) (k := k) (nt := nt) (t := t) (b := 0)
      rw [q1, q2, q3, q4, q5, q6, q7]
      exact ⟨e0, e1, e2, e3, e4, e5, e6⟩
    · have he' : e < N 4 := by
        have : e < N 4 + 1 := he
        omega
      rw [uEnt_old (by omega), uEnt_old (by omega), uEnt_old (by omega), uEnt_old (by omega), uEnt_old (by omega), uEnt_old (by omega), uEnt_old (by omega)]
      rw [hm _ (by omega) (by omega), hm _ (by omega) (by omega), hm _ (by omega) (by omega), hm _ (by omega) (by omega), hm _ (by omega) (by omega), hm _ (by omega) (by omega), hm _ (by omega) (by omega)]
      exact rE e he'
theorem RIs_ser {x : Int32} (I : RI c N U) (hx : bd c x) (h0 : U.1 6 ≤ x) : RI c N (uset U 6 x) := by
  obtain ⟨n0, n1, n2, n3, n4, hou, txt, lim, rst, day, ser, deb, wal, tur, off, ent, bur⟩ := I
  refine ⟨n0, n1, n2, n3, n4, hou, txt, lim, rst, day, hx, deb, wal, fun t ht => ?_, off, fun e he => ?_, bur⟩
  · obtain ⟨a, b, d, e⟩ := tur t ht
    exact ⟨a, b, d, Int32.le_trans e h0⟩
  · obtain ⟨a, b, d⟩ := ent e he
    exact ⟨a, Int32.le_trans b h0, d⟩
theorem RM_ser {x : Int32} (R : yRM N U m) : yRM N (uset U 6 x) m := R
/-- each of the first k turns is worn once more -/
def ywr : Nat → cU → cU
  | 0, U => U
  | k + 1, U => utab (ywr k U) 2 (3 * k + 1) ((ywr k U).2 2 (3 * k + 1) + 1)
def wrm : Nat → mS → mS
  | 0, M => M
  | k + 1, M => ms (wrm k M) (68 + 3 * k + 1) ((wrm k M).2 0 (68 + 3 * k + 1) + 1)
theorem wr_far (U : cU) : ∀ k j, k ≤ j → (ywr k U).2 2 (3 * j + 1) = U.2 2 (3 * j + 1) := by
  intro k
  induction k with
  | zero => intro j _; rfl
  | succ k ih =>
    intro j hj
    show upd ((ywr k U).2 2) (3 * k + 1) _ (3 * j + 1) = _
    rw [upd_no (by omega), ih j (by omega)]
theorem wr_1 (U : cU) : ∀ k, (ywr k U).1 = U.1 := by
  intro k
  induction k with
  | zero => rfl
  | succ k ih => exact ih
theorem wr_t (U : cU) {q : Nat} (hq : q ≠ 2) : ∀ k, (ywr k U).2 q = U.2 q := by
  intro k
  induction k with
  | zero => rfl
  | succ k ih =>
    show (if q = 2 then _ else (ywr k U).2 q) = _
    rw [if_neg hq, ih]
theorem wr_ok (I : RI c N U) (R : yRM N U (M.2 0)) : ∀ k, k ≤ N 2 → (∀ t, t < k → U.2 2 (3 * t + 1) < U.1 2) → RI c N (ywr k U) ∧ yRM N (ywr k U) ((wrm k M).2 0) ∧ yKM M (wrm k M) ∧ (wrm k M).1 = M.1 := by
  intro k
  induction k with
  | zero => intro _ _; exact ⟨I, R, KM_r, rfl⟩
  | succ k ih =>
    intro hk hw
    obtain ⟨a1, a2, a3, a4⟩ := ih (by omega) (fun t ht => hw t (by omega))
    have n2 := RI_n2 I
    have w1 := hw k (by omega)
    rw [← wr_far U k k (Nat.le_refl k)] at w1
    obtain ⟨x, hx, ex⟩ := (RI_tur a1 k (by omega)).2.1
    obtain ⟨l, hl, el⟩ := RI_lim I
    have ew : (ywr k U).2 2 (3 * k + 1) + 1 = nI (x + 1) := by rw [ex, nI_1]
    have em : (wrm k M).2 0 (68 + 3 * k + 1) + 1 = nI (x + 1) := by rw [(RM_mT a2 k (by omega)).2.1, ew]
    rw [ex, el] at w1
    have hxl : x < l := (nI_ltI (by omega) (by omega)).mp w1
    refine ⟨?_, ?_, ?_, a4⟩
    · show RI c N (utab (ywr k U) 2 (3 * k + 1) _)
      rw [ew]
      exact RIs_wear a1 (nI_bd (by omega))
    · show yRM N (utab (ywr k U) 2 (3 * k + 1) _) (upd ((wrm k M).2 0) (68 + 3 * k + 1) _)
      rw [em, ew]
      exact RM_wear (by omega) a1 a2
    · exact KM_t a3 (KM_ms (by omega) (by omega) (by omega))
theorem g_wears {k : Nat} (hk : k ≤ 10) (t : Int32) : g_X6_walks_169 (nI k) t 0 M = some (t, wrm k M) := by
  unfold g_X6_walks_169
  refine zlp1_it (n := k) (fun i => nI i) (fun i => wrm i M) (fun i rf hi => ?_) (fun rf => ?_) NN (NN_lt (by omega))
  · unfold g_X6_walks_169_b
    have e1 : mL (wrm i M) 0 (68 + 3 * nI i + 1) = some ((wrm i M).2 0 (68 + 3 * i + 1)) := g_lT (d := 1) (by omega) (by omega)
    have e2 : ∀ x, mSt (wrm i M) 0 (68 + 3 * nI i + 1) x = some (ms (wrm i M) (68 + 3 * i + 1) x) := fun x => g_sT (d := 1) (by omega) (by omega)
    rw [nleF hi (by omega), e1, bd_at, e2, bd_at, zl_at, nI_1]
    rfl
  · unfold g_X6_walks_169_b
    rw [if_pos (Int32.le_refl _)]
/-- what a walk leaves of the component -/
def wSp (N : Nat → Nat) (U : cU) (w h k : Nat) (nt t : Int32) : cU := ywr k (utab (uEnt (uset U 6 (U.1 6 + 1)) (N 4) (U.1 6 + 1) (U.1 4) (nI w) (nI h) (nI k) nt t 0) 0 h (U.2 0 h - t))
theorem op_walks {lw : Bool} {nb : cU → Option Int32} (I : RI c N U) (R : yRM N U (M.2 0)) (hc : c < 1000000) (L : LK lw nb (M.2 0)) {w h k : Nat} (hw : w < N 1) (hh : h < N 0) (hk : k ≤ N 2) {nt : Int32} (hnt : nt = 0 ∨ nt = 1) (h60 : N 4 < 60) (hl : ∀ t, t < k → U.2 2 (3 * t + 1) < U.1 2) :
    ∃ v U1 M', h_X1_counted N lw nb (nI w) (nI h) (nI k) nt U = some (v, U1) ∧ ySC U U1 ∧ bd 9801 v ∧ g_X6_walks (nI w) (nI h) (nI k) nt M = some (zmin v (U.2 0 h), M') ∧ RI (c + 1) (N4p N (N 4 + 1)) (wSp N U1 w h k nt (zmin v (U.2 0 h))) ∧ yRM (N4p N (N 4 + 1)) (wSp N U1 w h k nt (zmin v (U.2 0 h))) (M'.2 0) ∧ yKM M M' ∧ M'.1 0 = M.1 0 := by
  have n0 := RI_n0 I
  have n1 := RI_n1 I
  have n2 := RI_n2 I
  obtain ⟨v, U1, M1, a1, a2, a3, a4, a5, a6, a7, -, -⟩ := op_counted I R L hw (nI h) hk hnt
  have I1 : RI (c + 1) N U1 := RI_mono (Nat.le_succ c) (SC_RI a4 I)
  have R1 : yRM N U1 (M1.2 0) := by rw [a6]; exact SC_RM a4 R
  obtain ⟨x, hx, ex⟩ := RI_deb I h (by omega)
  obtain ⟨y, hy, rfl⟩ := a3
  have ymx : M1.2 0 (12 + h) = nI x := by rw [a6]; exact (RM_mD R h (by omega)).trans ex
  have et : zmin (nI y) (U.2 0 h) = nI (min y x) := by rw [ex, zmin_nI (by omega) (by omega)]
  have ex1 : U1.2 0 h = nI x := by rw [a4.1]; exact ex
  obtain ⟨s, hs, es⟩ := RI_ser I
  have es1 : U1.1 6 = nI s := (a4.2 6 (by omega)).trans es
  obtain ⟨d, hd, ed⟩ := RI_day I
  have ed1 : U1.1 4 = nI d := (a4.2 4 (by omega)).trans ed
  refine ⟨nI y, U1, ?_⟩
  rw [et]
  generalize hT : min y x = T at *
  have hTx : T ≤ x := by omega
  have hTy : T ≤ 9801 := by omega
  -- the entry
  have I2 : RI (c + 1) N (uset U1 6 (U1.1 6 + 1)) := RIs_ser I1 (by rw [es1, nI_1]; exact nI_bd (by omega)) (by rw [es1, nI_1]; exact nI_le (by omega) (by omega))
  have R2 : yRM N (uset U1 6 (U1.1 6 + 1)) (M1.2 0) := RM_ser R1
  have hsl : ∀ t, t < N 2 → ¬ U1.1 6 + 1 ≤ (uset U1 6 (U1.1 6 + 1)).2 2 (3 * t + 2) := by
    intro t ht z
    obtain ⟨-, -, b3, b4⟩ := RI_tur I1 t ht
    obtain ⟨q, hq, eq⟩ := b3
    have z' : U1.1 6 + 1 ≤ U1.2 2 (3 * t + 2) := z
    rw [eq, es1] at b4
    rw [eq, es1, nI_1] at z'
    have := (nI_leI (by omega) (by omega)).mp b4
    have := (nI_leI (by omega) (by omega)).mp z'
    omega
  let n := N 4
  have en : N 4 = n := rfl
  obtain ⟨M2, hM2⟩ : ∃ M2 : mS, M2 = ms (ms (ms (ms (ms (ms (ms (ms M1 (122 + 7 * n + 0) (U1.1 4)) (122 + 7 * n + 1) (nI w)) (122 + 7 * n + 2) (nI h)) (122 + 7 * n + 3) (nI k)) (122 + 7 * n + 4) nt) (122 + 7 * n + 5) (nI T)) (122 + 7 * n + 6) 0) 4 (nI (n + 1)) := ⟨_, rfl⟩
  have hKM2 : yKM M1 M2 := by
    rw [hM2]
    exact KM_t (KM_t (KM_t (KM_t (KM_t (KM_t (KM_t (KM_ms (by omega) (by omega) (by omega)) (KM_ms (by omega) (by omega) (by omega))) (KM_ms (by omega) (by omega) (by omega))) (KM_ms (by omega) (by omega) (by omega))) (KM_ms (by omega) (by omega) (by omega))) (KM_ms (by omega) (by omega) (by omega))) (KM_ms (by omega) (by omega) (by omega))) (KM_ms (by omega) (by omega) (by omega))
  have I3 := RI_add (s := U1.1 6 + 1) (d := U1.1 4) (w := nI w) (h := nI h) (k := nI k) (nt := nt) (t := nI T) I2 h60 (by rw [es1, nI_1]; exact ⟨s + 1, by omega, rfl⟩) (by show U1.1 6 + 1 ≤ (if 6 = 6 then U1.1 6 + 1 else U1.1 6); rw [if_pos rfl]; exact Int32.le_refl _) rfl ⟨w, hw, rfl⟩ ⟨h, hh, rfl⟩ ⟨k, hk, rfl⟩ (nI_bd hTy) hnt
  have R3 : yRM (N4p N (N 4 + 1)) (uEnt (uset U1 6 (U1.1 6 + 1)) (N 4) (U1.1 6 + 1) (U1.1 4) (nI w) (nI h) (nI k) nt (nI T) 0) (M2.2 0) := by
    refine RM_add I2 R2 h60 hsl (fun j h1 h2 => ?_) (by rw [hM2]; exact ms_at) ?_ ?_ ?_ ?_ ?_ ?_ ?_
    · rw [hM2, ms_no h1, ms_no (by omega), ms_no (by omega), ms_no (by omega), ms_no (by omega), ms_no (by omega), ms_no (by omega), ms_no (by omega)]
    · rw [hM2, ms_no (by omega), ms_no (by omega), ms_no (by omega), ms_no (by omega), ms_no (by omega), ms_no (by omega), ms_no (by omega), ms_at]
    · rw [hM2, ms_no (by omega), ms_no (by omega), ms_no (by omega), ms_no (by omega), ms_no (by omega), ms_no (by omega), ms_at]
    · rw [hM2, ms_no (by omega), ms_no (by omega), ms_no (by omega), ms_no (by omega), ms_no (by omega), ms_at]
    · rw [hM2, ms_no (by omega), ms_no (by omega), ms_no (by omega), ms_no (by omega), ms_at]
    · rw [hM2, ms_no (by omega), ms_no (by omega), ms_no (by omega), ms_at]
    · rw [hM2, ms_no (by omega), ms_no (by omega), ms_at]
    · rw [hM2, ms_no (by omega), ms_at]
  -- the debt
  have em2 : M2.2 0 (12 + h) = nI x := by
    rw [hM2, ms_no (by omega), ms_no (by omega), ms_no (by omega), ms_no (by omega), ms_no (by omega), ms_no (by omega), ms_no (by omega), ms_no (by omega)]
    exact ymx
  have I4 : RI (c + 1) (N4p N (N 4 + 1)) (utab (uEnt (uset U1 6 (U1.1 6 + 1)) (N 4) (U1.1 6 + 1) (U1.1 4) (nI w) (nI h) (nI k) nt (nI T) 0) 0 h (U1.2 0 h - nI T)) := RIs_debt I3 (by rw [ex1, pk_sub hTx]; exact nI_bd (by omega))
  have R4 : yRM (N4p N (N 4 + 1)) (utab (uEnt (uset U1 6 (U1.1 6 + 1)) (N 4) (U1.1 6 + 1) (U1.1 4) (nI w) (nI h) (nI k) nt (nI T) 0) 0 h (U1.2 0 h - nI T)) ((ms M2 (12 + h) (U1.2 0 h - nI T)).2 0) := RM_debt (by omega) I3 R3
  have hl1 : ∀ t, t < k → (utab (uEnt (uset U1 6 (U1.1 6 + 1)) (N 4) (U1.1 6 + 1) (U1.1 4) (nI w) (nI h) (nI k) nt (nI T) 0) 0 h (U1.2 0 h - nI T)).2 2 (3 * t + 1) < (utab (uEnt (uset U1 6 (U1.1 6 + 1)) (N 4) (U1.1 6 + 1) (U1.1 4) (nI w) (nI h) (nI k) nt (nI T) 0) 0 h (U1.2 0 h - nI T)).1 2 := by
    intro t ht
    have e1 : U1.2 2 (3 * t + 1) = U.2 2 (3 * t + 1) := by rw [a4.1]
    have e2 : U1.1 2 = U.1 2 := a4.2 2 (by omega)
    show U1.2 2 (3 * t + 1) < U1.1 2
    rw [e1, e2]
    exact hl t ht
  obtain ⟨I5, R5, K5, F5⟩ := wr_ok I4 R4 k hk hl1
  refine ⟨wrm k (ms M2 (12 + h) (U1.2 0 h - nI T)), a1, a4, nI_bd hy, ?_, I5, R5, KM_t a5 (KM_t hKM2 (KM_t (KM_ms (by omega) (by omega) (by omega)) K5)), ?_⟩
  · have n4e : M1.2 0 4 = nI n := by rw [a6]; exact RM_m4 R
    have m8e : M1.2 0 8 = U1.1 4 := RM_m8 R1
    have e7 : (122 : Int32) + 7 * nI n = nI (122 + 7 * n) := by rw [show (122 : Int32) = nI 122 from rfl, show (7 : Int32) = nI 7 from rfl, nI_mul, nI_add]
    have G2 : g_X6_walks_119 (nI h) (nI k) (nI T) (nI (122 + 7 * n)) (nI (122 + 7 * n + 4)) nt (ms (ms (ms (ms M1 (122 + 7 * n + 0) (U1.1 4)) (122 + 7 * n + 1) (nI w)) (122 + 7 * n + 2) (nI h)) (122 + 7 * n + 3) (nI k)) = some (nI T, wrm k (ms M2 (12 + h) (U1.2 0 h - nI T))) := by
      unfold g_X6_walks_119
      rw [g_set (by omega), bd_at, show (5 : Int32) = nI 5 from rfl, nI_add, g_set (by omega), bd_at, show (6 : Int32) = nI 6 from rfl, nI_add, g_set (by omega), bd_at, g_m4, bd_at]
      have e4 : (ms (ms (ms (ms (ms (ms (ms M1 (122 + 7 * n + 0) (U1.1 4)) (122 + 7 * n + 1) (nI w)) (122 + 7 * n + 2) (nI h)) (122 + 7 * n + 3) (nI k)) (122 + 7 * n + 4) nt) (122 + 7 * n + 5) (nI T)) (122 + 7 * n + 6) 0).2 0 4 = nI n := by
        rw [ms_no (by omega), ms_no (by omega), ms_no (by omega), ms_no (by omega), ms_no (by omega), ms_no (by omega), ms_no (by omega)]
        exact n4e
      rw [e4, nI_1, show (4 : Int32) = nI 4 from rfl, g_set (by omega), bd_at, g_mD (by omega), bd_at, g_sD (by omega), bd_at]
      rw [← hM2]
      show g_X6_walks_169 (nI k) (nI T) 0 (ms M2 (12 + h) (M2.2 0 (12 + h) - nI T)) = _
      rw [em2, g_wears (by omega), ex1]
    have G1 : g_X6_walks_39 (nI w) (nI h) (nI k) nt (nI T) M1 = some (nI T, wrm k (ms M2 (12 + h) (U1.2 0 h - nI T))) := by
      unfold g_X6_walks_39
      rw [g_m4, bd_at, n4e, e7, zl_at, g_m8, bd_at, m8e, show (0 : Int32) = nI 0 from rfl, nI_add, g_set (by omega), bd_at, show (1 : Int32) = nI 1 from rfl, nI_add, g_set (by omega), bd_at, show (2 : Int32) = nI 2 from rfl, nI_add, g_set (by omega), bd_at, show (3 : Int32) = nI 3 from rfl, nI_add, g_set (by omega), bd_at, show (4 : Int32) = nI 4 from rfl, nI_add]
      rcases hnt with rfl | rfl
      · rw [if_pos (show (0 : Int32) = nI 0 from rfl)]; exact G2
      · rw [if_neg (by decide)]; exact G2
    unfold g_X6_walks
    rw [a2, zb2_at, g_mD (by omega), bd_at, ymx]
    by_cases z : x ≤ y
    · have zT : T = x := by omega
      rw [if_pos (nI_le z (by omega)), bd_at, ← zT]
      exact G1
    · have zT : T = y := by omega
      rw [if_neg (nI_ge (by omega) (by omega)), ← zT]
      exact G1
  · rw [F5]
    rw [hM2]
    show M1.1 0 = M.1 0
    exact a7
end T14
