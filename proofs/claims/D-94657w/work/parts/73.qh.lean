/-! pure land: C5 C6 (see wip/D-94657w/pl) -/
section ZC5
variable {σ σ' τ : zS} {c k o ot xa : Nat} {cd : Nat → Int32} {Sc : Nat → Prop}
theorem lgc (x : Int64) : lg_cmp x x = 0 := by
  unfold lg_cmp
  rw [if_neg (Int64.lt_irrefl), if_pos rfl]
theorem J9_cl (HJ : J9 k c σ xa o ot) : zcl σ xa = 0 := by
  obtain ⟨L, A, N, U, S, D, H, hxa, -⟩ := HJ
  rw [← hxa]
  exact cl_of (H.1.1.2.1 0) rfl
theorem sJ_of {q : Nat} {f : Nat → Int64} {x : Int64} (h : σ.1 q = some (.inl (2, 1, .inr (.inl f)))) (hb : zbs σ ≤ q) : sJ σ q 0 x = some (zset σ q (.inl (2, 1, .inr (.inl (vp_updL f 0 x))))) := by
  unfold sJ
  rw [h]
  have hall : 2 = 2 ∧ ¬ ((0 : Int32) < 0 ∨ 1 ≤ (0 : Int32).toNatClampNeg) ∧ zbs σ ≤ q := ⟨rfl, by decide, hb⟩
  exact if_pos hall
theorem lJ_of {q : Nat} {f : Nat → Int64} (h : σ.1 q = some (.inl (2, 1, .inr (.inl f)))) : lJ σ q 0 = some (f 0) := by
  unfold lJ
  rw [h]
  have hall : 2 = 2 ∧ ¬ ((0 : Int32) < 0 ∨ 1 ≤ (0 : Int32).toNatClampNeg) := ⟨rfl, by decide⟩
  exact if_pos hall
/-- a call without exceptions -/
theorem step_s {ρ : Type} {fo : Option (ρ × zS)} {go : mS → Option (ρ × mS)} (HJ : J9 (k + 1) c σ xa o ot) (OP : ∀ L A N U S D M, Iv c L σ A N U S D M → aad A 0 = xa → 18000 + 60 * L ≤ zc σ → 85000 + 600 * L ≤ zz σ → OpR c L σ S D xa Pe fo (go M)) : ∃ v σ1 σ3, fo = some (v, σ1) ∧ gl o go σ1 = some (v, σ3) ∧ J9 k (c + 200) σ3 xa o ot := by
  obtain ⟨r, σ1, h1, -, -, h2⟩ := step_op HJ OP
  obtain ⟨v, M', a1, a2, -, a4, -⟩ := h2 σ1 (Or.inl rfl)
  have e : r = v := a1
  subst e
  exact ⟨r, σ1, _, h1, a2, a4⟩
/-- a call that may throw -/
theorem step_x {fo : Option ((Int32 ⊕ Nat) × zS)} {go : mS → Option (Int32 × mS)} (HJ : J9 (k + 1) c σ xa o ot) (OP : ∀ L A N U S D M, Iv c L σ A N U S D M → aad A 0 = xa → 18000 + 60 * L ≤ zc σ → 85000 + 600 * L ≤ zz σ → OpR c L σ S D xa (Pa cd Sc) fo (go M)) :
    (∃ x σ1 σ2 σ3, fo = some (.inl x, σ1) ∧ sJ σ1 ot 0 x.toInt64 = some σ2 ∧ gl o go σ2 = some (x, σ3) ∧ gl o g_X6_thrown σ3 = some (0, σ3) ∧ lJ σ3 ot 0 = some x.toInt64 ∧ J9 k (c + 200) σ3 xa o ot) ∨ (∃ e σ1 v σ3, fo = some (.inr e, σ1) ∧ Sc e ∧ gl o go σ1 = some (v, σ3) ∧ gl o g_X6_thrown σ3 = some (cd e, σ3) ∧ J9 k (c + 200) σ3 xa o ot) := by
  obtain ⟨r, σ1, h1, ⟨f, hf⟩, hb, h2⟩ := step_op HJ OP
  cases r with
  | inl x =>
    left
    have hs := sJ_of (x := x.toInt64) hf hb
    obtain ⟨v, M', ⟨⟨a1, a1'⟩, -⟩, a2, a3, a4, a5⟩ := h2 (zset σ1 ot (.inl (2, 1, .inr (.inl (vp_updL f 0 x.toInt64))))) (Or.inr ⟨_, rfl⟩)
    subst a1'
    rw [a1] at a3
    refine ⟨v, σ1, _, _, h1, hs, a2, a3, ?_, a4⟩
    have hot : (zset σ1 ot (.inl (2, 1, .inr (.inl (vp_updL f 0 v.toInt64))))).1 ot = some (.inl (2, 1, .inr (.inl (vp_updL f 0 v.toInt64)))) := zs_at
    exact lJ_of (a5.trans hot)
  | inr e =>
    right
    obtain ⟨v, M', ⟨a1, a1'⟩, a2, a3, a4, -⟩ := h2 σ1 (Or.inl rfl)
    have a1e : M'.1 0 = cd e := a1
    rw [a1e] at a3
    exact ⟨e, σ1, v, _, h1, a1' e rfl, a2, a3, a4⟩
end ZC5
/-! every case of the yrun -/
def WR (k c : Nat) (xa o ot : Nat) (f : Option (Int32 × zS)) (go : mS → Option (Int32 × mS)) : Prop := ∃ x σ1 v σ3, f = some (x, σ1) ∧ gl o go σ1 = some (v, σ3) ∧ gl o g_X6_thrown σ3 = some (x, σ3) ∧ (x = 0 → lJ σ3 ot 0 = some v.toInt64) ∧ J9 k (c + 200) σ3 xa o ot
section ZC6
variable {σ : zS} {c k o ot xa L9 : Nat} {cd : Nat → Int32} {Sc : Nat → Prop} {xs9 : Nat → Int32} {v4 s1 s2 s3 s4 s5 : Int32} {rec23 : Int32 → zS → Option (Int32 × zS)}
theorem wrap_of {fo : Option ((Int32 ⊕ Nat) × zS)} {go : mS → Option (Int32 × mS)} {cat : Nat → zS → Option (Int32 × zS)} (HJ : J9 (k + 1) c σ xa o ot) (OP : ∀ L A N U S D M, Iv c L σ A N U S D M → aad A 0 = xa → 18000 + 60 * L ≤ zc σ → 85000 + 600 * L ≤ zz σ → OpR c L σ S D xa (Pa cd Sc) fo (go M)) (hcat : ∀ e τ, Sc e → cat e τ = some (cd e, τ) ∧ cd e ≠ 0) : WR k c xa o ot (zbt fo cat fun x3 σ4 => (some ot).bind fun a5 => (sJ σ4 a5 0 x3.toInt64).bind fun σ6 => some ((0 : Int32), σ6)) go := by
  rcases step_x HJ OP with ⟨x, σ1, σ2, σ3, q1, q2, q3, q4, q5, q6⟩ | ⟨e, σ1, v, σ3, q1, q2, q3, q4, q5⟩
  · refine ⟨0, σ2, x, σ3, ?_, q3, q4, fun _ => q5, q6⟩
    rw [zbt_eq q1, bd_at, ybind_eq q2]
  · obtain ⟨a1, a2⟩ := hcat e σ1 q2
    refine ⟨cd e, σ1, v, σ3, ?_, q3, q4, fun z => absurd z a2, q5⟩
    rw [zbt_er q1]
    exact a1

theorem LW_people (HJ : J9 (k + 1) c σ xa o ot) (hc : c < 800000) (e1 : zsl L9 xs9 (v4 + 1) = some s1) (e2 : zsl L9 xs9 (v4 + 2) = some s2) (e3 : zsl L9 xs9 (v4 + 3) = some s3) (e4 : zsl L9 xs9 (v4 + 4) = some s4) (e5 : zsl L9 xs9 (v4 + 5) = some s5) : ∃ σ3, J9 k (c + 200) σ3 xa o ot ∧ f_L_law_270 L9 xs9 rec23 (some xa) (some o) (some ot) v4 σ = rec23 (v4 + 6) σ3 := by
  have X : WR k c xa o ot (f_X0_people (some xa) (some ot) σ) (fun M9 => g_X6_people M9) := by
    unfold f_X0_people
    rw [bd_at, zif_t (J9_cl HJ)]
    refine wrap_of HJ (fun L A N U S D M H hxa hz1 hz2 => O_people H hc hxa (by omega)) (fun e τ hs => ?_)
    rcases hs with rfl | rfl
    all_goals exact ⟨rfl, by decide⟩
  obtain ⟨x, σ1, v, σ3, w1, w2, w3, w4, J⟩ := X
  refine ⟨σ3, J, ?_⟩
  unfold f_L_law_270
  rw [zb2_eq w1, bd_at, zb2_eq w2, zb2_eq w3, if_pos rfl]
  by_cases h : x = 0
  · rw [if_neg (fun z => z h), bd_at, ybind_eq (w4 h), lgc, if_pos rfl]
    rfl
  · rw [if_pos h]
    rfl
theorem LW_law (HJ : J9 (k + 1) c σ xa o ot) (hc : c < 800000) (e1 : zsl L9 xs9 (v4 + 1) = some s1) (e2 : zsl L9 xs9 (v4 + 2) = some s2) (e3 : zsl L9 xs9 (v4 + 3) = some s3) (e4 : zsl L9 xs9 (v4 + 4) = some s4) (e5 : zsl L9 xs9 (v4 + 5) = some s5) : ∃ σ3, J9 k (c + 200) σ3 xa o ot ∧ f_L_law_314 L9 xs9 rec23 (some xa) (some o) (some ot) v4 σ = rec23 (v4 + 6) σ3 := by
  have X : WR k c xa o ot (f_X0_law (some xa) (some ot) σ) (fun M9 => g_X6_law M9) := by
    unfold f_X0_law
    rw [bd_at, zif_t (J9_cl HJ)]
    refine wrap_of HJ (fun L A N U S D M H hxa hz1 hz2 => O_law H hxa (by omega)) (fun e τ hs => ?_)
    cases hs
    all_goals exact ⟨rfl, by decide⟩
  obtain ⟨x, σ1, v, σ3, w1, w2, w3, w4, J⟩ := X
  refine ⟨σ3, J, ?_⟩
  unfold f_L_law_314
  rw [zb2_eq w1, bd_at, zb2_eq w2, zb2_eq w3, if_pos rfl]
  by_cases h : x = 0
  · rw [if_neg (fun z => z h), bd_at, ybind_eq (w4 h), lgc, if_pos rfl]
    rfl
  · rw [if_pos h]
    rfl
theorem LW_house (HJ : J9 (k + 1) c σ xa o ot) (hc : c < 800000) (e1 : zsl L9 xs9 (v4 + 1) = some s1) (e2 : zsl L9 xs9 (v4 + 2) = some s2) (e3 : zsl L9 xs9 (v4 + 3) = some s3) (e4 : zsl L9 xs9 (v4 + 4) = some s4) (e5 : zsl L9 xs9 (v4 + 5) = some s5) : ∃ σ3, J9 k (c + 200) σ3 xa o ot ∧ f_L_law_371 L9 xs9 rec23 (some xa) (some o) (some ot) v4 σ = rec23 (v4 + 6) σ3 := by
  have X : WR k c xa o ot (f_X0_house (some xa) s1 s2 (some ot) σ) (fun M9 => g_X6_house s1 s2 M9) := by
    unfold f_X0_house
    rw [bd_at, zif_t (J9_cl HJ)]
    refine wrap_of HJ (fun L A N U S D M H hxa hz1 hz2 => O_house H hxa (by omega) s1 s2) (fun e τ hs => ?_)
    rcases hs with rfl | rfl
    all_goals exact ⟨rfl, by decide⟩
  obtain ⟨x, σ1, v, σ3, w1, w2, w3, w4, J⟩ := X
  refine ⟨σ3, J, ?_⟩
  unfold f_L_law_371
  rw [ybind_eq e1, ybind_eq e2, zb2_eq w1, ybind_eq e1, ybind_eq e2, bd_at, zb2_eq w2, zb2_eq w3, if_pos rfl]
  by_cases h : x = 0
  · rw [if_neg (fun z => z h), bd_at, ybind_eq (w4 h), lgc, if_pos rfl]
    rfl
  · rw [if_pos h]
    rfl
theorem LW_walker (HJ : J9 (k + 1) c σ xa o ot) (hc : c < 800000) (e1 : zsl L9 xs9 (v4 + 1) = some s1) (e2 : zsl L9 xs9 (v4 + 2) = some s2) (e3 : zsl L9 xs9 (v4 + 3) = some s3) (e4 : zsl L9 xs9 (v4 + 4) = some s4) (e5 : zsl L9 xs9 (v4 + 5) = some s5) : ∃ σ3, J9 k (c + 200) σ3 xa o ot ∧ f_L_law_439 L9 xs9 rec23 (some xa) (some o) (some ot) v4 σ = rec23 (v4 + 6) σ3 := by
  have X : WR k c xa o ot (f_X0_walker (some xa) s1 s2 (some ot) σ) (fun M9 => g_X6_walker s1 s2 M9) := by
    unfold f_X0_walker
    rw [bd_at, zif_t (J9_cl HJ)]
    refine wrap_of HJ (fun L A N U S D M H hxa hz1 hz2 => O_walker H hxa (by omega) s1 s2) (fun e τ hs => ?_)
    rcases hs with rfl | rfl
    all_goals exact ⟨rfl, by decide⟩
  obtain ⟨x, σ1, v, σ3, w1, w2, w3, w4, J⟩ := X
  refine ⟨σ3, J, ?_⟩
  unfold f_L_law_439
  rw [ybind_eq e1, ybind_eq e2, zb2_eq w1, ybind_eq e1, ybind_eq e2, bd_at, zb2_eq w2, zb2_eq w3, if_pos rfl]
  by_cases h : x = 0
  · rw [if_neg (fun z => z h), bd_at, ybind_eq (w4 h), lgc, if_pos rfl]
    rfl
  · rw [if_pos h]
    rfl
theorem LW_turn (HJ : J9 (k + 1) c σ xa o ot) (hc : c < 800000) (e1 : zsl L9 xs9 (v4 + 1) = some s1) (e2 : zsl L9 xs9 (v4 + 2) = some s2) (e3 : zsl L9 xs9 (v4 + 3) = some s3) (e4 : zsl L9 xs9 (v4 + 4) = some s4) (e5 : zsl L9 xs9 (v4 + 5) = some s5) : ∃ σ3, J9 k (c + 200) σ3 xa o ot ∧ f_L_law_507 L9 xs9 rec23 (some xa) (some o) (some ot) v4 σ = rec23 (v4 + 6) σ3 := by
  have X : WR k c xa o ot (f_X0_turn (some xa) s1 s2 (some ot) σ) (fun M9 => g_X6_turn s1 s2 M9) := by
    unfold f_X0_turn
    rw [bd_at, zif_t (J9_cl HJ)]
    refine wrap_of HJ (fun L A N U S D M H hxa hz1 hz2 => O_turn H hxa (by omega) s1 s2) (fun e τ hs => ?_)
    rcases hs with rfl | rfl
    all_goals exact ⟨rfl, by decide⟩
  obtain ⟨x, σ1, v, σ3, w1, w2, w3, w4, J⟩ := X
  refine ⟨σ3, J, ?_⟩
  unfold f_L_law_507
  rw [ybind_eq e1, ybind_eq e2, zb2_eq w1, ybind_eq e1, ybind_eq e2, bd_at, zb2_eq w2, zb2_eq w3, if_pos rfl]
  by_cases h : x = 0
  · rw [if_neg (fun z => z h), bd_at, ybind_eq (w4 h), lgc, if_pos rfl]
    rfl
  · rw [if_pos h]
    rfl
theorem LW_entry (HJ : J9 (k + 1) c σ xa o ot) (hc : c < 800000) (e1 : zsl L9 xs9 (v4 + 1) = some s1) (e2 : zsl L9 xs9 (v4 + 2) = some s2) (e3 : zsl L9 xs9 (v4 + 3) = some s3) (e4 : zsl L9 xs9 (v4 + 4) = some s4) (e5 : zsl L9 xs9 (v4 + 5) = some s5) : ∃ σ3, J9 k (c + 200) σ3 xa o ot ∧ f_L_law_575 L9 xs9 rec23 (some xa) (some o) (some ot) v4 σ = rec23 (v4 + 6) σ3 := by
  have X : WR k c xa o ot (f_X0_entry (some xa) s1 s2 (some ot) σ) (fun M9 => g_X6_entry s1 s2 M9) := by
    unfold f_X0_entry
    rw [bd_at, zif_t (J9_cl HJ)]
    refine wrap_of HJ (fun L A N U S D M H hxa hz1 hz2 => O_entry H hxa (by omega) s1 s2) (fun e τ hs => ?_)
    rcases hs with rfl | rfl
    all_goals exact ⟨rfl, by decide⟩
  obtain ⟨x, σ1, v, σ3, w1, w2, w3, w4, J⟩ := X
  refine ⟨σ3, J, ?_⟩
  unfold f_L_law_575
  rw [ybind_eq e1, ybind_eq e2, zb2_eq w1, ybind_eq e1, ybind_eq e2, bd_at, zb2_eq w2, zb2_eq w3, if_pos rfl]
  by_cases h : x = 0
  · rw [if_neg (fun z => z h), bd_at, ybind_eq (w4 h), lgc, if_pos rfl]
    rfl
  · rw [if_pos h]
    rfl
theorem LW_counts (HJ : J9 (k + 1) c σ xa o ot) (hc : c < 800000) (e1 : zsl L9 xs9 (v4 + 1) = some s1) (e2 : zsl L9 xs9 (v4 + 2) = some s2) (e3 : zsl L9 xs9 (v4 + 3) = some s3) (e4 : zsl L9 xs9 (v4 + 4) = some s4) (e5 : zsl L9 xs9 (v4 + 5) = some s5) : ∃ σ3, J9 k (c + 200) σ3 xa o ot ∧ f_L_law_643 L9 xs9 rec23 (some xa) (some o) (some ot) v4 σ = rec23 (v4 + 6) σ3 := by
  by_cases h0 : s4 = 0
  · have X : WR k c xa o ot (f_X0_counts (some xa) s1 s2 s3 0 (some ot) σ) (fun M9 => g_X6_counts s1 s2 s3 0 M9) := by
      unfold f_X0_counts
      rw [bd_at, zif_t (J9_cl HJ)]
      refine wrap_of HJ (fun L A N U S D M H hxa hz1 hz2 => O_counts H hxa (by omega) s1 s2 s3 (Or.inl rfl)) (fun e τ hs => ?_)
      rcases hs with rfl | rfl
      all_goals exact ⟨rfl, by decide⟩
    obtain ⟨x, σ1, v, σ3, w1, w2, w3, w4, J⟩ := X
    refine ⟨σ3, J, ?_⟩
    unfold f_L_law_643
    rw [ybind_eq e1, ybind_eq e2, ybind_eq e3, ybind_eq e4, if_pos h0]
    unfold f_L_law_676
    rw [zb2_eq w1, ybind_eq e1, ybind_eq e2, ybind_eq e3, ybind_eq e4, if_pos h0]
    unfold f_L_law_715
    rw [bd_at, zb2_eq w2, bd_at, zb2_eq w3, if_pos rfl]
    by_cases h : x = 0
    · rw [if_neg (fun z => z h), bd_at, ybind_eq (w4 h), lgc, if_pos rfl]
      rfl
    · rw [if_pos h]
      rfl
  · have X : WR k c xa o ot (f_X0_counts (some xa) s1 s2 s3 1 (some ot) σ) (fun M9 => g_X6_counts s1 s2 s3 1 M9) := by
      unfold f_X0_counts
      rw [bd_at, zif_t (J9_cl HJ)]
      refine wrap_of HJ (fun L A N U S D M H hxa hz1 hz2 => O_counts H hxa (by omega) s1 s2 s3 (Or.inr rfl)) (fun e τ hs => ?_)
      rcases hs with rfl | rfl
      all_goals exact ⟨rfl, by decide⟩
    obtain ⟨x, σ1, v, σ3, w1, w2, w3, w4, J⟩ := X
    refine ⟨σ3, J, ?_⟩
    unfold f_L_law_643
    rw [ybind_eq e1, ybind_eq e2, ybind_eq e3, ybind_eq e4, if_neg h0]
    unfold f_L_law_676
    rw [zb2_eq w1, ybind_eq e1, ybind_eq e2, ybind_eq e3, ybind_eq e4, if_neg h0]
    unfold f_L_law_715
    rw [bd_at, zb2_eq w2, bd_at, zb2_eq w3, if_pos rfl]
    by_cases h : x = 0
    · rw [if_neg (fun z => z h), bd_at, ybind_eq (w4 h), lgc, if_pos rfl]
      rfl
    · rw [if_pos h]
      rfl
theorem LW_walk (HJ : J9 (k + 1) c σ xa o ot) (hc : c < 800000) (e1 : zsl L9 xs9 (v4 + 1) = some s1) (e2 : zsl L9 xs9 (v4 + 2) = some s2) (e3 : zsl L9 xs9 (v4 + 3) = some s3) (e4 : zsl L9 xs9 (v4 + 4) = some s4) (e5 : zsl L9 xs9 (v4 + 5) = some s5) : ∃ σ3, J9 k (c + 200) σ3 xa o ot ∧ f_L_law_751 L9 xs9 rec23 (some xa) (some o) (some ot) v4 σ = rec23 (v4 + 6) σ3 := by
  by_cases h0 : s4 = 0
  · have X : WR k c xa o ot (f_X0_walk (some xa) s1 s2 s3 0 (some ot) σ) (fun M9 => g_X6_walk s1 s2 s3 0 M9) := by
      unfold f_X0_walk
      rw [bd_at, zif_t (J9_cl HJ)]
      refine wrap_of HJ (fun L A N U S D M H hxa hz1 hz2 => O_walk H hc hxa (by omega) s1 s2 s3 (Or.inl rfl)) (fun e τ hs => ?_)
      rcases hs with rfl | rfl | rfl
      all_goals exact ⟨rfl, by decide⟩
    obtain ⟨x, σ1, v, σ3, w1, w2, w3, w4, J⟩ := X
    refine ⟨σ3, J, ?_⟩
    unfold f_L_law_751
    rw [ybind_eq e1, ybind_eq e2, ybind_eq e3, ybind_eq e4, if_pos h0]
    unfold f_L_law_784
    rw [zb2_eq w1, ybind_eq e1, ybind_eq e2, ybind_eq e3, ybind_eq e4, if_pos h0]
    unfold f_L_law_823
    rw [bd_at, zb2_eq w2, bd_at, zb2_eq w3, if_pos rfl]
    by_cases h : x = 0
    · rw [if_neg (fun z => z h), bd_at, ybind_eq (w4 h), lgc, if_pos rfl]
      rfl
    · rw [if_pos h]
      rfl
  · have X : WR k c xa o ot (f_X0_walk (some xa) s1 s2 s3 1 (some ot) σ) (fun M9 => g_X6_walk s1 s2 s3 1 M9) := by
      unfold f_X0_walk
      rw [bd_at, zif_t (J9_cl HJ)]
      refine wrap_of HJ (fun L A N U S D M H hxa hz1 hz2 => O_walk H hc hxa (by omega) s1 s2 s3 (Or.inr rfl)) (fun e τ hs => ?_)
      rcases hs with rfl | rfl | rfl
      all_goals exact ⟨rfl, by decide⟩
    obtain ⟨x, σ1, v, σ3, w1, w2, w3, w4, J⟩ := X
    refine ⟨σ3, J, ?_⟩
    unfold f_L_law_751
    rw [ybind_eq e1, ybind_eq e2, ybind_eq e3, ybind_eq e4, if_neg h0]
    unfold f_L_law_784
    rw [zb2_eq w1, ybind_eq e1, ybind_eq e2, ybind_eq e3, ybind_eq e4, if_neg h0]
    unfold f_L_law_823
    rw [bd_at, zb2_eq w2, bd_at, zb2_eq w3, if_pos rfl]
    by_cases h : x = 0
    · rw [if_neg (fun z => z h), bd_at, ybind_eq (w4 h), lgc, if_pos rfl]
      rfl
    · rw [if_pos h]
      rfl
theorem LW_days (HJ : J9 (k + 1) c σ xa o ot) (hc : c < 800000) (e1 : zsl L9 xs9 (v4 + 1) = some s1) (e2 : zsl L9 xs9 (v4 + 2) = some s2) (e3 : zsl L9 xs9 (v4 + 3) = some s3) (e4 : zsl L9 xs9 (v4 + 4) = some s4) (e5 : zsl L9 xs9 (v4 + 5) = some s5) : ∃ σ3, J9 k (c + 200) σ3 xa o ot ∧ f_L_law_872 L9 xs9 rec23 (some xa) (some o) (some ot) v4 σ = rec23 (v4 + 6) σ3 := by
  have X : WR k c xa o ot (f_X0_days (some xa) s1 (some ot) σ) (fun M9 => g_X6_days s1 M9) := by
    unfold f_X0_days
    rw [bd_at, zif_t (J9_cl HJ)]
    refine wrap_of HJ (fun L A N U S D M H hxa hz1 hz2 => O_days H hc hxa (by omega) s1) (fun e τ hs => ?_)
    cases hs
    all_goals exact ⟨rfl, by decide⟩
  obtain ⟨x, σ1, v, σ3, w1, w2, w3, w4, J⟩ := X
  refine ⟨σ3, J, ?_⟩
  unfold f_L_law_872
  rw [ybind_eq e1, zb2_eq w1, ybind_eq e1, bd_at, zb2_eq w2, zb2_eq w3, if_pos rfl]
  by_cases h : x = 0
  · rw [if_neg (fun z => z h), bd_at, ybind_eq (w4 h), lgc, if_pos rfl]
    rfl
  · rw [if_pos h]
    rfl
theorem LW_pass (HJ : J9 (k + 1) c σ xa o ot) (hc : c < 800000) (e1 : zsl L9 xs9 (v4 + 1) = some s1) (e2 : zsl L9 xs9 (v4 + 2) = some s2) (e3 : zsl L9 xs9 (v4 + 3) = some s3) (e4 : zsl L9 xs9 (v4 + 4) = some s4) (e5 : zsl L9 xs9 (v4 + 5) = some s5) : ∃ σ3, J9 k (c + 200) σ3 xa o ot ∧ f_L_law_928 L9 xs9 rec23 (some xa) (some o) (some ot) v4 σ = rec23 (v4 + 6) σ3 := by
  have X : WR k c xa o ot (f_X0_pass (some xa) s1 s2 s3 (some ot) σ) (fun M9 => g_X6_pass s1 s2 s3 M9) := by
    unfold f_X0_pass
    rw [bd_at, zif_t (J9_cl HJ)]
    refine wrap_of HJ (fun L A N U S D M H hxa hz1 hz2 => O_pass H hc hxa (by omega) s1 s2 s3) (fun e τ hs => ?_)
    rcases hs with rfl | rfl | rfl
    all_goals exact ⟨rfl, by decide⟩
  obtain ⟨x, σ1, v, σ3, w1, w2, w3, w4, J⟩ := X
  refine ⟨σ3, J, ?_⟩
  unfold f_L_law_928
  rw [ybind_eq e1, ybind_eq e2, ybind_eq e3, zb2_eq w1, ybind_eq e1, ybind_eq e2, ybind_eq e3, bd_at, zb2_eq w2, zb2_eq w3, if_pos rfl]
  by_cases h : x = 0
  · rw [if_neg (fun z => z h), bd_at, ybind_eq (w4 h), lgc, if_pos rfl]
    rfl
  · rw [if_pos h]
    rfl
theorem LW_marry (HJ : J9 (k + 1) c σ xa o ot) (hc : c < 800000) (e1 : zsl L9 xs9 (v4 + 1) = some s1) (e2 : zsl L9 xs9 (v4 + 2) = some s2) (e3 : zsl L9 xs9 (v4 + 3) = some s3) (e4 : zsl L9 xs9 (v4 + 4) = some s4) (e5 : zsl L9 xs9 (v4 + 5) = some s5) : ∃ σ3, J9 k (c + 200) σ3 xa o ot ∧ f_L_law_1008 L9 xs9 rec23 (some xa) (some o) (some ot) v4 σ = rec23 (v4 + 6) σ3 := by
  have X : WR k c xa o ot (f_X0_marry (some xa) s1 s2 (some ot) σ) (fun M9 => g_X6_marry s1 s2 M9) := by
    unfold f_X0_marry
    rw [bd_at, zif_t (J9_cl HJ)]
    refine wrap_of HJ (fun L A N U S D M H hxa hz1 hz2 => O_marry H hc hxa (by omega) s1 s2) (fun e τ hs => ?_)
    rcases hs with rfl | rfl | rfl
    all_goals exact ⟨rfl, by decide⟩
  obtain ⟨x, σ1, v, σ3, w1, w2, w3, w4, J⟩ := X
  refine ⟨σ3, J, ?_⟩
  unfold f_L_law_1008
  rw [ybind_eq e1, ybind_eq e2, zb2_eq w1, ybind_eq e1, ybind_eq e2, bd_at, zb2_eq w2, zb2_eq w3, if_pos rfl]
  by_cases h : x = 0
  · rw [if_neg (fun z => z h), bd_at, ybind_eq (w4 h), lgc, if_pos rfl]
    rfl
  · rw [if_pos h]
    rfl
theorem LW_mend (HJ : J9 (k + 1) c σ xa o ot) (hc : c < 800000) (e1 : zsl L9 xs9 (v4 + 1) = some s1) (e2 : zsl L9 xs9 (v4 + 2) = some s2) (e3 : zsl L9 xs9 (v4 + 3) = some s3) (e4 : zsl L9 xs9 (v4 + 4) = some s4) (e5 : zsl L9 xs9 (v4 + 5) = some s5) : ∃ σ3, J9 k (c + 200) σ3 xa o ot ∧ f_L_law_1076 L9 xs9 rec23 (some xa) (some o) (some ot) v4 σ = rec23 (v4 + 6) σ3 := by
  have X : WR k c xa o ot (f_X0_mend (some xa) s1 (some ot) σ) (fun M9 => g_X6_mend s1 M9) := by
    unfold f_X0_mend
    rw [bd_at, zif_t (J9_cl HJ)]
    refine wrap_of HJ (fun L A N U S D M H hxa hz1 hz2 => O_mend H hxa (by omega) s1) (fun e τ hs => ?_)
    cases hs
    all_goals exact ⟨rfl, by decide⟩
  obtain ⟨x, σ1, v, σ3, w1, w2, w3, w4, J⟩ := X
  refine ⟨σ3, J, ?_⟩
  unfold f_L_law_1076
  rw [ybind_eq e1, zb2_eq w1, ybind_eq e1, bd_at, zb2_eq w2, zb2_eq w3, if_pos rfl]
  by_cases h : x = 0
  · rw [if_neg (fun z => z h), bd_at, ybind_eq (w4 h), lgc, if_pos rfl]
    rfl
  · rw [if_pos h]
    rfl
theorem LW_worn (HJ : J9 (k + 1) c σ xa o ot) (hc : c < 800000) (e1 : zsl L9 xs9 (v4 + 1) = some s1) (e2 : zsl L9 xs9 (v4 + 2) = some s2) (e3 : zsl L9 xs9 (v4 + 3) = some s3) (e4 : zsl L9 xs9 (v4 + 4) = some s4) (e5 : zsl L9 xs9 (v4 + 5) = some s5) : ∃ σ3, J9 k (c + 200) σ3 xa o ot ∧ f_L_law_1132 L9 xs9 rec23 (some xa) (some o) (some ot) v4 σ = rec23 (v4 + 6) σ3 := by
  have X : WR k c xa o ot (f_X0_worn (some xa) s1 s2 (some ot) σ) (fun M9 => g_X6_worn s1 s2 M9) := by
    unfold f_X0_worn
    rw [bd_at, zif_t (J9_cl HJ)]
    refine wrap_of HJ (fun L A N U S D M H hxa hz1 hz2 => O_worn H hxa (by omega) s1 s2) (fun e τ hs => ?_)
    rcases hs with rfl | rfl
    all_goals exact ⟨rfl, by decide⟩
  obtain ⟨x, σ1, v, σ3, w1, w2, w3, w4, J⟩ := X
  refine ⟨σ3, J, ?_⟩
  unfold f_L_law_1132
  rw [ybind_eq e1, ybind_eq e2, zb2_eq w1, ybind_eq e1, ybind_eq e2, bd_at, zb2_eq w2, zb2_eq w3, if_pos rfl]
  by_cases h : x = 0
  · rw [if_neg (fun z => z h), bd_at, ybind_eq (w4 h), lgc, if_pos rfl]
    rfl
  · rw [if_pos h]
    rfl
theorem LW_deal (HJ : J9 (k + 1) c σ xa o ot) (hc : c < 800000) (e1 : zsl L9 xs9 (v4 + 1) = some s1) (e2 : zsl L9 xs9 (v4 + 2) = some s2) (e3 : zsl L9 xs9 (v4 + 3) = some s3) (e4 : zsl L9 xs9 (v4 + 4) = some s4) (e5 : zsl L9 xs9 (v4 + 5) = some s5) : ∃ σ3, J9 k (c + 200) σ3 xa o ot ∧ f_L_law_1213 L9 xs9 rec23 (some xa) (some o) (some ot) v4 σ = rec23 (v4 + 6) σ3 := by
  by_cases h0 : s2 = 0
  · have X : WR k c xa o ot (f_X0_deal (some xa) s1 0 (some ot) σ) (fun M9 => g_X6_deal s1 0 M9) := by
      unfold f_X0_deal
      rw [bd_at, zif_t (J9_cl HJ)]
      refine wrap_of HJ (fun L A N U S D M H hxa hz1 hz2 => O_deal H hxa (by omega) s1 0) (fun e τ hs => ?_)
      cases hs
      all_goals exact ⟨rfl, by decide⟩
    obtain ⟨x, σ1, v, σ3, w1, w2, w3, w4, J⟩ := X
    refine ⟨σ3, J, ?_⟩
    unfold f_L_law_1213
    rw [ybind_eq e1, ybind_eq e2, if_pos h0]
    unfold f_L_law_1234
    rw [zb2_eq w1, ybind_eq e1, ybind_eq e2, if_pos h0]
    unfold f_L_law_1261
    rw [bd_at, zb2_eq w2, bd_at, zb2_eq w3, if_pos rfl]
    by_cases h : x = 0
    · rw [if_neg (fun z => z h), bd_at, ybind_eq (w4 h), lgc, if_pos rfl]
      rfl
    · rw [if_pos h]
      rfl
  · have X : WR k c xa o ot (f_X0_deal (some xa) s1 1 (some ot) σ) (fun M9 => g_X6_deal s1 1 M9) := by
      unfold f_X0_deal
      rw [bd_at, zif_t (J9_cl HJ)]
      refine wrap_of HJ (fun L A N U S D M H hxa hz1 hz2 => O_deal H hxa (by omega) s1 1) (fun e τ hs => ?_)
      cases hs
      all_goals exact ⟨rfl, by decide⟩
    obtain ⟨x, σ1, v, σ3, w1, w2, w3, w4, J⟩ := X
    refine ⟨σ3, J, ?_⟩
    unfold f_L_law_1213
    rw [ybind_eq e1, ybind_eq e2, if_neg h0]
    unfold f_L_law_1234
    rw [zb2_eq w1, ybind_eq e1, ybind_eq e2, if_neg h0]
    unfold f_L_law_1261
    rw [bd_at, zb2_eq w2, bd_at, zb2_eq w3, if_pos rfl]
    by_cases h : x = 0
    · rw [if_neg (fun z => z h), bd_at, ybind_eq (w4 h), lgc, if_pos rfl]
      rfl
    · rw [if_pos h]
      rfl
theorem LW_plan (HJ : J9 (k + 1) c σ xa o ot) (hc : c < 800000) (e1 : zsl L9 xs9 (v4 + 1) = some s1) (e2 : zsl L9 xs9 (v4 + 2) = some s2) (e3 : zsl L9 xs9 (v4 + 3) = some s3) (e4 : zsl L9 xs9 (v4 + 4) = some s4) (e5 : zsl L9 xs9 (v4 + 5) = some s5) : ∃ σ3, J9 k (c + 200) σ3 xa o ot ∧ f_L_law_1297 L9 xs9 rec23 (some xa) (some o) (some ot) v4 σ = rec23 (v4 + 6) σ3 := by
  by_cases h0 : s3 = 0
  · have X : WR k c xa o ot (f_X0_plan (some xa) s1 s2 0 (some ot) σ) (fun M9 => g_X6_plan s1 s2 0 M9) := by
      unfold f_X0_plan
      rw [bd_at, zif_t (J9_cl HJ)]
      refine wrap_of HJ (fun L A N U S D M H hxa hz1 hz2 => O_plan H hc hxa (by omega) s1 s2 0) (fun e τ hs => ?_)
      rcases hs with rfl | rfl
      all_goals exact ⟨rfl, by decide⟩
    obtain ⟨x, σ1, v, σ3, w1, w2, w3, w4, J⟩ := X
    refine ⟨σ3, J, ?_⟩
    unfold f_L_law_1297
    rw [ybind_eq e1, ybind_eq e2, ybind_eq e3, if_pos h0]
    unfold f_L_law_1324
    rw [zb2_eq w1, ybind_eq e1, ybind_eq e2, ybind_eq e3, if_pos h0]
    unfold f_L_law_1357
    rw [bd_at, zb2_eq w2, bd_at, zb2_eq w3, if_pos rfl]
    by_cases h : x = 0
    · rw [if_neg (fun z => z h), bd_at, ybind_eq (w4 h), lgc, if_pos rfl]
      rfl
    · rw [if_pos h]
      rfl
  · have X : WR k c xa o ot (f_X0_plan (some xa) s1 s2 1 (some ot) σ) (fun M9 => g_X6_plan s1 s2 1 M9) := by
      unfold f_X0_plan
      rw [bd_at, zif_t (J9_cl HJ)]
      refine wrap_of HJ (fun L A N U S D M H hxa hz1 hz2 => O_plan H hc hxa (by omega) s1 s2 1) (fun e τ hs => ?_)
      rcases hs with rfl | rfl
      all_goals exact ⟨rfl, by decide⟩
    obtain ⟨x, σ1, v, σ3, w1, w2, w3, w4, J⟩ := X
    refine ⟨σ3, J, ?_⟩
    unfold f_L_law_1297
    rw [ybind_eq e1, ybind_eq e2, ybind_eq e3, if_neg h0]
    unfold f_L_law_1324
    rw [zb2_eq w1, ybind_eq e1, ybind_eq e2, ybind_eq e3, if_neg h0]
    unfold f_L_law_1357
    rw [bd_at, zb2_eq w2, bd_at, zb2_eq w3, if_pos rfl]
    by_cases h : x = 0
    · rw [if_neg (fun z => z h), bd_at, ybind_eq (w4 h), lgc, if_pos rfl]
      rfl
    · rw [if_pos h]
      rfl
theorem LW_burn (HJ : J9 (k + 1) c σ xa o ot) (hc : c < 800000) (e1 : zsl L9 xs9 (v4 + 1) = some s1) (e2 : zsl L9 xs9 (v4 + 2) = some s2) (e3 : zsl L9 xs9 (v4 + 3) = some s3) (e4 : zsl L9 xs9 (v4 + 4) = some s4) (e5 : zsl L9 xs9 (v4 + 5) = some s5) : ∃ σ3, J9 k (c + 200) σ3 xa o ot ∧ f_L_law_1393 L9 xs9 rec23 (some xa) (some o) (some ot) v4 σ = rec23 (v4 + 6) σ3 := by
  have X : WR k c xa o ot (f_X0_burn (some xa) s1 s2 (some ot) σ) (fun M9 => g_X6_burn s1 s2 M9) := by
    unfold f_X0_burn
    rw [bd_at, zif_t (J9_cl HJ)]
    refine wrap_of HJ (fun L A N U S D M H hxa hz1 hz2 => O_burn H hc hxa (by omega) s1 s2) (fun e τ hs => ?_)
    rcases hs with rfl | rfl | rfl
    all_goals exact ⟨rfl, by decide⟩
  obtain ⟨x, σ1, v, σ3, w1, w2, w3, w4, J⟩ := X
  refine ⟨σ3, J, ?_⟩
  unfold f_L_law_1393
  rw [ybind_eq e1, ybind_eq e2, zb2_eq w1, ybind_eq e1, ybind_eq e2, bd_at, zb2_eq w2, zb2_eq w3, if_pos rfl]
  by_cases h : x = 0
  · rw [if_neg (fun z => z h), bd_at, ybind_eq (w4 h), lgc, if_pos rfl]
    rfl
  · rw [if_pos h]
    rfl
theorem LW_span (HJ : J9 (k + 1) c σ xa o ot) (hc : c < 800000) (e1 : zsl L9 xs9 (v4 + 1) = some s1) (e2 : zsl L9 xs9 (v4 + 2) = some s2) (e3 : zsl L9 xs9 (v4 + 3) = some s3) (e4 : zsl L9 xs9 (v4 + 4) = some s4) (e5 : zsl L9 xs9 (v4 + 5) = some s5) : ∃ σ3, J9 k (c + 200) σ3 xa o ot ∧ f_L_law_1461 L9 xs9 rec23 (some xa) (some o) (some ot) v4 σ = rec23 (v4 + 6) σ3 := by
  by_cases h0 : s2 = 0
  · have X : WR k c xa o ot (f_X0_span (some xa) s1 0 (some ot) σ) (fun M9 => g_X6_span s1 0 M9) := by
      unfold f_X0_span
      rw [bd_at, zif_t (J9_cl HJ)]
      refine wrap_of HJ (fun L A N U S D M H hxa hz1 hz2 => O_span H hxa (by omega) s1 0) (fun e τ hs => ?_)
      cases hs
      all_goals exact ⟨rfl, by decide⟩
    obtain ⟨x, σ1, v, σ3, w1, w2, w3, w4, J⟩ := X
    refine ⟨σ3, J, ?_⟩
    unfold f_L_law_1461
    rw [ybind_eq e1, ybind_eq e2, if_pos h0]
    unfold f_L_law_1482
    rw [zb2_eq w1, ybind_eq e1, ybind_eq e2, if_pos h0]
    unfold f_L_law_1509
    rw [bd_at, zb2_eq w2, bd_at, zb2_eq w3, if_pos rfl]
    by_cases h : x = 0
    · rw [if_neg (fun z => z h), bd_at, ybind_eq (w4 h), lgc, if_pos rfl]
      rfl
    · rw [if_pos h]
      rfl
  · have X : WR k c xa o ot (f_X0_span (some xa) s1 1 (some ot) σ) (fun M9 => g_X6_span s1 1 M9) := by
      unfold f_X0_span
      rw [bd_at, zif_t (J9_cl HJ)]
      refine wrap_of HJ (fun L A N U S D M H hxa hz1 hz2 => O_span H hxa (by omega) s1 1) (fun e τ hs => ?_)
      cases hs
      all_goals exact ⟨rfl, by decide⟩
    obtain ⟨x, σ1, v, σ3, w1, w2, w3, w4, J⟩ := X
    refine ⟨σ3, J, ?_⟩
    unfold f_L_law_1461
    rw [ybind_eq e1, ybind_eq e2, if_neg h0]
    unfold f_L_law_1482
    rw [zb2_eq w1, ybind_eq e1, ybind_eq e2, if_neg h0]
    unfold f_L_law_1509
    rw [bd_at, zb2_eq w2, bd_at, zb2_eq w3, if_pos rfl]
    by_cases h : x = 0
    · rw [if_neg (fun z => z h), bd_at, ybind_eq (w4 h), lgc, if_pos rfl]
      rfl
    · rw [if_pos h]
      rfl
theorem LW_proof (HJ : J9 (k + 1) c σ xa o ot) (hc : c < 800000) (e1 : zsl L9 xs9 (v4 + 1) = some s1) (e2 : zsl L9 xs9 (v4 + 2) = some s2) (e3 : zsl L9 xs9 (v4 + 3) = some s3) (e4 : zsl L9 xs9 (v4 + 4) = some s4) (e5 : zsl L9 xs9 (v4 + 5) = some s5) : ∃ σ3, J9 k (c + 200) σ3 xa o ot ∧ f_L_law_1545 L9 xs9 rec23 (some xa) (some o) (some ot) v4 σ = rec23 (v4 + 6) σ3 := by
  have X : WR k c xa o ot (f_X0_proof (some xa) s1 s2 (some ot) σ) (fun M9 => g_X6_proof s1 s2 M9) := by
    unfold f_X0_proof
    rw [bd_at, zif_t (J9_cl HJ)]
    refine wrap_of HJ (fun L A N U S D M H hxa hz1 hz2 => O_proof H hxa (by omega) s1 s2) (fun e τ hs => ?_)
    cases hs
    all_goals exact ⟨rfl, by decide⟩
  obtain ⟨x, σ1, v, σ3, w1, w2, w3, w4, J⟩ := X
  refine ⟨σ3, J, ?_⟩
  unfold f_L_law_1545
  rw [ybind_eq e1, ybind_eq e2, zb2_eq w1, ybind_eq e1, ybind_eq e2, bd_at, zb2_eq w2, zb2_eq w3, if_pos rfl]
  by_cases h : x = 0
  · rw [if_neg (fun z => z h), bd_at, ybind_eq (w4 h), lgc, if_pos rfl]
    rfl
  · rw [if_pos h]
    rfl
theorem LW_live (HJ : J9 (k + 1) c σ xa o ot) (hc : c < 800000) (e1 : zsl L9 xs9 (v4 + 1) = some s1) (e2 : zsl L9 xs9 (v4 + 2) = some s2) (e3 : zsl L9 xs9 (v4 + 3) = some s3) (e4 : zsl L9 xs9 (v4 + 4) = some s4) (e5 : zsl L9 xs9 (v4 + 5) = some s5) : ∃ σ3, J9 k (c + 200) σ3 xa o ot ∧ f_L_law_1627 L9 xs9 rec23 (some xa) (some o) (some ot) v4 σ = rec23 (v4 + 6) σ3 := by
  have X : WR k c xa o ot (f_X0_live (some xa) s1 (some ot) σ) (fun M9 => g_X6_live s1 M9) := by
    unfold f_X0_live
    rw [bd_at, zif_t (J9_cl HJ)]
    refine wrap_of HJ (fun L A N U S D M H hxa hz1 hz2 => O_live H hc hxa (by omega) s1) (fun e τ hs => ?_)
    cases hs
    all_goals exact ⟨rfl, by decide⟩
  obtain ⟨x, σ1, v, σ3, w1, w2, w3, w4, J⟩ := X
  refine ⟨σ3, J, ?_⟩
  unfold f_L_law_1627
  rw [ybind_eq e1, zb2_eq w1, ybind_eq e1, bd_at, zb2_eq w2, zb2_eq w3, if_pos rfl]
  by_cases h : x = 0
  · rw [if_neg (fun z => z h), bd_at, ybind_eq (w4 h), lgc, if_pos rfl]
    rfl
  · rw [if_pos h]
    rfl
theorem LW_feed (HJ : J9 (k + 1) c σ xa o ot) (hc : c < 800000) (e1 : zsl L9 xs9 (v4 + 1) = some s1) (e2 : zsl L9 xs9 (v4 + 2) = some s2) (e3 : zsl L9 xs9 (v4 + 3) = some s3) (e4 : zsl L9 xs9 (v4 + 4) = some s4) (e5 : zsl L9 xs9 (v4 + 5) = some s5) : ∃ σ3, J9 k (c + 200) σ3 xa o ot ∧ f_L_law_172 L9 xs9 rec23 (some xa) (some o) (some ot) v4 σ = rec23 (v4 + 6) σ3 := by
  obtain ⟨v, σ1, σ3, w1, w2, J⟩ := step_s (fo := f_X1_feed xa s1 s2 s3 s4 s5 σ) (go := fun M9 => g_X6_feed s1 s2 s3 s4 s5 M9) HJ (fun L A N U S D M H hxa hz1 hz2 => O_feed H hxa (by omega) s1 s2 s3 s4 s5)
  refine ⟨σ3, J, ?_⟩
  unfold f_L_law_172
  rw [ybind_eq e1, ybind_eq e2, ybind_eq e3, ybind_eq e4, ybind_eq e5, bd_at, zif_t (J9_cl HJ), zb2_eq w1, ybind_eq e1, ybind_eq e2, ybind_eq e3, ybind_eq e4, ybind_eq e5, bd_at, zb2_eq w2, if_pos rfl]
  rfl
theorem LW_end (HJ : J9 (k + 1) c σ xa o ot) (hc : c < 800000) (e1 : zsl L9 xs9 (v4 + 1) = some s1) (e2 : zsl L9 xs9 (v4 + 2) = some s2) (e3 : zsl L9 xs9 (v4 + 3) = some s3) (e4 : zsl L9 xs9 (v4 + 4) = some s4) (e5 : zsl L9 xs9 (v4 + 5) = some s5) : ∃ σ3, J9 k (c + 200) σ3 xa o ot ∧ f_L_law_245 L9 xs9 rec23 (some xa) (some o) (some ot) v4 σ = rec23 (v4 + 6) σ3 := by
  obtain ⟨v, σ1, σ3, w1, w2, J⟩ := step_s (fo := f_X1_end xa s1 σ) (go := fun M9 => g_X6_end s1 M9) HJ (fun L A N U S D M H hxa hz1 hz2 => O_end H hxa s1)
  refine ⟨σ3, J, ?_⟩
  unfold f_L_law_245
  rw [ybind_eq e1, bd_at, zif_t (J9_cl HJ), zb2_eq w1, ybind_eq e1, bd_at, zb2_eq w2, if_pos rfl]
  rfl
theorem LW_fault (HJ : J9 (k + 1) c σ xa o ot) (hc : c < 800000) (e1 : zsl L9 xs9 (v4 + 1) = some s1) (e2 : zsl L9 xs9 (v4 + 2) = some s2) (e3 : zsl L9 xs9 (v4 + 3) = some s3) (e4 : zsl L9 xs9 (v4 + 4) = some s4) (e5 : zsl L9 xs9 (v4 + 5) = some s5) : ∃ σ3, J9 k (c + 200) σ3 xa o ot ∧ f_L_law_358 L9 xs9 rec23 (some xa) (some o) (some ot) v4 σ = rec23 (v4 + 6) σ3 := by
  obtain ⟨v, σ1, σ3, w1, w2, J⟩ := step_s (fo := f_X1_fault xa σ) (go := fun M9 => g_X6_fault M9) HJ (fun L A N U S D M H hxa hz1 hz2 => O_fault H hxa)
  refine ⟨σ3, J, ?_⟩
  unfold f_L_law_358
  rw [bd_at, zif_t (J9_cl HJ), zb2_eq w1, bd_at, zb2_eq w2, if_pos rfl]
  rfl
theorem LW_undo (HJ : J9 (k + 1) c σ xa o ot) (hc : c < 800000) (e1 : zsl L9 xs9 (v4 + 1) = some s1) (e2 : zsl L9 xs9 (v4 + 2) = some s2) (e3 : zsl L9 xs9 (v4 + 3) = some s3) (e4 : zsl L9 xs9 (v4 + 4) = some s4) (e5 : zsl L9 xs9 (v4 + 5) = some s5) : ∃ σ3, J9 k (c + 200) σ3 xa o ot ∧ f_L_law_859 L9 xs9 rec23 (some xa) (some o) (some ot) v4 σ = rec23 (v4 + 6) σ3 := by
  obtain ⟨v, σ1, σ3, w1, w2, J⟩ := step_s (fo := f_X1_undo xa σ) (go := fun M9 => g_X6_undo M9) HJ (fun L A N U S D M H hxa hz1 hz2 => O_undo H hc hxa)
  refine ⟨σ3, J, ?_⟩
  unfold f_L_law_859
  rw [bd_at, zif_t (J9_cl HJ), zb2_eq w1, bd_at, zb2_eq w2, if_pos rfl]
  rfl
theorem LW_missed (HJ : J9 (k + 1) c σ xa o ot) (hc : c < 800000) (e1 : zsl L9 xs9 (v4 + 1) = some s1) (e2 : zsl L9 xs9 (v4 + 2) = some s2) (e3 : zsl L9 xs9 (v4 + 3) = some s3) (e4 : zsl L9 xs9 (v4 + 4) = some s4) (e5 : zsl L9 xs9 (v4 + 5) = some s5) : ∃ σ3, J9 k (c + 200) σ3 xa o ot ∧ f_L_law_1200 L9 xs9 rec23 (some xa) (some o) (some ot) v4 σ = rec23 (v4 + 6) σ3 := by
  obtain ⟨v, σ1, σ3, w1, w2, J⟩ := step_s (fo := f_X1_missed xa σ) (go := fun M9 => g_X6_missed M9) HJ (fun L A N U S D M H hxa hz1 hz2 => O_missed H hxa)
  refine ⟨σ3, J, ?_⟩
  unfold f_L_law_1200
  rw [bd_at, zif_t (J9_cl HJ), zb2_eq w1, bd_at, zb2_eq w2, if_pos rfl]
  rfl
theorem LW_ways (HJ : J9 (k + 1) c σ xa o ot) (hc : c < 800000) (e1 : zsl L9 xs9 (v4 + 1) = some s1) (e2 : zsl L9 xs9 (v4 + 2) = some s2) (e3 : zsl L9 xs9 (v4 + 3) = some s3) (e4 : zsl L9 xs9 (v4 + 4) = some s4) (e5 : zsl L9 xs9 (v4 + 5) = some s5) : ∃ σ3, J9 k (c + 200) σ3 xa o ot ∧ f_L_law_1613 L9 xs9 rec23 (some xa) (some o) (some ot) v4 σ = rec23 (v4 + 6) σ3 := by
  obtain ⟨v, σ1, σ3, w1, w2, J⟩ := step_s (fo := f_X1_ways xa σ) (go := fun M9 => g_X6_ways M9) HJ (fun L A N U S D M H hxa hz1 hz2 => O_ways H hxa)
  refine ⟨σ3, J, ?_⟩
  unfold f_L_law_1613
  rw [bd_at, zif_t (J9_cl HJ), zb2_eq w1, bd_at, zb2_eq w2, lgc, if_pos rfl]
  rfl
theorem LW_seed (HJ : J9 (k + 1) c σ xa o ot) (hc : c < 800000) (e1 : zsl L9 xs9 (v4 + 1) = some s1) (e2 : zsl L9 xs9 (v4 + 2) = some s2) (e3 : zsl L9 xs9 (v4 + 3) = some s3) (e4 : zsl L9 xs9 (v4 + 4) = some s4) (e5 : zsl L9 xs9 (v4 + 5) = some s5) : ∃ σ3, J9 k (c + 200) σ3 xa o ot ∧ f_L_law_1683 L9 xs9 rec23 (some xa) (some o) (some ot) v4 σ = rec23 (v4 + 6) σ3 := by
  obtain ⟨v, σ1, σ3, w1, w2, J⟩ := step_s (fo := f_X1_seed xa s1 σ) (go := fun M9 => g_X6_seed s1 M9) HJ (fun L A N U S D M H hxa hz1 hz2 => O_seed H hxa s1)
  refine ⟨σ3, J, ?_⟩
  unfold f_L_law_1683
  rw [ybind_eq e1, bd_at, zif_t (J9_cl HJ), zb2_eq w1, ybind_eq e1, bd_at, zb2_eq w2, if_pos rfl]
  rfl
theorem LW_image (HJ : J9 (k + 1) c σ xa o ot) (hc : c < 800000) (e1 : zsl L9 xs9 (v4 + 1) = some s1) (e2 : zsl L9 xs9 (v4 + 2) = some s2) (e3 : zsl L9 xs9 (v4 + 3) = some s3) (e4 : zsl L9 xs9 (v4 + 4) = some s4) (e5 : zsl L9 xs9 (v4 + 5) = some s5) : ∃ σ3, J9 k (c + 200) σ3 xa o ot ∧ f_L_law_1708 L9 xs9 rec23 (some xa) (some o) (some ot) v4 σ = rec23 (v4 + 6) σ3 := by
  obtain ⟨v, σ1, σ3, w1, w2, J⟩ := step_s (fo := f_X1_image xa σ) (go := fun M9 => g_X6_image M9) HJ (fun L A N U S D M H hxa hz1 hz2 => O_image H hxa (by omega))
  refine ⟨σ3, J, ?_⟩
  unfold f_L_law_1708
  rw [bd_at, zif_t (J9_cl HJ), zb2_eq w1, bd_at, zb2_eq w2]
  rfl
theorem LW_back (HJ : J9 (k + 1) c σ xa o ot) (hc : c < 800000) (e1 : zsl L9 xs9 (v4 + 1) = some s1) (e2 : zsl L9 xs9 (v4 + 2) = some s2) (e3 : zsl L9 xs9 (v4 + 3) = some s3) (e4 : zsl L9 xs9 (v4 + 4) = some s4) (e5 : zsl L9 xs9 (v4 + 5) = some s5) : ∃ σ3, J9 k (c + 200) σ3 xa o ot ∧ f_L_law_1719 L9 xs9 rec23 (some xa) (some o) (some ot) v4 σ = rec23 (v4 + 6) σ3 := by
  obtain ⟨v, σ1, σ3, w1, w2, J⟩ := step_s (fo := f_X1_back xa σ) (go := fun M9 => g_X6_back M9) HJ (fun L A N U S D M H hxa hz1 hz2 => O_back H hxa (by omega))
  refine ⟨σ3, J, ?_⟩
  unfold f_L_law_1719
  rw [bd_at, zif_t (J9_cl HJ), zb2_eq w1, bd_at, zb2_eq w2, if_pos rfl]
  rfl
theorem LW_count (HJ : J9 (k + 1) c σ xa o ot) (hc : c < 800000) (e1 : zsl L9 xs9 (v4 + 1) = some s1) (e2 : zsl L9 xs9 (v4 + 2) = some s2) (e3 : zsl L9 xs9 (v4 + 3) = some s3) (e4 : zsl L9 xs9 (v4 + 4) = some s4) (e5 : zsl L9 xs9 (v4 + 5) = some s5) : ∃ σ3, J9 k (c + 200) σ3 xa o ot ∧ f_L_law_1732 L9 xs9 rec23 (some xa) (some o) (some ot) v4 σ = rec23 (v4 + 6) σ3 := by
  obtain ⟨v, σ1, σ3, w1, w2, J⟩ := step_s (fo := f_X1_count xa s1 σ) (go := fun M9 => g_X6_count s1 M9) HJ (fun L A N U S D M H hxa hz1 hz2 => O_count H hxa s1)
  refine ⟨σ3, J, ?_⟩
  unfold f_L_law_1732
  rw [ybind_eq e1, bd_at, zif_t (J9_cl HJ), zb2_eq w1, ybind_eq e1, bd_at, zb2_eq w2, if_pos rfl]
  rfl
end ZC6
