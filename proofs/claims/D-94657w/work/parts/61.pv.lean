/-! pure land: Y5 Y6 Y7 (see wip/D-94657w/pl) -/
/-! the model reads a law -/
/-- the model's two flags -/
def Bz (M : mS) : Prop := (M.1 14 = 0 ∨ M.1 14 = 1) ∧ (M.1 15 = 0 ∨ M.1 15 = 1)
def bgM (M : mS) : mS := (fun k => if k = 11 then 0 else if k = 9 then 0 else if k = 6 then 0 else if k = 8 then M.1 6 else if k = 7 then -1 else if k = 10 then -1 else M.1 k, M.2)
def scM (M : mS) : Sc9 := fun k => match k with
  | 0 => M.1 13
  | 5 => M.1 14
  | 6 => M.1 15
  | k + 1 => M.2 4 k
section ZY5
variable {M : mS} {T : Nat → Nat} {L : Nat}
theorem g_begins : g_X6_begins M = some ((), bgM M) := rfl
theorem bgM_id : m3 (bgM M) 0 (-1) 0 = bgM M := by
  refine Prod.ext (funext fun k => ?_) rfl
  show (if k = 9 then 0 else if k = 10 then -1 else if k = 11 then 0 else if k = 11 then 0 else if k = 9 then 0 else if k = 6 then 0 else if k = 8 then M.1 6 else if k = 7 then -1 else if k = 10 then -1 else M.1 k) = (if k = 11 then 0 else if k = 9 then 0 else if k = 6 then 0 else if k = 8 then M.1 6 else if k = 7 then -1 else if k = 10 then -1 else M.1 k)
  by_cases a : k = 9
  · subst a; rfl
  · by_cases b : k = 10
    · subst b; rfl
    · by_cases c : k = 11
      · subst c; rfl
      · rw [if_neg a, if_neg b, if_neg c]
theorem bgM_id16 : m3 (mset (bgM M) 16 (-1)) 0 (-1) 0 = mset (bgM M) 16 (-1) := by
  refine Prod.ext (funext fun k => ?_) rfl
  show (if k = 9 then 0 else if k = 10 then -1 else if k = 11 then 0 else if k = 16 then -1 else (bgM M).1 k) = (if k = 16 then -1 else (bgM M).1 k)
  by_cases a : k = 9
  · subst a; rfl
  · by_cases b : k = 10
    · subst b; rfl
    · by_cases c : k = 11
      · subst c; rfl
      · rw [if_neg a, if_neg b, if_neg c]
/-- the law's text is kept -/
theorem g_law62 {v : Int32} (h8 : M.1 8 = nI L) (hL : L ≤ 400) : ∃ M', g_X6_law_62 v 0 M = some (v, M') ∧ M'.1 = M.1 ∧ (∀ j, j ≠ 0 → M'.2 j = M.2 j) ∧ (∀ k, k < 542 → M'.2 0 k = M.2 0 k) ∧ ∀ k, k < L → M'.2 0 (542 + k) = M.2 3 k := by
  let F : Nat → mS := fun i => (M.1, fun q => if q = 0 then (fun k => if 542 ≤ k ∧ k < 542 + i then M.2 3 (k - 542) else M.2 0 k) else M.2 q)
  have F0 : F 0 = M := by
    refine Prod.ext rfl (funext fun q => ?_)
    show (if q = 0 then (fun k => if 542 ≤ k ∧ k < 542 + 0 then M.2 3 (k - 542) else M.2 0 k) else M.2 q) = M.2 q
    by_cases z : q = 0
    · rw [if_pos z, z]
      exact funext fun k => if_neg (by omega)
    · rw [if_neg z]
  have Fs : ∀ i, mj (F i) 0 (542 + i) ((F i).2 3 i) = F (i + 1) := by
    intro i
    refine Prod.ext rfl (funext fun q => ?_)
    have e1 : (F i).2 3 i = M.2 3 i := rfl
    rw [e1]
    show (if q = 0 then upd ((F i).2 0) (542 + i) (M.2 3 i) else (if q = 0 then (fun k => if 542 ≤ k ∧ k < 542 + i then M.2 3 (k - 542) else M.2 0 k) else M.2 q)) = (if q = 0 then (fun k => if 542 ≤ k ∧ k < 542 + (i + 1) then M.2 3 (k - 542) else M.2 0 k) else M.2 q)
    by_cases z : q = 0
    · rw [if_pos z, if_pos z]
      funext k
      by_cases y : k = 542 + i
      · subst y
        rw [upd_at, if_pos (by omega), show 542 + i - 542 = i by omega]
      · rw [upd_no y]
        show (if 542 ≤ k ∧ k < 542 + i then M.2 3 (k - 542) else M.2 0 k) = _
        by_cases x : 542 ≤ k ∧ k < 542 + i
        · rw [if_pos x, if_pos (by omega)]
        · rw [if_neg x, if_neg (by omega)]
    · rw [if_neg z, if_neg z, if_neg z]
  refine ⟨F L, ?_, rfl, fun j hj => if_neg hj, fun k hk => ?_, fun k hk => ?_⟩
  · unfold g_X6_law_62
    have q := zlp1_it (F := g_X6_law_62_b v) (n := L) (R := some (v, F L)) (fun i => nI i) F (fun i rf hi => ?_) (fun rf => ?_) NN (NN_lt (by omega))
    · rw [F0] at q
      exact q
    · show g_X6_law_62_b v rf (nI i) (F i) = rf (nI (i + 1)) (F (i + 1))
      unfold g_X6_law_62_b
      have h8' : (F i).1 8 = nI L := h8
      rw [h8', nleF hi (by omega), mL_n (j := 3) (show i < 400 by omega) (by omega), bd_at, show (542 : Int32) = nI 542 from rfl, nI_add, mj_set (j := 0) (show 542 + i < 942 by omega), bd_at, zl_at, nI_1, Fs]
    · show g_X6_law_62_b v rf (nI L) (F L) = _
      unfold g_X6_law_62_b
      have h8' : (F L).1 8 = nI L := h8
      rw [h8', if_pos (Int32.le_refl _)]
  · show (if 542 ≤ k ∧ k < 542 + L then M.2 3 (k - 542) else M.2 0 k) = _
    rw [if_neg (by omega)]
  · show (if 542 ≤ 542 + k ∧ 542 + k < 542 + L then M.2 3 (542 + k - 542) else M.2 0 (542 + k)) = _
    rw [if_pos (by omega), show 542 + k - 542 = k by omega]
theorem pRead_b (hT : Tx T L) : qBl L 0 (pRead T) := by
  unfold pRead
  by_cases z : T (sk T 0) = 256
  · rw [if_pos z]
    exact ⟨Nat.zero_le _, (sk_spec hT (Nat.zero_le L)).2.1⟩
  · rw [if_neg z]
    exact pLaw_b hT 13 0 (fun _ => none) 0 (Nat.zero_le L)
theorem g_law (hT : Tx T L) (h6 : M.1 6 = nI L) (ht : ∀ k, k < L → M.2 3 k = nI (T k)) (hB : Bz M) : match pRead T with
    | .inl e => ∃ v M', g_X6_law M = some (v, M') ∧ M'.1 0 = 1 ∧ M'.1 10 = nI e ∧ M'.1 6 = 0 ∧ M'.1 3 = M.1 3 ∧ Bz M' ∧ M'.2 = M.2
    | .inr ((l, f), _) => ∃ M', g_X6_law M = some (nI l, M') ∧ M'.1 0 = 0 ∧ M'.1 10 = -1 ∧ M'.1 6 = 0 ∧ M'.1 3 = M.1 3 ∧ Bz M' ∧ (∀ j, j ≠ 0 → M'.2 j = M.2 j) ∧ (∀ j, j < 542 → j ≠ 10 → j ≠ 11 → M'.2 0 j = M.2 0 j) ∧ LR (M'.2 0) T L l := by
  have hn := hT.1
  have tm : yTM (mset (bgM M) 16 (-1)) T L := ⟨hT, h6, Or.inl ⟨rfl, ht⟩⟩
  have g1 := g_read1 (s := scM M) tm ⟨rfl, rfl, rfl, ⟨rfl, rfl, rfl, rfl⟩, hB.1, hB.2⟩ rfl
  rw [bgM_id16] at g1
  unfold g_X6_law
  rw [g_begins, zb2_at, zl_at]
  have hb := pRead_b hT
  generalize pRead T = R at g1 hb
  match R, g1, hb with
  | .inl e, g1, hb =>
    obtain ⟨v, q, d', y, hq, e1⟩ := g1
    rw [zb2_eq e1]
    refine ⟨0, mset (m3 (mset (mset (bgM M) 16 (-1)) 16 y) (nI q) (nI e) d') 0 1, ?_, rfl, rfl, rfl, rfl, hB, rfl⟩
    have he : e ≤ 1000 := by
      have hb' : e ≤ L := hb
      omega
    have hne : ¬ (m3 (mset (mset (bgM M) 16 (-1)) 16 y) (nI q) (nI e) d').1 10 = -1 := nI_ne1 he
    rw [if_neg hne]
    rfl
  | .inr ((l, f), q), g1, _ =>
    obtain ⟨q0, e1, -⟩ := g1
    rw [zb2_eq e1]
    let M5 : mS := m3 (mset (mset (bgM M) 16 (-1)) 16 (ye16 (f (scM M)))) (nI q0) (-1) 0
    let M6 : mS := mset M5 0 0
    let M7 : mS := mj M6 0 10 (nI l)
    let M8 : mS := mj M7 0 11 (nI L)
    have e8 : M7.1 8 = nI L := h6
    obtain ⟨M', a1, a2, a3, a4, a5⟩ := g_law62 (M := M8) (v := nI l) e8 hn
    have s7 : mSt M6 0 10 (nI l) = some M7 := mj_set (j := 0) (k := 10) (show 10 < 942 by omega)
    have s8 : mSt M7 0 11 (nI L) = some M8 := mj_set (j := 0) (k := 11) (show 11 < 942 by omega)
    have r0 : ∀ k, M8.2 0 k = if k = 11 then nI L else if k = 10 then nI l else M.2 0 k := fun k => rfl
    refine ⟨M', ?_, by rw [a2]; rfl, by rw [a2]; rfl, by rw [a2]; rfl, by rw [a2]; rfl, ⟨by rw [a2]; exact hB.1, by rw [a2]; exact hB.2⟩, fun j hj => ?_, fun j h1 h2 h3 => ?_, ⟨hT, ?_, ?_, fun p hp => ?_⟩⟩
    · have hpos : (M5.1 10) = -1 := rfl
      show (if M5.1 10 = -1 then g_X6_law_29 (nI l) 0 M5 else _) = _
      rw [if_pos hpos]
      unfold g_X6_law_29
      rw [zl_at]
      show (if M6.1 0 ≤ 0 then (mSt M6 0 10 (nI l)).bind _ else _) = _
      rw [if_pos (show M6.1 0 ≤ 0 from Int32.le_refl _), ybind_eq s7, e8, ybind_eq s8, a1]
    · rw [a3 j hj]
      show (if j = 0 then _ else if j = 0 then _ else M.2 j) = M.2 j
      rw [if_neg hj, if_neg hj]
    · rw [a4 j h1, r0, if_neg h3, if_neg h2]
    · rw [a4 10 (by omega), r0]; rfl
    · rw [a4 11 (by omega), r0]; rfl
    · rw [a5 p hp]
      exact ht p hp
end ZY5
/-! the component's reader and its law in the heap: the invariant of a yrun -/
/-- the law of a book's world is the one in the row m; its cells are in S -/
def Lw (σ : zS) (A : cA) (S : Nat → Prop) (m : Nat → Int32) : Prop := (∃ lw nb, yLp σ A S lw nb ∧ LK lw nb m) ∧ (arf A 1 = none → m 10 = -1) ∧ ∀ a, arf A 1 = some a → ∃ T : Nat → Prop, (∀ q, T q → S q) ∧ ∀ τ, AgP T σ τ → zcl τ a = 11 ∧ ∃ x, gR τ a 11 0 = some (some x) ∧ zcl τ x = 19 ∧ f_J2_size x τ = some (m 10, τ)
/-- the readers hold one tape of L bytes -/
def Rdr (U : cU) (M : mS) (L : Nat) : Prop := U.1 8 = nI L ∧ M.1 6 = nI L ∧ (∃ k, U.1 11 = nI k) ∧ U.1 12 = M.1 10 ∧ ∃ T, TB (U.2 10) T L ∧ ∀ k, k < L → M.2 3 k = nI (T k)
/-- the image on both sides -/
def Im (c : Nat) (σ : zS) (A : cA) (S : Nat → Prop) (M : mS) : Prop := (arf A 0 = none ∧ M.1 3 = 0) ∨ ∃ B N' U', M.1 3 = 1 ∧ arf A 0 = some (aad B 1) ∧ yWd σ B N' U' ∧ (∀ q, In B N' q → S q) ∧ RI c N' U' ∧ yRM N' U' (M.2 1) ∧ Lw σ B S (M.2 1)
/-- the invariant: S is set aside, of it D holds the laws and the image -/
def Iv (c L : Nat) (σ : zS) (A : cA) (N : Nat → Nat) (U : cU) (S D : Nat → Prop) (M : mS) : Prop :=
  Cs σ A N U S ∧ (∀ q, D q → S q) ∧ yEv σ ∧ zLk σ ∧ (∃ d, zk σ 1 = some d) ∧ RI c N U ∧ yRM N U (M.2 0) ∧ Lw σ A D (M.2 0) ∧ Rdr U M L ∧ Im c σ A D M ∧ Bz M
section ZY6
variable {σ σ' σ'' τ : zS} {A A' B : cA} {N N' : Nat → Nat} {U U' : cU} {S S' D D' : Nat → Prop} {c L : Nat} {M M' : mS} {m m' : Nat → Int32}
theorem Lw_St {a b : Nat} (H : Lw σ A S m) (h : ySt σ σ' S a b) (hA : arf A' 1 = arf A 1) (hS : ∀ q, S q → S' q) (hm : ∀ j, (j = 10 ∨ j = 11 ∨ (542 ≤ j ∧ j < 942)) → m' j = m j) : Lw σ' A' S' m' := by
  obtain ⟨⟨lw, nb, h1, h2⟩, h3, h4⟩ := H
  obtain ⟨l1, T, l2, l3⟩ := h1
  obtain ⟨g1, g2, g3, g4, -⟩ := h
  refine ⟨⟨lw, nb, ⟨by rw [hA]; exact l1, T, fun q hq => ?_, fun a ha => ?_⟩, LK_congr h2 hm⟩, fun h => ?_, fun a ha => ?_⟩
  · obtain ⟨m1, m2⟩ := l2 q hq
    exact ⟨hS q m1, by rw [g4 q (Or.inl m1)]; exact m2⟩
  · rw [hA] at ha
    exact fun τ sc U n t1 t2 t3 t4 => l3 a ha τ sc U n (fun q hq => (t1 q (by rw [g2]; exact hq)).trans (g4 q (hq.elim (fun z => Or.inl (l2 q z).1) Or.inr))) (t2.trans g1) (t3.trans g2) t4
  · rw [hA] at h
    rw [hm 10 (Or.inl rfl)]; exact h3 h
  · rw [hA] at ha
    obtain ⟨T', t1, t2⟩ := h4 a ha
    refine ⟨T', fun q hq => hS q (t1 q hq), fun τ hτ => ?_⟩
    rw [hm 10 (Or.inl rfl)]
    exact t2 τ ⟨fun q hq => (hτ.1 q (hq.imp id (fun z => by rw [g2]; exact z))).trans (g4 q (hq.imp (t1 q) id)), hτ.2.1.trans g1, hτ.2.2.trans g2⟩
theorem Im_St {a b : Nat} (H : Im c σ A S M) (h : ySt σ σ' S a b) (hA : arf A' 0 = arf A 0) (hS : ∀ q, S q → S' q) (h3 : M'.1 3 = M.1 3) (h1 : ∀ j, j < 942 → M'.2 1 j = M.2 1 j) : Im c σ' A' S' M' := by
  rcases H with ⟨h4, h5⟩ | ⟨B, N', U', h4, h5, h6, h7, h8, h9, h10⟩
  · exact Or.inl ⟨by rw [hA]; exact h4, by rw [h3]; exact h5⟩
  · refine Or.inr ⟨B, N', U', by rw [h3]; exact h4, by rw [hA]; exact h5, Wd_keep h6 (fun r r1 r2 => h.2.2.2.1 _ (Or.inl (h7 _ ⟨r, r1, r2, rfl⟩))) h.1 h.2.1 h.2.2.1, fun q hq => hS q (h7 q hq), h8, RM_congr h8 h9 (fun k hk => h1 k (by omega)), Lw_St h10 h rfl hS (fun j hj => h1 j (by omega))⟩
theorem Im_mono (H : Im c σ A S M) {c' : Nat} (hc : c ≤ c') : Im c' σ A S M := by
  rcases H with h | ⟨B, N', U', h4, h5, h6, h7, h8, h9⟩
  · exact Or.inl h
  · exact Or.inr ⟨B, N', U', h4, h5, h6, h7, RI_mono hc h8, h9⟩
theorem zLk_St {a b : Nat} (H : zLk σ) (h : ySt σ σ' S a b) : zLk σ' := zLk_ag (P := fun _ => False) H ⟨fun q hq => h.2.2.2.1 q (Or.inr (hq.elim (fun z => z.elim) id)), h.1, h.2.1⟩
theorem St_D {a b : Nat} (h : ySt σ σ' S a b) (hD : ∀ q, D q → S q) : ySt σ σ' D a b := St_sub h hD
/-- an operation that leaves reader, laws and image alone -/
theorem Iv_op {c' a b : Nat} (H : Iv c L σ A N U S D M) (C' : Cs σ' A' N' U' S) (hs : ySt σ σ' S a b) (hc : c ≤ c') (I' : RI c' N' U') (R' : yRM N' U' (M'.2 0)) (hU : KU U U') (hM : yKM M M') (hA : arf A' = arf A) (hB : Bz M') : Iv c' L σ' A' N' U' S D M' := by
  obtain ⟨h1, h2, h3, h4, ⟨d, h5⟩, h6, h7, h8, ⟨r1, r2, r3, r4, T, r5, r6⟩, h10, h11⟩ := H
  have hD := St_D hs h2
  refine ⟨C', h2, Ev_St h3 hs, zLk_St h4 hs, ⟨d, by show zsv σ' 1 = _; rw [hs.1]; exact h5⟩, I', R', Lw_St h8 hD (by rw [hA]) (fun _ h => h) (fun j hj => hM.2.2.2 j (by omega)), ⟨?_, ?_, ?_, ?_, T, ?_, ?_⟩, Im_mono (Im_St h10 hD (by rw [hA]) (fun _ h => h) hM.1.1 (fun j _ => by rw [hM.2.1])) hc, hB⟩
  · rw [hU.1 8 (by omega) (by omega)]; exact r1
  · rw [hM.1.2.1]; exact r2
  · rw [hU.1 11 (by omega) (by omega)]; exact r3
  · rw [hU.1 12 (by omega) (by omega), hM.1.2.2]; exact r4
  · rw [hU.2.1]; exact r5
  · rw [hM.2.2.1]; exact r6
/-- the component begins to read -/
def bgU (U : cU) : cU := uset (uset (uset (uset U 9 (U.1 8)) 8 0) 10 0) 13 0
theorem F_begins (C : Cs σ A N U S) : f_X3_begins (aad A 2) σ = some ((), pU σ A N (bgU U)) ∧ Cs (pU σ A N (bgU U)) A N (bgU U) S ∧ ySt σ (pU σ A N (bgU U)) S 0 0 := by
  have h := e_X3_begins (σ := σ) (A := A) (N := N) C.1.1 (U := U) (Rt := ((), bgU U)) rfl
  rw [Cs_id C] at h
  obtain ⟨c1, c2⟩ := Cs_pU (U' := bgU U) C rfl
  exact ⟨h, c1, c2⟩
theorem Rd_of (C : Cs σ A N U S) {n p k d : Nat} (h9 : U.1 9 = nI n) (h10 : U.1 10 = nI p) (h11 : U.1 11 = nI k) (h13 : U.1 13 = nI d) : yRd σ (aad A 2) (aad A 11) (U.1 8) (U.1 12) (U.2 10) n p k d := by
  have h2 := C.1.2.1 2
  have e2 : cCt A (U.1, U.2, N) 2 = some (.inr (2, [.ref (aad A 11), .int (U.1 8), .int (nI n), .int (nI p), .int (nI k), .int (U.1 12), .int (nI d)])) := by
    show some (Sum.inr (2, [Value.ref (aad A 11), .int (U.1 8), .int (U.1 9), .int (U.1 10), .int (U.1 11), .int (U.1 12), .int (U.1 13)])) = _
    rw [h9, h10, h11, h13]
  exact ⟨h2.trans e2, C.1.2.1 11, fun e => by have := Cs_inj C e; omega, C.1.1.2.1 2, Cs_lt C (Or.inl (by omega)), Cs_lt C (Or.inl (by omega)), C.1.2.2.2.1, C.1.2.2.1⟩
theorem Cx_of (C : Cs σ A N U S) (E : yEv σ) (K : zLk σ) {d : Nat} (hd : zk σ 1 = some d) : Cx σ (aad A 0) (aad A 2) := by
  have h0 := C.1.2.1 0
  exact ⟨⟨gR_of h0 (k := 2) (q := some (aad A 2)) rfl rfl, cl_of h0 rfl, Cs_lt C (Or.inl (by omega)), fun e => by have := Cs_inj C e; omega⟩, K, E, d, hd⟩
/-- the reader's numbers -/
def rdU (U : cU) (q k d : Nat) : cU := uset (uset (uset U 10 (nI q)) 11 (nI k)) 13 (nI d)
theorem cCt_rd {q k d : Nat} : ∀ r, r ≠ 2 → cCt A ((rdU U q k d).1, (rdU U q k d).2, N) r = cCt A (U.1, U.2, N) r
  | 0, _ => rfl
  | 1, _ => rfl
  | 2, h => absurd rfl h
  | 3, _ => rfl
  | 4, _ => rfl
  | 5, _ => rfl
  | 6, _ => rfl
  | 7, _ => rfl
  | 8, _ => rfl
  | 9, _ => rfl
  | 10, _ => rfl
  | 11, _ => rfl
  | 12, _ => rfl
  | 13, _ => rfl
  | 14, _ => rfl
  | 15, _ => rfl
  | 16, _ => rfl
  | 17, _ => rfl
  | 18, _ => rfl
  | 19, _ => rfl
  | _ + 20, _ => rfl
/-- the reader has read on: the component's book again -/
theorem Cs_rd {n q k d a b : Nat} (C : Cs σ A N U S) (h9 : U.1 9 = nI n) (hR : yRd τ (aad A 2) (aad A 11) (U.1 8) (U.1 12) (U.2 10) n q k d) (hs : Sp σ τ (aad A 2) a b) (hS' : ∀ q, S' q → S q ∨ (zn σ ≤ q ∧ q < zn τ)) :
    ∃ A', Cs τ A' N (rdU U q k d) S' ∧ (∀ r, r < 16 → aad A' r = aad A r) ∧ arf A' = arf A ∧ ySt σ τ S a b := by
  obtain ⟨C0, T0⟩ := Cs_pU (U' := rdU U q k d) C rfl
  have hne : ∀ q, S q ∨ q < zbs σ → q ≠ aad A 2 := by
    intro q hq e
    rcases hq with h | h
    · have := (C.2.1 q h).2 2 e.symm; omega
    · have := C.1.1.2.1 2; omega
  have hbz := C.1.2.2.2.1
  have hag : ∀ x, x < zn σ → τ.1 x = (pU σ A N (rdU U q k d)).1 x := by
    intro x hx
    by_cases z : x = aad A 2
    · have h1 : (pU σ A N (rdU U q k d)).1 (aad A 2) = cCt A ((rdU U q k d).1, (rdU U q k d).2, N) 2 := pC_ad (V := ((rdU U q k d).1, (rdU U q k d).2, N)) C.1.1 2
      rw [z, hR.1, h1]
      show _ = some (Sum.inr (2, [Value.ref (aad A 11), .int (U.1 8), .int (U.1 9), .int (nI q), .int (nI k), .int (U.1 12), .int (nI d)]))
      rw [h9]
    · rw [hs.1 x hx z]
      show σ.1 x = (match ainv A x with
        | some r => cCt A ((rdU U q k d).1, (rdU U q k d).2, N) r
        | none => σ.1 x)
      cases e : ainv A x with
      | none => rfl
      | some r =>
        have h1 := C.1.1.2.2.2 x r e
        have h2 : r ≠ 2 := fun h => z (by rw [← h1, h])
        show σ.1 x = cCt A ((rdU U q k d).1, (rdU U q k d).2, N) r
        rw [cCt_rd r h2, ← h1, C.1.2.1 r]
  obtain ⟨A', a1, a2, -, -, -, a6⟩ := Cs_new (S' := S') C0 hag hs.2.1 hs.2.2.1 hs.2.2.2.1 hR.2.2.2.2.2.2.2 (fun q hq => by
    rcases hS' q hq with h | ⟨h1, h2⟩
    · exact ⟨Nat.lt_of_lt_of_le (C.2.1 q h).1 hs.2.2.2.1, fun r _ e => (C.2.1 q h).2 r e⟩
    · refine ⟨h2, fun r hr e => ?_⟩
      have h3 : zal N (zow A) r := hr
      have := Cs_lt C h3
      omega)
  refine ⟨A', a1, fun r hr => a2 r (zal_some (A := A) (N := N) (U := rdU U q k d) (Or.inl hr)), a6, hs.2.1, hs.2.2.1, hs.2.2.2.1, fun q hq => hs.1 q ?_ (hne q hq), hs.2.2.2.2.1, hs.2.2.2.2.2⟩
  rcases hq with h | h
  · exact (C.2.1 q h).1
  · omega
/-- the fault is written -/
theorem F_pfault (C : Cs σ A N U S) (x : Int32) : pI σ (aad A 2) 2 5 x = some (pU σ A N (uset U 12 x)) ∧ Cs (pU σ A N (uset U 12 x)) A N (uset U 12 x) S ∧ ySt σ (pU σ A N (uset U 12 x)) S 0 0 := by
  have h : pF (pU σ A N U) (aad A 2) 2 5 (.int x) = some (pU σ A N (uset U 12 x)) := cpF (V := (U.1, U.2, N)) (V' := ((uset U 12 x).1, (uset U 12 x).2, N)) C.1.1 (r := 2) rfl (Nat.le_of_ble_eq_true rfl) rfl (vso_12 (V := (U.1, U.2, N)))
  rw [Cs_id C] at h
  obtain ⟨c1, c2⟩ := Cs_pU (U' := uset U 12 x) C rfl
  exact ⟨h, c1, c2⟩
/-- a thrown object of the JDK's -/
theorem F_zth (C : Cs σ A N U S) (hz : 1 ≤ zc σ ∧ 6 ≤ zz σ) : zth σ = some (zbm σ) ∧ Cs (zbm σ) A N U S ∧ ySt σ (zbm σ) S 1 6 := by
  obtain ⟨c1, c2⟩ := Cs_zbm C hz
  refine ⟨?_, c1, c2⟩
  unfold zth
  rw [if_pos hz]
  rfl
end ZY6
section ZY7
variable {σ σ' σ'' τ : zS} {A A' B : cA} {N N' : Nat → Nat} {U U' : cU} {S S' D D' : Nat → Prop} {c L : Nat} {M M' : mS} {m m' : Nat → Int32}
theorem RM_u (R : yRM N U m) (h1 : ∀ k, k < 7 → U'.1 k = U.1 k) (h2 : U'.2 = U.2) : yRM N U' m := by
  unfold yRM at R ⊢
  rw [h2, h1 0 (by omega), h1 2 (by omega), h1 3 (by omega), h1 4 (by omega), h1 5 (by omega)]
  exact R
theorem RI_u (I : RI c N U) (h1 : ∀ k, k < 7 → U'.1 k = U.1 k) (h2 : U'.2 = U.2) : RI c N U' := by
  unfold RI at I ⊢
  rw [h2, h1 0 (by omega), h1 1 (by omega), h1 2 (by omega), h1 3 (by omega), h1 4 (by omega), h1 6 (by omega)]
  exact I
theorem RM_congr2 (I : RI c N U) (R : yRM N U m) (h : ∀ k, k < 542 → k ≠ 10 → k ≠ 11 → m' k = m k) : yRM N U m' := by
  have n0 := RI_n0 I
  have n1 := RI_n1 I
  have n2 := RI_n2 I
  have n3 := RI_n3 I
  have n4 := RI_n4 I
  have h' : ∀ k, (k < 10 ∨ 12 ≤ k) → k < 542 → m' k = m k := fun k h1 h2 => h k h2 (by omega) (by omega)
  obtain ⟨h0, h1, h2, h3, h4, h5, h6, h7, h8, h9, h10, h11, h12, h13, h14⟩ := R
  refine ⟨by rw [h' _ (by omega) (by omega)]; exact h0, by rw [h' _ (by omega) (by omega)]; exact h1, by rw [h' _ (by omega) (by omega)]; exact h2, by rw [h' _ (by omega) (by omega)]; exact h3, by rw [h' _ (by omega) (by omega)]; exact h4, by rw [h' _ (by omega) (by omega)]; exact h5, by rw [h' _ (by omega) (by omega)]; exact h6, by rw [h' _ (by omega) (by omega)]; exact h7, by rw [h' _ (by omega) (by omega)]; exact h8, by rw [h' _ (by omega) (by omega)]; exact h9, fun i hi => by rw [h' _ (by omega) (by omega)]; exact h10 i hi, fun i hi => ?_, fun i hi => ?_, fun i hi => ?_, fun i hi => ?_⟩
  · rw [h' _ (by omega) (by omega), h' _ (by omega) (by omega), h' _ (by omega) (by omega), h' _ (by omega) (by omega)]; exact h11 i hi
  · rw [h' _ (by omega) (by omega), h' _ (by omega) (by omega), h' _ (by omega) (by omega)]; exact h12 i hi
  · rw [h' _ (by omega) (by omega), h' _ (by omega) (by omega)]; exact h13 i hi
  · rw [h' _ (by omega) (by omega), h' _ (by omega) (by omega), h' _ (by omega) (by omega), h' _ (by omega) (by omega), h' _ (by omega) (by omega), h' _ (by omega) (by omega), h' _ (by omega) (by omega)]; exact h14 i hi
/-- the law's number, for scenes whose flags are flags -/
noncomputable def nbG (f : Sc9 → Option Nat) (U : cU) : Option Int32 := @ite _ ((U.1 19 = 0 ∨ U.1 19 = 1) ∧ (U.1 20 = 0 ∨ U.1 20 = 1)) (Classical.propDecidable _) (nbF f U) none
theorem LK_nbG {f : Sc9 → Option Nat} (h : LK true (nbF f) m) : LK true (nbG f) m := by
  rcases h with h | ⟨h1, h2, h3⟩
  · exact Or.inl h
  · refine Or.inr ⟨h1, h2, fun s0 s1 s2 s3 s4 s5 s6 q5 q6 => ?_⟩
    obtain ⟨v, a1, a2, a3⟩ := h3 s0 s1 s2 s3 s4 s5 s6 q5 q6
    refine ⟨v, a1, fun U e0 e1 e2 e3 e4 e5 e6 => ?_, a3⟩
    unfold nbG
    rw [@if_pos _ (Classical.propDecidable _) (show (U.1 19 = 0 ∨ U.1 19 = 1) ∧ (U.1 20 = 0 ∨ U.1 20 = 1) from ⟨by rw [e5]; exact q5, by rw [e6]; exact q6⟩)]
    exact a2 U e0 e1 e2 e3 e4 e5 e6
theorem Lp_of {z l a : Nat} {f : Sc9 → Option Nat} (H : HlP (Rz z σ) σ a l f) (hA : arf A 1 = some a) (hS : ∀ q, Rz z σ q → S q) : yLp σ A S true (nbG f) := by
  refine ⟨by rw [hA]; rfl, Rz z σ, fun q hq => ⟨hS q hq, hq.2.2⟩, fun a' ha τ sc U n t1 t2 t3 t4 => ?_⟩
  rw [hA] at ha
  obtain rfl := Option.some.inj ha
  refine ⟨(H.2 τ ⟨t1, t2, t3⟩).1, fun hn => ?_⟩
  unfold nbG at hn
  by_cases y : (U.1 19 = 0 ∨ U.1 19 = 1) ∧ (U.1 20 = 0 ∨ U.1 20 = 1)
  · rw [@if_pos _ (Classical.propDecidable _) y] at hn
    have h := (H.1 τ sc (fun k => U.1 (14 + k)) ⟨t1, t2, t3⟩ ⟨t4, y.1, y.2⟩).2
    unfold nbF at hn
    rw [h, Option.some.inj hn]
  · rw [@if_neg _ (Classical.propDecidable _) y] at hn
    cases hn
theorem TB_0 {g : Nat → Int32} : TB g (fun _ => 256) 0 := ⟨⟨by omega, fun p hp => absurd hp (Nat.not_lt_zero p), fun p _ => rfl⟩, fun p hp => absurd hp (Nat.not_lt_zero p)⟩
set_option maxRecDepth 8000 in
/-- a law is told -/
theorem F_law (H : Iv c L σ A N U S D M) (hz : 60 * L + 5000 ≤ zc σ ∧ 600 * L + 40000 ≤ zz σ) :
    ∃ r v σ' A' U' D' M', f_X1_law (aad A 0) σ = some (r, σ') ∧ g_X6_law M = some (v, M') ∧ yans cdC r v (M'.1 0) ∧ (∀ k, r = .inr k → k = 0) ∧ Iv c 0 σ' A' N U' (fun q => S q ∨ D' q) D' M' ∧ (∀ q, D q → D' q) ∧ (∀ q, D' q → D q ∨ zn σ ≤ q) ∧ ySt σ σ' S (60 * L + 1000) (600 * L + 4000) ∧ (∀ r, r < 16 → aad A' r = aad A r) := by
  obtain ⟨C, hDS, E, K, ⟨d, hd⟩, I, R, LW, ⟨r1, r2, ⟨k0, r4⟩, r5, T, hT, r6⟩, IM, BZ⟩ := H
  have hn := hT.1.1
  obtain ⟨b1, C1, T1⟩ := F_begins C
  have E1 := Ev_St E T1
  have K1 := zLk_St K T1
  generalize hσ1 : pU σ A N (bgU U) = σ1 at *
  have hd1 : zk σ1 1 = some d := by show zsv σ1 1 = _; rw [T1.1]; exact hd
  have u9 : (bgU U).1 9 = nI L := r1
  have u11 : (bgU U).1 11 = nI k0 := r4
  have hR1 := Rd_of C1 (n := L) (p := 0) (k := k0) (d := 0) u9 rfl u11 rfl
  have X1 := Cx_of C1 E1 K1 hd1
  have hz1 : 60 * L + 5000 ≤ zc σ1 ∧ 600 * L + 40000 ≤ zz σ1 := by
    have := T1.2.2.2.2.1; have := T1.2.2.2.2.2
    omega
  have hn1 := T1.2.2.1
  have F := f_lawText (g := U.2 10) X1 hR1 hT (by omega) (by omega)
  have G := g_law hT.1 r2 r6 BZ
  have hb := pRead_b hT.1
  -- the head
  have g02 : gR σ (aad A 0) 0 2 = some (some (aad A 2)) := gR_of (C.1.2.1 0) (k := 2) (q := some (aad A 2)) rfl rfl
  have g00 : gR σ1 (aad A 0) 0 0 = some (some (aad A 1)) := gR_of (C1.1.2.1 0) (k := 0) (q := some (aad A 1)) rfl rfl
  have cl2 : zcl σ (aad A 2) = 2 := cl_of (C.1.2.1 2) rfl
  have cl0 : zcl σ1 (aad A 0) = 0 := cl_of (C1.1.2.1 0) rfl
  have e12 : ∀ {x : Int32}, (uset (bgU U) 12 x).2 = U.2 := rfl
  generalize hpr : pRead T = P at F G hb
  match P, F, G, hb with
  | .inl e, F, G, hb =>
    obtain ⟨τ, q, d', f1, f2, f3⟩ := F
    obtain ⟨v, M', m1, m2, m3', m4, m5, m6, m7⟩ := G
    have hbe : e ≤ L := hb
    obtain ⟨A1, C2, ha, harf, T2⟩ := Cs_rd (S' := S) C1 u9 f2 f3 (fun q hq => Or.inl hq)
    obtain ⟨p1, C3, T3⟩ := F_pfault C2 (nI e)
    have z3 := T2.2.2.2.2
    have z33 := T3.2.2.2.2
    have w3 : 1 ≤ zc (pU τ A1 N (uset (rdU (bgU U) q e d') 12 (nI e))) ∧ 6 ≤ zz (pU τ A1 N (uset (rdU (bgU U) q e d') 12 (nI e))) := by omega
    obtain ⟨p2, C4, T4⟩ := F_zth C3 w3
    have TT := St_t T1 (St_t T2 (St_t T3 T4))
    have g02' : gR τ (aad A 0) 0 2 = some (some (aad A 2)) := by
      have := gR_of (C2.1.2.1 0) (k := 2) (q := some (aad A1 2)) rfl rfl
      rw [ha 0 (by omega), ha 2 (by omega)] at this
      exact this
    have cl0' : zcl τ (aad A 0) = 0 := by
      have := cl_of (C2.1.2.1 0) rfl
      rw [ha 0 (by omega)] at this
      exact this
    have gm : gI τ (aad A 2) 2 4 = some (nI e) := by
      have := gI_of (C2.1.2.1 2) (k := 4) (v := nI e) rfl rfl
      rw [ha 2 (by omega)] at this
      exact this
    rw [ha 2 (by omega)] at p1
    refine ⟨.inr 0, v, _, A1, uset (rdU (bgU U) q e d') 12 (nI e), D, M', ?_, m1, m2, fun k hk => (Sum.inr.inj hk).symm, ?_, fun _ h => h, fun _ h => Or.inl h, St_le TT (by omega) (by omega), ha⟩
    · have yff : f_X1_fails (aad A 0) τ = some (.inr 0, zbm (pU τ A1 N (uset (rdU (bgU U) q e d') 12 (nI e)))) := by
        unfold f_X1_fails
        rw [ybind_eq g02', ybind_eq g02', bd_at, ybind_eq gm, bd_at, ybind_eq p1, ybind_eq p2]
      unfold f_X1_law
      rw [ybind_eq g02, bd_at, zif_t cl2, zb2_eq b1, ybind_eq g00, zif_t cl0, zbt_er f1, if_pos rfl, zif_t cl0', zbt_er yff]
    · have hD := St_D TT hDS
      refine ⟨⟨C4.1, fun q hq => C4.2.1 q (hq.elim id (hDS q)), C4.2.2⟩, fun q hq => Or.inr hq, Ev_St E TT, zLk_St K TT, ⟨d, by show zsv _ 1 = _; rw [TT.1]; exact hd⟩, RI_u I (fun k hk => ?_) rfl, RM_u (by rw [m7]; exact R) (fun k hk => ?_) rfl, Lw_St LW hD (by rw [harf]) (fun _ h => h) (fun j _ => by rw [m7]), ⟨rfl, m4, ⟨e, rfl⟩, m3'.symm, _, TB_0, fun k hk => absurd hk (Nat.not_lt_zero k)⟩, Im_St IM hD (by rw [harf]) (fun _ h => h) m5 (fun j _ => by rw [m7]), m6⟩
      · rcases (show k = 0 ∨ k = 1 ∨ k = 2 ∨ k = 3 ∨ k = 4 ∨ k = 5 ∨ k = 6 by omega) with rfl | rfl | rfl | rfl | rfl | rfl | rfl <;> rfl
      · rcases (show k = 0 ∨ k = 1 ∨ k = 2 ∨ k = 3 ∨ k = 4 ∨ k = 5 ∨ k = 6 by omega) with rfl | rfl | rfl | rfl | rfl | rfl | rfl <;> rfl
  | .inr ((l, f), q), F, G, hb =>
    obtain ⟨τ, a, mk, q', f1, f2, f3, f4, f5⟩ := F
    obtain ⟨M', m1, m2, m3', m4, m5, m6, m7, m8, m9⟩ := G
    -- the new cells are set aside
    let D' : Nat → Prop := fun q => D q ∨ Rz (zn σ1) τ q
    obtain ⟨A1, C2, ha, harf, T2⟩ := Cs_rd (S' := fun q => S q ∨ D' q) C1 u9 f2 f3 (fun q hq => by
      rcases hq with h | h | h
      · exact Or.inl h
      · exact Or.inl (hDS q h)
      · exact Or.inr ⟨h.1, h.2.1⟩)
    have C3 := Cs_arf1 (some a) C2
    have row1 := C2.1.2.1 1
    have hbt : zbs τ ≤ aad A1 1 := C2.1.1.2.1 1
    have p1 : pR τ (aad A1 1) 1 12 (some a) = some (zset τ (aad A1 1) (.inr (1, [.int ((rdU (bgU U) q' mk 0).1 0), .int ((rdU (bgU U) q' mk 0).1 1), .int ((rdU (bgU U) q' mk 0).1 2), .int ((rdU (bgU U) q' mk 0).1 3), .int ((rdU (bgU U) q' mk 0).1 4), .int ((rdU (bgU U) q' mk 0).1 5), .int ((rdU (bgU U) q' mk 0).1 6), .ref (aad A1 5), .ref (aad A1 12), .ref (aad A1 13), .ref (aad A1 14), .ref (aad A1 15), va_rf (some a)]))) := pF_of row1 (Nat.le_of_ble_eq_true rfl) hbt
    generalize hτ3 : zset τ (aad A1 1) (.inr (1, [.int ((rdU (bgU U) q' mk 0).1 0), .int ((rdU (bgU U) q' mk 0).1 1), .int ((rdU (bgU U) q' mk 0).1 2), .int ((rdU (bgU U) q' mk 0).1 3), .int ((rdU (bgU U) q' mk 0).1 4), .int ((rdU (bgU U) q' mk 0).1 5), .int ((rdU (bgU U) q' mk 0).1 6), .ref (aad A1 5), .ref (aad A1 12), .ref (aad A1 13), .ref (aad A1 14), .ref (aad A1 15), va_rf (some a)])) = τ3 at *
    have T3 : ySt τ τ3 (fun q => S q ∨ D' q) 0 0 := by
      rw [← hτ3]
      refine ⟨rfl, rfl, Nat.le_refl _, fun q hq => if_neg ?_, Nat.le_refl _, Nat.le_refl _⟩
      intro e
      rcases hq with h | h
      · have := (C2.2.1 q h).2 1 e.symm; omega
      · omega
    obtain ⟨p2, C4, T4⟩ := F_pfault C3 (-1)
    let A2 : cA := (aad A1, ainv A1, aer A1, acap A1, amc A1, fun k => if k = 1 then some a else arf A1 k)
    have p2' : pI τ3 (aad A 2) 2 5 (-1) = some (pU τ3 A2 N (uset (rdU (bgU U) q' mk 0) 12 (-1))) := by
      rw [← ha 2 (by omega)]; exact p2
    have T34 := St_t T3 T4
    have TT : ySt σ (pU τ3 A2 N (uset (rdU (bgU U) q' mk 0) 12 (-1))) S (0 + (60 * L + 10 + (0 + 0))) (0 + (600 * L + 60 + (0 + 0))) := St_t T1 (St_t T2 (St_sub T34 (fun q h => Or.inl h)))
    have hD := St_D TT hDS
    have TD : ySt τ (pU τ3 A2 N (uset (rdU (bgU U) q' mk 0) 12 (-1))) D' (0 + 0) (0 + 0) := St_sub T34 (fun q h => Or.inr h)
    have HL : HlP (Rz (zn σ1) τ) τ a l f := f4
    have hRzD : ∀ q, Rz (zn σ1) τ q → D' q := fun q h => Or.inr h
    have LP0 : yLp τ A2 D' true (nbG f) := Lp_of HL rfl hRzD
    have LK0 : LK true (nbG f) (M'.2 0) := LK_nbG (LK_of m9 f5 hpr)
    have LWτ : Lw τ A2 D' (M'.2 0) := by
      have hne : ¬ arf A2 1 = none := fun q => by
        have h2 : arf A2 1 = some a := rfl
        rw [h2] at q; cases q
      refine ⟨⟨true, nbG f, LP0, LK0⟩, fun h => absurd h hne, fun a' ha' => ⟨Rz (zn σ1) τ, hRzD, fun τ' hτ' => ?_⟩⟩
      have : a = a' := Option.some.inj ha'
      subst this
      rw [m9.2.1]
      exact HL.2 τ' hτ'
    have LW' : Lw (pU τ3 A2 N (uset (rdU (bgU U) q' mk 0) 12 (-1))) A2 D' (M'.2 0) := Lw_St LWτ TD rfl (fun _ h => h) (fun _ _ => rfl)
    have hag : AgP (Rz (zn σ1) τ) τ (pU τ3 A2 N (uset (rdU (bgU U) q' mk 0) 12 (-1))) := ⟨fun q hq => TD.2.2.2.1 q (hq.imp (hRzD q) id), TD.1, TD.2.1⟩
    obtain ⟨j1, x, j2, j3, j4⟩ := HL.2 _ hag
    have d1 : ∀ q, D q → D' q := fun q h => Or.inl h
    refine ⟨.inl (nI l), nI l, _, A2, uset (rdU (bgU U) q' mk 0) 12 (-1), D', M', ?_, m1, ⟨m2, rfl⟩, fun k hk => (by cases hk), ?_, d1, fun q hq => ?_, St_le TT (by omega) (by omega), ha⟩
    · have r10 := C4.1.2.1 0
      have r11 := C4.1.2.1 1
      have h00 : gR (pU τ3 A2 N (uset (rdU (bgU U) q' mk 0) 12 (-1))) (aad A 0) 0 0 = some (some (aad A 1)) := by
        have := gR_of r10 (k := 0) (q := some (aad A2 1)) rfl rfl
        have e0 : aad A2 0 = aad A 0 := ha 0 (by omega)
        have e1 : aad A2 1 = aad A 1 := ha 1 (by omega)
        rw [e1] at this
        rw [← e0]; exact this
      have h112 : gR (pU τ3 A2 N (uset (rdU (bgU U) q' mk 0) 12 (-1))) (aad A 1) 1 12 = some (some a) := by
        have := gR_of r11 (k := 12) (q := some a) rfl rfl
        have e1 : aad A2 1 = aad A 1 := ha 1 (by omega)
        rw [← e1]; exact this
      have h34 : f_X1_law_34 (aad A 0) (pU τ3 A2 N (uset (rdU (bgU U) q' mk 0) 12 (-1))) = some (.inl (nI l), pU τ3 A2 N (uset (rdU (bgU U) q' mk 0) 12 (-1))) := by
        unfold f_X1_law_34
        rw [ybind_eq h00, bd_at, ybind_eq h112, bd_at, ybind_eq j2, bd_at, zif_t j3, zb2_eq j4]
      have g02' : gR τ3 (aad A 0) 0 2 = some (some (aad A 2)) := by
        have := gR_of (C3.1.2.1 0) (k := 2) (q := some (aad A1 2)) rfl rfl
        have e0 : aad A1 0 = aad A 0 := ha 0 (by omega)
        rw [ha 2 (by omega)] at this
        rw [← e0]; exact this
      rw [ha 1 (by omega)] at p1
      unfold f_X1_law
      rw [ybind_eq g02, bd_at, zif_t cl2, zb2_eq b1, ybind_eq g00, zif_t cl0, zbt_eq f1, bd_at, ybind_eq p1, ybind_eq g02', bd_at, ybind_eq p2', h34]
    · refine ⟨C4, fun q hq => Or.inr hq, Ev_St E TT, zLk_St K TT, ⟨d, by show zsv _ 1 = _; rw [TT.1]; exact hd⟩, RI_u I (fun k hk => ?_) rfl, RM_congr2 (RI_u (U' := uset (rdU (bgU U) q' mk 0) 12 (-1)) I (fun k hk => ?_) rfl) (RM_u R (fun k hk => ?_) rfl) (fun k hk k1 k2 => m8 k hk k1 k2), LW', ⟨rfl, m4, ⟨mk, rfl⟩, m3'.symm, _, TB_0, fun k hk => absurd hk (Nat.not_lt_zero k)⟩, Im_St IM hD ?_ d1 m5 (fun j _ => by rw [m7 1 (by omega)]), m6⟩
      · rcases (show k = 0 ∨ k = 1 ∨ k = 2 ∨ k = 3 ∨ k = 4 ∨ k = 5 ∨ k = 6 by omega) with rfl | rfl | rfl | rfl | rfl | rfl | rfl <;> rfl
      · rcases (show k = 0 ∨ k = 1 ∨ k = 2 ∨ k = 3 ∨ k = 4 ∨ k = 5 ∨ k = 6 by omega) with rfl | rfl | rfl | rfl | rfl | rfl | rfl <;> rfl
      · rcases (show k = 0 ∨ k = 1 ∨ k = 2 ∨ k = 3 ∨ k = 4 ∨ k = 5 ∨ k = 6 by omega) with rfl | rfl | rfl | rfl | rfl | rfl | rfl <;> rfl
      · show arf A1 0 = arf A 0
        rw [harf]
    · rcases hq with h | h
      · exact Or.inl h
      · exact Or.inr (Nat.le_trans hn1 h.1)
end ZY7
