/-! pure land: V1 V2 V3 V4 (see wip/D-94657w/pl) -/
/-! ===== the component's reader in the heap reads as the parser does ===== -/
/-- the bytes of a tape are the text -/
def TB (g : Nat → Int32) (T : Nat → Nat) (n : Nat) : Prop := Tx T n ∧ ∀ p, p < n → (T p < 128 ∧ g p = nI (T p)) ∨ (128 ≤ T p ∧ g p < 0)
/-- the reader at place p, with the mark m, at depth d -/
def yRd (σ : zS) (rd tp : Nat) (tl ft : Int32) (g : Nat → Int32) (n p m d : Nat) : Prop :=
  σ.1 rd = some (.inr (2, [.ref tp, .int tl, .int (nI n), .int (nI p), .int (nI m), .int ft, .int (nI d)])) ∧ σ.1 tp = some (.inl (1, 400, .inl g)) ∧ rd ≠ tp ∧ zbs σ ≤ rd ∧ rd < zn σ ∧ tp < zn σ ∧ zbs σ ≤ zn σ ∧ ∀ q, zn σ ≤ q → σ.1 q = none
/-- all but the reader stays; so much is spent at most -/
def Sp (σ σ' : zS) (rd a b : Nat) : Prop := (∀ q, q < zn σ → q ≠ rd → σ'.1 q = σ.1 q) ∧ zsv σ' = zsv σ ∧ zbs σ' = zbs σ ∧ zn σ ≤ zn σ' ∧ zc σ ≤ zc σ' + a ∧ zz σ ≤ zz σ' + b
section ZV1
variable {σ σ' σ'' τ : zS} {rd tp n p m d a b a' b' : Nat} {tl ft : Int32} {g : Nat → Int32} {T : Nat → Nat}
theorem Sp_r : Sp σ σ rd 0 0 := ⟨fun _ _ _ => rfl, rfl, rfl, Nat.le_refl _, Nat.le_refl _, Nat.le_refl _⟩
theorem Sp_t (h : Sp σ σ' rd a b) (h' : Sp σ' σ'' rd a' b') : Sp σ σ'' rd (a + a') (b + b') := by
  obtain ⟨h1, h2, h3, h4, h5, h6⟩ := h
  obtain ⟨g1, g2, g3, g4, g5, g6⟩ := h'
  exact ⟨fun q q1 q2 => (g1 q (by omega) q2).trans (h1 q q1 q2), g2.trans h2, g3.trans h3, by omega, by omega, by omega⟩
theorem Sp_le (h : Sp σ σ' rd a b) (h1 : a ≤ a') (h2 : b ≤ b') : Sp σ σ' rd a' b' := ⟨h.1, h.2.1, h.2.2.1, h.2.2.2.1, by have := h.2.2.2.2.1; omega, by have := h.2.2.2.2.2; omega⟩
theorem lI_of {q u k i : Nat} {f : Nat → Int32} (h : σ.1 q = some (.inl (u, k, .inl f))) (hu : u % 100 = d) (hi : i < k) (hk : k < 2 ^ 31) : lI σ q d (nI i) = some (f i) := by
  unfold lI
  rw [h]
  show (if u % 100 = d ∧ ¬ (nI i < 0 ∨ k ≤ (nI i).toNatClampNeg) then some (f (nI i).toNatClampNeg) else none) = _
  rw [if_pos ⟨hu, nI_in hi hk⟩, nI_clamp (by omega)]
theorem Rd_row (h : yRd σ rd tp tl ft g n p m d) : σ.1 rd = some (.inr (2, [.ref tp, .int tl, .int (nI n), .int (nI p), .int (nI m), .int ft, .int (nI d)])) := h.1
theorem Rd_cl (h : yRd σ rd tp tl ft g n p m d) : zcl σ rd = 2 := cl_of h.1 rfl
theorem Rd_pos (h : yRd σ rd tp tl ft g n p m d) : gI σ rd 2 3 = some (nI p) := gI_of h.1 rfl rfl
theorem Rd_len (h : yRd σ rd tp tl ft g n p m d) : gI σ rd 2 2 = some (nI n) := gI_of h.1 rfl rfl
theorem Rd_mark (h : yRd σ rd tp tl ft g n p m d) : gI σ rd 2 4 = some (nI m) := gI_of h.1 rfl rfl
theorem Rd_dep (h : yRd σ rd tp tl ft g n p m d) : gI σ rd 2 6 = some (nI d) := gI_of h.1 rfl rfl
/-- the place is set -/
theorem Rd_set3 (h : yRd σ rd tp tl ft g n p m d) (p' : Nat) : ∃ τ, pI σ rd 2 3 (nI p') = some τ ∧ yRd τ rd tp tl ft g n p' m d ∧ Sp σ τ rd 0 0 := by
  obtain ⟨h1, h2, h3, h4, h5, h6, h7, h8⟩ := h
  refine ⟨_, pI_of h1 (Nat.le_of_ble_eq_true rfl) h4, ⟨zs_at, (if_neg h3.symm).trans h2, h3, h4, h5, h6, h7, fun q hq => ?_⟩, fun q _ hq => if_neg hq, rfl, rfl, Nat.le_refl _, Nat.le_refl _, Nat.le_refl _⟩
  have hq' : zn σ ≤ q := hq
  exact (if_neg (by omega)).trans (h8 q hq')
theorem Rd_set4 (h : yRd σ rd tp tl ft g n p m d) (m' : Nat) : ∃ τ, pI σ rd 2 4 (nI m') = some τ ∧ yRd τ rd tp tl ft g n p m' d ∧ Sp σ τ rd 0 0 := by
  obtain ⟨h1, h2, h3, h4, h5, h6, h7, h8⟩ := h
  refine ⟨_, pI_of h1 (Nat.le_of_ble_eq_true rfl) h4, ⟨zs_at, (if_neg h3.symm).trans h2, h3, h4, h5, h6, h7, fun q hq => ?_⟩, fun q _ hq => if_neg hq, rfl, rfl, Nat.le_refl _, Nat.le_refl _, Nat.le_refl _⟩
  have hq' : zn σ ≤ q := hq
  exact (if_neg (by omega)).trans (h8 q hq')
theorem Rd_set6 (h : yRd σ rd tp tl ft g n p m d) (d' : Nat) : ∃ τ, pI σ rd 2 6 (nI d') = some τ ∧ yRd τ rd tp tl ft g n p m d' ∧ Sp σ τ rd 0 0 := by
  obtain ⟨h1, h2, h3, h4, h5, h6, h7, h8⟩ := h
  refine ⟨_, pI_of h1 (Nat.le_of_ble_eq_true rfl) h4, ⟨zs_at, (if_neg h3.symm).trans h2, h3, h4, h5, h6, h7, fun q hq => ?_⟩, fun q _ hq => if_neg hq, rfl, rfl, Nat.le_refl _, Nat.le_refl _, Nat.le_refl _⟩
  have hq' : zn σ ≤ q := hq
  exact (if_neg (by omega)).trans (h8 q hq')
/-- cells that are written elsewhere -/
theorem Rd_keep (h : yRd σ rd tp tl ft g n p m d) (h1 : ∀ q, q < zn σ → τ.1 q = σ.1 q) (h2 : zbs τ = zbs σ) (h3 : zn σ ≤ zn τ) (h4 : ∀ q, zn τ ≤ q → τ.1 q = none) : yRd τ rd tp tl ft g n p m d := by
  obtain ⟨r1, r2, r3, r4, r5, r6, r7, r8⟩ := h
  exact ⟨by rw [h1 _ r5]; exact r1, by rw [h1 _ r6]; exact r2, r3, by rw [h2]; exact r4, by omega, by omega, by omega, h4⟩
/-- the byte at a place, -1 behind the end -/
theorem f_byteAt (h : yRd σ rd tp tl ft g n p m d) (hn : n ≤ 400) (q : Nat) (hq : q ≤ 1000) : f_X3_byteAt rd (nI q) σ = some (if q < n then g q else -1, σ) := by
  unfold f_X3_byteAt
  rw [ybind_eq (Rd_len h)]
  by_cases z : q < n
  · rw [nleF z (by omega), ybind_eq (gR_of h.1 (k := 0) (q := some tp) rfl rfl), bd_at, ybind_eq (lI_of h.2.1 (d := 1) rfl (show q < 400 by omega) (by omega)), if_pos z]
  · rw [if_pos (nI_le (by omega) (by omega)), if_neg z]
theorem TB_eq (h : TB g T n) {q c : Nat} (hc : c < 128) : ((if q < n then g q else -1) = nI c) = (T q = c) := by
  by_cases z : q < n
  · rw [if_pos z]
    rcases h.2 q z with ⟨a1, a2⟩ | ⟨a1, a2⟩
    · rw [a2, nI_inj (by omega) (by omega)]
    · refine propext ⟨fun e => ?_, fun e => by omega⟩
      rw [e] at a2
      exact absurd a2 (nI_pos (by omega))
  · rw [if_neg z, h.1.2.2 q (by omega)]
    exact propext ⟨fun e => absurd e.symm (nI_ne1 (by omega)), fun e => by omega⟩
theorem TB_rng (h : TB g T n) {q ylo hi : Nat} (hlo : ylo ≤ hi) (hc : hi < 128) : (nI ylo ≤ (if q < n then g q else -1) ∧ (if q < n then g q else -1) ≤ nI hi) = (ylo ≤ T q ∧ T q ≤ hi) := by
  have neg : ∀ x : Int32, x < 0 → ¬ nI ylo ≤ x := fun x hx hle => by
    have h0 : (0 : Int32) ≤ nI ylo := nI_pos' (by omega)
    exact absurd (Int32.le_trans h0 hle) (Int32.not_le.mpr hx)
  by_cases z : q < n
  · rw [if_pos z]
    rcases h.2 q z with ⟨a1, a2⟩ | ⟨a1, a2⟩
    · rw [a2, nI_leI (by omega) (by omega), nI_leI (by omega) (by omega)]
    · exact propext ⟨fun e => absurd e.1 (neg _ a2), fun e => by omega⟩
  · rw [if_neg z, h.1.2.2 q (by omega)]
    exact propext ⟨fun e => absurd e.1 (neg _ (by decide)), fun e => by omega⟩
theorem f_in1 {x a b : Int32} (h : a ≤ x ∧ x ≤ b) : f_X1_in x a b σ = some (1, σ) := by
  unfold f_X1_in
  rw [if_neg (Int32.not_lt.mpr h.1), if_neg (Int32.not_lt.mpr h.2)]
theorem f_in0 {x a b : Int32} (h : ¬ (a ≤ x ∧ x ≤ b)) : f_X1_in x a b σ = some (0, σ) := by
  unfold f_X1_in
  by_cases z : x < a
  · rw [if_pos z]
  · rw [if_neg z, if_pos (Int32.not_le.mp fun q => h ⟨Int32.not_lt.mp z, q⟩)]
/-- blanks are skipped, the mark is set -/
theorem f_blanks (h : yRd σ rd tp tl ft g n p m d) (hT : TB g T n) (hp : p ≤ n) : ∃ τ, f_X3_blanks rd σ = some ((), τ) ∧ yRd τ rd tp tl ft g n (sk T p) (sk T p) d ∧ Sp σ τ rd 0 0 := by
  have hn := hT.1.1
  have H : ∀ k p σ fu, yRd σ rd tp tl ft g n p m d → p ≤ n → n ≤ p + k → k < fu → ∃ τ, zlp0 (f_X3_blanks_0_b rd) fu σ = some ((), τ) ∧ yRd τ rd tp tl ft g n (yrun (fun q => isB (T q)) k p) (yrun (fun q => isB (T q)) k p) d ∧ Sp σ τ rd 0 0 := by
    intro k
    induction k with
    | zero =>
      intro p σ fu h h1 h2 h3
      obtain ⟨fu, rfl⟩ : ∃ f', fu = f' + 1 := ⟨fu - 1, by omega⟩
      obtain ⟨τ, e1, e2, e3⟩ := Rd_set4 h p
      refine ⟨τ, ?_, e2, e3⟩
      show f_X3_blanks_0_b rd _ _ = _
      unfold f_X3_blanks_0_b
      have hne : ¬ (if p < n then g p else -1) = (32 : Int32) := by rw [show (32 : Int32) = nI 32 from rfl, TB_eq hT (by omega), hT.1.2.2 p (by omega)]; omega
      rw [ybind_eq (Rd_pos h), zif_t (Rd_cl h), zb2_eq (f_byteAt h hn p (by omega)), if_pos hne, ybind_eq (Rd_pos h), ybind_eq e1]
    | succ k ih =>
      intro p σ fu h h1 h2 h3
      obtain ⟨fu, rfl⟩ : ∃ f', fu = f' + 1 := ⟨fu - 1, by omega⟩
      show ∃ τ, f_X3_blanks_0_b rd (zlp0 (f_X3_blanks_0_b rd) fu) σ = some ((), τ) ∧ yRd τ rd tp tl ft g n (if isB (T p) = true then yrun (fun q => isB (T q)) k (p + 1) else p) (if isB (T p) = true then yrun (fun q => isB (T q)) k (p + 1) else p) d ∧ Sp σ τ rd 0 0
      have ih' := fun σ => ih (p + 1) σ fu
      generalize zlp0 (f_X3_blanks_0_b rd) fu = rf at ih'
      unfold f_X3_blanks_0_b
      by_cases y : T p = 32
      · have hlt := Tx_in hT.1 (by omega) y
        have he : ¬ ¬ (if p < n then g p else -1) = (32 : Int32) := by rw [show (32 : Int32) = nI 32 from rfl, TB_eq hT (by omega)]; exact fun q => q y
        obtain ⟨τ1, e1, e2, e3⟩ := Rd_set3 h (p + 1)
        obtain ⟨τ, i1, i2, i3⟩ := ih' τ1 e2 (by omega) (by omega) (by omega)
        rw [if_pos (show isB (T p) = true from decide_eq_true y)]
        refine ⟨τ, ?_, i2, Sp_t e3 i3⟩
        rw [ybind_eq (Rd_pos h), zif_t (Rd_cl h), zb2_eq (f_byteAt h hn p (by omega)), if_neg he, ybind_eq (Rd_pos h), nI_1, ybind_eq e1, i1]
      · have he : ¬ (if p < n then g p else -1) = (32 : Int32) := by rw [show (32 : Int32) = nI 32 from rfl, TB_eq hT (by omega)]; exact y
        obtain ⟨τ, e1, e2, e3⟩ := Rd_set4 h p
        rw [if_neg (show ¬ isB (T p) = true from fun q => y (of_decide_eq_true q))]
        refine ⟨τ, ?_, e2, e3⟩
        rw [ybind_eq (Rd_pos h), zif_t (Rd_cl h), zb2_eq (f_byteAt h hn p (by omega)), if_pos he, ybind_eq (Rd_pos h), ybind_eq e1]
  exact H 400 p σ NN h hp (by omega) (NN_lt (by omega))
theorem f_isOver (h : yRd σ rd tp tl ft g n p m d) (hT : TB g T n) (hp : p ≤ n) : ∃ τ, f_X3_isOver rd σ = some (if T (sk T p) = 256 then 1 else 0, τ) ∧ yRd τ rd tp tl ft g n (sk T p) (sk T p) d ∧ Sp σ τ rd 0 0 := by
  have hn := hT.1.1
  obtain ⟨τ, e1, e2, e3⟩ := f_blanks h hT hp
  obtain ⟨a1, a2, -, -⟩ := sk_spec hT.1 hp
  refine ⟨τ, ?_, e2, e3⟩
  unfold f_X3_isOver
  rw [zif_t (Rd_cl h), zb2_eq e1, ybind_eq (Rd_pos e2), ybind_eq (Rd_len e2)]
  by_cases z : sk T p = n
  · rw [if_neg (show ¬ ¬ nI (sk T p) = nI n from fun q => q (by rw [z])), if_pos (hT.1.2.2 _ (by omega))]
  · rw [if_pos (show ¬ nI (sk T p) = nI n by rw [nI_inj (by omega) (by omega)]; exact z), if_neg (by have := hT.1.2.1 _ (show sk T p < n by omega); omega)]
/-- a sign -/
theorem f_sign (h : yRd σ rd tp tl ft g n p m d) (hT : TB g T n) (hp : p ≤ n) {c : Nat} (hc : c < 128) : (T (sk T p) = c → ∃ τ, f_X3_sign rd (nI c) σ = some (1, τ) ∧ yRd τ rd tp tl ft g n (sk T p + 1) (sk T p) d ∧ Sp σ τ rd 0 0) ∧ (¬ T (sk T p) = c → ∃ τ, f_X3_sign rd (nI c) σ = some (0, τ) ∧ yRd τ rd tp tl ft g n (sk T p) (sk T p) d ∧ Sp σ τ rd 0 0) := by
  have hn := hT.1.1
  obtain ⟨τ, e1, e2, e3⟩ := f_blanks h hT hp
  obtain ⟨a1, a2, -, -⟩ := sk_spec hT.1 hp
  unfold f_X3_sign
  refine ⟨fun z => ?_, fun z => ?_⟩
  · obtain ⟨τ1, i1, i2, i3⟩ := Rd_set3 e2 (sk T p + 1)
    refine ⟨τ1, ?_, i2, Sp_t e3 i3⟩
    rw [zif_t (Rd_cl h), zb2_eq e1, ybind_eq (Rd_pos e2), zif_t (Rd_cl e2), zb2_eq (f_byteAt e2 hn _ (by omega)), if_pos (by rw [TB_eq hT hc]; exact z), ybind_eq (Rd_pos e2), nI_1, ybind_eq i1]
  · refine ⟨τ, ?_, e2, e3⟩
    rw [zif_t (Rd_cl h), zb2_eq e1, ybind_eq (Rd_pos e2), zif_t (Rd_cl e2), zb2_eq (f_byteAt e2 hn _ (by omega)), if_neg (by rw [TB_eq hT hc]; exact z)]
/-- a new Wrong -/
theorem f_wrong (h : yRd σ rd tp tl ft g n p m d) (hr : 1 ≤ zc σ ∧ 6 ≤ zz σ) : ∃ τ w, f_X3_wrong rd σ = some (some w, τ) ∧ zcl τ w = 9 ∧ yRd τ rd tp tl ft g n p m d ∧ Sp σ τ rd 1 6 := by
  have hbz := h.2.2.2.2.2.2.1
  let τ0 : zS := (zup σ.1 (zn σ) (.inr (9, [.null, .null, .null, .null, .null, .int 0])), zsv σ, zbs σ, zn σ + 1, zc σ - 1, zz σ - 6)
  have e1 : znewO σ 9 [.null, .null, .null, .null, .null, .int 0] = some (zn σ, τ0) := znewO_at hr
  have t1 : τ0.1 (zn σ) = some (.inr (9, [.null, .null, .null, .null, .null, .int 0])) := if_pos rfl
  have hb' : zbs τ0 ≤ zn σ := hbz
  have p1 : pR τ0 (zn σ) 9 0 (some (zn σ)) = some (zset τ0 (zn σ) (.inr (9, [.ref (zn σ), .null, .null, .null, .null, .int 0]))) := pF_of t1 (Nat.le_of_ble_eq_true rfl) hb'
  let s1 : zS := zset τ0 (zn σ) (.inr (9, [.ref (zn σ), .null, .null, .null, .null, .int 0]))
  have p2 : pR s1 (zn σ) 9 1 (zk s1 2) = some (zset τ0 (zn σ) (.inr (9, [.ref (zn σ), va_rf (zk σ 2), .null, .null, .null, .int 0]))) := (pF_of (zs_at (σ := τ0)) (Nat.le_of_ble_eq_true rfl) hb').trans (congrArg some zset2)
  let s2 : zS := zset τ0 (zn σ) (.inr (9, [.ref (zn σ), va_rf (zk σ 2), .null, .null, .null, .int 0]))
  have p3 : pR s2 (zn σ) 9 2 (zk s2 3) = some (zset τ0 (zn σ) (.inr (9, [.ref (zn σ), va_rf (zk σ 2), va_rf (zk σ 3), .null, .null, .int 0]))) := (pF_of (zs_at (σ := τ0)) (Nat.le_of_ble_eq_true rfl) hb').trans (congrArg some zset2)
  have p4 : pR (zset τ0 (zn σ) (.inr (9, [.ref (zn σ), va_rf (zk σ 2), va_rf (zk σ 3), .null, .null, .int 0]))) (zn σ) 9 1 none = some (zset τ0 (zn σ) (.inr (9, [.ref (zn σ), .null, va_rf (zk σ 3), .null, .null, .int 0]))) := (pF_of (zs_at (σ := τ0)) (Nat.le_of_ble_eq_true rfl) hb').trans (congrArg some zset2)
  have p5 : pR (zset τ0 (zn σ) (.inr (9, [.ref (zn σ), .null, va_rf (zk σ 3), .null, .null, .int 0]))) (zn σ) 9 3 none = some (zset τ0 (zn σ) (.inr (9, [.ref (zn σ), .null, va_rf (zk σ 3), .null, .null, .int 0]))) := (pF_of (zs_at (σ := τ0)) (Nat.le_of_ble_eq_true rfl) hb').trans (congrArg some zset2)
  have p6 : pR (zset τ0 (zn σ) (.inr (9, [.ref (zn σ), .null, va_rf (zk σ 3), .null, .null, .int 0]))) (zn σ) 9 0 none = some (zset τ0 (zn σ) (.inr (9, [.null, .null, va_rf (zk σ 3), .null, .null, .int 0]))) := (pF_of (zs_at (σ := τ0)) (Nat.le_of_ble_eq_true rfl) hb').trans (congrArg some zset2)
  have p7 : pR (zset τ0 (zn σ) (.inr (9, [.null, .null, va_rf (zk σ 3), .null, .null, .int 0]))) (zn σ) 9 2 none = some (zset τ0 (zn σ) (.inr (9, [.null, .null, .null, .null, .null, .int 0]))) := (pF_of (zs_at (σ := τ0)) (Nat.le_of_ble_eq_true rfl) hb').trans (congrArg some zset2)
  have e2 : f_X10_init (zn σ) τ0 = some ((), zset τ0 (zn σ) (.inr (9, [.null, .null, .null, .null, .null, .int 0]))) := by
    unfold f_X10_init f_J14_init_2 f_J13_init_3 f_J13_init_3_41
    rw [ybind_eq p1, zl_at, ybind_eq p2, zl_at, ybind_eq p3, if_pos rfl, ybind_eq p4, ybind_eq p5, ybind_eq p6, if_neg (fun q => q rfl), ybind_eq p7, zb2_at, zb2_at]
  refine ⟨zset τ0 (zn σ) (.inr (9, [.null, .null, .null, .null, .null, .int 0])), zn σ, ?_, cl_of zs_at rfl, Rd_keep h (fun q hq => ?_) rfl (Nat.le_succ _) (fun q hq => ?_), fun q hq _ => ?_, rfl, rfl, Nat.le_succ _, by show zc σ ≤ zc σ - 1 + 1; omega, by show zz σ ≤ zz σ - 6 + 6; omega⟩
  · unfold f_X3_wrong
    rw [zb2_eq e1, zb2_eq e2]
  · exact (if_neg (by omega)).trans (if_neg (by omega))
  · have hq' : zn σ + 1 ≤ q := hq
    exact (if_neg (by omega)).trans ((if_neg (by omega)).trans (h.2.2.2.2.2.2.2 q (by omega)))
  · exact (if_neg (by omega)).trans (if_neg (by omega))
end ZV1
/-- a builder at a with its bytes at v: cap places, the first cnt are f -/
def Sb (σ : zS) (a v cap cnt : Nat) (f : Nat → Int32) : Prop := σ.1 a = some (.inr (20, [.ref v, .int 0, .int 0, .int (nI cnt)])) ∧ σ.1 v = some (.inl (1, cap, .inl f)) ∧ a ≠ v ∧ zbs σ ≤ a ∧ zbs σ ≤ v ∧ a < zn σ ∧ v < zn σ ∧ cnt ≤ cap ∧ 16 ≤ cap ∧ cap ≤ 2 * cnt + 16
theorem chr_f : ∀ t, t < 128 → ((nI t).toUInt32 % 65536).toInt32 = nI t ∧ (nI t).toInt8.toInt32 = nI t := by decide +kernel
theorem shl0 {a : Nat} (h : a < 2 ^ 31) : nI a <<< ((0 : Int32) &&& 31) = nI a := (pk_shlN (n := a) ((0 : Int32) &&& 31) 0 (by decide) (by omega)).trans (by rw [Nat.pow_zero, Nat.mul_one])
theorem shr0 {a : Nat} (h : a < 2 ^ 31) : nI a >>> ((0 : Int32) &&& 31) = nI a := (pk_shrN (n := a) h ((0 : Int32) &&& 31) 0 (by decide)).trans (by rw [Nat.pow_zero, Nat.div_one])
section ZV2
variable {σ σ' σ'' τ : zS} {rd tp n p m d a b v cap cnt : Nat} {tl ft : Int32} {g f : Nat → Int32} {T : Nat → Nat}
/-- cells behind the old ones, and some of the new ones, may be written -/
def Sx (σ σ' : zS) (z a b : Nat) : Prop := (∀ q, q < z → σ'.1 q = σ.1 q) ∧ zsv σ' = zsv σ ∧ zbs σ' = zbs σ ∧ zn σ ≤ zn σ' ∧ zc σ ≤ zc σ' + a ∧ zz σ ≤ zz σ' + b ∧ ((∀ q, zn σ ≤ q → σ.1 q = none) → ∀ q, zn σ' ≤ q → σ'.1 q = none)
theorem Sx_r {z : Nat} : Sx σ σ z 0 0 := ⟨fun _ _ => rfl, rfl, rfl, Nat.le_refl _, Nat.le_refl _, Nat.le_refl _, fun h => h⟩
theorem Sx_t {z a b a' b' : Nat} (h : Sx σ σ' z a b) (h' : Sx σ' σ'' z a' b') : Sx σ σ'' z (a + a') (b + b') := by
  obtain ⟨h1, h2, h3, h4, h5, h6, h7⟩ := h
  obtain ⟨g1, g2, g3, g4, g5, g6, g7⟩ := h'
  exact ⟨fun q q1 => (g1 q q1).trans (h1 q q1), g2.trans h2, g3.trans h3, by omega, by omega, by omega, fun h => g7 (h7 h)⟩
theorem Sx_le {z a b a' b' : Nat} (h : Sx σ σ' z a b) (h1 : a ≤ a') (h2 : b ≤ b') : Sx σ σ' z a' b' := ⟨h.1, h.2.1, h.2.2.1, h.2.2.2.1, by have := h.2.2.2.2.1; omega, by have := h.2.2.2.2.2.1; omega, h.2.2.2.2.2.2⟩
theorem znewB_at {k : Nat} (hk : k ≤ 65536) (hc : 1 ≤ zc σ ∧ k ≤ zz σ) : znewB σ (nI k) = some (zn σ, (zup σ.1 (zn σ) (.inl (1, k, .inl (fun _ => 0))), zsv σ, zbs σ, zn σ + 1, zc σ - 1, zz σ - k)) := by
  have h1 : ¬ (nI k < 0 ∨ 65536 < (nI k).toNatClampNeg) := by
    intro q
    rcases q with q | q
    · exact nI_pos (by omega) q
    · rw [nI_clamp (by omega)] at q; omega
  unfold znewB znew
  rw [if_neg h1, nI_clamp (by omega), if_pos hc]
theorem zcpyB {s q k1 k2 l : Nat} {f1 f2 : Nat → Int32} (h1 : σ.1 s = some (.inl (1, k1, .inl f1))) (h2 : σ.1 q = some (.inl (1, k2, .inl f2))) (hl1 : l ≤ k1) (hl2 : l ≤ k2) (hk : l < 2 ^ 31) (hb : zbs σ ≤ q) : zcpy σ s 0 q 0 (nI l) = some (zset σ q (.inl (1, k2, .inl (fun k => if k < l then f1 k else f2 k)))) := by
  unfold zcpy
  rw [h1, h2]
  have hz0 : (0 : Int32).toNatClampNeg = 0 := rfl
  have hall : 1 = 1 ∧ 1 < 2 ∧ ¬ (0 : Int32) < 0 ∧ ¬ (0 : Int32) < 0 ∧ ¬ nI l < 0 ∧ (0 : Int32).toNatClampNeg + (nI l).toNatClampNeg ≤ k1 ∧ (0 : Int32).toNatClampNeg + (nI l).toNatClampNeg ≤ k2 ∧ zbs σ ≤ q := ⟨rfl, by omega, by decide, by decide, nI_pos hk, by rw [nI_clamp hk, hz0]; omega, by rw [nI_clamp hk, hz0]; omega, hb⟩
  refine (if_pos hall).trans ?_
  have : va_cpy f1 f2 (0 : Int32).toNatClampNeg (0 : Int32).toNatClampNeg (nI l).toNatClampNeg = fun k => if k < l then f1 k else f2 k := by
    rw [nI_clamp hk, hz0]
    funext k
    show (if 0 ≤ k ∧ k < 0 + l then f1 (0 + (k - 0)) else f2 k) = _
    by_cases z : k < l
    · rw [if_pos ⟨Nat.zero_le _, by omega⟩, if_pos z, Nat.zero_add, Nat.sub_zero]
    · rw [if_neg (fun w => z (by omega)), if_neg z]
  rw [this]
/-- there is room for one letter more -/
theorem sb_room (h : Sb σ a v cap cnt f) (hcnt : cnt < 400) (hbz : zbs σ ≤ zn σ) (hr : 1 ≤ zc σ ∧ 2000 ≤ zz σ) {z : Nat} (hza : z ≤ a) (hzn : z ≤ zn σ) : ∃ τ v' cap' f', f_J8_ensureCapacityInternal a (nI cnt + 1) σ = some ((), τ) ∧ Sb τ a v' cap' cnt f' ∧ cnt < cap' ∧ (∀ k, k < cnt → f' k = f k) ∧ Sx σ τ z 1 (2 * cap' - 2 * cap) ∧ cap ≤ cap' ∧ (v' = v ∨ zn σ ≤ v') := by
  obtain ⟨s1, s2, s3, s4, s5, s6, s7, s8, s9, s10⟩ := h
  have hcap : cap ≤ 814 := by omega
  unfold f_J8_ensureCapacityInternal
  have gr : gR σ a 20 0 = some (some v) := gR_of s1 rfl rfl
  have gc : gI σ a 20 1 = some 0 := gI_of s1 rfl rfl
  rw [ybind_eq gr, bd_at, ybind_eq (aln_of s2), ybind_eq gc, zl_at, show Int32.ofNat cap = nI cap from rfl, shr0 (by omega), nI_1]
  by_cases z0 : cnt < cap
  · have hle : nI (cnt + 1) - nI cap ≤ 0 := by
      rcases Nat.lt_or_ge (cnt + 1) cap with q | q
      · have hI := pk_sub_toInt (a := cnt + 1) (b := cap) (by omega) (by omega)
        refine Int32.le_iff_toInt_le.mpr ?_
        rw [hI]
        show ((cnt + 1 : Nat) : Int) - cap ≤ 0
        omega
      · rw [show cnt + 1 = cap by omega, pk_sub (Nat.le_refl _), Nat.sub_self]
        exact Int32.le_refl _
    rw [if_pos hle]
    exact ⟨σ, v, cap, f, rfl, ⟨s1, s2, s3, s4, s5, s6, s7, s8, s9, s10⟩, z0, fun _ _ => rfl, Sx_le Sx_r (by omega) (by omega), Nat.le_refl _, Or.inl rfl⟩
  · have hc : cnt = cap := by omega
    subst hc
    have hnl : ¬ nI (cnt + 1) - nI cnt ≤ 0 := by
      rw [pk_sub (by omega), show cnt + 1 - cnt = 1 by omega]
      decide
    rw [if_neg hnl, ybind_eq gr, zif_t (cl_of s1 rfl)]
    -- the new capacity
    have nc : f_J8_newCapacity a (nI (cnt + 1)) σ = some (nI (2 * cnt + 2), σ) := by
      unfold f_J8_newCapacity f_J5_newLength
      have h2 : (2 : Int32) <<< ((0 : Int32) &&& 31) = nI 2 := by decide
      rw [ybind_eq gr, bd_at, ybind_eq (aln_of s2), ybind_eq gc, zl_at, zl_at, ybind_eq gc, show Int32.ofNat cnt = nI cnt from rfl, shl0 (by omega), h2, pk_sub (by omega), nI_add, zmax_nI (by omega) (by omega), nI_add, show cnt + max (cnt + 1 - cnt) (cnt + 2) = 2 * cnt + 2 by omega, zl_at, if_neg (nI_nle (by omega) (by omega)), if_neg (show ¬ (2147483639 : Int32) < nI (2 * cnt + 2) from nI_nlt (a := 2147483639) (by omega) (by omega)), zb2_at]
      have hne : ¬ nI (2 * cnt + 2) = 2147483647 := by rw [show (2147483647 : Int32) = nI 2147483647 from rfl, nI_inj (by omega) (by omega)]; omega
      rw [if_pos hne, ybind_eq gc, shr0 (by omega)]
    let T1 : zS := (zup σ.1 (zn σ) (.inl (1, 2 * cnt + 2, .inl (fun _ => 0))), zsv σ, zbs σ, zn σ + 1, zc σ - 1, zz σ - (2 * cnt + 2))
    have t1 : T1.1 v = some (.inl (1, cnt, .inl f)) := (if_neg (by omega)).trans s2
    have t2 : T1.1 (zn σ) = some (.inl (1, 2 * cnt + 2, .inl (fun _ => 0))) := if_pos rfl
    let T2 : zS := zset T1 (zn σ) (.inl (1, 2 * cnt + 2, .inl (fun k => if k < cnt then f k else 0)))
    have cp : f_J7_copyOf_3 (some v) (nI (2 * cnt + 2)) σ = some (some (zn σ), T2) := by
      unfold f_J7_copyOf_3
      have hne : ¬ nI (2 * cnt + 2) = Int32.ofNat cnt := by rw [show Int32.ofNat cnt = nI cnt from rfl, nI_inj (by omega) (by omega)]; omega
      have e1 : znewB σ (nI (2 * cnt + 2)) = some (zn σ, T1) := znewB_at (by omega) ⟨hr.1, by omega⟩
      have e2 : zcpy T1 v 0 (zn σ) 0 (zmin (Int32.ofNat cnt) (nI (2 * cnt + 2))) = some T2 := by
        rw [show Int32.ofNat cnt = nI cnt from rfl, zmin_nI (by omega) (by omega), Nat.min_eq_left (by omega)]
        exact zcpyB t1 t2 (Nat.le_refl _) (by omega) (by omega) hbz
      rw [bd_at, ybind_eq (aln_of s2), if_pos hne, zb2_eq e1, ybind_eq (aln_of t1), ybind_eq e2]
    have t3 : T2.1 a = some (.inr (20, [.ref v, .int 0, .int 0, .int (nI cnt)])) := (if_neg (by omega)).trans ((if_neg (by omega)).trans s1)
    have pr : pR T2 a 20 0 (some (zn σ)) = some (zset T2 a (.inr (20, [.ref (zn σ), .int 0, .int 0, .int (nI cnt)]))) := pF_of t3 (Nat.le_of_ble_eq_true rfl) s4
    refine ⟨zset T2 a (.inr (20, [.ref (zn σ), .int 0, .int 0, .int (nI cnt)])), zn σ, 2 * cnt + 2, fun k => if k < cnt then f k else 0, ?_, ⟨zs_at, (if_neg (by omega)).trans zs_at, by omega, s4, hbz, by show a < zn σ + 1; omega, by show zn σ < zn σ + 1; omega, by omega, by omega, by omega⟩, by omega, fun k hk => if_pos hk, ⟨fun q hq => ?_, rfl, rfl, Nat.le_succ _, ?_, ?_, fun hf q hq => ?_⟩, by omega, Or.inr (Nat.le_refl _)⟩
    · rw [zb2_eq nc, ybind_eq gc, shl0 (by omega), zb2_eq cp, ybind_eq pr]
    · exact (if_neg (by omega)).trans ((if_neg (by omega)).trans (if_neg (by omega)))
    · show zc σ ≤ zc σ - 1 + 1; omega
    · show zz σ ≤ zz σ - (2 * cnt + 2) + (2 * (2 * cnt + 2) - 2 * cnt); omega
    · have hq' : zn σ + 1 ≤ q := hq
      exact (if_neg (by omega)).trans ((if_neg (by omega)).trans ((if_neg (by omega)).trans (hf q (by omega))))
/-- one letter more -/
theorem sb_append (h : Sb σ a v cap cnt f) (hcnt : cnt < 400) (hbz : zbs σ ≤ zn σ) {t : Nat} (ht : t < 128) (hr : 1 ≤ zc σ ∧ 2000 ≤ zz σ) {z : Nat} (hza : z ≤ a) (hzv : z ≤ v) (hzn : z ≤ zn σ) : ∃ τ v' cap' f', f_J9_append a (nI t) σ = some (some a, τ) ∧ Sb τ a v' cap' (cnt + 1) f' ∧ (∀ k, k < cnt → f' k = f k) ∧ f' cnt = nI t ∧ Sx σ τ z 1 (2 * cap' - 2 * cap) ∧ cap ≤ cap' ∧ z ≤ v' := by
  obtain ⟨τ, v', cap', f', e1, e2, e3, e4, e5, e6, e7⟩ := sb_room h hcnt hbz hr hza hzn
  obtain ⟨s1, s2, s3, s4, s5, s6, s7, s8, s9, s10⟩ := e2
  have hv' : z ≤ v' := by rcases e7 with q | q <;> omega
  have hcl : zcl τ a = 20 := cl_of s1 rfl
  have gc : gI τ a 20 1 = some 0 := gI_of s1 rfl rfl
  have il : f_J8_isLatin1 a τ = some (1, τ) := by
    unfold f_J8_isLatin1
    rw [if_neg kk1, ybind_eq gc, if_neg kk0]
  have ce : f_J12_canEncode (nI t) τ = some (1, τ) := by
    unfold f_J12_canEncode
    rw [if_neg (show ¬ (255 : Int32) < nI t from nI_nlt (a := 255) (by omega) (by omega))]
  have p1 : pI τ a 20 3 (nI (cnt + 1)) = some (zset τ a (.inr (20, [.ref v', .int 0, .int 0, .int (nI (cnt + 1))]))) := pI_of s1 (Nat.le_of_ble_eq_true rfl) s4
  let τ1 : zS := zset τ a (.inr (20, [.ref v', .int 0, .int 0, .int (nI (cnt + 1))]))
  have t2 : τ1.1 v' = some (.inl (1, cap', .inl f')) := (if_neg s3.symm).trans s2
  have sb : sB τ1 v' (nI cnt) (nI t).toInt8.toInt32 = some (zset τ1 v' (.inl (1, cap', .inl (upd f' cnt (nI t))))) := by
    unfold sB
    rw [t2]
    have hall : 1 = 1 ∧ ¬ (nI cnt < 0 ∨ cap' ≤ (nI cnt).toNatClampNeg) ∧ zbs τ1 ≤ v' := ⟨rfl, nI_in e3 (by omega), s5⟩
    refine (if_pos hall).trans ?_
    rw [nI_clamp (by omega), (chr_f t ht).2, (chr_f t ht).2]
  have g0 : gI σ a 20 3 = some (nI cnt) := gI_of h.1 rfl rfl
  refine ⟨zset τ1 v' (.inl (1, cap', .inl (upd f' cnt (nI t)))), v', cap', upd f' cnt (nI t), ?_, ⟨(if_neg s3).trans zs_at, zs_at, s3, s4, s5, s6, s7, by omega, s9, by omega⟩, fun k hk => by rw [upd_no (by omega)]; exact e4 k hk, upd_at, ⟨fun q hq => ?_, e5.2.1, e5.2.2.1, e5.2.2.2.1, e5.2.2.2.2.1, e5.2.2.2.2.2.1, fun hf q hq => ?_⟩, e6, hv'⟩
  · unfold f_J9_append f_J8_append
    rw [zif_t (cl_of h.1 rfl), ybind_eq g0, zif_t (cl_of h.1 rfl), zb2_eq e1, zif_t hcl, zb2_eq il, if_neg kk1, zb2_eq ce, if_neg kk1, ybind_eq (gR_of s1 (k := 0) (q := some v') rfl rfl), ybind_eq (gI_of s1 (k := 3) (v := nI cnt) rfl rfl), nI_1, ybind_eq p1, bd_at, ybind_eq sb, zb2_at]
  · exact (if_neg (by omega)).trans ((if_neg (by omega)).trans (e5.1 q hq))
  · have hq' : zn τ ≤ q := hq
    exact (if_neg (by omega)).trans ((if_neg (by omega)).trans (e5.2.2.2.2.2.2 hf q hq'))
end ZV2
section ZV3
variable {σ σ' σ'' τ : zS} {rd tp n p m d a b v cap cnt : Nat} {tl ft : Int32} {g f : Nat → Int32} {T : Nat → Nat}
/-- a String at w with its bytes at v -/
def St9 (σ : zS) (w v L : Nat) (f : Nat → Int32) : Prop := σ.1 w = some (.inr (21, [.ref v, .int 0, .int 0, .int 0])) ∧ σ.1 v = some (.inl (1, L, .inl f)) ∧ zbs σ ≤ w ∧ w < zn σ ∧ v < zn σ
theorem sb_string (h : Sb σ a v cap cnt f) (hcnt : cnt ≤ 400) (hbz : zbs σ ≤ zn σ) (hr : 2 ≤ zc σ ∧ 1000 ≤ zz σ) {z : Nat} (hzn : z ≤ zn σ) : ∃ τ w v' f', f_J9_toString a σ = some (some w, τ) ∧ St9 τ w v' cnt f' ∧ (∀ k, k < cnt → f' k = f k) ∧ zn σ ≤ w ∧ zn σ ≤ v' ∧ Sx σ τ z 2 (4 + cnt) := by
  obtain ⟨s1, s2, s3, s4, s5, s6, s7, s8, s9, s10⟩ := h
  let T0 : zS := (zup σ.1 (zn σ) (.inr (21, [.null, .int 0, .int 0, .int 0])), zsv σ, zbs σ, zn σ + 1, zc σ - 1, zz σ - 4)
  have e1 : znewO σ 21 [.null, .int 0, .int 0, .int 0] = some (zn σ, T0) := znewO_at ⟨by omega, by show 4 ≤ zz σ; omega⟩
  have ta : T0.1 a = some (.inr (20, [.ref v, .int 0, .int 0, .int (nI cnt)])) := (if_neg (by omega)).trans s1
  have tw : T0.1 (zn σ) = some (.inr (21, [.null, .int 0, .int 0, .int 0])) := if_pos rfl
  have hcl : zcl T0 a = 20 := cl_of ta rfl
  have il : f_J8_isLatin1 a T0 = some (1, T0) := by
    unfold f_J8_isLatin1
    rw [if_neg kk1, ybind_eq (gI_of ta (k := 1) (v := 0) rfl rfl), if_neg kk0]
  have gv : f_J8_getValue a T0 = some (some v, T0) := by
    unfold f_J8_getValue
    rw [ybind_eq (gR_of ta (k := 0) (q := some v) rfl rfl)]
  have gl : f_J9_length a T0 = some (nI cnt, T0) := by
    unfold f_J9_length f_J8_length
    rw [zif_t hcl, ybind_eq (gI_of ta (k := 3) (v := nI cnt) rfl rfl), zb2_at]
  let T1 : zS := zset T0 (zn σ) (.inr (21, [.null, .int 0, .int 0, .int 0]))
  have pb : pB T0 (zn σ) 21 1 0 = some T1 := by
    unfold pB
    rw [if_pos (by decide)]
    exact pF_of tw (Nat.le_of_ble_eq_true rfl) hbz
  have n1 : zn T1 = zn σ + 1 := rfl
  have t1v : T1.1 v = some (.inl (1, cap, .inl f)) := (if_neg (by omega)).trans ((if_neg (by omega)).trans s2)
  -- the bytes
  obtain ⟨T2, f', c1, c2, c3, yc4, c5, c6, c7, c8, c9⟩ : ∃ (T2 : zS) (f' : Nat → Int32), f_J7_copyOfRange (some v) 0 (nI cnt) T1 = some (some (zn σ + 1), T2) ∧ T2.1 (zn σ + 1) = some (.inl (1, cnt, .inl f')) ∧ (∀ k, k < cnt → f' k = f k) ∧ (∀ q, q < zn σ + 1 → T2.1 q = T1.1 q) ∧ zsv T2 = zsv σ ∧ zbs T2 = zbs σ ∧ zn T2 = zn σ + 2 ∧ (zc σ ≤ zc T2 + 2 ∧ zz σ ≤ zz T2 + (4 + cnt)) ∧ ∀ q, zn σ + 2 ≤ q → T2.1 q = T1.1 q := by
    unfold f_J7_copyOfRange
    by_cases z : cnt = cap
    · refine ⟨(zup T1.1 (zn σ + 1) (.inl (1, cap, .inl f)), zsv σ, zbs σ, zn σ + 2, zc σ - 1 - 1, zz σ - 4 - cap), f, ?_, ?_, fun _ _ => rfl, fun q hq => if_neg (by omega), rfl, rfl, rfl, ⟨by show zc σ ≤ zc σ - 1 - 1 + 2; omega, by show zz σ ≤ zz σ - 4 - cap + (4 + cnt); omega⟩, fun q hq => if_neg (by omega)⟩
      · have cl : zcloB T1 v = some (zn σ + 1, (zup T1.1 (zn σ + 1) (.inl (1, cap, .inl f)), zsv σ, zbs σ, zn σ + 2, zc σ - 1 - 1, zz σ - 4 - cap)) := by
          unfold zcloB
          rw [t1v]
          show (if 1 = 1 then znew T1 (.inl (1, cap, .inl f)) cap else none) = _
          rw [if_pos rfl]
          unfold znew
          have hh : 1 ≤ zc T1 ∧ cap ≤ zz T1 := ⟨by show 1 ≤ zc σ - 1; omega, by show cap ≤ zz σ - 4; omega⟩
          rw [if_pos hh]
          rfl
        have ck : zckA (zup T1.1 (zn σ + 1) (.inl (1, cap, .inl f)), zsv σ, zbs σ, zn σ + 2, zc σ - 1 - 1, zz σ - 4 - cap) (some (zn σ + 1)) 1 = true := by
          have hu : (zup T1.1 (zn σ + 1) (.inl (1, cap, .inl f))) (zn σ + 1) = some (.inl (1, cap, .inl f)) := if_pos rfl
          unfold zckA
          show (match (zup T1.1 (zn σ + 1) (.inl (1, cap, .inl f))) (zn σ + 1) with
            | some (.inl (u, _)) => Nat.beq u 1
            | _ => false) = true
          rw [hu]
          rfl
        rw [if_neg kk0, bd_at, ybind_eq (aln_of t1v), if_pos (show nI cnt = Int32.ofNat cap by rw [z]; rfl), zb2_eq cl, zif_t ck]
      · rw [z]; exact if_pos rfl
    · let T2 : zS := (zup T1.1 (zn σ + 1) (.inl (1, cnt, .inl (fun _ => 0))), zsv σ, zbs σ, zn σ + 2, zc σ - 1 - 1, zz σ - 4 - cnt)
      have t2v : T2.1 v = some (.inl (1, cap, .inl f)) := (if_neg (by omega)).trans t1v
      have t2w : T2.1 (zn σ + 1) = some (.inl (1, cnt, .inl (fun _ => 0))) := if_pos rfl
      refine ⟨zset T2 (zn σ + 1) (.inl (1, cnt, .inl (fun k => if k < cnt then f k else 0))), fun k => if k < cnt then f k else 0, ?_, zs_at, fun k hk => if_pos hk, fun q hq => (if_neg (by omega)).trans (if_neg (by omega)), rfl, rfl, rfl, ⟨by show zc σ ≤ zc σ - 1 - 1 + 2; omega, by show zz σ ≤ zz σ - 4 - cnt + (4 + cnt); omega⟩, fun q hq => (if_neg (by omega)).trans (if_neg (by omega))⟩
      have hne : ¬ nI cnt = Int32.ofNat cap := by rw [show Int32.ofNat cap = nI cap from rfl, nI_inj (by omega) (by omega)]; exact z
      have ea : znewB T1 (nI cnt) = some (zn σ + 1, T2) := znewB_at (by omega) ⟨by show 1 ≤ zc σ - 1; omega, by show cnt ≤ zz σ - 4; omega⟩
      have ec : zcpy T2 v 0 (zn σ + 1) 0 (zmin (nI cap) (nI cnt)) = some (zset T2 (zn σ + 1) (.inl (1, cnt, .inl (fun k => if k < cnt then f k else 0)))) := by
        rw [zmin_nI (by omega) (by omega), Nat.min_eq_right (by omega)]
        exact zcpyB t2v t2w (by omega) (Nat.le_refl _) (by omega) (by show zbs σ ≤ _; omega)
      have s0 : ∀ k, nI k - 0 = nI k := fun k => (pk_sub (a := k) (b := 0) (Nat.zero_le _)).trans (by rw [Nat.sub_zero])
      unfold f_J7_copyOfRange_10 f_J7_copyOfRangeByte f_J7_checkLength
      rw [if_neg kk0, bd_at, ybind_eq (aln_of t1v), if_neg hne, if_pos (show (0 : Int32) ≤ nI cnt from nI_pos' (by omega)), zb2_at, s0, zl_at, zb2_eq ea, bd_at, ybind_eq (aln_of t2v), show Int32.ofNat cap = nI cap from rfl, s0, ybind_eq ec, zb2_at]
  have t2s : T2.1 (zn σ) = some (.inr (21, [.null, .int 0, .int 0, .int 0])) := (yc4 _ (by omega)).trans zs_at
  have pr : pR T2 (zn σ) 21 0 (some (zn σ + 1)) = some (zset T2 (zn σ) (.inr (21, [.ref (zn σ + 1), .int 0, .int 0, .int 0]))) := pF_of t2s (Nat.le_of_ble_eq_true rfl) (by rw [c6]; exact hbz)
  refine ⟨zset T2 (zn σ) (.inr (21, [.ref (zn σ + 1), .int 0, .int 0, .int 0])), zn σ, zn σ + 1, f', ?_, ⟨zs_at, (if_neg (by omega)).trans c2, by show zbs T2 ≤ _; rw [c6]; exact hbz, by show zn σ < zn T2; omega, by show zn σ + 1 < zn T2; omega⟩, c3, Nat.le_refl _, Nat.le_succ _, ⟨fun q hq => ?_, c5, c6, by show zn σ ≤ zn T2; omega, c8.1, c8.2, fun hf q hq => ?_⟩⟩
  · unfold f_J9_toString f_J10_init f_J10_init_2
    rw [zb2_eq e1, bd_at, zif_t hcl, zb2_eq gv, zif_t hcl, zb2_eq gl, zif_t hcl, zb2_eq il, if_neg kk1, ybind_eq pb, zb2_eq c1, ybind_eq pr, zb2_at, zb2_at]
  · exact (if_neg (by omega)).trans ((yc4 q (by omega)).trans ((if_neg (by omega)).trans (if_neg (by omega))))
  · have hq' : zn T2 ≤ q := hq
    exact (if_neg (by omega)).trans ((c9 q (by omega)).trans ((if_neg (by omega)).trans ((if_neg (by omega)).trans (hf q (by omega)))))
/-- a word is read -/
theorem f_word (h : yRd σ rd tp tl ft g n p m d) (hT : TB g T n) (hp : p ≤ n) (hr : 410 ≤ zc σ ∧ 5000 ≤ zz σ) : ∃ τ w v f, f_X3_word rd σ = some (some w, τ) ∧ yRd τ rd tp tl ft g n (we T (sk T p)) (sk T p) d ∧ Sp σ τ rd (4 + (we T (sk T p) - sk T p)) (24 + 5 * (we T (sk T p) - sk T p)) ∧ St9 τ w v (we T (sk T p) - sk T p) f ∧ (∀ k, k < we T (sk T p) - sk T p → f k = nI (T (sk T p + k))) ∧ zn σ ≤ w ∧ zn σ ≤ v := by
  have hn := hT.1.1
  obtain ⟨σ1, e1, e2, e3⟩ := f_blanks h hT hp
  obtain ⟨a1, a2, -, -⟩ := sk_spec hT.1 hp
  obtain ⟨b1, b2, b3, b4⟩ := we_spec hT.1 a2
  -- the loop of appends
  have LP : ∀ k cnt σ fu a v cap f, sk T p + cnt + k = we T (sk T p) → k < fu → yRd σ rd tp tl ft g n (we T (sk T p)) (sk T p) d → Sb σ a v cap cnt f → (∀ j, j < cnt → f j = nI (T (sk T p + j))) → rd < a → rd < v → (∀ z, z ≤ a → z ≤ v → z ≤ zn σ → rd < z ∧ tp < z → k + 2 ≤ zc σ → 3000 + (2 * (2 * (cnt + k) + 16) - 2 * cap) ≤ zz σ → cap ≤ 900 → ∃ τ w v' f', zlp1 (f_X3_word_48_b rd (some a)) fu (nI (sk T p + cnt)) σ = some (some w, τ) ∧ St9 τ w v' (we T (sk T p) - sk T p) f' ∧ (∀ j, j < we T (sk T p) - sk T p → f' j = nI (T (sk T p + j))) ∧ z ≤ w ∧ z ≤ v' ∧ Sx σ τ z (k + 2) (4 + (we T (sk T p) - sk T p) + (2 * (2 * (cnt + k) + 16) - 2 * cap))) := by
    intro k
    induction k with
    | zero =>
      intro cnt σ fu a v cap f hk hfu hR hS hf hra hrv z hza hzv hzn hz hc1 hc2 hc3
      obtain ⟨fu, rfl⟩ : ∃ f', fu = f' + 1 := ⟨fu - 1, by omega⟩
      have hL : we T (sk T p) - sk T p = cnt := by omega
      obtain ⟨τ, w, v', f', q1, q2, q3, q4, q5, q6⟩ := sb_string hS (by omega) hR.2.2.2.2.2.2.1 (by omega) hzn
      refine ⟨τ, w, v', f', ?_, by rw [hL]; exact q2, by rw [hL]; exact fun j hj => (q3 j hj).trans (hf j hj), by omega, by omega, Sx_le q6 (by omega) (by omega)⟩
      show f_X3_word_48_b rd (some a) _ _ _ = _
      unfold f_X3_word_48_b
      rw [ybind_eq (Rd_pos hR), if_pos (nI_le (by omega) (by omega)), bd_at, zif_t (cl_of hS.1 rfl), zb2_eq q1]
    | succ k ih =>
      intro cnt σ fu a v cap f hk hfu hR hS hf hra hrv z hza hzv hzn hz hc1 hc2 hc3
      obtain ⟨fu, rfl⟩ : ∃ f', fu = f' + 1 := ⟨fu - 1, by omega⟩
      show ∃ τ w v' f', f_X3_word_48_b rd (some a) (zlp1 (f_X3_word_48_b rd (some a)) fu) (nI (sk T p + cnt)) σ = some (some w, τ) ∧ _
      have hlet := b4 (sk T p + cnt) (by omega) (by omega)
      have hl := of_decide_eq_true hlet
      have hgb : g (sk T p + cnt) = nI (T (sk T p + cnt)) := by
        rcases hT.2 (sk T p + cnt) (by omega) with q | q
        · exact q.2
        · omega
      obtain ⟨τ, v', cap', f', q1, q2, q3, q4, q5, q6, q7⟩ := sb_append hS (by omega) hR.2.2.2.2.2.2.1 (t := T (sk T p + cnt)) (by omega) (by omega) hza hzv hzn
      have hRτ : yRd τ rd tp tl ft g n (we T (sk T p)) (sk T p) d := by
        obtain ⟨r1, r2, r3, r4, r5, r6, r7, r8⟩ := hR
        exact ⟨by rw [q5.1 _ hz.1]; exact r1, by rw [q5.1 _ hz.2]; exact r2, r3, by rw [q5.2.2.1]; exact r4, by have := q5.2.2.2.1; omega, by have := q5.2.2.2.1; omega, by have := q5.2.2.2.1; have := q5.2.2.1; omega, q5.2.2.2.2.2.2 r8⟩
      have hzc := q5.2.2.2.2.1
      have hzz := q5.2.2.2.2.2.1
      have hcb := q2.2.2.2.2.2.2.2.2.2
      obtain ⟨τ2, w, v2, f2, i1, i2, i3, i4, i5, i6⟩ := ih (cnt + 1) τ fu a v' cap' f' (by omega) (by omega) hRτ q2 (fun j hj => by
        by_cases y : j = cnt
        · rw [y]; exact q4
        · exact (q3 j (by omega)).trans (hf j (by omega))) hra (by omega) z hza q7 (by have := q5.2.2.2.1; omega) hz (by omega) (by omega) (by omega)
      refine ⟨τ2, w, v2, f2, ?_, i2, i3, i4, i5, Sx_le (Sx_t q5 i6) (by omega) (by omega)⟩
      rw [← i1]
      generalize zlp1 (f_X3_word_48_b rd (some a)) fu = rf
      unfold f_X3_word_48_b
      rw [ybind_eq (Rd_pos hR), nleF (show sk T p + cnt < we T (sk T p) by omega) (by omega), ybind_eq (gR_of hR.1 (k := 0) (q := some tp) rfl rfl), bd_at, ybind_eq (lI_of hR.2.1 (d := 1) rfl (show sk T p + cnt < 400 by omega) (by omega)), bd_at, zif_t (cl_of hS.1 rfl), hgb, (chr_f _ (show T (sk T p + cnt) < 128 by omega)).1, zb2_eq q1, zl_at, nI_1, Nat.add_assoc]
  -- the letters
  have LW : ∀ k p' σ fu, sk T p ≤ p' → p' ≤ n → n ≤ p' + k → k < fu → yrun (fun q => isL (T q)) k p' = we T (sk T p) → yRd σ rd tp tl ft g n p' (sk T p) d → 410 ≤ zc σ → 5000 ≤ zz σ → ∃ τ w v f, zlp0 (f_X3_word_4_b rd) fu σ = some (some w, τ) ∧ yRd τ rd tp tl ft g n (we T (sk T p)) (sk T p) d ∧ Sp σ τ rd (4 + (we T (sk T p) - sk T p)) (24 + 5 * (we T (sk T p) - sk T p)) ∧ St9 τ w v (we T (sk T p) - sk T p) f ∧ (∀ j, j < we T (sk T p) - sk T p → f j = nI (T (sk T p + j))) ∧ zn σ ≤ w ∧ zn σ ≤ v := by
    -- the end
    have fin : ∀ σ (rf : zS → Option (Option Nat × zS)), ¬ isL (T (we T (sk T p))) = true → yRd σ rd tp tl ft g n (we T (sk T p)) (sk T p) d → 410 ≤ zc σ → 5000 ≤ zz σ → ∃ τ w v f, f_X3_word_4_b rd rf σ = some (some w, τ) ∧ yRd τ rd tp tl ft g n (we T (sk T p)) (sk T p) d ∧ Sp σ τ rd (4 + (we T (sk T p) - sk T p)) (24 + 5 * (we T (sk T p) - sk T p)) ∧ St9 τ w v (we T (sk T p) - sk T p) f ∧ (∀ j, j < we T (sk T p) - sk T p → f j = nI (T (sk T p + j))) ∧ zn σ ≤ w ∧ zn σ ≤ v := by
      intro σ rf hl hR hc1 hc2
      obtain ⟨r1, r2, r3, r4, r5, r6, r7, r8⟩ := hR
      have hR : yRd σ rd tp tl ft g n (we T (sk T p)) (sk T p) d := ⟨r1, r2, r3, r4, r5, r6, r7, r8⟩
      let T0 : zS := (zup σ.1 (zn σ) (.inr (20, [.null, .int 0, .int 0, .int 0])), zsv σ, zbs σ, zn σ + 1, zc σ - 1, zz σ - 4)
      have x1 : znewO σ 20 [.null, .int 0, .int 0, .int 0] = some (zn σ, T0) := znewO_at ⟨by omega, by show 4 ≤ zz σ; omega⟩
      let T1 : zS := (zup T0.1 (zn σ + 1) (.inl (1, 16, .inl (fun _ => 0))), zsv σ, zbs σ, zn σ + 2, zc σ - 1 - 1, zz σ - 4 - 16)
      have x2 : znewB T0 16 = some (zn σ + 1, T1) := znewB_at (k := 16) (by omega) ⟨by show 1 ≤ zc σ - 1; omega, by show 16 ≤ zz σ - 4; omega⟩
      have t1 : T1.1 (zn σ) = some (.inr (20, [.null, .int 0, .int 0, .int 0])) := (if_neg (by omega)).trans (if_pos rfl)
      have x3 : pR T1 (zn σ) 20 0 (some (zn σ + 1)) = some (zset T1 (zn σ) (.inr (20, [.ref (zn σ + 1), .int 0, .int 0, .int 0]))) := pF_of t1 (Nat.le_of_ble_eq_true rfl) r7
      have x4 : pB (zset T1 (zn σ) (.inr (20, [.ref (zn σ + 1), .int 0, .int 0, .int 0]))) (zn σ) 20 1 0 = some (zset T1 (zn σ) (.inr (20, [.ref (zn σ + 1), .int 0, .int 0, .int 0]))) := by
        unfold pB
        rw [if_pos (by decide)]
        exact (pF_of (zs_at (σ := T1)) (Nat.le_of_ble_eq_true rfl) r7).trans (congrArg some zset2)
      let T2 : zS := zset T1 (zn σ) (.inr (20, [.ref (zn σ + 1), .int 0, .int 0, .int 0]))
      have xi : f_J9_init (zn σ) T0 = some ((), T2) := by
        unfold f_J9_init f_J8_init
        rw [if_neg kk1, zb2_eq x2, ybind_eq x3, ybind_eq x4, zb2_at]
      have mT2 : ∀ q, q < zn σ → T2.1 q = σ.1 q := fun q hq => (if_neg (by omega)).trans ((if_neg (by omega)).trans (if_neg (by omega)))
      have hR2 : yRd T2 rd tp tl ft g n (we T (sk T p)) (sk T p) d := Rd_keep hR mT2 rfl (by show zn σ ≤ zn σ + 2; omega) (fun q hq => by
        have hq' : zn σ + 2 ≤ q := hq
        exact (if_neg (by omega)).trans ((if_neg (by omega)).trans ((if_neg (by omega)).trans (r8 q (by omega)))))
      have hS2 : Sb T2 (zn σ) (zn σ + 1) 16 0 (fun _ => 0) := ⟨zs_at, (if_neg (by omega)).trans (if_pos rfl), by omega, r7, by show zbs σ ≤ zn σ + 1; omega, by show zn σ < zn σ + 2; omega, by show zn σ + 1 < zn σ + 2; omega, by omega, by omega, by omega⟩
      obtain ⟨τ, w, v, f, y1, y2, y3, y4, y5, y6⟩ := LP (we T (sk T p) - sk T p) 0 T2 NN (zn σ) (zn σ + 1) 16 (fun _ => 0) (by omega) (NN_lt (by omega)) hR2 hS2 (fun j hj => absurd hj (Nat.not_lt_zero _)) r5 (by omega) (zn σ) (Nat.le_refl _) (by omega) (by show zn σ ≤ zn σ + 2; omega) ⟨r5, r6⟩ (by show _ ≤ zc σ - 1 - 1; omega) (by show _ ≤ zz σ - 4 - 16; omega) (by omega)
      have y6' := y6
      obtain ⟨z1, z2, z3, z4, z5, z6, z7⟩ := y6
      have hn2 : zn T2 = zn σ + 2 := rfl
      have hc2' : zc T2 = zc σ - 1 - 1 := rfl
      have hz2' : zz T2 = zz σ - 4 - 16 := rfl
      refine ⟨τ, w, v, f, ?_, Rd_keep hR (fun q hq => (z1 q hq).trans (mT2 q hq)) z3 (by omega) (z7 hR2.2.2.2.2.2.2.2), ⟨fun q hq hq2 => (z1 q hq).trans (mT2 q hq), z2, z3, by omega, by omega, by omega⟩, y2, y3, y4, y5⟩
      · unfold f_X3_word_4_b
        have hlI : ¬ ((97 : Int32) ≤ (if we T (sk T p) < n then g (we T (sk T p)) else -1) ∧ (if we T (sk T p) < n then g (we T (sk T p)) else -1) ≤ 122) := by
          rw [show (97 : Int32) = nI 97 from rfl, show (122 : Int32) = nI 122 from rfl, TB_rng hT (by omega) (by omega)]
          exact fun q => hl (decide_eq_true q)
        rw [ybind_eq (Rd_pos hR), zif_t (Rd_cl hR), zb2_eq (f_byteAt hR hn _ (by omega)), zb2_eq (f_in0 hlI), if_pos rfl, zb2_eq x1, zb2_eq xi, ybind_eq (Rd_mark hR2)]
        exact y1
    intro k
    induction k with
    | zero =>
      intro p' σ fu h0 h1 h2 h3 h4 hR hc1 hc2
      obtain ⟨fu, rfl⟩ : ∃ f', fu = f' + 1 := ⟨fu - 1, by omega⟩
      have e : p' = we T (sk T p) := h4
      subst e
      exact fin σ _ (by rw [b3]; decide) hR hc1 hc2
    | succ k ih =>
      intro p' σ fu h0 h1 h2 h3 h4 hR hc1 hc2
      obtain ⟨fu, rfl⟩ : ∃ f', fu = f' + 1 := ⟨fu - 1, by omega⟩
      have h4' : (if isL (T p') = true then yrun (fun q => isL (T q)) k (p' + 1) else p') = we T (sk T p) := h4
      show ∃ τ w v f, f_X3_word_4_b rd (zlp0 (f_X3_word_4_b rd) fu) σ = some (some w, τ) ∧ _
      by_cases y : isL (T p') = true
      · rw [if_pos y] at h4'
        have hlt : p' < n := by
          rcases Nat.lt_or_ge p' n with q | q
          · exact q
          · have := of_decide_eq_true y
            rw [hT.1.2.2 p' q] at this; omega
        obtain ⟨τ1, i1, i2, i3⟩ := Rd_set3 hR (p' + 1)
        have hzc := i3.2.2.2.2.1
        have hzz := i3.2.2.2.2.2
        obtain ⟨τ, w, v, f, j1, j2, j3, j4, j5, j6, j7⟩ := ih (p' + 1) τ1 fu (by omega) (by omega) (by omega) (by omega) h4' i2 (by omega) (by omega)
        have hn1 := i3.2.2.2.1
        refine ⟨τ, w, v, f, ?_, j2, Sp_le (Sp_t i3 j3) (by omega) (by omega), j4, j5, by omega, by omega⟩
        rw [← j1]
        generalize zlp0 (f_X3_word_4_b rd) fu = rf
        unfold f_X3_word_4_b
        have hlI : (97 : Int32) ≤ (if p' < n then g p' else -1) ∧ (if p' < n then g p' else -1) ≤ 122 := by
          rw [show (97 : Int32) = nI 97 from rfl, show (122 : Int32) = nI 122 from rfl, TB_rng hT (by omega) (by omega)]
          exact of_decide_eq_true y
        rw [ybind_eq (Rd_pos hR), zif_t (Rd_cl hR), zb2_eq (f_byteAt hR hn _ (by omega)), zb2_eq (f_in1 hlI), if_neg kk1, ybind_eq (Rd_pos hR), nI_1, ybind_eq i1]
      · rw [if_neg y] at h4'
        subst h4'
        exact fin σ _ y hR hc1 hc2
  have hzc := e3.2.2.2.2.1
  have hzz := e3.2.2.2.2.2
  have hn1 := e3.2.2.2.1
  obtain ⟨τ, w, v, f, y1, y2, y3, y4, y5, y6, y7⟩ := LW 400 (sk T p) σ1 NN (Nat.le_refl _) a2 (by omega) (NN_lt (by omega)) rfl e2 (by omega) (by omega)
  refine ⟨τ, w, v, f, ?_, y2, Sp_le (Sp_t e3 y3) (by omega) (by omega), y4, y5, by omega, by omega⟩
  unfold f_X3_word
  rw [zif_t (Rd_cl h), zb2_eq e1]
  exact y1
end ZV3
section ZV4
variable {σ σ' σ'' τ : zS} {rd tp n p m d a b v cap cnt : Nat} {tl ft : Int32} {g f : Nat → Int32} {T : Nat → Nat}
theorem Li_keep (h : zLit σ) (h1 : ∀ q, q < zbs σ → τ.1 q = σ.1 q) (h2 : zsv τ = zsv σ) (h3 : zbs τ = zbs σ) : zLit τ := by
  intro i hi
  obtain ⟨a, v, f, e1, e2, e3, e4, e5, e6⟩ := h i hi
  exact ⟨a, v, f, by rw [h2]; exact e1, by rw [h3]; exact e2, by rw [h3]; exact e3, by rw [h1 a e2]; exact e4, by rw [h1 v e3]; exact e5, e6⟩
theorem Li_Sp (h : zLit σ) (hs : Sp σ τ rd a b) (hr : zbs σ ≤ rd) (hb : zbs σ ≤ zn σ) : zLit τ := Li_keep h (fun q hq => hs.1 q (by omega) (by omega)) hs.2.1 hs.2.2.1
/-- a word and a constant -/
theorem f_equals (hL : zLit σ) {i : Nat} (hi : i < 23) {w vw L ca : Nat} {f : Nat → Int32} (hw : St9 σ w vw L f) (hLn : L ≤ 400) (hca : zk σ (100 + i) = some ca) : f_J10_equals w (some ca) σ = some (if L = (zTb i).length ∧ ∀ k, k < (zTb i).length → f k = (zTb i).getD k 0 then 1 else 0, σ) := by
  obtain ⟨a, v, fc, e1, e2, e3, e4, e5, e6⟩ := hL i hi
  obtain ⟨w1, w2, w3, w4, w5⟩ := hw
  have hl := (zTb_ne i hi).2.1
  have ha : a = ca := by
    have : zsv σ (100 + i) = some ca := hca
    rw [e1] at this
    exact Option.some.inj this
  subst ha
  have hne : ¬ (some w = some a) := fun q => by have := Option.some.inj q; omega
  have c1 : zcl σ a = 21 := by unfold zcl; rw [e4]
  have c2 : zckC σ (some a) 21 = true := by
    show Nat.beq (zcl σ a) 21 = true
    rw [c1]; rfl
  have gfc : gI σ a 21 1 = some 0 := by unfold gI zfld; rw [e4]; rfl
  have grc : gR σ a 21 0 = some (some v) := by unfold gR zfld; rw [e4]; rfl
  have gfw : gI σ w 21 1 = some 0 := gI_of w1 rfl rfl
  have grw : gR σ w 21 0 = some (some vw) := gR_of w1 rfl rfl
  have eq : f_J12_equals (some vw) (some v) σ = some (if L = (zTb i).length ∧ ∀ k, k < (zTb i).length → f k = (zTb i).getD k 0 then 1 else 0, σ) := by
    unfold f_J12_equals
    rw [bd_at, ybind_eq (aln_of w2), bd_at, ybind_eq (aln_of e5)]
    by_cases z : L = (zTb i).length
    · rw [if_neg (show ¬ ¬ Int32.ofNat L = Int32.ofNat (zTb i).length from fun q => q (by rw [z]))]
      have H : ∀ j k fu, k + j = (zTb i).length → j < fu → (∀ k', k' < k → f k' = (zTb i).getD k' 0) → zlp1 (f_J12_equals_9_b (some vw) (some v)) fu (nI k) σ = some (if L = (zTb i).length ∧ ∀ k, k < (zTb i).length → f k = (zTb i).getD k 0 then 1 else 0, σ) := by
        intro j
        induction j with
        | zero =>
          intro k fu h1 h2 h3
          obtain ⟨fu, rfl⟩ : ∃ f', fu = f' + 1 := ⟨fu - 1, by omega⟩
          show f_J12_equals_9_b _ _ _ _ _ = _
          unfold f_J12_equals_9_b
          rw [bd_at, ybind_eq (aln_of w2), show Int32.ofNat L = nI L from rfl, if_pos (nI_le (by omega) (by omega)), if_pos ⟨z, fun k' hk' => h3 k' (by omega)⟩]
        | succ j ih =>
          intro k fu h1 h2 h3
          obtain ⟨fu, rfl⟩ : ∃ f', fu = f' + 1 := ⟨fu - 1, by omega⟩
          show f_J12_equals_9_b (some vw) (some v) (zlp1 (f_J12_equals_9_b (some vw) (some v)) fu) _ _ = _
          have ih' := ih (k + 1) fu
          generalize zlp1 (f_J12_equals_9_b (some vw) (some v)) fu = rf at ih'
          unfold f_J12_equals_9_b
          rw [bd_at, ybind_eq (aln_of w2), show Int32.ofNat L = nI L from rfl, nleF (show k < L by omega) (by omega), ybind_eq (lI_of w2 (d := 1) rfl (show k < L by omega) (by omega)), bd_at, ybind_eq (lI_of e5 (d := 1) rfl (show k < (zTb i).length by omega) (by omega)), e6 k (by omega)]
          by_cases y : f k = (zTb i).getD k 0
          · rw [if_pos y, zl_at, nI_1]
            exact ih' (by omega) (by omega) (fun k' hk' => by
              by_cases x : k' = k
              · rw [x]; exact y
              · exact h3 k' (by omega))
          · rw [if_neg y, if_neg (fun q => y (q.2 k (by omega)))]
      exact H (zTb i).length 0 NN (by omega) (NN_lt (by omega)) (fun k' hk' => absurd hk' (Nat.not_lt_zero _))
    · have : ¬ Int32.ofNat L = Int32.ofNat (zTb i).length := by
        show ¬ nI L = nI (zTb i).length
        rw [nI_inj (by omega) (by omega)]; exact z
      rw [if_pos this, if_neg (fun q => z q.1)]
  have e36 : f_J10_equals_36 w (some a) σ = some (if L = (zTb i).length ∧ ∀ k, k < (zTb i).length → f k = (zTb i).getD k 0 then 1 else 0, σ) := by
    unfold f_J10_equals_36
    rw [ybind_eq grw, bd_at, ybind_eq grc, zb2_eq eq]
    by_cases z : L = (zTb i).length ∧ ∀ k, k < (zTb i).length → f k = (zTb i).getD k 0
    · rw [if_pos z, if_neg kk1]
    · rw [if_neg z, if_pos rfl]
  unfold f_J10_equals
  rw [if_pos hne, bd_at, zif_t c1, if_neg kk1, zif_t c2, if_neg kk1, ybind_eq gfw, ybind_eq gfc, if_neg kk0]
  exact e36
/-- whether the next word is the i-th -/
theorem f_passes (h : yRd σ rd tp tl ft g n p m d) (hT : TB g T n) (hp : p ≤ n) (hL : zLit σ) {i ca : Nat} (hi : i < 23) (hca : zk σ (100 + i) = some ca) (hr : 410 ≤ zc σ ∧ 5000 ≤ zz σ) :
    (ywk i T (sk T p) = true → ∃ τ, f_X3_passes rd (some ca) σ = some (1, τ) ∧ yRd τ rd tp tl ft g n (we T (sk T p)) (sk T p) d ∧ Sp σ τ rd (4 + (we T (sk T p) - sk T p)) (24 + 5 * (we T (sk T p) - sk T p))) ∧
    (¬ ywk i T (sk T p) = true → ∃ τ, f_X3_passes rd (some ca) σ = some (0, τ) ∧ yRd τ rd tp tl ft g n (sk T p) (sk T p) d ∧ Sp σ τ rd (4 + (we T (sk T p) - sk T p)) (24 + 5 * (we T (sk T p) - sk T p))) := by
  have hn := hT.1.1
  obtain ⟨a1, a2, -, -⟩ := sk_spec hT.1 hp
  obtain ⟨b1, b2, -, -⟩ := we_spec hT.1 a2
  obtain ⟨τ, w, v, f, e1, e2, e3, e4, e5, e6, e7⟩ := f_word h hT hp hr
  have hLτ := Li_Sp hL e3 h.2.2.2.1 h.2.2.2.2.2.2.1
  have hcaτ : zk τ (100 + i) = some ca := by show zsv τ (100 + i) = _; rw [e3.2.1]; exact hca
  have eq := f_equals hLτ hi e4 (by omega) hcaτ
  have hiff : (we T (sk T p) - sk T p = (zTb i).length ∧ ∀ k, k < (zTb i).length → f k = (zTb i).getD k 0) ↔ ywk i T (sk T p) = true := by
    constructor
    · rintro ⟨q1, q2⟩
      exact decide_eq_true ⟨by omega, fun k hk => by rw [← e5 k (by omega)]; exact q2 k hk⟩
    · intro q
      obtain ⟨q1, q2⟩ := of_decide_eq_true q
      exact ⟨by omega, fun k hk => by rw [e5 k (by omega)]; exact q2 k hk⟩
  have clw : zcl τ w = 21 := cl_of e4.1 rfl
  unfold f_X3_passes
  refine ⟨fun z => ?_, fun z => ?_⟩
  · refine ⟨τ, ?_, e2, e3⟩
    rw [zif_t (Rd_cl h), zb2_eq e1, bd_at, zif_t clw, zb2_eq eq, if_pos (hiff.mpr z), if_neg kk1]
  · obtain ⟨τ1, i1, i2, i3⟩ := Rd_set3 e2 (sk T p)
    refine ⟨τ1, ?_, i2, Sp_le (Sp_t e3 i3) (by omega) (by omega)⟩
    rw [zif_t (Rd_cl h), zb2_eq e1, bd_at, zif_t clw, zb2_eq eq, if_neg (fun q => z (hiff.mp q)), if_pos rfl, ybind_eq (Rd_mark e2), ybind_eq i1]
/-- figures -/
theorem f_fig (h : yRd σ rd tp tl ft g n p m d) (hT : TB g T n) (hp : p ≤ n) {ylo hi dg : Nat} {hI : Int32} (hlo : ylo ≤ 1) (hdg : dg ≤ 5) (hhi : ∀ v, v < 1000000 → (nI v ≤ hI ↔ v < hi)) (hr : 1 ≤ zc σ ∧ 6 ≤ zz σ) : match pFig ylo hi dg T p with
    | .inl e => ∃ τ q, f_X3_figures rd (nI ylo) hI (nI dg) σ = some (.inr 5, τ) ∧ yRd τ rd tp tl ft g n q e d ∧ Sp σ τ rd 1 6
    | .inr (v, q) => ∃ τ, f_X3_figures rd (nI ylo) hI (nI dg) σ = some (.inl (nI v), τ) ∧ yRd τ rd tp tl ft g n q (sk T p) d ∧ Sp σ τ rd 0 0 := by
  have hn := hT.1.1
  obtain ⟨a1, a2, a3, a4⟩ := sk_spec hT.1 hp
  obtain ⟨b1, b2, b3, b4⟩ := ne_spec hT.1 a2
  obtain ⟨σ1, x1, x2, x3⟩ := f_blanks h hT hp
  have hpF : pFig ylo hi dg T p = if ne T (sk T p) = sk T p ∨ dg < ne T (sk T p) - sk T p ∨ ¬ (ylo ≤ vl T (sk T p) (ne T (sk T p) - sk T p) ∧ vl T (sk T p) (ne T (sk T p) - sk T p) < hi) then .inl (sk T p)
  else .inr (vl T (sk T p) (ne T (sk T p) - sk T p), ne T (sk T p)) := rfl
  unfold f_X3_figures f_X3_figures_7
  have hdig : ∀ j, sk T p + j < ne T (sk T p) → isD (T (sk T p + j)) = true := fun j hj => b4 _ (by omega) hj
  have h0c := x3.2.2.2.2.1
  have h0z := x3.2.2.2.2.2
  generalize hs : sk T p = s at *
  generalize hr : ne T s = r at *
  have H : ∀ j k σ fu, s + k + j = r → j < fu → yRd σ rd tp tl ft g n (s + k) s d → 1 ≤ zc σ ∧ 6 ≤ zz σ → match pFig ylo hi dg T p with
    | .inl e => ∃ τ q, zlp1 (f_X3_figures_7_b rd (nI ylo) hI (nI dg)) fu (nI (vl T s (min k dg))) σ = some (.inr 5, τ) ∧ yRd τ rd tp tl ft g n q e d ∧ Sp σ τ rd 1 6
    | .inr (v, q) => ∃ τ, zlp1 (f_X3_figures_7_b rd (nI ylo) hI (nI dg)) fu (nI (vl T s (min k dg))) σ = some (.inl (nI v), τ) ∧ yRd τ rd tp tl ft g n q s d ∧ Sp σ τ rd 0 0 := by
    intro j
    induction j with
    | zero =>
      intro k σ fu h1 h2 hR hroom
      obtain ⟨fu, rfl⟩ : ∃ f', fu = f' + 1 := ⟨fu - 1, by omega⟩
      have hnd : ¬ ((48 : Int32) ≤ (if s + k < n then g (s + k) else -1) ∧ (if s + k < n then g (s + k) else -1) ≤ 57) := by
        rw [show (48 : Int32) = nI 48 from rfl, show (57 : Int32) = nI 57 from rfl, TB_rng hT (by omega) (by omega)]
        intro q
        have : isD (T (s + k)) = true := decide_eq_true q
        rw [show s + k = r by omega, b3] at this
        cases this
      have yW : ∃ τ, f_X3_figures_109 rd σ = some (.inr 5, τ) ∧ yRd τ rd tp tl ft g n (s + k) s d ∧ Sp σ τ rd 1 6 := by
        obtain ⟨τ, w, w1, w2, w3, w4⟩ := f_wrong hR hroom
        refine ⟨τ, ?_, w3, w4⟩
        unfold f_X3_figures_109
        rw [zif_t (Rd_cl hR), zb2_eq w1, bd_at, zif_t w2]
      obtain ⟨τ, w1, w2, w3⟩ := yW
      have step : ∀ rf, f_X3_figures_7_b rd (nI ylo) hI (nI dg) rf (nI (vl T s (min k dg))) σ = if nI (s + k) = nI s then f_X3_figures_109 rd σ else if nI dg < nI (s + k) - nI s then f_X3_figures_109 rd σ else zb2 (f_X1_in (nI (vl T s (min k dg))) (nI ylo) hI σ) fun x18 σ19 => if ¬ x18 = 0 then some (.inl (nI (vl T s (min k dg))), σ19) else f_X3_figures_109 rd σ19 := by
        intro rf
        unfold f_X3_figures_7_b
        rw [ybind_eq (Rd_pos hR), zif_t (Rd_cl hR), zb2_eq (f_byteAt hR hn _ (by omega)), zb2_eq (f_in0 hnd), if_pos rfl, ybind_eq (Rd_pos hR), ybind_eq (Rd_mark hR)]
        by_cases q : nI (s + k) = nI s
        · rw [if_pos q, if_pos q]
        · rw [if_neg q, if_neg q, ybind_eq (Rd_pos hR), ybind_eq (Rd_mark hR)]
      rw [hpF]
      show match (if r = s ∨ dg < r - s ∨ ¬ (ylo ≤ vl T s (r - s) ∧ vl T s (r - s) < hi) then .inl s else .inr (vl T s (r - s), r) : pR9 Nat) with
        | .inl e => ∃ τ q, f_X3_figures_7_b rd (nI ylo) hI (nI dg) _ _ _ = _ ∧ _
        | .inr (v, q) => ∃ τ, f_X3_figures_7_b rd (nI ylo) hI (nI dg) _ _ _ = _ ∧ _
      rw [step, pk_sub (by omega), show s + k - s = k by omega]
      by_cases z : s + k = s
      · rw [if_pos (show nI (s + k) = nI s by rw [z]), if_pos (Or.inl (by omega))]
        exact ⟨τ, _, w1, w2, w3⟩
      · rw [if_neg (show ¬ nI (s + k) = nI s by rw [nI_inj (by omega) (by omega)]; exact z)]
        by_cases y : dg < k
        · rw [if_pos (nI_lt y (by omega)), if_pos (Or.inr (Or.inl (by omega)))]
          exact ⟨τ, _, w1, w2, w3⟩
        · have hrk : r - s = k := by omega
          have hv : vl T s k < 1000000 := Nat.lt_of_lt_of_le (vl_lt k (fun j hj => hdig j (by omega))) (p10_6 (by omega))
          rw [if_neg (nI_nlt (by omega) (by omega)), hrk, Nat.min_eq_left (by omega)]
          by_cases x : ylo ≤ vl T s k ∧ vl T s k < hi
          · rw [zb2_eq (f_in1 ⟨nI_le x.1 (by omega), (hhi _ hv).mpr x.2⟩), if_pos kk1, if_neg (by omega)]
            exact ⟨σ, rfl, by rw [show r = s + k by omega]; exact hR, Sp_r⟩
          · rw [zb2_eq (f_in0 (show ¬ (nI ylo ≤ nI (vl T s k) ∧ nI (vl T s k) ≤ hI) from fun q => x ⟨(nI_leI (by omega) (by omega)).mp q.1, (hhi _ hv).mp q.2⟩)), if_neg kk0, if_pos (Or.inr (Or.inr x))]
            exact ⟨τ, _, w1, w2, w3⟩
    | succ j ih =>
      intro k σ fu h1 h2 hR hroom
      obtain ⟨fu, rfl⟩ : ∃ f', fu = f' + 1 := ⟨fu - 1, by omega⟩
      have hD := hdig k (by omega)
      have hd := of_decide_eq_true hD
      have hnd : (48 : Int32) ≤ (if s + k < n then g (s + k) else -1) ∧ (if s + k < n then g (s + k) else -1) ≤ 57 := by
        rw [show (48 : Int32) = nI 48 from rfl, show (57 : Int32) = nI 57 from rfl, TB_rng hT (by omega) (by omega)]
        exact hd
      have hgb : (if s + k < n then g (s + k) else -1) = nI (T (s + k)) := by
        rw [if_pos (by omega)]
        rcases hT.2 (s + k) (by omega) with q | q
        · exact q.2
        · omega
      obtain ⟨τ1, i1, i2, i3⟩ := Rd_set3 hR (s + k + 1)
      have hzc := i3.2.2.2.2.1
      have hzz := i3.2.2.2.2.2
      have ih' := ih (k + 1) τ1 fu (by omega) (by omega) i2 ⟨by omega, by omega⟩
      have step : f_X3_figures_7_b rd (nI ylo) hI (nI dg) (zlp1 (f_X3_figures_7_b rd (nI ylo) hI (nI dg)) fu) (nI (vl T s (min k dg))) σ = zlp1 (f_X3_figures_7_b rd (nI ylo) hI (nI dg)) fu (nI (vl T s (min (k + 1) dg))) τ1 := by
        generalize zlp1 (f_X3_figures_7_b rd (nI ylo) hI (nI dg)) fu = rf
        unfold f_X3_figures_7_b f_X3_figures_60
        rw [ybind_eq (Rd_pos hR), zif_t (Rd_cl hR), zb2_eq (f_byteAt hR hn _ (by omega)), zb2_eq (f_in1 hnd), if_neg kk1, ybind_eq (Rd_pos hR), ybind_eq (Rd_mark hR), pk_sub (by omega), show s + k - s = k by omega]
        by_cases y : dg ≤ k
        · rw [if_pos (nI_le y (by omega)), ybind_eq (Rd_pos hR), nI_1, ybind_eq i1, Nat.min_eq_right y, Nat.min_eq_right (by omega)]
        · rw [if_neg (show ¬ nI dg ≤ nI k by rw [nI_leI (by omega) (by omega)]; exact y), ybind_eq (Rd_pos hR), zif_t (Rd_cl hR), zb2_eq (f_byteAt hR hn _ (by omega)), hgb, ybind_eq (Rd_pos hR), nI_1, ybind_eq i1, Nat.min_eq_left (by omega), Nat.min_eq_left (by omega), show (10 : Int32) = nI 10 from rfl, show (48 : Int32) = nI 48 from rfl, pk_mul, nI_add, pk_sub (by omega)]
          rfl
      show match pFig ylo hi dg T p with
        | .inl e => ∃ τ q, f_X3_figures_7_b rd (nI ylo) hI (nI dg) (zlp1 (f_X3_figures_7_b rd (nI ylo) hI (nI dg)) fu) _ _ = _ ∧ yRd τ rd tp tl ft g n q e d ∧ Sp σ τ rd 1 6
        | .inr (v, q) => ∃ τ, f_X3_figures_7_b rd (nI ylo) hI (nI dg) (zlp1 (f_X3_figures_7_b rd (nI ylo) hI (nI dg)) fu) _ _ = _ ∧ yRd τ rd tp tl ft g n q s d ∧ Sp σ τ rd 0 0
      rw [step]
      generalize pFig ylo hi dg T p = R at ih'
      match R, ih' with
      | .inl e, ih' =>
        obtain ⟨τ, q, j1, j2, j3⟩ := ih'
        exact ⟨τ, q, j1, j2, Sp_le (Sp_t i3 j3) (by omega) (by omega)⟩
      | .inr (v, q), ih' =>
        obtain ⟨τ, j1, j2, j3⟩ := ih'
        exact ⟨τ, j1, j2, Sp_t i3 j3⟩
  have key := H (r - s) 0 σ1 NN (by omega) (NN_lt (by omega)) x2 ⟨by omega, by omega⟩
  rw [zif_t (Rd_cl h), zb2_eq x1]
  have e0 : nI (vl T s (min 0 dg)) = 0 := by rw [Nat.min_eq_left (Nat.zero_le _)]; rfl
  rw [e0] at key
  generalize pFig ylo hi dg T p = R at key
  match R, key with
  | .inl e, key =>
    obtain ⟨τ, q, j1, j2, j3⟩ := key
    exact ⟨τ, q, j1, j2, Sp_le (Sp_t x3 j3) (by omega) (by omega)⟩
  | .inr (v, q), key =>
    obtain ⟨τ, j1, j2, j3⟩ := key
    exact ⟨τ, j1, j2, Sp_t x3 j3⟩
end ZV4
