/-! pure land: V5 V6 V7 V8 V9 (see wip/D-94657w/pl) -/
/-! longer lists -/
section ZV5A
variable {σ σ' : zS}
theorem add_11B {l e n cap x : Nat} {mc : Int32} {a : Nat → Nat} (hl : σ.1 l = some (.inr (19, [.int mc, .ref e, .int (nI n)]))) (hb : zbs σ ≤ l) (he : σ.1 e = some (.inl (3, cap, obA (lsA n a)))) (hbe : zbs σ ≤ e) (hn : n < cap) (hc : cap ≤ 900) (hx : zob σ (some x) = true) :
    f_J2_add_2_11 l (some x) (some e) (nI n) σ = some ((), (fun q => if q = l then some (.inr (19, [.int mc, .ref e, .int (nI (n + 1))])) else if q = e then some (.inl (3, cap, obA (lsA (n + 1) (fun i => if i = n then x else a i)))) else σ.1 q, σ.2)) := by
  have hle : l ≠ e := by
    intro q; subst q; rw [hl] at he; cases he
  unfold f_J2_add_2_11
  rw [bd_at, sR_of he hn (by omega) hbe hx, bd_at, nI_1, lsA_up]
  unfold pI
  rw [pF_of (ci := 19) (fs := [.int mc, .ref e, .int (nI n)]) (by rw [zs_no hle]; exact hl) (by show 2 < 3; omega) (show zbs (zset σ e (.inl (3, cap, obA (lsA (n + 1) (fun i => if i = n then x else a i))))) ≤ l from hb), bd_at]
  refine congrArg some (Prod.ext rfl (Prod.ext (funext fun q => ?_) rfl))
  show (if q = l then some _ else if q = e then some _ else σ.1 q) = if q = l then some _ else if q = e then some _ else σ.1 q
  rfl
theorem J2_addB {l e n cap x m0 : Nat} {mc : Int32} {a : Nat → Nat} (hl : σ.1 l = some (.inr (19, [.int mc, .ref e, .int (nI n)]))) (hb : zbs σ ≤ l) (hln : l < zn σ) (hbz : zbs σ ≤ zn σ) (hx : zob σ (some x) = true) (hxn : x < zn σ) (hn : n < 600)
    (h : (σ.1 e = some (.inl (3, cap, obA (lsA n a))) ∧ zbs σ ≤ e ∧ e < zn σ ∧ n ≤ cap ∧ 1 ≤ cap ∧ cap ≤ 900 ∧ ∀ i, i < n → zob σ (some (a i)) = true ∧ a i < zn σ) ∨ (n = 0 ∧ zk σ 1 = some e ∧ σ.1 e = some (.inl (103, 0, obA (fun _ => none))) ∧ e < zbs σ ∧ cap = 0))
    (h0 : zk σ 0 = some m0) (hc : 1 ≤ zc σ ∧ 900 ≤ zz σ) :
    ∃ e' cap' σ', f_J2_add l (some x) σ = some (1, σ') ∧ σ'.1 = (fun q => if q = l then some (.inr (19, [.int (mc + 1), .ref e', .int (nI (n + 1))])) else if q = e' then some (.inl (3, cap', obA (lsA (n + 1) (fun i => if i = n then x else a i)))) else σ.1 q) ∧ zsv σ' = zsv σ ∧ zbs σ' = zbs σ ∧
      zbs σ ≤ e' ∧ n + 1 ≤ cap' ∧ (cap ≤ cap' ∧ cap' ≤ 900 ∧ cap' ≤ max cap (2 * n + 10)) ∧ e' ≠ l ∧ ((e' = e ∧ zbs σ ≤ e ∧ zn σ' = zn σ) ∨ (e' = zn σ ∧ zn σ' = zn σ + 1)) ∧ zc σ ≤ zc σ' + 1 ∧ zz σ ≤ zz σ' + 4 * (cap' - cap) := by
  -- the count of changes
  have s1 : f_J2_add l (some x) σ = zb2 (f_J2_add_2 l (some x) (some e) (nI n) (zset σ l (.inr (19, [.int (mc + 1), .ref e, .int (nI n)])))) (fun _ σ7 => some ((1 : Int32), σ7)) := by
    unfold f_J2_add
    rw [gI_of hl rfl rfl, bd_at]
    unfold pI
    rw [pF_of hl (by show 0 < 3; omega) hb, bd_at]
    show (gR (zset σ l (.inr (19, [.int (mc + 1), .ref e, .int (nI n)]))) l 19 1).bind _ = _
    rw [gR_of zs_at (q := some e) rfl rfl, bd_at, gI_of zs_at (v := nI n) rfl rfl, bd_at, zif_t (cl_of zs_at rfl)]
    rfl
  have hle : l ≠ e := by
    intro q; subst q
    rcases h with h | h
    · rw [hl] at h; cases h.1
    · have := h.2.2.2.1; omega
  generalize hS : zset σ l (.inr (19, [.int (mc + 1), .ref e, .int (nI n)])) = S at s1
  have S1 : S.1 l = some (.inr (19, [.int (mc + 1), .ref e, .int (nI n)])) := by rw [← hS]; exact zs_at
  have Sq : ∀ q, q ≠ l → S.1 q = σ.1 q := fun q hq => by rw [← hS]; exact zs_no hq
  have S2 : S.2 = σ.2 := by rw [← hS]; rfl
  have Sx : zob S (some x) = true := by rw [← hS]; exact zob_set rfl (by omega) hx
  have Se : S.1 e = σ.1 e := Sq e (fun q => hle q.symm)
  have Sbs : zbs S = zbs σ := by show S.2.2.1 = σ.2.2.1; rw [S2]
  have Sn : zn S = zn σ := by show S.2.2.2.1 = σ.2.2.2.1; rw [S2]
  have Sc : zc S = zc σ := by show S.2.2.2.2.1 = σ.2.2.2.2.1; rw [S2]
  have Sz : zz S = zz σ := by show S.2.2.2.2.2 = σ.2.2.2.2.2; rw [S2]
  have Sv : zsv S = zsv σ := by show S.2.1 = σ.2.1; rw [S2]
  -- behind a growth
  have fin : ∀ (T : zS) (cap' : Nat), T.1 = (fun q => if q = l then some (.inr (19, [.int (mc + 1), .ref (zn σ), .int (nI n)])) else if q = zn σ then some (.inl (3, cap', obA (lsA n a))) else S.1 q) → zsv T = zsv σ → zbs T = zbs σ → zn T = zn σ + 1 → zc σ ≤ zc T + 1 → zz σ ≤ zz T + 4 * (cap' - cap) → n < cap' → (cap ≤ cap' ∧ cap' ≤ 900 ∧ cap' ≤ max cap (2 * n + 10)) →
      ∃ e' cap' σ', zb2 (f_J2_add_2_11 l (some x) (some (zn σ)) (nI n) T) (fun _ σ7 => some ((1 : Int32), σ7)) = some (1, σ') ∧ σ'.1 = (fun q => if q = l then some (.inr (19, [.int (mc + 1), .ref e', .int (nI (n + 1))])) else if q = e' then some (.inl (3, cap', obA (lsA (n + 1) (fun i => if i = n then x else a i)))) else σ.1 q) ∧ zsv σ' = zsv σ ∧ zbs σ' = zbs σ ∧
      zbs σ ≤ e' ∧ n + 1 ≤ cap' ∧ (cap ≤ cap' ∧ cap' ≤ 900 ∧ cap' ≤ max cap (2 * n + 10)) ∧ e' ≠ l ∧ ((e' = e ∧ zbs σ ≤ e ∧ zn σ' = zn σ) ∨ (e' = zn σ ∧ zn σ' = zn σ + 1)) ∧ zc σ ≤ zc σ' + 1 ∧ zz σ ≤ zz σ' + 4 * (cap' - cap) := by
    intro T cap' hT tv tb tn tc tz hn' hc'
    have hlz : zn σ ≠ l := by omega
    have T1 : T.1 l = some (.inr (19, [.int (mc + 1), .ref (zn σ), .int (nI n)])) := by rw [hT]; exact if_pos rfl
    have T2 : T.1 (zn σ) = some (.inl (3, cap', obA (lsA n a))) := by rw [hT]; exact (if_neg hlz).trans (if_pos rfl)
    have Tx : zob T (some x) = true := by
      show (match T.1 x with
        | some (.inr (c, _)) => Nat.blt c 22
        | _ => false) = true
      have e9 : T.1 x = if x = l then some (.inr (19, [.int (mc + 1), .ref (zn σ), .int (nI n)])) else if x = zn σ then some (.inl (3, cap', obA (lsA n a))) else S.1 x := by rw [hT]
      rw [e9]
      by_cases q : x = l
      · rw [if_pos q]; rfl
      · rw [if_neg q, if_neg (by omega)]
        exact Sx
    refine ⟨zn σ, cap', (fun q => if q = l then some (.inr (19, [.int (mc + 1), .ref (zn σ), .int (nI (n + 1))])) else if q = zn σ then some (.inl (3, cap', obA (lsA (n + 1) (fun i => if i = n then x else a i)))) else T.1 q, T.2), ?_, ?_, tv, tb, hbz, by omega, hc', hlz, Or.inr ⟨rfl, tn⟩, tc, tz⟩
    · exact congrArg (fun z => zb2 z (fun _ σ7 => some ((1 : Int32), σ7))) (add_11B T1 (by rw [tb]; exact hb) T2 (by rw [tb]; exact hbz) hn' hc'.2.1 Tx)
    · funext q
      show (if q = l then _ else if q = zn σ then _ else T.1 q) = if q = l then _ else if q = zn σ then _ else σ.1 q
      by_cases z : q = l
      · rw [if_pos z, if_pos z]
      · by_cases y : q = zn σ
        · rw [if_neg z, if_pos y, if_neg z, if_pos y]
        · rw [if_neg z, if_neg y, if_neg z, if_neg y, hT]
          show (if q = l then _ else if q = zn σ then _ else S.1 q) = _
          rw [if_neg z, if_neg y, Sq q z]
  rw [s1]
  unfold f_J2_add_2
  rcases h with ⟨h1, h2, h2b, h3, h4, h5, h6⟩ | ⟨h1, h2, h3, h4, hcap0⟩
  · rw [bd_at, aln_of (Se.trans h1), bd_at, ofN]
    by_cases hfull : n = cap
    · -- it grows
      subst hfull
      have hnl : zmax (nI (n + 1) - nI n) (nI n >>> (1 &&& 31)) = nI (max 1 (n / 2)) := by
        rw [pk_sub (by omega), show n + 1 - n = 1 by omega]
        have e : nI n >>> ((1 : Int32) &&& 31) = nI (n / 2 ^ 1) := pk_shrN (by omega) (nI 1 &&& 31) 1 (s_l 1 (by omega))
        rw [e, show nI 1 = nI 1 from rfl, zmax_nI (by omega) (by omega)]
      have hcap : n < n + max 1 (n / 2) ∧ n + max 1 (n / 2) ≤ 900 := by omega
      generalize hK : n + max 1 (n / 2) = K at hcap
      have g1 : f_J2_grow l S = some (some (zn σ), (fun q => if q = l then some (.inr (19, [.int (mc + 1), .ref (zn σ), .int (nI n)])) else if q = zn σ then some (.inl (3, K, obA (lsA n a))) else S.1 q, zsv S, zbs S, zn S + 1, zc S - 1, zz S - K)) := by
        unfold f_J2_grow
        rw [gI_of S1 (v := nI n) rfl rfl, bd_at, zif_t (cl_of S1 rfl), nI_1]
        unfold f_J2_grow_2
        have p0 : (0 : Int32) < nI n := nI_lt (a := 0) (by omega) (by omega)
        rw [gR_of S1 (q := some e) rfl rfl, bd_at, bd_at, aln_of (Se.trans h1), bd_at, ofN, if_pos p0]
        unfold f_J2_grow_2_20 f_J5_newLength
        rw [hnl, nI_add, hK, zl_at, if_neg (nI_nle (by omega) (by omega)), if_neg (show ¬ (2147483639 : Int32) < nI K from nI_nlt (a := 2147483639) (by omega) (by omega)), zb2_at, gR_of S1 (q := some e) rfl rfl, bd_at]
        unfold f_J7_copyOf f_J7_copyOf_2
        have k3 : zckA S (some e) 3 = true := by
          unfold zckA
          show (match S.1 e with
            | some (.inl (u, _)) => _
            | _ => _) = true
          rw [Se, h1]
          rfl
        have k0 : zk S 0 = some m0 := by show zsv S 0 = _; rw [Sv]; exact h0
        rw [bd_at, if_pos (Or.inl k3), k0, bd_at, bd_at, if_neg (fun q => q rfl), znewR_at (by omega) (by rw [Sc, Sz]; omega), zb2_at, bd_at]
        generalize hT : ((zup S.1 (zn S) (.inl (3, K, obA (fun _ => none))), zsv S, zbs S, zn S + 1, zc S - 1, zz S - K) : zS) = T
        have Te : T.1 e = some (.inl (3, n, obA (lsA n a))) := by
          rw [← hT]
          show (if e = zn S then _ else S.1 e) = _
          rw [if_neg (by rw [Sn]; omega), Se, h1]
        have Tn : T.1 (zn σ) = some (.inl (3, K, obA (fun _ => none))) := by
          rw [← hT, ← Sn]
          exact if_pos rfl
        have Tq : ∀ q, q ≠ zn σ → T.1 q = S.1 q := fun q hq => by
          rw [← hT]
          exact if_neg (by rw [Sn]; exact hq)
        have Tbs : zbs T = zbs σ := by rw [← hT]; exact Sbs
        have Tob : ∀ i, i < n → zob T (lsA n a i) = true := by
          intro i hi
          obtain ⟨o1, o2⟩ := h6 i hi
          have e1 : lsA n a i = some (a i) := if_pos hi
          rw [e1]
          show (match T.1 (a i) with
            | some (.inr (c, _)) => Nat.blt c 22
            | _ => false) = true
          rw [Tq _ (by omega)]
          by_cases z : a i = l
          · rw [z, S1]; rfl
          · rw [Sq _ z]; exact o1
        have c1 : zcpy T e 0 (zn S) 0 (zmin (nI n) (nI K)) = some (zset T (zn σ) (.inl (3, K, obA (lsA n a)))) := by
          rw [zmin_nI (by omega) (by omega), Nat.min_eq_left (by omega), Sn]
          unfold zcpy
          rw [Te, Tn]
          show (if 3 % 100 = 3 ∧ 3 = 3 ∧ ¬ (0 : Int32) < 0 ∧ ¬ (0 : Int32) < 0 ∧ ¬ nI n < 0 ∧ (0 : Int32).toNatClampNeg + (nI n).toNatClampNeg ≤ n ∧ (0 : Int32).toNatClampNeg + (nI n).toNatClampNeg ≤ K ∧ zbs T ≤ zn σ ∧ ((List.range (nI n).toNatClampNeg).all fun i => zob T (lsA n a ((0 : Int32).toNatClampNeg + i))) = true then _ else none) = _
          have hz0 : (0 : Int32).toNatClampNeg = 0 := rfl
          rw [nI_clamp (by omega), hz0, if_pos ⟨rfl, rfl, by decide, by decide, nI_pos (by omega), by omega, by omega, by rw [Tbs]; exact hbz, List.all_eq_true.mpr fun i hi => by rw [Nat.zero_add]; exact Tob i (List.mem_range.mp hi)⟩]
          have : va_cpy (lsA n a) (fun _ => none) 0 0 n = lsA n a := by
            funext i
            show (if 0 ≤ i ∧ i < 0 + n then lsA n a (0 + (i - 0)) else none) = lsA n a i
            by_cases q : i < n
            · rw [if_pos ⟨Nat.zero_le _, by omega⟩, Nat.zero_add, Nat.sub_zero]
            · rw [if_neg (fun w => q (by omega))]
              exact (if_neg q).symm
          rw [this]
          rfl
        rw [aln_of Te, bd_at, ofN, c1, bd_at, zb2_at, zb2_at]
        unfold pR
        have Tl : (zset T (zn σ) (.inl (3, K, obA (lsA n a)))).1 l = some (.inr (19, [.int (mc + 1), .ref e, .int (nI n)])) := by
          rw [zs_no (by omega), Tq l (by omega), S1]
        rw [pF_of Tl (by show 1 < 3; omega) (by show zbs T ≤ l; rw [Tbs]; exact hb), bd_at, zb2_at]
        refine congrArg some (Prod.ext (by rw [Sn]) (Prod.ext (funext fun q => ?_) ?_))
        · show (if q = l then some (Sum.inr (19, [Value.int (mc + 1), va_rf (some (zn S)), .int (nI n)])) else if q = zn σ then _ else T.1 q) = if q = l then _ else if q = zn σ then _ else S.1 q
          by_cases z : q = l
          · rw [if_pos z, if_pos z, Sn]; rfl
          · by_cases y : q = zn σ
            · rw [if_neg z, if_pos y, if_neg z, if_pos y]
            · rw [if_neg z, if_neg y, if_neg z, if_neg y, Tq q y]
        · show T.2 = _
          rw [← hT]
      rw [if_neg (fun q => q rfl), zif_t (cl_of S1 rfl), g1, zb2_at]
      exact fin _ K rfl (by show zsv S = _; exact Sv) (by show zbs S = _; exact Sbs) (by show zn S + 1 = _; rw [Sn]) (by show zc σ ≤ (zc S - 1) + 1; rw [Sc]; omega) (by show zz σ ≤ (zz S - K) + 4 * (K - n); rw [Sz]; omega) hcap.1 ⟨by omega, hcap.2, by rw [← hK]; omega⟩
    · -- there is room
      have hne : ¬ nI n = nI cap := fun q => hfull ((nI_eq (by omega) (by omega)).mp q)
      rw [if_pos hne]
      have := add_11B S1 (by rw [Sbs]; exact hb) (Se.trans h1) (by rw [Sbs]; exact h2) (show n < cap by omega) h5 Sx
      rw [this, zb2_at]
      refine ⟨e, cap, _, rfl, ?_, Sv, Sbs, h2, by omega, ⟨Nat.le_refl _, h5, Nat.le_max_left _ _⟩, fun q => hle q.symm, Or.inl ⟨rfl, h2, Sn⟩, by show zc σ ≤ zc S + 1; rw [Sc]; omega, by show zz σ ≤ zz S + 4 * (cap - cap); rw [Sz]; omega⟩
      funext q
      show (if q = l then _ else if q = e then _ else S.1 q) = if q = l then _ else if q = e then _ else σ.1 q
      by_cases z : q = l
      · rw [if_pos z, if_pos z]
      · by_cases y : q = e
        · rw [if_neg z, if_pos y, if_neg z, if_pos y]
        · rw [if_neg z, if_neg y, if_neg z, if_neg y, Sq q z]
  · -- the first array
    subst h1
    have k1 : zk S 1 = some e := by show zsv S 1 = _; rw [Sv]; exact h2
    have g1 : f_J2_grow l S = some (some (zn σ), (fun q => if q = l then some (.inr (19, [.int (mc + 1), .ref (zn σ), .int (nI 0)])) else if q = zn σ then some (.inl (3, 10, obA (lsA 0 a))) else S.1 q, zsv S, zbs S, zn S + 1, zc S - 1, zz S - 10)) := by
      unfold f_J2_grow
      rw [gI_of S1 (v := nI 0) rfl rfl, bd_at, zif_t (cl_of S1 rfl), nI_1]
      unfold f_J2_grow_2
      rw [gR_of S1 (q := some e) rfl rfl, bd_at, bd_at, aln_of (Se.trans h3), bd_at, if_neg (by decide), bd_at, k1, zl_at, if_pos rfl, show zmax 10 (nI (0 + 1)) = nI 10 from by decide, znewR_at (by omega) (by rw [Sc, Sz]; omega), zb2_at]
      unfold pR
      have hT : ((zup S.1 (zn S) (.inl (3, 10, obA (fun _ => none))), zsv S, zbs S, zn S + 1, zc S - 1, zz S - 10) : zS).1 l = some (.inr (19, [.int (mc + 1), .ref e, .int (nI 0)])) := by
        show (if l = zn S then _ else S.1 l) = _
        rw [if_neg (by rw [Sn]; omega), S1]
      rw [pF_of hT (by show 1 < 3; omega) (by show zbs S ≤ l; rw [Sbs]; exact hb), bd_at, zb2_at]
      refine congrArg some (Prod.ext (by rw [Sn]) (Prod.ext (funext fun q => ?_) rfl))
      show (if q = l then some (Sum.inr (19, [Value.int (mc + 1), va_rf (some (zn S)), .int (nI 0)])) else if q = zn S then some (Sum.inl (3, 10, obA (fun _ => none))) else S.1 q) = if q = l then _ else if q = zn σ then _ else S.1 q
      rw [Sn]
      have e0 : (fun _ => none : Nat → Option Nat) = lsA 0 a := funext fun i => (if_neg (Nat.not_lt_zero i)).symm
      rw [e0]
      rfl
    rw [bd_at, aln_of (Se.trans h3), bd_at, if_neg (fun q => q (show nI 0 = Int32.ofNat 0 from rfl)), zif_t (cl_of S1 rfl), g1, zb2_at]
    exact fin _ 10 rfl (by show zsv S = _; exact Sv) (by show zbs S = _; exact Sbs) (by show zn S + 1 = _; rw [Sn]) (by show zc σ ≤ (zc S - 1) + 1; rw [Sc]; omega) (by show zz σ ≤ (zz S - 10) + 4 * (10 - cap); rw [Sz]; omega) (by omega) (by omega)
end ZV5A
/-! ===== conditions in the heap ===== -/
def tgX (i : Nat) : Nat := [1, 2, 3, 4, 17, 18].getD i 0
def fcX (i : Nat) : Nat := [19, 20, 21, 22].getD i 0
/-- the constants that a law's text needs -/
def zLk (σ : zS) : Prop := zLit σ ∧ ∃ (ta fa : Nat → Nat) (vt vf : Nat) (sa : Nat → Nat), (∀ i, i < 23 → zsv σ (100 + i) = some (sa i)) ∧ zk σ 5 = some vt ∧ zk σ 6 = some vf ∧ zk σ 14 = some (ta 4) ∧ zk σ 15 = some (ta 5) ∧ vt < zbs σ ∧ vf < zbs σ ∧
  σ.1 vt = some (.inl (104, 6, obA (fun j => if j < 6 then some (ta j) else none))) ∧ σ.1 vf = some (.inl (105, 4, obA (fun j => if j < 4 then some (fa j) else none))) ∧
  (∀ i, i < 6 → ta i < zbs σ ∧ σ.1 (ta i) = some (.inr (150, [.int (nI i), .ref (sa (tgX i))]))) ∧ (∀ i, i < 4 → fa i < zbs σ ∧ σ.1 (fa i) = some (.inr (151, [.int (nI i), .ref (sa (fcX i))])))
/-- a scene in the heap -/
def Scn (τ : zS) (sc : Nat) (s : Sc9) : Prop := τ.1 sc = some (.inr (3, [.int (s 0), .int (s 1), .int (s 2), .int (s 3), .int (s 4), .int (s 5), .int (s 6)])) ∧ (s 5 = 0 ∨ s 5 = 1) ∧ (s 6 = 0 ∨ s 6 = 1)
/-- a later heap that has the cells P and the constants -/
def AgP (P : Nat → Prop) (σ τ : zS) : Prop := (∀ q, (P q ∨ q < zbs σ) → τ.1 q = σ.1 q) ∧ zsv τ = zsv σ ∧ zbs τ = zbs σ
/-- the object a tells a condition, by the cells P -/
def HpP (P : Nat → Prop) (k : Nat) (σ : zS) (a : Nat) (φ : Co9) : Prop := ∀ τ sc s fu, AgP P σ τ → Scn τ sc s → k ≤ fu → zckI τ (some a) [13, 14, 15, 18] = true ∧ f_holds fu a (some sc) τ = some (b2 (φ s), τ)
/-- the object a tells a sum; a part of a sum -/
def HsP (P : Nat → Prop) (σ : zS) (a : Nat) (f : Sc9 → Int32) : Prop := ∀ τ sc s, AgP P σ τ → Scn τ sc s → zcl τ a = 16 ∧ f_X18_in a (some sc) τ = some (f s, τ)
def HqP (P : Nat → Prop) (σ : zS) (a : Nat) (f : Sc9 → Int32) : Prop := ∀ τ sc s, AgP P σ τ → Scn τ sc s → zcl τ a = 17 ∧ f_X19_in a (some sc) τ = some (f s, τ)
section ZV6
variable {σ σ' τ : zS} {P P' : Nat → Prop} {k k' a sc z : Nat} {φ ψ : Co9} {f f' : Sc9 → Int32} {s : Sc9}
theorem AgP_up (h1 : ∀ q, P q → P' q) (h2 : AgP P σ σ') (h : AgP P' σ' τ) : AgP P σ τ := ⟨fun q hq => (h.1 q (hq.imp (h1 q) (fun z => by rw [h2.2.2]; exact z))).trans (h2.1 q hq), h.2.1.trans h2.2.1, h.2.2.trans h2.2.2⟩
theorem HpP_up (H : HpP P k σ a φ) (h1 : ∀ q, P q → P' q) (h2 : AgP P σ σ') (hk : k ≤ k') : HpP P' k' σ' a φ := fun τ sc s fu hA hS hf => H τ sc s fu (AgP_up h1 h2 hA) hS (Nat.le_trans hk hf)
theorem HsP_up (H : HsP P σ a f) (h1 : ∀ q, P q → P' q) (h2 : AgP P σ σ') : HsP P' σ' a f := fun τ sc s hA hS => H τ sc s (AgP_up h1 h2 hA) hS
theorem HqP_up (H : HqP P σ a f) (h1 : ∀ q, P q → P' q) (h2 : AgP P σ σ') : HqP P' σ' a f := fun τ sc s hA hS => H τ sc s (AgP_up h1 h2 hA) hS
theorem zLk_ag (h : zLk σ) (hA : AgP P σ τ) : zLk τ := by
  obtain ⟨h0, ta, fa, vt, vf, sa, h1, h2, h3, h4, h5, h6, h7, h8, h9, h10, h11⟩ := h
  obtain ⟨g1, g2, g3⟩ := hA
  have k' : ∀ k, zk τ k = zk σ k := fun k => by show zsv τ k = zsv σ k; rw [g2]
  refine ⟨fun i hi => ?_, ta, fa, vt, vf, sa, by rw [g2]; exact h1, (k' 5).trans h2, (k' 6).trans h3, (k' 14).trans h4, (k' 15).trans h5, by rw [g3]; exact h6, by rw [g3]; exact h7, by rw [g1 _ (Or.inr h6)]; exact h8, by rw [g1 _ (Or.inr h7)]; exact h9, fun i hi => ?_, fun i hi => ?_⟩
  · obtain ⟨a, v, f, e1, e2, e3, e4, e5, e6⟩ := h0 i hi
    exact ⟨a, v, f, by rw [g2]; exact e1, by rw [g3]; exact e2, by rw [g3]; exact e3, by rw [g1 a (Or.inr e2)]; exact e4, by rw [g1 v (Or.inr e3)]; exact e5, e6⟩
  · obtain ⟨e1, e2⟩ := h10 i hi
    exact ⟨by rw [g3]; exact e1, by rw [g1 _ (Or.inr e1)]; exact e2⟩
  · obtain ⟨e1, e2⟩ := h11 i hi
    exact ⟨by rw [g3]; exact e1, by rw [g1 _ (Or.inr e1)]; exact e2⟩
theorem holds_at {n : Nat} {r : Option Nat} : f_holds (n + 1) a r σ = if zcl σ a = 13 then f_X14_holds (f_holds n) a r σ else if zcl σ a = 14 then f_X15_holds (f_holds n) a r σ else if zcl σ a = 15 then f_X17_holds a r σ else if zcl σ a = 18 then f_X21_holds a r σ else none := rfl
def tgφ (i : Nat) : Co9 := fun s => if i = 4 then decide (s 5 = 1) else if i = 5 then decide (s 6 = 1) else decide (s 0 = nI i)
/-- a tag -/
theorem Hp_tag {ta : Nat → Nat} {sa : Nat → Nat} (hL : zLk σ) {i : Nat} (hi : i < 6) (h4 : zk σ 14 = some (ta 4)) (h5 : zk σ 15 = some (ta 5)) (ht : ∀ i, i < 6 → ta i < zbs σ ∧ σ.1 (ta i) = some (.inr (150, [.int (nI i), .ref (sa (tgX i))]))) (ha : σ.1 a = some (.inr (15, [.ref (ta i)]))) (hP : P a) : HpP P 1 σ a (tgφ i) := by
  intro τ sc s fu hA hS hf
  obtain ⟨fu, rfl⟩ : ∃ f', fu = f' + 1 := ⟨fu - 1, by omega⟩
  have ha' : τ.1 a = some (.inr (15, [.ref (ta i)])) := (hA.1 a (Or.inl hP)).trans ha
  have hc : zcl τ a = 15 := cl_of ha' rfl
  have k' : ∀ k, zk τ k = zk σ k := fun k => by show zsv τ k = zsv σ k; rw [hA.2.1]
  have ht' : ∀ i, i < 6 → τ.1 (ta i) = some (.inr (150, [.int (nI i), .ref (sa (tgX i))])) := fun i hi => (hA.1 _ (Or.inr (ht i hi).1)).trans (ht i hi).2
  have tne : ∀ j, j < 6 → i ≠ j → ta i ≠ ta j := by
    intro j hj hij e
    have h1 := ht' i hi
    rw [e, ht' j hj] at h1
    have h2 : nI j = nI i := by
      have := Option.some.inj h1
      have := Sum.inr.inj this
      have := congrArg (fun z => z.2) this
      have h3 := List.cons.inj this
      exact Value.int.inj h3.1
    exact hij ((nI_eq (by omega) (by omega)).mp h2).symm
  obtain ⟨s1, s5, s6⟩ := hS
  have hsc : zcl τ sc = 3 := cl_of s1 rfl
  have hct : zcl τ (ta i) = 50 := by unfold zcl; rw [ht' i hi]
  have ho : f_J19_ordinal (ta i) τ = some (nI i, τ) := by
    unfold f_J19_ordinal
    have : gI τ (ta i) 50 0 = some (nI i) := by unfold gI zfld; rw [ht' i hi]; rfl
    rw [ybind_eq this]
  have is : f_X4_is sc (some (ta i)) τ = some (b2 (tgφ i s), τ) := by
    unfold f_X4_is tgφ
    rw [k' 14, h4, zl_at, k' 15, h5, zl_at]
    by_cases z4 : i = 4
    · subst z4
      rw [if_neg (fun q => q rfl), ybind_eq (gI_of s1 (k := 5) (v := s 5) rfl rfl), zbo_ok s5, if_pos rfl, b2_eq s5]
    · rw [if_pos (fun q => tne 4 (by omega) z4 (Option.some.inj q)), if_neg z4]
      by_cases z5 : i = 5
      · subst z5
        rw [if_neg (fun q => q rfl), ybind_eq (gI_of s1 (k := 6) (v := s 6) rfl rfl), zbo_ok s6, if_pos rfl, b2_eq s6]
      · rw [if_pos (fun q => tne 5 (by omega) z5 (Option.some.inj q)), if_neg z5, ybind_eq (gI_of s1 (k := 0) (v := s 0) rfl rfl), bd_at, zif_t hct, zb2_eq ho]
        by_cases y : s 0 = nI i
        · rw [if_neg (fun q => q y), decide_eq_true y]; rfl
        · rw [if_pos y, decide_eq_false y]; rfl
  refine ⟨?_, ?_⟩
  · show [13, 14, 15, 18].contains (zcl τ a) = true
    rw [hc]; rfl
  · rw [holds_at, hc, if_neg (by decide), if_neg (by decide), if_pos rfl]
    unfold f_X17_holds
    rw [ybind_eq (gR_of ha' (k := 0) (q := some (ta i)) rfl rfl), bd_at, zif_t hsc, zb2_eq is, zbo_ok (b2_01 _)]
/-- a comparison -/
theorem Hp_less {l r : Nat} {g1 g2 : Sc9 → Int32} (h1 : HsP P σ l g1) (h2 : HsP P σ r g2) (ha : σ.1 a = some (.inr (18, [.ref l, .ref r]))) (hP : P a) : HpP P 1 σ a (fun s => decide (g1 s < g2 s)) := by
  intro τ sc s fu hA hS hf
  obtain ⟨fu, rfl⟩ : ∃ f', fu = f' + 1 := ⟨fu - 1, by omega⟩
  have ha' : τ.1 a = some (.inr (18, [.ref l, .ref r])) := (hA.1 a (Or.inl hP)).trans ha
  have hc : zcl τ a = 18 := cl_of ha' rfl
  obtain ⟨c1, e1⟩ := h1 τ sc s hA hS
  obtain ⟨c2, e2⟩ := h2 τ sc s hA hS
  refine ⟨?_, ?_⟩
  · show [13, 14, 15, 18].contains (zcl τ a) = true
    rw [hc]; rfl
  · rw [holds_at, hc, if_neg (by decide), if_neg (by decide), if_neg (by decide), if_pos rfl]
    unfold f_X21_holds
    rw [ybind_eq (gR_of ha' (k := 0) (q := some l) rfl rfl), bd_at, zif_t c1, zb2_eq e1, ybind_eq (gR_of ha' (k := 1) (q := some r) rfl rfl), bd_at, zif_t c2, zb2_eq e2]
    show _ = some (b2 (decide (g1 s < g2 s)), τ)
    by_cases y : g2 s ≤ g1 s
    · rw [if_pos y, decide_eq_false (Int32.not_lt.mpr y)]; rfl
    · rw [if_neg y, decide_eq_true (Int32.not_le.mp y)]; rfl
/-- a negation -/
theorem Hp_not {b : Nat} (h1 : HpP P k σ b φ) (ha : σ.1 a = some (.inr (14, [.ref b]))) (hP : P a) : HpP P (k + 1) σ a (fun s => !φ s) := by
  intro τ sc s fu hA hS hf
  obtain ⟨fu, rfl⟩ : ∃ f', fu = f' + 1 := ⟨fu - 1, by omega⟩
  have ha' : τ.1 a = some (.inr (14, [.ref b])) := (hA.1 a (Or.inl hP)).trans ha
  have hc : zcl τ a = 14 := cl_of ha' rfl
  obtain ⟨c1, e1⟩ := h1 τ sc s fu hA hS (by omega)
  refine ⟨?_, ?_⟩
  · show [13, 14, 15, 18].contains (zcl τ a) = true
    rw [hc]; rfl
  · rw [holds_at, hc, if_neg (by decide), if_pos rfl]
    unfold f_X15_holds
    rw [ybind_eq (gR_of ha' (k := 0) (q := some b) rfl rfl), bd_at, zb2_eq e1]
    show _ = some (b2 (!φ s), τ)
    cases φ s
    · rw [if_neg (show ¬ ¬ b2 false = 0 from fun q => q rfl)]; rfl
    · rw [if_pos (show ¬ b2 true = 0 from kk1)]; rfl
end ZV6
def yalB (φs : Nat → Co9) : Nat → Co9
  | 0 => fun _ => true
  | c + 1 => fun s => yalB φs c s && φs c s
def exB (φs : Nat → Co9) : Nat → Co9
  | 0 => fun _ => false
  | c + 1 => fun s => exB φs c s || φs c s
def smF (fs : Nat → Sc9 → Int32) : Nat → Sc9 → Int32
  | 0 => fun _ => 0
  | c + 1 => fun s => smF fs c s + fs c s
/-- a list of objects in the heap -/
def Ls9 (σ : zS) (l e cap c : Nat) (el : Nat → Nat) : Prop := (∃ mc, σ.1 l = some (.inr (19, [.int mc, .ref e, .int (nI c)]))) ∧ σ.1 e = some (.inl (3, cap, obA (lsA c el))) ∧ c ≤ cap ∧ cap ≤ 900
section ZV7
variable {σ σ' τ : zS} {P P' : Nat → Prop} {k k' a sc z l e cap c : Nat} {φ ψ : Co9} {f f' : Sc9 → Int32} {s : Sc9} {el : Nat → Nat} {φs : Nat → Co9} {fs : Nat → Sc9 → Int32}
theorem ls_get (h : Ls9 τ l e cap c el) {i : Nat} (hi : i < c) : f_J2_get l (nI i) τ = some (some (el i), τ) := by
  obtain ⟨⟨mc, hl⟩, he, h1, h2⟩ := h
  have hci : f_J3_checkIndex (nI i) (nI c) τ = some (nI i, τ) := by
    unfold f_J3_checkIndex f_J4_checkIndex
    rw [if_neg (nI_pos (by omega)), if_pos (nI_lt hi (by omega))]
    rfl
  have hlr : lR τ e (nI i) = some (some (el i)) := by
    unfold lR
    rw [he]
    show (if (3 ≤ 3 ∧ 3 ≤ 5) ∧ ¬ (nI i < 0 ∨ cap ≤ (nI i).toNatClampNeg) then some (lsA c el (nI i).toNatClampNeg) else none) = _
    rw [if_pos ⟨⟨by decide, by decide⟩, nI_in (by omega) (by omega)⟩, nI_clamp (by omega)]
    exact congrArg some (if_pos hi)
  unfold f_J2_get f_J2_elementData
  rw [ybind_eq (gI_of hl (v := nI c) rfl rfl), zb2_eq hci, zif_t (cl_of hl rfl), ybind_eq (gR_of hl (q := some e) rfl rfl), bd_at, ybind_eq hlr, zb2_at]
theorem ls_size (h : Ls9 τ l e cap c el) : f_J2_size l τ = some (nI c, τ) ∧ zcl τ l = 19 := by
  obtain ⟨⟨mc, hl⟩, -⟩ := h
  refine ⟨?_, cl_of hl rfl⟩
  unfold f_J2_size
  rw [ybind_eq (gI_of hl (v := nI c) rfl rfl)]
theorem ls_ag (h : Ls9 σ l e cap c el) (hA : AgP P σ τ) (hl : P l) (he : P e) : Ls9 τ l e cap c el := by
  obtain ⟨⟨mc, h1⟩, h2, h3⟩ := h
  exact ⟨⟨mc, (hA.1 l (Or.inl hl)).trans h1⟩, (hA.1 e (Or.inl he)).trans h2, h3⟩
/-- all of a list -/
theorem Hp_all (hL : Ls9 σ l e cap c el) (hl : P l) (he : P e) (ha : σ.1 a = some (.inr (13, [.int 1, .ref l]))) (hP : P a) (hi : ∀ i, i < c → HpP P k σ (el i) (φs i)) : HpP P (k + 1) σ a (yalB φs c) := by
  intro τ sc s fu hA hS hf
  obtain ⟨fu, rfl⟩ : ∃ f', fu = f' + 1 := ⟨fu - 1, by omega⟩
  have ha' : τ.1 a = some (.inr (13, [.int 1, .ref l])) := (hA.1 a (Or.inl hP)).trans ha
  have hc : zcl τ a = 13 := cl_of ha' rfl
  have hLτ := ls_ag hL hA hl he
  obtain ⟨g1, g2⟩ := ls_size hLτ
  have hcc := hL.2.2
  refine ⟨?_, ?_⟩
  · show [13, 14, 15, 18].contains (zcl τ a) = true
    rw [hc]; rfl
  · rw [holds_at, hc, if_pos rfl]
    have H : ∀ j i fn, i + j = c → j < fn → yalB φs i s = true → zlp1 (f_X14_holds_2_b (f_holds fu) a (some sc)) fn (nI i) τ = some (b2 (yalB φs c s), τ) := by
      intro j
      induction j with
      | zero =>
        intro i fn h1 h2 h3
        obtain ⟨fn, rfl⟩ : ∃ f', fn = f' + 1 := ⟨fn - 1, by omega⟩
        show f_X14_holds_2_b _ _ _ _ _ _ = _
        unfold f_X14_holds_2_b
        rw [ybind_eq (gR_of ha' (k := 1) (q := some l) rfl rfl), bd_at, zif_t g2, zb2_eq g1, if_pos (nI_le (by omega) (by omega)), ybind_eq (gI_of ha' (k := 0) (v := 1) rfl rfl), zbo_ok (Or.inr rfl)]
        have : i = c := by omega
        rw [← this, h3]; rfl
      | succ j ih =>
        intro i fn h1 h2 h3
        obtain ⟨fn, rfl⟩ : ∃ f', fn = f' + 1 := ⟨fn - 1, by omega⟩
        show f_X14_holds_2_b _ _ _ (zlp1 (f_X14_holds_2_b (f_holds fu) a (some sc)) fn) _ _ = _
        have ih' := ih (i + 1) fn
        generalize zlp1 (f_X14_holds_2_b (f_holds fu) a (some sc)) fn = rf at ih'
        obtain ⟨c1, e1⟩ := hi i (by omega) τ sc s fu hA hS (by omega)
        unfold f_X14_holds_2_b
        rw [ybind_eq (gR_of ha' (k := 1) (q := some l) rfl rfl), bd_at, zif_t g2, zb2_eq g1, nleF (show i < c by omega) (by omega), ybind_eq (gR_of ha' (k := 1) (q := some l) rfl rfl), bd_at, zif_t g2, zb2_eq (ls_get hLτ (show i < c by omega)), zif_t c1, bd_at, zb2_eq e1, ybind_eq (gI_of ha' (k := 0) (v := 1) rfl rfl)]
        cases hφ : φs i s with
        | true =>
          rw [if_pos (show b2 true = 1 from rfl), zl_at, nI_1]
          exact ih' (by omega) (by omega) (by show (yalB φs i s && φs i s) = true; rw [h3, hφ]; rfl)
        | false =>
          have hF : yalB φs c s = false := by
            have M : ∀ t, i < t → t ≤ c → yalB φs t s = false := by
              intro t
              induction t with
              | zero => intro h _; omega
              | succ t iht =>
                intro h h'
                show (yalB φs t s && φs t s) = false
                by_cases y : t = i
                · rw [y, hφ, Bool.and_false]
                · rw [iht (by omega) (by omega), Bool.false_and]
            exact M c (by omega) (Nat.le_refl _)
          rw [if_neg (show ¬ b2 false = 1 from by decide), ybind_eq (gI_of ha' (k := 0) (v := 1) rfl rfl), if_pos kk1, hF]
          rfl
    exact H c 0 NN (by omega) (NN_lt (by omega)) rfl
/-- one of a list -/
theorem Hp_any (hL : Ls9 σ l e cap c el) (hl : P l) (he : P e) (ha : σ.1 a = some (.inr (13, [.int 0, .ref l]))) (hP : P a) (hi : ∀ i, i < c → HpP P k σ (el i) (φs i)) : HpP P (k + 1) σ a (exB φs c) := by
  intro τ sc s fu hA hS hf
  obtain ⟨fu, rfl⟩ : ∃ f', fu = f' + 1 := ⟨fu - 1, by omega⟩
  have ha' : τ.1 a = some (.inr (13, [.int 0, .ref l])) := (hA.1 a (Or.inl hP)).trans ha
  have hc : zcl τ a = 13 := cl_of ha' rfl
  have hLτ := ls_ag hL hA hl he
  obtain ⟨g1, g2⟩ := ls_size hLτ
  have hcc := hL.2.2
  refine ⟨?_, ?_⟩
  · show [13, 14, 15, 18].contains (zcl τ a) = true
    rw [hc]; rfl
  · rw [holds_at, hc, if_pos rfl]
    have H : ∀ j i fn, i + j = c → j < fn → exB φs i s = false → zlp1 (f_X14_holds_2_b (f_holds fu) a (some sc)) fn (nI i) τ = some (b2 (exB φs c s), τ) := by
      intro j
      induction j with
      | zero =>
        intro i fn h1 h2 h3
        obtain ⟨fn, rfl⟩ : ∃ f', fn = f' + 1 := ⟨fn - 1, by omega⟩
        show f_X14_holds_2_b _ _ _ _ _ _ = _
        unfold f_X14_holds_2_b
        rw [ybind_eq (gR_of ha' (k := 1) (q := some l) rfl rfl), bd_at, zif_t g2, zb2_eq g1, if_pos (nI_le (by omega) (by omega)), ybind_eq (gI_of ha' (k := 0) (v := 0) rfl rfl), zbo_ok (Or.inl rfl)]
        have : i = c := by omega
        rw [← this, h3]; rfl
      | succ j ih =>
        intro i fn h1 h2 h3
        obtain ⟨fn, rfl⟩ : ∃ f', fn = f' + 1 := ⟨fn - 1, by omega⟩
        show f_X14_holds_2_b _ _ _ (zlp1 (f_X14_holds_2_b (f_holds fu) a (some sc)) fn) _ _ = _
        have ih' := ih (i + 1) fn
        generalize zlp1 (f_X14_holds_2_b (f_holds fu) a (some sc)) fn = rf at ih'
        obtain ⟨c1, e1⟩ := hi i (by omega) τ sc s fu hA hS (by omega)
        unfold f_X14_holds_2_b
        rw [ybind_eq (gR_of ha' (k := 1) (q := some l) rfl rfl), bd_at, zif_t g2, zb2_eq g1, nleF (show i < c by omega) (by omega), ybind_eq (gR_of ha' (k := 1) (q := some l) rfl rfl), bd_at, zif_t g2, zb2_eq (ls_get hLτ (show i < c by omega)), zif_t c1, bd_at, zb2_eq e1, ybind_eq (gI_of ha' (k := 0) (v := 0) rfl rfl)]
        cases hφ : φs i s with
        | false =>
          rw [if_pos (show b2 false = 0 from rfl), zl_at, nI_1]
          exact ih' (by omega) (by omega) (by show (exB φs i s || φs i s) = false; rw [h3, hφ]; rfl)
        | true =>
          have hF : exB φs c s = true := by
            have M : ∀ t, i < t → t ≤ c → exB φs t s = true := by
              intro t
              induction t with
              | zero => intro h _; omega
              | succ t iht =>
                intro h h'
                show (exB φs t s || φs t s) = true
                by_cases y : t = i
                · rw [y, hφ, Bool.or_true]
                · rw [iht (by omega) (by omega), Bool.true_or]
            exact M c (by omega) (Nat.le_refl _)
          rw [if_neg (show ¬ b2 true = 0 from kk1), ybind_eq (gI_of ha' (k := 0) (v := 0) rfl rfl), if_neg kk0, hF]
          rfl
    exact H c 0 NN (by omega) (NN_lt (by omega)) rfl
/-- a sum -/
theorem Hs_sum (hL : Ls9 σ l e cap c el) (hl : P l) (he : P e) (ha : σ.1 a = some (.inr (16, [.ref l]))) (hP : P a) (hi : ∀ i, i < c → HqP P σ (el i) (fs i)) : HsP P σ a (smF fs c) := by
  intro τ sc s hA hS
  have ha' : τ.1 a = some (.inr (16, [.ref l])) := (hA.1 a (Or.inl hP)).trans ha
  have hLτ := ls_ag hL hA hl he
  obtain ⟨g1, g2⟩ := ls_size hLτ
  have hcc := hL.2.2
  refine ⟨cl_of ha' rfl, ?_⟩
  have H : ∀ j i fn, i + j = c → j < fn → zlp2 (f_X18_in_4_b a (some sc)) fn (smF fs i s) (nI i) τ = some (smF fs c s, τ) := by
    intro j
    induction j with
    | zero =>
      intro i fn h1 h2
      obtain ⟨fn, rfl⟩ : ∃ f', fn = f' + 1 := ⟨fn - 1, by omega⟩
      show f_X18_in_4_b _ _ _ _ _ _ = _
      unfold f_X18_in_4_b
      rw [ybind_eq (gR_of ha' (k := 0) (q := some l) rfl rfl), bd_at, zif_t g2, zb2_eq g1, if_pos (nI_le (by omega) (by omega))]
      rw [show i = c by omega]
    | succ j ih =>
      intro i fn h1 h2
      obtain ⟨fn, rfl⟩ : ∃ f', fn = f' + 1 := ⟨fn - 1, by omega⟩
      show f_X18_in_4_b _ _ (zlp2 (f_X18_in_4_b a (some sc)) fn) _ _ _ = _
      have ih' := ih (i + 1) fn (by omega) (by omega)
      generalize zlp2 (f_X18_in_4_b a (some sc)) fn = rf at ih'
      obtain ⟨c1, e1⟩ := hi i (by omega) τ sc s hA hS
      have ck : zckC τ (some (el i)) 17 = true := by
        show Nat.beq (zcl τ (el i)) 17 = true
        rw [c1]; rfl
      unfold f_X18_in_4_b
      rw [ybind_eq (gR_of ha' (k := 0) (q := some l) rfl rfl), bd_at, zif_t g2, zb2_eq g1, nleF (show i < c by omega) (by omega), ybind_eq (gR_of ha' (k := 0) (q := some l) rfl rfl), bd_at, zif_t g2, zb2_eq (ls_get hLτ (show i < c by omega)), zif_t ck, bd_at, zif_t c1, zb2_eq e1, zl_at, zl_at, nI_1]
      exact ih'
  exact H c 0 NN (by omega) (NN_lt (by omega))
/-- a number in a sum -/
theorem Hq_num {x : Int32} (ha : σ.1 a = some (.inr (17, [.int x, .null]))) (hP : P a) : HqP P σ a (fun _ => x) := by
  intro τ sc s hA hS
  have ha' : τ.1 a = some (.inr (17, [.int x, .null])) := (hA.1 a (Or.inl hP)).trans ha
  refine ⟨cl_of ha' rfl, ?_⟩
  unfold f_X19_in
  rw [ybind_eq (gR_of ha' (k := 1) (q := none) rfl rfl)]
  show (gI τ a 17 0).bind _ = _
  rw [ybind_eq (gI_of ha' (k := 0) (v := x) rfl rfl)]
/-- a fact in a sum -/
theorem Hq_fact {fa : Nat → Nat} {sa : Nat → Nat} {i : Nat} (hi : i < 4) (ht : ∀ i, i < 4 → fa i < zbs σ ∧ σ.1 (fa i) = some (.inr (151, [.int (nI i), .ref (sa (fcX i))]))) (ha : σ.1 a = some (.inr (17, [.int 0, .ref (fa i)]))) (hP : P a) : HqP P σ a (fun s => s (1 + i)) := by
  intro τ sc s hA hS
  have ha' : τ.1 a = some (.inr (17, [.int 0, .ref (fa i)])) := (hA.1 a (Or.inl hP)).trans ha
  have hf : τ.1 (fa i) = some (.inr (151, [.int (nI i), .ref (sa (fcX i))])) := (hA.1 _ (Or.inr (ht i hi).1)).trans (ht i hi).2
  have hcf : zcl τ (fa i) = 51 := by unfold zcl; rw [hf]
  have ho : f_J19_ordinalF (fa i) τ = some (nI i, τ) := by
    unfold f_J19_ordinalF
    have : gI τ (fa i) 51 0 = some (nI i) := by unfold gI zfld; rw [hf]; rfl
    rw [ybind_eq this]
  refine ⟨cl_of ha' rfl, ?_⟩
  obtain ⟨s1, -, -⟩ := hS
  have hsc : zcl τ sc = 3 := cl_of s1 rfl
  have of : f_X4_of sc (some (fa i)) τ = some (s (1 + i), τ) := by
    unfold f_X4_of
    rw [bd_at, zif_t hcf, zb2_eq ho]
    rcases (show i = 0 ∨ i = 1 ∨ i = 2 ∨ i = 3 by omega) with rfl | rfl | rfl | rfl
    · rw [if_neg (by decide), if_pos (show nI 0 = 0 from rfl), ybind_eq (gI_of s1 (k := 1) (v := s 1) rfl rfl)]
    · rw [if_neg (by decide), if_neg (by decide), if_pos (show nI 1 = 1 from rfl), ybind_eq (gI_of s1 (k := 2) (v := s 2) rfl rfl)]
    · rw [if_neg (by decide), if_neg (by decide), if_neg (by decide), if_pos (show nI 2 = 2 from rfl), ybind_eq (gI_of s1 (k := 3) (v := s 3) rfl rfl)]
    · rw [if_pos (by decide), ybind_eq (gI_of s1 (k := 4) (v := s 4) rfl rfl)]
  unfold f_X19_in
  rw [ybind_eq (gR_of ha' (k := 1) (q := some (fa i)) rfl rfl)]
  show (gR τ a 17 1).bind _ = _
  rw [ybind_eq (gR_of ha' (k := 1) (q := some (fa i)) rfl rfl), bd_at, zif_t hsc, zb2_eq of]
end ZV7
/-! the component builds what the parser tells: sums -/
/-- cells made since z -/
def Rz (z : Nat) (τ : zS) (q : Nat) : Prop := z ≤ q ∧ q < zn τ ∧ ∃ ob, τ.1 q = some ob ∧ ∀ fs, ob ≠ .inr (10, fs)
/-- what stands around the reader -/
def Cx (σ : zS) (o rd : Nat) : Prop := (gR σ o 0 2 = some (some rd) ∧ zcl σ o = 0 ∧ o < zn σ ∧ o ≠ rd) ∧ zLk σ ∧ yEv σ ∧ ∃ d, zk σ 1 = some d
section ZV8
variable {σ σ' σ'' τ : zS} {o rd tp n p m d a b q z : Nat} {tl ft : Int32} {g : Nat → Int32} {T : Nat → Nat}
theorem Sp_ag (h : Sp σ τ rd a b) (hr : zbs σ ≤ rd) (hb : zbs σ ≤ zn σ) : AgP (fun _ => False) σ τ := ⟨fun q hq => hq.elim (fun z => z.elim) (fun hq => h.1 q (by omega) (by omega)), h.2.1, h.2.2.1⟩
theorem Cx_Sp (h : Cx σ o rd) (hs : Sp σ τ rd a b) (hr : zbs σ ≤ rd) (hb : zbs σ ≤ zn σ) : Cx τ o rd := by
  obtain ⟨⟨h1, h2, h3, h4⟩, h5, h6, dd, h7⟩ := h
  have e := hs.1 o h3 h4
  refine ⟨⟨?_, ?_, by have := hs.2.2.2.1; omega, h4⟩, zLk_ag h5 (Sp_ag hs hr hb), ?_, dd, by show zsv τ 1 = _; rw [hs.2.1]; exact h7⟩
  · unfold gR zfld at h1 ⊢
    rw [e]; exact h1
  · unfold zcl at h2 ⊢
    rw [e]; exact h2
  · obtain ⟨⟨m0, g1⟩, g2⟩ := h6
    refine ⟨⟨m0, by show zsv τ 0 = _; rw [hs.2.1]; exact g1⟩, fun d hd => ?_⟩
    have hd' : zk σ 1 = some d := by
      have : zsv τ 1 = some d := hd
      rw [hs.2.1] at this; exact this
    obtain ⟨q1, q2⟩ := g2 d hd'
    exact ⟨by rw [hs.2.2.1]; exact q1, by rw [hs.1 d (by omega) (by omega)]; exact q2⟩
/-- a new object behind the heap -/
theorem new_obj {ci : Nat} {fs : List Value} (h : yRd σ rd tp tl ft g n p m d) (hc : 1 ≤ zc σ ∧ fs.length ≤ zz σ) : ∃ τ, znewO σ ci fs = some (zn σ, τ) ∧ yRd τ rd tp tl ft g n p m d ∧ Sp σ τ rd 1 fs.length ∧ τ.1 (zn σ) = some (.inr (ci, fs)) ∧ zn τ = zn σ + 1 := by
  refine ⟨_, znewO_at hc, Rd_keep h (fun q hq => if_neg (by omega)) rfl (Nat.le_succ _) (fun q hq => ?_), ⟨fun q hq _ => if_neg (by omega), rfl, rfl, Nat.le_succ _, ?_, ?_⟩, if_pos rfl, rfl⟩
  · have hq' : zn σ + 1 ≤ q := hq
    exact (if_neg (by omega)).trans (h.2.2.2.2.2.2.2 q (by omega))
  · show zc σ ≤ zc σ - 1 + 1; omega
  · show zz σ ≤ zz σ - fs.length + fs.length; omega
/-- an object of ours is written anew -/
theorem set_obj {x : Nat} {ob : zOb} (h : yRd σ rd tp tl ft g n p m d) (hx : z ≤ x) (hxn : x < zn σ) (hr : rd < z) (ht : tp < z) : yRd (zset σ x ob) rd tp tl ft g n p m d ∧ (∀ q, q < z → (zset σ x ob).1 q = σ.1 q) := by
  obtain ⟨r1, r2, r3, r4, r5, r6, r7, r8⟩ := h
  refine ⟨⟨(if_neg (by omega)).trans r1, (if_neg (by omega)).trans r2, r3, r4, r5, r6, r7, fun q hq => ?_⟩, fun q hq => if_neg (by omega)⟩
  have hq' : zn σ ≤ q := hq
  exact (if_neg (by omega)).trans (r8 q hq')
/-- whether a figure comes -/
theorem f_isFigure (h : yRd σ rd tp tl ft g n p m d) (hT : TB g T n) (hp : p ≤ n) : ∃ τ, f_X3_isFigure rd σ = some (if isD (T (sk T p)) = true then 1 else 0, τ) ∧ yRd τ rd tp tl ft g n (sk T p) (sk T p) d ∧ Sp σ τ rd 0 0 := by
  have hn := hT.1.1
  obtain ⟨τ, e1, e2, e3⟩ := f_blanks h hT hp
  obtain ⟨a1, a2, -, -⟩ := sk_spec hT.1 hp
  refine ⟨τ, ?_, e2, e3⟩
  unfold f_X3_isFigure
  rw [zif_t (Rd_cl h), zb2_eq e1, ybind_eq (Rd_pos e2), zif_t (Rd_cl e2), zb2_eq (f_byteAt e2 hn _ (by omega))]
  by_cases z : isD (T (sk T p)) = true
  · have : (48 : Int32) ≤ (if sk T p < n then g (sk T p) else -1) ∧ (if sk T p < n then g (sk T p) else -1) ≤ 57 := by
      rw [show (48 : Int32) = nI 48 from rfl, show (57 : Int32) = nI 57 from rfl, TB_rng hT (by omega) (by omega)]
      exact of_decide_eq_true z
    rw [zb2_eq (f_in1 this), if_pos z, zbo_ok (Or.inr rfl)]
  · have : ¬ ((48 : Int32) ≤ (if sk T p < n then g (sk T p) else -1) ∧ (if sk T p < n then g (sk T p) else -1) ≤ 57) := by
      rw [show (48 : Int32) = nI 48 from rfl, show (57 : Int32) = nI 57 from rfl, TB_rng hT (by omega) (by omega)]
      exact fun q => z (decide_eq_true q)
    rw [zb2_eq (f_in0 this), if_neg z, zbo_ok (Or.inl rfl)]
/-- the constants' arrays are copied -/
theorem cloneE {vt t N : Nat} {ta : Nat → Nat} (h : yRd σ rd tp tl ft g n p m d) (hv : σ.1 vt = some (.inl (100 + t, N, obA (fun j => if j < N then some (ta j) else none)))) (hc : 1 ≤ zc σ ∧ N ≤ zz σ) : ∃ τ, zcloE σ vt t = some (zn σ, τ) ∧ τ.1 (zn σ) = some (.inl (t, N, obA (fun j => if j < N then some (ta j) else none))) ∧ yRd τ rd tp tl ft g n p m d ∧ Sp σ τ rd 1 N ∧ zn τ = zn σ + 1 := by
  refine ⟨(zup σ.1 (zn σ) (.inl (t, N, obA (fun j => if j < N then some (ta j) else none))), zsv σ, zbs σ, zn σ + 1, zc σ - 1, zz σ - N), ?_, if_pos rfl, Rd_keep h (fun q hq => if_neg (by omega)) rfl (Nat.le_succ _) (fun q hq => ?_), ⟨fun q hq _ => if_neg (by omega), rfl, rfl, Nat.le_succ _, ?_, ?_⟩, rfl⟩
  · unfold zcloE
    rw [hv]
    show (if 100 + t = 100 + t then znew σ (.inl (t, N, .inr (.inr (.inr (.inr (fun j => if j < N then some (ta j) else none)))))) N else none) = _
    rw [if_pos rfl]
    unfold znew
    rw [if_pos hc]
    rfl
  · have hq' : zn σ + 1 ≤ q := hq
    exact (if_neg (by omega)).trans (h.2.2.2.2.2.2.2 q (by omega))
  · show zc σ ≤ zc σ - 1 + 1; omega
  · show zz σ ≤ zz σ - N + N; omega
end ZV8
section ZV9
variable {σ σ' σ'' τ : zS} {o rd tp n p m d a b q z : Nat} {tl ft : Int32} {g : Nat → Int32} {T : Nat → Nat}
/-- a constant and a word -/
theorem f_equals2 (hL : zLit σ) {i : Nat} (hi : i < 23) {w vw L ca : Nat} {f : Nat → Int32} (hw : St9 σ w vw L f) (hLn : L ≤ 400) (hca : zk σ (100 + i) = some ca) : f_J10_equals ca (some w) σ = some (if L = (zTb i).length ∧ ∀ k, k < (zTb i).length → f k = (zTb i).getD k 0 then 1 else 0, σ) ∧ zcl σ ca = 21 := by
  obtain ⟨a, v, fc, e1, e2, e3, e4, e5, e6⟩ := hL i hi
  obtain ⟨w1, w2, w3, w4, w5⟩ := hw
  have hl := (zTb_ne i hi).2.1
  have ha : a = ca := by
    have : zsv σ (100 + i) = some ca := hca
    rw [e1] at this
    exact Option.some.inj this
  subst ha
  have hne : ¬ (some a = some w) := fun q => by have := Option.some.inj q; omega
  have c1 : zcl σ a = 21 := by unfold zcl; rw [e4]
  have cw : zcl σ w = 21 := cl_of w1 rfl
  have c2 : zckC σ (some w) 21 = true := by
    show Nat.beq (zcl σ w) 21 = true
    rw [cw]; rfl
  have gfc : gI σ a 21 1 = some 0 := by unfold gI zfld; rw [e4]; rfl
  have grc : gR σ a 21 0 = some (some v) := by unfold gR zfld; rw [e4]; rfl
  have gfw : gI σ w 21 1 = some 0 := gI_of w1 rfl rfl
  have grw : gR σ w 21 0 = some (some vw) := gR_of w1 rfl rfl
  refine ⟨?_, c1⟩
  have eq : f_J12_equals (some v) (some vw) σ = some (if L = (zTb i).length ∧ ∀ k, k < (zTb i).length → f k = (zTb i).getD k 0 then 1 else 0, σ) := by
    unfold f_J12_equals
    rw [bd_at, ybind_eq (aln_of e5), bd_at, ybind_eq (aln_of w2)]
    by_cases z : L = (zTb i).length
    · rw [if_neg (show ¬ ¬ Int32.ofNat (zTb i).length = Int32.ofNat L from fun q => q (by rw [z]))]
      have H : ∀ j k fu, k + j = (zTb i).length → j < fu → (∀ k', k' < k → f k' = (zTb i).getD k' 0) → zlp1 (f_J12_equals_9_b (some v) (some vw)) fu (nI k) σ = some (if L = (zTb i).length ∧ ∀ k, k < (zTb i).length → f k = (zTb i).getD k 0 then 1 else 0, σ) := by
        intro j
        induction j with
        | zero =>
          intro k fu h1 h2 h3
          obtain ⟨fu, rfl⟩ : ∃ f', fu = f' + 1 := ⟨fu - 1, by omega⟩
          show f_J12_equals_9_b _ _ _ _ _ = _
          unfold f_J12_equals_9_b
          rw [bd_at, ybind_eq (aln_of e5), show Int32.ofNat (zTb i).length = nI (zTb i).length from rfl, if_pos (nI_le (by omega) (by omega)), if_pos ⟨z, fun k' hk' => h3 k' (by omega)⟩]
        | succ j ih =>
          intro k fu h1 h2 h3
          obtain ⟨fu, rfl⟩ : ∃ f', fu = f' + 1 := ⟨fu - 1, by omega⟩
          show f_J12_equals_9_b (some v) (some vw) (zlp1 (f_J12_equals_9_b (some v) (some vw)) fu) _ _ = _
          have ih' := ih (k + 1) fu
          generalize zlp1 (f_J12_equals_9_b (some v) (some vw)) fu = rf at ih'
          unfold f_J12_equals_9_b
          rw [bd_at, ybind_eq (aln_of e5), show Int32.ofNat (zTb i).length = nI (zTb i).length from rfl, nleF (show k < (zTb i).length by omega) (by omega), ybind_eq (lI_of e5 (d := 1) rfl (show k < (zTb i).length by omega) (by omega)), bd_at, ybind_eq (lI_of w2 (d := 1) rfl (show k < L by omega) (by omega)), e6 k (by omega)]
          by_cases y : f k = (zTb i).getD k 0
          · rw [if_pos y.symm, zl_at, nI_1]
            exact ih' (by omega) (by omega) (fun k' hk' => by
              by_cases x : k' = k
              · rw [x]; exact y
              · exact h3 k' (by omega))
          · rw [if_neg (fun q => y q.symm), if_neg (fun q => y (q.2 k (by omega)))]
      exact H (zTb i).length 0 NN (by omega) (NN_lt (by omega)) (fun k' hk' => absurd hk' (Nat.not_lt_zero _))
    · have : ¬ Int32.ofNat (zTb i).length = Int32.ofNat L := by
        show ¬ nI (zTb i).length = nI L
        rw [nI_inj (by omega) (by omega)]; exact fun q => z q.symm
      rw [if_pos this, if_neg (fun q => z q.1)]
  have e36 : f_J10_equals_36 a (some w) σ = some (if L = (zTb i).length ∧ ∀ k, k < (zTb i).length → f k = (zTb i).getD k 0 then 1 else 0, σ) := by
    unfold f_J10_equals_36
    rw [ybind_eq grc, bd_at, ybind_eq grw, zb2_eq eq]
    by_cases z : L = (zTb i).length ∧ ∀ k, k < (zTb i).length → f k = (zTb i).getD k 0
    · rw [if_pos z, if_neg kk1]
    · rw [if_neg z, if_pos rfl]
  unfold f_J10_equals
  rw [if_pos hne, bd_at, zif_t cw, if_neg kk1, zif_t c2, if_neg kk1, ybind_eq gfc, ybind_eq gfw, if_neg kk0]
  exact e36
/-- which of the facts a word is -/
def fcW (T : Nat → Nat) (s : Nat) : Option Nat := if ywk 19 T s = true then some 0 else if ywk 20 T s = true then some 1 else if ywk 21 T s = true then some 2 else if ywk 22 T s = true then some 3 else none
theorem f_factOf (hLk : zLk σ) (h : yRd σ rd tp tl ft g n p m d) {s w vw : Nat} {f : Nat → Int32} (hw : St9 σ w vw (we T s - s) f) (hLn : we T s - s ≤ 400) (hs : s ≤ we T s) (hf : ∀ k, k < we T s - s → f k = nI (T (s + k))) (hc : 1 ≤ zc σ ∧ 4 ≤ zz σ) (hrn : rd < zn σ ∧ zbs σ ≤ zn σ ∧ zbs σ ≤ rd) : ∃ (τ : zS) (fa : Nat → Nat) (sa : Nat → Nat), f_X20_of (some w) σ = some ((fcW T s).map fa, τ) ∧ yRd τ rd tp tl ft g n p m d ∧ Sp σ τ rd 1 4 ∧ (∀ i, i < 4 → fa i < zbs σ ∧ σ.1 (fa i) = some (.inr (151, [.int (nI i), .ref (sa (fcX i))]))) := by
  obtain ⟨h0, ta, fa, vt, vf, sa, h1, h2, h3, h4, h5, h6, h7, h8, h9, h10, h11⟩ := hLk
  obtain ⟨τ, e1, e2, e3, e4, e5⟩ := cloneE (t := 5) h h9 hc
  refine ⟨τ, fa, sa, ?_, e3, e4, h11⟩
  have hA : AgP (fun _ => False) σ τ := Sp_ag e4 hrn.2.2 hrn.2.1
  have hlτ : zLit τ := (zLk_ag (P := fun _ => False) ⟨h0, ta, fa, vt, vf, sa, h1, h2, h3, h4, h5, h6, h7, h8, h9, h10, h11⟩ hA).1
  have hne : ∀ q, q < zn σ → q ≠ rd → τ.1 q = σ.1 q := e4.1
  obtain ⟨w1, w2, w3, w4, w5⟩ := hw
  have ywr : w ≠ rd := fun e => by rw [e, h.1] at w1; cases w1
  have vr : vw ≠ rd := fun e => by rw [e, h.1] at w2; cases w2
  have hwτ : St9 τ w vw (we T s - s) f := ⟨(hne w w4 ywr).trans w1, (hne vw w5 vr).trans w2, by rw [hA.2.2]; exact w3, by have := e4.2.2.2.1; omega, by have := e4.2.2.2.1; omega⟩
  have hfa : ∀ i, i < 4 → τ.1 (fa i) = some (.inr (151, [.int (nI i), .ref (sa (fcX i))])) := fun i hi => (hA.1 _ (Or.inr (h11 i hi).1)).trans (h11 i hi).2
  have hiff : ∀ i, i < 23 → ((we T s - s = (zTb i).length ∧ ∀ k, k < (zTb i).length → f k = (zTb i).getD k 0) ↔ ywk i T s = true) := by
    intro i hi
    constructor
    · rintro ⟨q1, q2⟩
      exact decide_eq_true ⟨by omega, fun k hk => by rw [← hf k (by omega)]; exact q2 k hk⟩
    · intro q
      obtain ⟨q1, q2⟩ := of_decide_eq_true q
      exact ⟨by omega, fun k hk => by rw [hf k (by omega)]; exact q2 k hk⟩
  have ck : zckA τ (some (zn σ)) 5 = true := by
    unfold zckA
    show (match τ.1 (zn σ) with
      | some (.inl (u, _)) => Nat.beq u 5
      | _ => false) = true
    rw [e2]; rfl
  have step : ∀ i, i < 4 → ∀ rf, f_X20_of_9_b (some w) (some (zn σ)) 4 rf (nI i) τ = if ywk (fcX i) T s = true then some (some (fa i), τ) else rf (nI (i + 1)) τ := by
    intro i hi rf
    have hx : fcX i < 23 := by
      rcases (show i = 0 ∨ i = 1 ∨ i = 2 ∨ i = 3 by omega) with rfl | rfl | rfl | rfl <;> decide
    have lr : lR τ (zn σ) (nI i) = some (some (fa i)) := by
      unfold lR
      rw [e2]
      show (if (3 ≤ 5 ∧ 5 ≤ 5) ∧ ¬ (nI i < 0 ∨ 4 ≤ (nI i).toNatClampNeg) then some (if (nI i).toNatClampNeg < 4 then some (fa (nI i).toNatClampNeg) else none) else none) = _
      rw [if_pos ⟨⟨by decide, by decide⟩, nI_in (by omega) (by omega)⟩, nI_clamp (by omega), if_pos hi]
    have gr : gR τ (fa i) 51 1 = some (some (sa (fcX i))) := by unfold gR zfld; rw [hfa i hi]; rfl
    have hk : zk τ (100 + fcX i) = some (sa (fcX i)) := by
      show zsv τ (100 + fcX i) = _
      rw [hA.2.1]; exact h1 _ hx
    obtain ⟨q1, q2⟩ := f_equals2 hlτ hx hwτ hLn hk
    unfold f_X20_of_9_b
    rw [show (4 : Int32) = nI 4 from rfl, nleF hi (by omega), bd_at, ybind_eq lr, bd_at, ybind_eq gr, bd_at, zif_t q2, zb2_eq q1]
    by_cases z : ywk (fcX i) T s = true
    · rw [if_pos ((hiff _ hx).mpr z), if_neg kk1, if_pos z]
    · rw [if_neg (fun q => z ((hiff _ hx).mp q)), if_pos rfl, if_neg z, zl_at, nI_1]
  have last : ∀ rf, f_X20_of_9_b (some w) (some (zn σ)) 4 rf (nI 4) τ = some (none, τ) := by
    intro rf
    unfold f_X20_of_9_b
    rw [if_pos (show (4 : Int32) ≤ nI 4 from Int32.le_refl _)]
  have val : f_X20_values σ = some (some (zn σ), τ) := by
    unfold f_X20_values
    rw [h3, zl_at, bd_at, zb2_eq e1, zif_t ck]
  unfold f_X20_of
  rw [zb2_eq val, bd_at, ybind_eq (aln_of e2)]
  have l0 : ∀ F : Nat, zlp1 (f_X20_of_9_b (some w) (some (zn σ)) 4) (F + 5) (nI 0) τ = some ((fcW T s).map fa, τ) := by
    intro F
    show f_X20_of_9_b (some w) (some (zn σ)) 4 (zlp1 _ (F + 4)) (nI 0) τ = _
    rw [step 0 (by omega)]
    unfold fcW
    by_cases z0 : ywk 19 T s = true
    · rw [if_pos (show ywk (fcX 0) T s = true from z0), if_pos z0]; rfl
    · rw [if_neg (show ¬ ywk (fcX 0) T s = true from z0), if_neg z0]
      show f_X20_of_9_b (some w) (some (zn σ)) 4 (zlp1 _ (F + 3)) (nI 1) τ = _
      rw [step 1 (by omega)]
      by_cases z1 : ywk 20 T s = true
      · rw [if_pos (show ywk (fcX 1) T s = true from z1), if_pos z1]; rfl
      · rw [if_neg (show ¬ ywk (fcX 1) T s = true from z1), if_neg z1]
        show f_X20_of_9_b (some w) (some (zn σ)) 4 (zlp1 _ (F + 2)) (nI 2) τ = _
        rw [step 2 (by omega)]
        by_cases z2 : ywk 21 T s = true
        · rw [if_pos (show ywk (fcX 2) T s = true from z2), if_pos z2]; rfl
        · rw [if_neg (show ¬ ywk (fcX 2) T s = true from z2), if_neg z2]
          show f_X20_of_9_b (some w) (some (zn σ)) 4 (zlp1 _ (F + 1)) (nI 3) τ = _
          rw [step 3 (by omega)]
          by_cases z3 : ywk 22 T s = true
          · rw [if_pos (show ywk (fcX 3) T s = true from z3), if_pos z3]; rfl
          · rw [if_neg (show ¬ ywk (fcX 3) T s = true from z3), if_neg z3]
            show f_X20_of_9_b (some w) (some (zn σ)) 4 (zlp1 _ F) (nI 4) τ = _
            rw [last]; rfl
  exact l0 99995
end ZV9
