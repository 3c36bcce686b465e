/-! pure land: H4 H5 H6 (see wip/D-94657w/pl) -/
section ZAA
variable {σ σ' τ : zS}
/-- a copy of a list's elements -/
theorem toArray_spec {l e n cap u m0 : Nat} {mc : Int32} {a : Nat → Nat} (hl : σ.1 l = some (.inr (19, [.int mc, .ref e, .int (nI n)]))) (he : σ.1 e = some (.inl (u, cap, obA (lsA n a)))) (hu : u = 3 ∨ u = 103) (hn : n ≤ cap) (hc : cap ≤ 90) (hbz : zbs σ ≤ zn σ) (hen : e < zn σ) (ha : ∀ i, i < n → zob σ (some (a i)) = true ∧ a i < zn σ) (h0 : zk σ 0 = some m0) (hr : 1 ≤ zc σ ∧ 90 ≤ zz σ) :
    ∃ σ', f_J2_toArray l σ = some (some (zn σ), σ') ∧ (∀ q, σ'.1 q = if q = zn σ then some (.inl (3, n, obA (lsA n a))) else σ.1 q) ∧ zsv σ' = zsv σ ∧ zbs σ' = zbs σ ∧ zn σ' = zn σ + 1 ∧ zc σ' = zc σ - 1 ∧ zz σ' = zz σ - n := by
  let T : zS := (zup σ.1 (zn σ) (.inl (3, n, obA (fun _ => none))), zsv σ, zbs σ, zn σ + 1, zc σ - 1, zz σ - n)
  have Te : T.1 e = some (.inl (u, cap, obA (lsA n a))) := (if_neg (by omega)).trans he
  have Tn : T.1 (zn σ) = some (.inl (3, n, obA (fun _ => none))) := if_pos rfl
  have Tob : ∀ i, i < n → zob T (lsA n a i) = true := by
    intro i hi
    obtain ⟨o1, o2⟩ := ha i hi
    have e1 : lsA n a i = some (a i) := if_pos hi
    rw [e1]
    show (match (if a i = zn σ then _ else σ.1 (a i)) with
      | some (.inr (c, _)) => Nat.blt c 22
      | _ => false) = true
    rw [if_neg (by omega)]
    exact o1
  have c1 : zcpy T e 0 (zn σ) 0 (zmin (nI cap) (nI n)) = some (zset T (zn σ) (.inl (3, n, obA (lsA n a)))) := by
    rw [zmin_nI (by omega) (by omega), Nat.min_eq_right (by omega)]
    unfold zcpy
    rw [Te, Tn]
    show (if u % 100 = 3 ∧ 3 = 3 ∧ ¬ (0 : Int32) < 0 ∧ ¬ (0 : Int32) < 0 ∧ ¬ nI n < 0 ∧ (0 : Int32).toNatClampNeg + (nI n).toNatClampNeg ≤ cap ∧ (0 : Int32).toNatClampNeg + (nI n).toNatClampNeg ≤ n ∧ zbs σ ≤ zn σ ∧ ((List.range (nI n).toNatClampNeg).all fun i => zob T (lsA n a ((0 : Int32).toNatClampNeg + i))) = true then _ else none) = _
    have hz0 : (0 : Int32).toNatClampNeg = 0 := rfl
    rw [nI_clamp (by omega), hz0, if_pos ⟨by omega, rfl, by decide, by decide, nI_pos (by omega), by omega, by omega, hbz, List.all_eq_true.mpr fun i hi => by rw [Nat.zero_add]; exact Tob i (List.mem_range.mp hi)⟩]
    have : va_cpy (lsA n a) (fun _ => none) 0 0 n = lsA n a := by
      funext i
      show (if 0 ≤ i ∧ i < 0 + n then lsA n a (0 + (i - 0)) else none) = lsA n a i
      by_cases q : i < n
      · rw [if_pos ⟨Nat.zero_le _, by omega⟩, Nat.zero_add, Nat.sub_zero]
      · rw [if_neg (fun w => q (by omega))]
        exact (if_neg q).symm
    rw [this]
    rfl
  have k3 : zckA σ (some e) 3 = true ∨ zckA σ (some e) 103 = true := by
    rcases hu with rfl | rfl
    · refine Or.inl ?_
      unfold zckA
      show (match σ.1 e with
        | some (.inl (u, _)) => _
        | _ => _) = true
      rw [he]
      rfl
    · refine Or.inr ?_
      unfold zckA
      show (match σ.1 e with
        | some (.inl (u, _)) => _
        | _ => _) = true
      rw [he]
      rfl
  refine ⟨zset T (zn σ) (.inl (3, n, obA (lsA n a))), ?_, fun q => ?_, rfl, rfl, rfl, rfl, rfl⟩
  · unfold f_J2_toArray f_J7_copyOf f_J7_copyOf_2
    rw [ybind_eq (gR_of hl (q := some e) rfl rfl), ybind_eq (gI_of hl (v := nI n) rfl rfl), bd_at, if_pos k3, h0, bd_at, bd_at, if_neg (fun q => q rfl), znewR_at (by omega) ⟨hr.1, by omega⟩, zb2_at, bd_at, ybind_eq (aln_of Te)]
    have c1' : zcpy (zup σ.1 (zn σ) (.inl (3, n, obA (fun _ => none))), zsv σ, zbs σ, zn σ + 1, zc σ - 1, zz σ - n) e 0 (zn σ) 0 (zmin (Int32.ofNat cap) (nI n)) = some (zset T (zn σ) (.inl (3, n, obA (lsA n a)))) := c1
    rw [ybind_eq c1', zb2_at, zb2_at]
  · show (if q = zn σ then _ else if q = zn σ then _ else σ.1 q) = _
    by_cases z : q = zn σ
    · rw [if_pos z, if_pos z]
    · rw [if_neg z, if_neg z, if_neg z]
/-- all of a list to an empty list that has no array yet -/
theorem addAll_spec {l s e d n cap u m0 : Nat} {mc : Int32} {a : Nat → Nat} (hl : σ.1 l = some (.inr (19, [.int 0, .ref d, .int (nI 0)]))) (hbl : zbs σ ≤ l) (hln : l < zn σ) (hls : l ≠ s) (hd : zk σ 1 = some d) (hdc : σ.1 d = some (.inl (103, 0, obA (fun _ => none)))) (hdb : d < zbs σ)
    (hs : σ.1 s = some (.inr (19, [.int mc, .ref e, .int (nI n)]))) (he : σ.1 e = some (.inl (u, cap, obA (lsA n a)))) (hu : u = 3 ∨ u = 103) (hn : n ≤ cap) (hc : cap ≤ 90) (hbz : zbs σ ≤ zn σ) (hen : e < zn σ) (ha : ∀ i, i < n → zob σ (some (a i)) = true ∧ a i < zn σ) (h0 : zk σ 0 = some m0) (hr : 2 ≤ zc σ ∧ 180 ≤ zz σ) :
    ∃ σ' r, f_J2_addAll l (some s) σ = some (r, σ') ∧ (∀ q, σ'.1 q = if q = l then some (.inr (19, [.int 1, .ref (if n = 0 then d else zn σ + 1), .int (nI n)])) else if q = zn σ then some (.inl (3, n, obA (lsA n a))) else if q = zn σ + 1 ∧ n ≠ 0 then some (.inl (3, max 10 n, obA (lsA n a))) else σ.1 q) ∧ zsv σ' = zsv σ ∧ zbs σ' = zbs σ ∧ zn σ' = (if n = 0 then zn σ + 1 else zn σ + 2) ∧ zc σ ≤ zc σ' + 2 ∧ zz σ ≤ zz σ' + 180 := by
  obtain ⟨τ, t1, t2, t3, t4, t5, t6, t7⟩ := toArray_spec hs he hu hn hc hbz hen ha h0 ⟨by omega, by omega⟩
  have tl : τ.1 l = some (.inr (19, [.int 0, .ref d, .int (nI 0)])) := by rw [t2, if_neg (by omega)]; exact hl
  let τ1 : zS := zset τ l (.inr (19, [.int 1, .ref d, .int (nI 0)]))
  have p1 : pI τ l 19 0 (0 + 1) = some τ1 := pF_of tl (Nat.le_of_ble_eq_true rfl) (by rw [t4]; exact hbl)
  have q1 : τ1.1 l = some (.inr (19, [.int 1, .ref d, .int (nI 0)])) := zs_at
  have q2 : τ1.1 (zn σ) = some (.inl (3, n, obA (lsA n a))) := by
    show (if zn σ = l then _ else τ.1 (zn σ)) = _
    rw [if_neg (by omega), t2, if_pos rfl]
  have q3 : τ1.1 d = some (.inl (103, 0, obA (fun _ => none))) := by
    show (if d = l then _ else τ.1 d) = _
    rw [if_neg (by omega), t2, if_neg (by omega)]; exact hdc
  by_cases n0 : n = 0
  · refine ⟨τ1, 0, ?_, fun q => ?_, t3, t4, ?_, ?_, ?_⟩
    · unfold f_J2_addAll
      have zr : nI n = 0 := by rw [n0]; rfl
      rw [bd_at, zif_t (cl_of hs rfl), zb2_eq t1, ybind_eq (gI_of tl (v := 0) rfl rfl), ybind_eq p1, bd_at, ybind_eq (aln_of q2), if_neg (fun q => q zr)]
    · show (if q = l then _ else τ.1 q) = _
      by_cases z : q = l
      · rw [if_pos z, if_pos z, if_pos n0, n0]
      · rw [if_neg z, if_neg z, t2, if_neg (c := q = zn σ + 1 ∧ n ≠ 0) (fun w => w.2 n0)]
    · show zn τ = _; rw [if_pos n0, t5]
    · show zc σ ≤ zc τ + 2; omega
    · show zz σ ≤ zz τ + 180; omega
  · -- it grows
    have hn2 : n ≤ 90 := by omega
    have nz : ¬ Int32.ofNat n = 0 := fun w => n0 ((nI_eq (a := n) (b := 0) (by omega) (by omega)).mp w)
    have ymx : zmax 10 (nI 0 + nI n) = nI (max 10 n) := by
      rw [show nI 0 + nI n = nI n from by rw [nI_add]; rw [Nat.zero_add]]
      exact zmax_nI (a := 10) (by omega) (by omega)
    let T : zS := (zup τ1.1 (zn τ1) (.inl (3, max 10 n, obA (fun _ => none))), zsv τ1, zbs τ1, zn τ1 + 1, zc τ1 - 1, zz τ1 - max 10 n)
    have n1 : zn τ1 = zn σ + 1 := t5
    have T1 : T.1 l = some (.inr (19, [.int 1, .ref d, .int (nI 0)])) := (if_neg (by omega)).trans q1
    let T2 : zS := zset T l (.inr (19, [.int 1, .ref (zn σ + 1), .int (nI 0)]))
    have g : f_J2_grow_2 l (nI 0 + nI n) τ1 = some (some (zn σ + 1), T2) := by
      unfold f_J2_grow_2
      have hr' : 1 ≤ zc τ1 ∧ max 10 n ≤ zz τ1 := ⟨by show 1 ≤ zc τ; omega, by show max 10 n ≤ zz τ; omega⟩
      have kd : zk τ1 1 = some d := by show zsv τ 1 = _; rw [t3]; exact hd
      have pr : pR T l 19 1 (some (zn σ + 1)) = some T2 := pF_of T1 (Nat.le_of_ble_eq_true rfl) (by show zbs τ ≤ l; rw [t4]; exact hbl)
      have e9 : znewR τ1 (zmax 10 (nI 0 + nI n)) = some (zn σ + 1, T) := by
        rw [ymx]
        exact (znewR_at (by omega) hr').trans (congrArg some (Prod.ext n1 rfl))
      rw [ybind_eq (gR_of q1 (q := some d) rfl rfl), bd_at, ybind_eq (aln_of q3), if_neg (by decide), ybind_eq (gR_of q1 (q := some d) rfl rfl), kd, zl_at, if_pos rfl, zb2_eq e9, ybind_eq pr]
    have T2a : T2.1 (zn σ) = some (.inl (3, n, obA (lsA n a))) := by
      show (if zn σ = l then _ else if zn σ = zn τ1 then _ else τ1.1 (zn σ)) = _
      rw [if_neg (by omega), if_neg (by omega)]; exact q2
    have T2b : T2.1 (zn σ + 1) = some (.inl (3, max 10 n, obA (fun _ => none))) := by
      show (if zn σ + 1 = l then _ else if zn σ + 1 = zn τ1 then _ else τ1.1 _) = _
      rw [if_neg (by omega), if_pos (by omega)]
    have Tob : ∀ i, i < n → zob T2 (lsA n a i) = true := by
      intro i hi
      obtain ⟨o1, o2⟩ := ha i hi
      have e1 : lsA n a i = some (a i) := if_pos hi
      rw [e1]
      show (match (if a i = l then _ else if a i = zn τ1 then _ else if a i = l then _ else τ.1 (a i)) with
        | some (.inr (c, _)) => Nat.blt c 22
        | _ => false) = true
      by_cases z : a i = l
      · rw [if_pos z]; rfl
      · rw [if_neg z, if_neg (by omega), if_neg z, t2, if_neg (by omega)]
        exact o1
    let T3 : zS := zset T2 (zn σ + 1) (.inl (3, max 10 n, obA (lsA n a)))
    have c1 : zcpy T2 (zn σ) 0 (zn σ + 1) (nI 0) (nI n) = some T3 := by
      unfold zcpy
      rw [T2a, T2b]
      show (if 3 % 100 = 3 ∧ 3 = 3 ∧ ¬ (0 : Int32) < 0 ∧ ¬ nI 0 < 0 ∧ ¬ nI n < 0 ∧ (0 : Int32).toNatClampNeg + (nI n).toNatClampNeg ≤ n ∧ (nI 0).toNatClampNeg + (nI n).toNatClampNeg ≤ max 10 n ∧ zbs τ ≤ zn σ + 1 ∧ ((List.range (nI n).toNatClampNeg).all fun i => zob T2 (lsA n a ((0 : Int32).toNatClampNeg + i))) = true then _ else none) = _
      have hz0 : (0 : Int32).toNatClampNeg = 0 := rfl
      have hz1 : (nI 0).toNatClampNeg = 0 := rfl
      have hz2 : ¬ (0 : Int32) < 0 := by decide
      have hz3 : ¬ nI 0 < 0 := by decide
      have hz4 : zbs τ ≤ zn σ + 1 := by rw [t4]; omega
      have hz5 : ((List.range n).all fun i => zob T2 (lsA n a (0 + i))) = true := List.all_eq_true.mpr fun i hi => by rw [Nat.zero_add]; exact Tob i (List.mem_range.mp hi)
      have hall : 3 % 100 = 3 ∧ 3 = 3 ∧ ¬ (0 : Int32) < 0 ∧ ¬ nI 0 < 0 ∧ ¬ nI n < 0 ∧ 0 + n ≤ n ∧ 0 + n ≤ max 10 n ∧ zbs τ ≤ zn σ + 1 ∧ ((List.range n).all fun i => zob T2 (lsA n a (0 + i))) = true := ⟨rfl, rfl, hz2, hz3, nI_pos (by omega), by omega, by omega, hz4, hz5⟩
      rw [nI_clamp (by omega), hz0, hz1]
      refine (if_pos hall).trans ?_
      have : va_cpy (lsA n a) (fun _ => none) 0 0 n = lsA n a := by
        funext i
        show (if 0 ≤ i ∧ i < 0 + n then lsA n a (0 + (i - 0)) else none) = lsA n a i
        by_cases q : i < n
        · rw [if_pos ⟨Nat.zero_le _, by omega⟩, Nat.zero_add, Nat.sub_zero]
        · rw [if_neg (fun w => q (by omega))]
          exact (if_neg q).symm
      rw [this]
      rfl
    have T3l : T3.1 l = some (.inr (19, [.int 1, .ref (zn σ + 1), .int (nI 0)])) := by
      show (if l = zn σ + 1 then _ else if l = l then _ else _) = _
      rw [if_neg (by omega), if_pos rfl]
    have p2 : pI T3 l 19 2 (nI 0 + nI n) = some (zset T3 l (.inr (19, [.int 1, .ref (zn σ + 1), .int (nI 0 + nI n)]))) := pF_of T3l (Nat.le_of_ble_eq_true rfl) (by show zbs τ ≤ l; rw [t4]; exact hbl)
    have e56 : f_J2_addAll_56 l (some (zn σ)) (nI n) (some (zn σ + 1)) (nI 0) T2 = some (1, zset T3 l (.inr (19, [.int 1, .ref (zn σ + 1), .int (nI 0 + nI n)]))) := by
      unfold f_J2_addAll_56
      rw [bd_at, bd_at, ybind_eq c1, ybind_eq p2]
    refine ⟨zset T3 l (.inr (19, [.int 1, .ref (zn σ + 1), .int (nI 0 + nI n)])), 1, ?_, fun q => ?_, t3, t4, ?_, ?_, ?_⟩
    · unfold f_J2_addAll
      have hle : ¬ Int32.ofNat n ≤ (Int32.ofNat 0) - nI 0 := nI_nle (n := n) (by omega) (by omega)
      have g' : f_J2_grow_2 l (nI 0 + Int32.ofNat n) τ1 = some (some (zn σ + 1), T2) := g
      rw [bd_at, zif_t (cl_of hs rfl), zb2_eq t1, ybind_eq (gI_of tl (v := 0) rfl rfl), ybind_eq p1, bd_at, ybind_eq (aln_of q2), if_pos nz, ybind_eq (gR_of q1 (q := some d) rfl rfl), bd_at, ybind_eq (aln_of q3), ybind_eq (gI_of q1 (k := 2) (v := nI 0) rfl rfl), if_neg hle, zif_t (cl_of q1 rfl), zb2_eq g']
      exact e56
    · show (if q = l then _ else if q = zn σ + 1 then _ else if q = l then _ else if q = zn τ1 then _ else if q = l then _ else τ.1 q) = _
      have en : nI 0 + nI n = nI n := by rw [nI_add, Nat.zero_add]
      by_cases z : q = l
      · rw [if_pos z, if_pos z, if_neg n0, en]
      · rw [if_neg z, if_neg z, if_neg z, if_neg z, t2]
        by_cases y : q = zn σ + 1
        · rw [if_pos y, if_neg (by omega), if_pos ⟨y, n0⟩]
        · rw [if_neg y, if_neg (by omega)]
          by_cases x : q = zn σ
          · rw [if_pos x, if_pos x]
          · rw [if_neg x, if_neg x, if_neg (fun w => y w.1)]
    · show zn τ1 + 1 = _; rw [if_neg n0, n1]
    · show zc σ ≤ zc τ - 1 + 2; omega
    · show zz σ ≤ zz τ - max 10 n + 180; omega
end ZAA
/-- the numbers of a copy: the debts behind the eighth are not copied -/
def cpU (U : cU) : cU := (U.1, fun t => if t = 0 then va_cpy (U.2 0) (fun _ => 0) 0 0 8 else U.2 t)
section ZCE
variable {σ0 σ σ' τ : zS} {A A' D D' : cA} {N N' Nt : Nat → Nat} {U U' U'' : cU} {S : Nat → Prop} {c : Nat} {M M' : mS} {a b : Nat}
theorem cpU_t {t : Nat} (h : t ≠ 0) : (cpU U).2 t = U.2 t := if_neg h
theorem cpU_1 : (cpU U).1 = U.1 := rfl
theorem cpU_0 {k : Nat} (h : k < 8) : (cpU U).2 0 k = U.2 0 k := by
  show (if 0 ≤ k ∧ k < 0 + 8 then U.2 0 (0 + (k - 0)) else 0) = _
  rw [if_pos ⟨Nat.zero_le _, by omega⟩, Nat.zero_add, Nat.sub_zero]
theorem Wd_list {j : Nat} (j1 : 1 ≤ j) (j4 : j ≤ 4) (yW : yWd σ A N U) : σ.1 (aad A (11 + j)) = some (.inr (19, [.int (amc A j), .ref (aer A j), .int (nI (N j))])) := (yW.1 (11 + j) (Or.inr (Or.inr (by omega))) (Or.inl (by omega))).2.2.trans (cCt_ls j1 j4)
/-- the offers are taken over -/
theorem copy_offers {d : Nat} (E : yEv σ0) (hbz : zbs σ0 ≤ zn σ0) (W0 : yWd σ0 A N U) (yW : CP σ0 σ D Nt U' a b) (hU : U'.2 3 = U.2 3) (h3 : Nt 3 = 0) (hN : ∀ k, k ≠ 3 → Nt k = N k) (he : aer D 3 = d) (hz : zow D 3 = false) (hm : amc D 3 = 0) (hd : zk σ0 1 = some d) (hc : 2 ≤ zc σ ∧ 180 ≤ zz σ) :
    ∃ σ' D', copy_end (aad A 1) (aad D 1) σ = some (some (aad D 1), σ') ∧ yWd σ' D' N U' ∧ (∀ r, wrl r → zal N (zow D') r → (zn σ0 ≤ aad D' r ∧ ¬ (300 ≤ r ∧ r < 400)) ∨ (300 ≤ r ∧ r < 400 ∧ aad D' r = aad A r)) ∧ (∀ q, q < zn σ0 → σ'.1 q = σ0.1 q) ∧ zsv σ' = zsv σ0 ∧ zbs σ' = zbs σ0 ∧ zn σ0 ≤ zn σ' ∧ (∀ q, zn σ' ≤ q → σ'.1 q = none) ∧ zc σ0 ≤ zc σ' + (a + 2) ∧ zz σ0 ≤ zz σ' + (b + 180) ∧ aad D' 1 = aad D 1 ∧ arf D' = arf D := by
  have Ws : yWd σ A N U := CP_src W0 yW
  obtain ⟨w1, w2, w3, w4, w5, w6, w7, w8, w9⟩ := yW
  obtain ⟨⟨m0, hm0⟩, hd1⟩ := E
  obtain ⟨dd1, dd2⟩ := hd1 d hd
  have hl : σ.1 (aad D 14) = some (.inr (19, [.int 0, .ref d, .int (nI 0)])) := by
    have := Wd_list (j := 3) (by omega) (by omega) w1
    rw [he, hm, h3] at this
    exact this
  have hs := Wd_list (j := 3) (by omega) (by omega) Ws
  have zl3 : zal N (zow A) 14 := Or.inl (by omega)
  have zD : ∀ r, r < 16 → zal Nt (zow D) r := fun r h => Or.inl h
  have ll := w1.1 14 (Or.inr (Or.inr (by omega))) (zD 14 (by omega))
  have lg := w2 14 (Or.inr (Or.inr (by omega))) (zD 14 (by omega))
  have sl := (W0.1 14 (Or.inr (Or.inr (by omega))) zl3).2.1
  have N60 := (W0.2.2 3 (by omega) (by omega)).1
  have hel : ∀ i, i < N 3 → zal N (zow A) (300 + i) ∧ wrl (300 + i) := fun i hi => ⟨Or.inr (Or.inr ⟨3, i, by omega, by omega, hi, by omega, rfl⟩), Or.inr (Or.inr (by omega))⟩
  have hob : ∀ i, i < N 3 → zob σ (some (aad A (300 + i))) = true ∧ aad A (300 + i) < zn σ := by
    intro i hi
    obtain ⟨x1, x2⟩ := hel i hi
    obtain ⟨q1, q2, q3⟩ := Ws.1 _ x2 x1
    obtain ⟨c, fs, y1, y2⟩ := cEl_obj (A := A) (U := U) (j := 3) (by omega) (by omega) hi
    have e3 : cCt A (U.1, U.2, N) (300 + i) = cEl A (U.1, U.2, N) 3 i := cEl_at (j := 3) (i := i) (by omega) (by omega)
    rw [e3] at q3
    exact ⟨zob_of (q3.trans y1) y2, q2⟩
  obtain ⟨u, cap, hsa, hu, hcap, hc90, hen⟩ : ∃ u cap, σ.1 (aer A 3) = some (.inl (u, cap, obA (lsA (N 3) (fun i => aad A (300 + i))))) ∧ (u = 3 ∨ u = 103) ∧ N 3 ≤ cap ∧ cap ≤ 90 ∧ aer A 3 < zn σ := by
    rcases (W0.2.2 3 (by omega) (by omega)).2 with ⟨o1, o2, o3, o4⟩ | ⟨o1, o2, o3⟩
    · obtain ⟨e1, e2, e3⟩ := Ws.1 18 (Or.inr (Or.inr (by omega))) (Or.inr (Or.inl ⟨3, by omega, by omega, rfl, decide_eq_true o1⟩))
      have o1' : aer A 3 = aad A 18 := o1
      refine ⟨3, acap A 3, ?_, Or.inl rfl, o2, o4, by rw [o1']; exact e2⟩
      rw [o1', e3]
      exact (cCt_ea (j := 3) (by omega) (by omega)).trans (if_pos o1)
    · rw [hd] at o3
      have od := Option.some.inj o3
      refine ⟨103, 0, ?_, Or.inr rfl, by omega, by omega, by omega⟩
      rw [← od, w3 d (by omega), dd2, o2]
      have e0 : (fun _ => none : Nat → Option Nat) = lsA 0 (fun i => aad A (300 + i)) := funext fun i => (if_neg (Nat.not_lt_zero i)).symm
      rw [e0]
  have kd : zk σ 1 = some d := by show zsv σ 1 = _; rw [w4]; exact hd
  have k0 : zk σ 0 = some m0 := by show zsv σ 0 = _; rw [w4]; exact hm0
  have hls : aad D 14 ≠ aad A (11 + 3) := fun e => by
    have g1 : zn σ0 ≤ aad D 14 := lg
    have g2 : aad A (11 + 3) < zn σ0 := sl
    rw [e] at g1
    exact absurd g2 (Nat.not_lt.mpr g1)
  obtain ⟨σ', r, a1, a2, a3, a4, a5, a6, a7⟩ := addAll_spec (a := fun i => aad A (300 + i)) hl ll.1 ll.2.1 hls kd (by rw [w3 d (by omega)]; exact dd2) (by rw [w5]; exact dd1) hs hsa hu hcap hc90 (by omega) hen hob k0 hc
  have n1 : zn σ + 1 ≤ zn σ' ∧ (N 3 ≠ 0 → zn σ' = zn σ + 2) ∧ zn σ' ≤ zn σ + 2 := by
    by_cases z : N 3 = 0
    · rw [if_pos z] at a5; omega
    · rw [if_neg z] at a5; omega
  let ad : Nat → Nat := fun r => if r = 18 ∧ N 3 ≠ 0 then zn σ + 1 else if 300 ≤ r ∧ r < 400 then aad A r else aad D r
  let er : Nat → Nat := fun k => if k = 3 then (if N 3 = 0 then d else zn σ + 1) else aer D k
  let cp : Nat → Nat := fun k => if k = 3 then max 10 (N 3) else acap D k
  let mc : Nat → Int32 := fun k => if k = 3 then 1 else amc D k
  let D' : cA := (ad, ainv D, er, cp, mc, arf D)
  have ad16 : ∀ r, r < 16 → ad r = aad D r := fun r h => by
    show (if r = 18 ∧ N 3 ≠ 0 then zn σ + 1 else if 300 ≤ r ∧ r < 400 then aad A r else aad D r) = _
    rw [if_neg (by omega), if_neg (by omega)]
  have ado : ∀ r, r ≠ 18 → ¬ (300 ≤ r ∧ r < 400) → ad r = aad D r := fun r h h' => by
    show (if r = 18 ∧ N 3 ≠ 0 then zn σ + 1 else if 300 ≤ r ∧ r < 400 then aad A r else aad D r) = _
    rw [if_neg (fun q => h q.1), if_neg h']
  have ad3 : ∀ i, i < 100 → ad (300 + i) = aad A (300 + i) := fun i h => by
    show (if 300 + i = 18 ∧ N 3 ≠ 0 then zn σ + 1 else if 300 ≤ 300 + i ∧ 300 + i < 400 then aad A (300 + i) else aad D (300 + i)) = _
    rw [if_neg (by omega), if_pos (by omega)]
  have ad18 : N 3 ≠ 0 → ad 18 = zn σ + 1 := fun h => if_pos ⟨rfl, h⟩
  have ad18' : N 3 = 0 → ad 18 = aad D 18 := fun h => by
    show (if 18 = 18 ∧ N 3 ≠ 0 then zn σ + 1 else if 300 ≤ 18 ∧ 18 < 400 then aad A 18 else aad D 18) = _
    rw [if_neg (fun q => q.2 h), if_neg (by omega)]
  have zo3 : zow D' 3 = true → N 3 ≠ 0 := by
    intro h h0
    have h' : er 3 = ad 18 := of_decide_eq_true h
    rw [ad18' h0] at h'
    have e3 : er 3 = d := by
      show (if 3 = 3 then (if N 3 = 0 then d else zn σ + 1) else aer D 3) = d
      rw [if_pos rfl, if_pos h0]
    rw [e3] at h'
    have : zow D 3 = true := decide_eq_true (by rw [he]; exact h')
    rw [hz] at this
    cases this
  have zk' : ∀ k, k ≠ 3 → 1 ≤ k → k ≤ 4 → zow D' k = zow D k := by
    intro k hk k1 k4
    show decide ((if k = 3 then (if N 3 = 0 then d else zn σ + 1) else aer D k) = ad (15 + k)) = decide (aer D k = aad D (15 + k))
    rw [if_neg hk, ado _ (by omega) (by omega)]
  have old : ∀ r, wrl r → zal N (zow D') r → (r = 18 ∧ N 3 ≠ 0) ∨ (∃ i, i < N 3 ∧ r = 300 + i) ∨ (r ≠ 18 ∧ ¬ (300 ≤ r ∧ r < 400) ∧ zal Nt (zow D) r) := by
    intro r hw hr
    rcases hr with h | ⟨k, k1, k4, rfl, h⟩ | ⟨k, i, k1, k4, hi, h100, rfl⟩
    · exact Or.inr (Or.inr ⟨by omega, by omega, Or.inl h⟩)
    · by_cases z : k = 3
      · subst z; exact Or.inl ⟨rfl, zo3 h⟩
      · rw [zk' k z k1 k4] at h
        exact Or.inr (Or.inr ⟨by omega, by omega, Or.inr (Or.inl ⟨k, k1, k4, rfl, h⟩)⟩)
    · by_cases z : k = 3
      · subst z; exact Or.inr (Or.inl ⟨i, hi, rfl⟩)
      · exact Or.inr (Or.inr ⟨by omega, by omega, Or.inr (Or.inr ⟨k, i, k1, k4, by rw [hN k z]; exact hi, h100, rfl⟩)⟩)
  have mem : ∀ q, q ≠ aad D 14 → q < zn σ → σ'.1 q = σ.1 q := fun q h1 h2 => by
    rw [a2, if_neg h1, if_neg (by omega), if_neg (by omega)]
  have l14 : wrl 14 := Or.inr (Or.inr (by omega))
  refine ⟨σ', D', ?_, ⟨fun r hw hr => ?_, fun r r' hw hw' hr hr' e => ?_, fun k k1 k4 => ?_⟩, fun r hw hr => ?_, fun q hq => ?_, a3.trans w4, a4.trans w5, by omega, fun q hq => ?_, by omega, by omega, ad16 1 (by omega), rfl⟩
  · unfold copy_end
    rw [ybind_eq (gR_of (Wd_1 w1) (k := 10) (q := some (aad D 14)) rfl rfl), ybind_eq (gR_of (Wd_1 Ws) (k := 10) (q := some (aad A 14)) rfl rfl), bd_at, zif_t (cl_of hl rfl)]
    have a1' : f_J2_addAll (aad D 14) (some (aad A 14)) σ = some (r, σ') := a1
    rw [zb2_eq a1']
  · show zbs σ' ≤ ad r ∧ ad r < zn σ' ∧ σ'.1 (ad r) = cCt D' (U'.1, U'.2, N) r
    rcases old r hw hr with ⟨rfl, h0⟩ | ⟨i, hi, rfl⟩ | ⟨h1, h2, h3'⟩
    · rw [ad18 h0]
      refine ⟨by omega, by have := n1.2.1 h0; omega, ?_⟩
      rw [a2, if_neg (by have := ll.2.1; show ¬ zn σ + 1 = aad D (11 + 3); have : aad D (11 + 3) < zn σ := ll.2.1; omega), if_neg (by omega), if_pos ⟨rfl, h0⟩, show cCt D' (U'.1, U'.2, N) 18 = cEa D' (U'.1, U'.2, N) 3 from cCt_ea (j := 3) (by omega) (by omega)]
      unfold cEa
      have e3 : er 3 = ad (15 + 3) := by
        show (if 3 = 3 then (if N 3 = 0 then d else zn σ + 1) else aer D 3) = ad 18
        rw [if_pos rfl, if_neg h0, ad18 h0]
      have ef : (fun i => if i < N 3 then some (ad (100 * 3 + i)) else none) = lsA (N 3) (fun i => aad A (300 + i)) := by
        funext i
        show _ = if i < N 3 then some (aad A (300 + i)) else none
        by_cases z : i < N 3
        · rw [if_pos z, if_pos z]; exact congrArg some (ad3 i (by omega))
        · rw [if_neg z, if_neg z]
      show _ = (if er 3 = ad (15 + 3) then some (Sum.inl (3, cp 3, Sum.inr (Sum.inr (Sum.inr (Sum.inr (fun i => if i < N 3 then some (ad (100 * 3 + i)) else none)))))) else none)
      rw [if_pos e3, ef]
      rfl
    · obtain ⟨x1, x2⟩ := hel i hi
      obtain ⟨q1, q2, q3⟩ := W0.1 _ x2 x1
      rw [ad3 i (by omega)]
      refine ⟨by rw [a4, w5]; exact q1, by omega, ?_⟩
      rw [mem _ (by have : zn σ0 ≤ aad D 14 := lg; omega) (by omega), w3 _ q2, q3, show cCt A (U.1, U.2, N) (300 + i) = cEl A (U.1, U.2, N) 3 i from cEl_at (j := 3) (by omega) (by omega), show cCt D' (U'.1, U'.2, N) (300 + i) = cEl D' (U'.1, U'.2, N) 3 i from cEl_at (j := 3) (by omega) (by omega)]
      unfold cEl
      show (if i < N 3 then some (Sum.inr (10, [Value.int (U.2 3 (2 * i)), .int (U.2 3 (2 * i + 1))])) else none) = (if i < N 3 then some (Sum.inr (10, [Value.int (U'.2 3 (2 * i)), .int (U'.2 3 (2 * i + 1))])) else none)
      rw [hU]
    · obtain ⟨q1, q2, q3⟩ := w1.1 r hw h3'
      rw [ado r h1 h2]
      refine ⟨by rw [a4]; exact q1, by omega, ?_⟩
      by_cases z : r = 14
      · subst z
        rw [a2, if_pos rfl]
        show _ = some (Sum.inr (19, [Value.int (mc 3), .ref (er 3), .int (Int32.ofNat (N 3))]))
        have e3 : er 3 = if N 3 = 0 then d else zn σ + 1 := if_pos rfl
        have e1 : mc 3 = 1 := if_pos rfl
        rw [e3, e1]
        rfl
      · have hne : aad D r ≠ aad D 14 := fun e => z (w1.2.1 r 14 hw l14 h3' (Or.inl (by omega)) e)
        rw [mem _ hne q2, q3]
        exact (cCt_agree (A := D) (N := Nt) (N' := N) (iv := ainv D) (j := 3) (by omega) (by omega) ad16 (fun k k1 k4 hk => ⟨if_neg hk, if_neg hk, if_neg hk, ado _ (by omega) (by omega), (hN k hk).symm, fun i hi => ado _ (by have := (w1.2.2 k k1 k4).1; omega) (by have := (w1.2.2 k k1 k4).1; omega)⟩) rfl (by rw [h3]; exact Nat.zero_le _) r z h1 (zal_some h3')).symm
  · have e : ad r = ad r' := e
    rcases old r hw hr with ⟨rfl, h0⟩ | ⟨i, hi, rfl⟩ | ⟨h1, h2, h3'⟩ <;> rcases old r' hw' hr' with ⟨rfl, h0'⟩ | ⟨i', hi', rfl⟩ | ⟨h1', h2', h3''⟩
    · rfl
    · rw [ad18 h0, ad3 i' (by omega)] at e; have := (hob i' hi').2; omega
    · rw [ad18 h0, ado r' h1' h2'] at e; have := (w1.1 r' hw' h3'').2.1; omega
    · rw [ad18 h0', ad3 i (by omega)] at e; have := (hob i hi).2; omega
    · rw [ad3 i (by omega), ad3 i' (by omega)] at e
      exact W0.2.1 _ _ (hel i hi).2 (hel i' hi').2 (hel i hi).1 (hel i' hi').1 e
    · rw [ad3 i (by omega), ado r' h1' h2'] at e
      have := w2 r' hw' h3''
      have := (W0.1 _ (hel i hi).2 (hel i hi).1).2.1
      omega
    · rw [ad18 h0', ado r h1 h2] at e; have := (w1.1 r hw h3').2.1; omega
    · rw [ad3 i' (by omega), ado r h1 h2] at e
      have := w2 r hw h3'
      have := (W0.1 _ (hel i' hi').2 (hel i' hi').1).2.1
      omega
    · rw [ado r h1 h2, ado r' h1' h2'] at e
      exact w1.2.1 r r' hw hw' h3' h3'' e
  · by_cases z : k = 3
    · subst z
      refine ⟨N60, ?_⟩
      by_cases h0 : N 3 = 0
      · refine Or.inr ⟨fun q => zo3 (decide_eq_true q) h0, h0, ?_⟩
        have e3 : aer D' 3 = d := by
          show (if 3 = 3 then (if N 3 = 0 then d else zn σ + 1) else aer D 3) = d
          rw [if_pos rfl, if_pos h0]
        rw [e3]
        show zsv σ' 1 = _
        rw [a3]; exact kd
      · refine Or.inl ⟨?_, ?_, ?_, ?_⟩
        · show (if 3 = 3 then (if N 3 = 0 then d else zn σ + 1) else aer D 3) = ad 18
          rw [if_pos rfl, if_neg h0, ad18 h0]
        · show N 3 ≤ (if 3 = 3 then max 10 (N 3) else acap D 3)
          rw [if_pos rfl]; omega
        · show 1 ≤ (if 3 = 3 then max 10 (N 3) else acap D 3)
          rw [if_pos rfl]; omega
        · show (if 3 = 3 then max 10 (N 3) else acap D 3) ≤ 90
          rw [if_pos rfl]; omega
    · have e1 : aer D' k = aer D k := if_neg z
      have e2 : acap D' k = acap D k := if_neg z
      have e3 : aad D' (15 + k) = aad D (15 + k) := ado _ (by omega) (by omega)
      have e4 : zk σ' 1 = zk σ 1 := by show zsv σ' 1 = zsv σ 1; rw [a3]
      rw [e1, e2, e3, e4, ← hN k z]
      exact w1.2.2 k k1 k4
  · rcases old r hw hr with ⟨rfl, h0⟩ | ⟨i, hi, rfl⟩ | ⟨h1, h2, h3'⟩
    · refine Or.inl ⟨?_, by omega⟩
      show zn σ0 ≤ ad 18
      rw [ad18 h0]; omega
    · exact Or.inr ⟨by omega, by omega, ad3 i (by omega)⟩
    · refine Or.inl ⟨?_, h2⟩
      show zn σ0 ≤ ad r
      rw [ado r h1 h2]; exact w2 r hw h3'
  · rw [mem q (by have : zn σ0 ≤ aad D 14 := lg; omega) (by omega)]
    exact w3 q hq
  · have h14 : aad D 14 < zn σ := ll.2.1
    by_cases h0 : N 3 = 0
    · rw [a2, if_neg (by omega), if_neg (by omega), if_neg (fun w => w.2 h0)]
      exact w7 q (by omega)
    · have := n1.2.1 h0
      rw [a2, if_neg (by omega), if_neg (by omega), if_neg (by omega)]
      exact w7 q (by omega)
/-- the whole copy of a world -/
theorem X2_copy_spec {d : Nat} (E : yEv σ0) (hbz : zbs σ0 ≤ zn σ0) (hf : ∀ q, zn σ0 ≤ q → σ0.1 q = none) (W0 : yWd σ0 A N U) (hd : zk σ0 1 = some d) (hzb : ∀ e, e < N 4 → (U.2 4 (8 * e + 6) = 0 ∨ U.2 4 (8 * e + 6) = 1) ∧ (U.2 4 (8 * e + 7) = 0 ∨ U.2 4 (8 * e + 7) = 1)) (hc : 400 ≤ zc σ0 ∧ 20000 ≤ zz σ0) :
    ∃ σ' D', f_X2_copy (aad A 1) σ0 = some (some (aad D' 1), σ') ∧ yWd σ' D' N (cpU U) ∧ (∀ r, wrl r → zal N (zow D') r → (zn σ0 ≤ aad D' r ∧ ¬ (300 ≤ r ∧ r < 400)) ∨ (300 ≤ r ∧ r < 400 ∧ aad D' r = aad A r)) ∧ (∀ q, q < zn σ0 → σ'.1 q = σ0.1 q) ∧ zsv σ' = zsv σ0 ∧ zbs σ' = zbs σ0 ∧ zn σ0 ≤ zn σ' ∧ (∀ q, zn σ' ≤ q → σ'.1 q = none) ∧ zc σ0 ≤ zc σ' + 400 ∧ zz σ0 ≤ zz σ' + 20000 ∧ arf D' 1 = arf A 1 := by
  obtain ⟨dd1, dd2⟩ := E.2 d hd
  have N60 : ∀ k, 1 ≤ k → k ≤ 4 → N k ≤ 60 := fun k k1 k4 => (W0.2.2 k k1 k4).1
  have n1 := N60 1 (by omega) (by omega)
  have n2 := N60 2 (by omega) (by omega)
  have n4 := N60 4 (by omega) (by omega)
  have o1 := W0.1 1 (Or.inl rfl) (Or.inl (by omega))
  have w1 := Wd_1 W0
  let σ1 : zS := (zup σ0.1 (zn σ0) (.inr (1, [.int 0, .int 0, .int 0, .int 0, .int 0, .int 0, .int 0, .null, .null, .null, .null, .null, .null])), zsv σ0, zbs σ0, zn σ0 + 1, zc σ0 - 1, zz σ0 - 13)
  have e1 : znewO σ0 1 [.int 0, .int 0, .int 0, .int 0, .int 0, .int 0, .int 0, .null, .null, .null, .null, .null, .null] = some (zn σ0, σ1) := znewO_at ⟨by omega, by show 13 ≤ zz σ0; omega⟩
  have h1 : σ1.1 (zn σ0) = some (.inr (1, [.int 0, .int 0, .int 0, .int 0, .int 0, .int 0, .int 0, .null, .null, .null, .null, .null, .null])) := if_pos rfl
  obtain ⟨σ2, i1, i2, i3, i4, i5, i6, i7⟩ := X2_init_spec (σ := σ1) (a := zn σ0) (d := d) h1 hbz (by show zn σ0 < zn σ0 + 1; omega) (by show zbs σ0 ≤ zn σ0 + 1; omega) hd ⟨by show 5 ≤ zc σ0 - 1; omega, by show 20 ≤ zz σ0 - 13; omega⟩
  have j3 : zsv σ2 = zsv σ0 := i3
  have j4 : zbs σ2 = zbs σ0 := i4
  have j5 : zn σ2 = zn σ0 + 6 := i5
  have j6 : zc σ2 = zc σ0 - 1 - 5 := i6
  have j7 : zz σ2 = zz σ0 - 13 - 20 := i7
  have hb2 : zbs σ2 ≤ zn σ0 := by rw [j4]; exact hbz
  have m2 : ∀ q, q < zn σ0 → σ2.1 q = σ0.1 q := by
    intro q hq
    have := i2 q
    rw [if_neg (by omega), if_neg (by show ¬ q = zn σ0 + 1; omega), if_neg (by show ¬ (zn σ0 + 1 < q ∧ q < zn σ0 + 1 + 5); omega)] at this
    rw [this]
    exact if_neg (by omega)
  have ms : ∀ o q, q < zn σ0 → (zset σ2 (zn σ0) o).1 q = σ0.1 q := fun o q hq => (if_neg (by omega)).trans (m2 q hq)
  have wz : ∀ o, (zset σ2 (zn σ0) o).1 (aad A 1) = some (.inr (1, [.int (U.1 0), .int (U.1 1), .int (U.1 2), .int (U.1 3), .int (U.1 4), .int (U.1 5), .int (U.1 6), .ref (aad A 5), .ref (aad A 12), .ref (aad A 13), .ref (aad A 14), .ref (aad A 15), va_rf (arf A 1)])) := fun o => (ms o _ o1.2.1).trans w1
  have r0 : σ2.1 (zn σ0) = some (.inr (1, [.int 0, .int 0, .int 100, .int 0, .int 0, .int 1, .int 0, .ref (zn σ0 + 1), .ref (zn σ0 + 2), .ref (zn σ0 + 3), .ref (zn σ0 + 4), .ref (zn σ0 + 5), .null])) := (i2 _).trans (if_pos rfl)
  have p0 : pI σ2 (zn σ0) 1 0 (U.1 0) = some (zset σ2 (zn σ0) (.inr (1, [.int (U.1 0), .int 0, .int 100, .int 0, .int 0, .int 1, .int 0, .ref (zn σ0 + 1), .ref (zn σ0 + 2), .ref (zn σ0 + 3), .ref (zn σ0 + 4), .ref (zn σ0 + 5), .null]))) := pI_of r0 (Nat.le_of_ble_eq_true rfl) hb2
  have p1 : pI (zset σ2 (zn σ0) (.inr (1, [.int (U.1 0), .int 0, .int 100, .int 0, .int 0, .int 1, .int 0, .ref (zn σ0 + 1), .ref (zn σ0 + 2), .ref (zn σ0 + 3), .ref (zn σ0 + 4), .ref (zn σ0 + 5), .null]))) (zn σ0) 1 1 (U.1 1) = some (zset σ2 (zn σ0) (.inr (1, [.int (U.1 0), .int (U.1 1), .int 100, .int 0, .int 0, .int 1, .int 0, .ref (zn σ0 + 1), .ref (zn σ0 + 2), .ref (zn σ0 + 3), .ref (zn σ0 + 4), .ref (zn σ0 + 5), .null]))) := (pI_of (zs_at (σ := σ2)) (Nat.le_of_ble_eq_true rfl) hb2).trans (congrArg some zset2)
  have p2 : pI (zset σ2 (zn σ0) (.inr (1, [.int (U.1 0), .int (U.1 1), .int 100, .int 0, .int 0, .int 1, .int 0, .ref (zn σ0 + 1), .ref (zn σ0 + 2), .ref (zn σ0 + 3), .ref (zn σ0 + 4), .ref (zn σ0 + 5), .null]))) (zn σ0) 1 2 (U.1 2) = some (zset σ2 (zn σ0) (.inr (1, [.int (U.1 0), .int (U.1 1), .int (U.1 2), .int 0, .int 0, .int 1, .int 0, .ref (zn σ0 + 1), .ref (zn σ0 + 2), .ref (zn σ0 + 3), .ref (zn σ0 + 4), .ref (zn σ0 + 5), .null]))) := (pI_of (zs_at (σ := σ2)) (Nat.le_of_ble_eq_true rfl) hb2).trans (congrArg some zset2)
  have p3 : pI (zset σ2 (zn σ0) (.inr (1, [.int (U.1 0), .int (U.1 1), .int (U.1 2), .int 0, .int 0, .int 1, .int 0, .ref (zn σ0 + 1), .ref (zn σ0 + 2), .ref (zn σ0 + 3), .ref (zn σ0 + 4), .ref (zn σ0 + 5), .null]))) (zn σ0) 1 3 (U.1 3) = some (zset σ2 (zn σ0) (.inr (1, [.int (U.1 0), .int (U.1 1), .int (U.1 2), .int (U.1 3), .int 0, .int 1, .int 0, .ref (zn σ0 + 1), .ref (zn σ0 + 2), .ref (zn σ0 + 3), .ref (zn σ0 + 4), .ref (zn σ0 + 5), .null]))) := (pI_of (zs_at (σ := σ2)) (Nat.le_of_ble_eq_true rfl) hb2).trans (congrArg some zset2)
  have p4 : pI (zset σ2 (zn σ0) (.inr (1, [.int (U.1 0), .int (U.1 1), .int (U.1 2), .int (U.1 3), .int 0, .int 1, .int 0, .ref (zn σ0 + 1), .ref (zn σ0 + 2), .ref (zn σ0 + 3), .ref (zn σ0 + 4), .ref (zn σ0 + 5), .null]))) (zn σ0) 1 4 (U.1 4) = some (zset σ2 (zn σ0) (.inr (1, [.int (U.1 0), .int (U.1 1), .int (U.1 2), .int (U.1 3), .int (U.1 4), .int 1, .int 0, .ref (zn σ0 + 1), .ref (zn σ0 + 2), .ref (zn σ0 + 3), .ref (zn σ0 + 4), .ref (zn σ0 + 5), .null]))) := (pI_of (zs_at (σ := σ2)) (Nat.le_of_ble_eq_true rfl) hb2).trans (congrArg some zset2)
  have p5 : pI (zset σ2 (zn σ0) (.inr (1, [.int (U.1 0), .int (U.1 1), .int (U.1 2), .int (U.1 3), .int (U.1 4), .int 1, .int 0, .ref (zn σ0 + 1), .ref (zn σ0 + 2), .ref (zn σ0 + 3), .ref (zn σ0 + 4), .ref (zn σ0 + 5), .null]))) (zn σ0) 1 5 (U.1 5) = some (zset σ2 (zn σ0) (.inr (1, [.int (U.1 0), .int (U.1 1), .int (U.1 2), .int (U.1 3), .int (U.1 4), .int (U.1 5), .int 0, .ref (zn σ0 + 1), .ref (zn σ0 + 2), .ref (zn σ0 + 3), .ref (zn σ0 + 4), .ref (zn σ0 + 5), .null]))) := (pI_of (zs_at (σ := σ2)) (Nat.le_of_ble_eq_true rfl) hb2).trans (congrArg some zset2)
  have p6 : pI (zset σ2 (zn σ0) (.inr (1, [.int (U.1 0), .int (U.1 1), .int (U.1 2), .int (U.1 3), .int (U.1 4), .int (U.1 5), .int 0, .ref (zn σ0 + 1), .ref (zn σ0 + 2), .ref (zn σ0 + 3), .ref (zn σ0 + 4), .ref (zn σ0 + 5), .null]))) (zn σ0) 1 6 (U.1 6) = some (zset σ2 (zn σ0) (.inr (1, [.int (U.1 0), .int (U.1 1), .int (U.1 2), .int (U.1 3), .int (U.1 4), .int (U.1 5), .int (U.1 6), .ref (zn σ0 + 1), .ref (zn σ0 + 2), .ref (zn σ0 + 3), .ref (zn σ0 + 4), .ref (zn σ0 + 5), .null]))) := (pI_of (zs_at (σ := σ2)) (Nat.le_of_ble_eq_true rfl) hb2).trans (congrArg some zset2)
  have p7 : pR (zset σ2 (zn σ0) (.inr (1, [.int (U.1 0), .int (U.1 1), .int (U.1 2), .int (U.1 3), .int (U.1 4), .int (U.1 5), .int (U.1 6), .ref (zn σ0 + 1), .ref (zn σ0 + 2), .ref (zn σ0 + 3), .ref (zn σ0 + 4), .ref (zn σ0 + 5), .null]))) (zn σ0) 1 12 (arf A 1) = some (zset σ2 (zn σ0) (.inr (1, [.int (U.1 0), .int (U.1 1), .int (U.1 2), .int (U.1 3), .int (U.1 4), .int (U.1 5), .int (U.1 6), .ref (zn σ0 + 1), .ref (zn σ0 + 2), .ref (zn σ0 + 3), .ref (zn σ0 + 4), .ref (zn σ0 + 5), va_rf (arf A 1)]))) := (pF_of (zs_at (σ := σ2)) (Nat.le_of_ble_eq_true rfl) hb2).trans (congrArg some zset2)
  have w2 : σ2.1 (aad A 1) = some (.inr (1, [.int (U.1 0), .int (U.1 1), .int (U.1 2), .int (U.1 3), .int (U.1 4), .int (U.1 5), .int (U.1 6), .ref (aad A 5), .ref (aad A 12), .ref (aad A 13), .ref (aad A 14), .ref (aad A 15), va_rf (arf A 1)])) := (m2 _ o1.2.1).trans w1
  let σ3 : zS := zset σ2 (zn σ0) (.inr (1, [.int (U.1 0), .int (U.1 1), .int (U.1 2), .int (U.1 3), .int (U.1 4), .int (U.1 5), .int (U.1 6), .ref (zn σ0 + 1), .ref (zn σ0 + 2), .ref (zn σ0 + 3), .ref (zn σ0 + 4), .ref (zn σ0 + 5), va_rf (arf A 1)]))
  have x1 : σ3.1 (zn σ0) = some (.inr (1, [.int (U.1 0), .int (U.1 1), .int (U.1 2), .int (U.1 3), .int (U.1 4), .int (U.1 5), .int (U.1 6), .ref (zn σ0 + 1), .ref (zn σ0 + 2), .ref (zn σ0 + 3), .ref (zn σ0 + 4), .ref (zn σ0 + 5), va_rf (arf A 1)])) := zs_at
  have o5 := W0.1 5 (Or.inr (Or.inl rfl)) (Or.inl (by omega))
  have x2 : σ3.1 (aad A 5) = some (.inl (0, 8, .inl (U.2 0))) := (ms _ _ o5.2.1).trans o5.2.2
  have x3 : σ3.1 (zn σ0 + 1) = some (.inl (0, 8, .inl (fun _ => 0))) := by
    show (if zn σ0 + 1 = zn σ0 then _ else σ2.1 (zn σ0 + 1)) = _
    rw [if_neg (by omega), i2, if_neg (by omega)]
    exact if_pos rfl
  let σ4 : zS := zset σ3 (zn σ0 + 1) (.inl (0, 8, .inl ((cpU U).2 0)))
  have c1 : zcpy σ3 (aad A 5) 0 (zn σ0 + 1) 0 8 = some σ4 := by
    unfold zcpy
    rw [x2, x3]
    have hall : 0 = 0 ∧ 0 < 2 ∧ ¬ (0 : Int32) < 0 ∧ ¬ (0 : Int32) < 0 ∧ ¬ (8 : Int32) < 0 ∧ (0 : Int32).toNatClampNeg + (8 : Int32).toNatClampNeg ≤ 8 ∧ (0 : Int32).toNatClampNeg + (8 : Int32).toNatClampNeg ≤ 8 ∧ zbs σ3 ≤ zn σ0 + 1 := ⟨rfl, by omega, by decide, by decide, by decide, by decide, by decide, by show zbs σ2 ≤ _; omega⟩
    exact (if_pos hall).trans rfl
  have e2 : f_X2_copy (aad A 1) σ0 = f_X2_copy_89 (aad A 1) (some (zn σ0)) 0 σ4 := by
    unfold f_X2_copy
    rw [zb2_eq e1, zb2_eq i1, ybind_eq (gI_of w2 (k := 0) (v := U.1 0) rfl rfl), ybind_eq p0, ybind_eq (gI_of (wz _) (k := 1) (v := U.1 1) rfl rfl), ybind_eq p1, ybind_eq (gI_of (wz _) (k := 2) (v := U.1 2) rfl rfl), ybind_eq p2, ybind_eq (gI_of (wz _) (k := 3) (v := U.1 3) rfl rfl), ybind_eq p3, ybind_eq (gI_of (wz _) (k := 4) (v := U.1 4) rfl rfl), ybind_eq p4, ybind_eq (gI_of (wz _) (k := 5) (v := U.1 5) rfl rfl), ybind_eq p5, ybind_eq (gI_of (wz _) (k := 6) (v := U.1 6) rfl rfl), ybind_eq p6, ybind_eq (gR_of (wz _) (k := 12) (q := arf A 1) rfl rfl), ybind_eq p7, ybind_eq (gR_of (wz _) (k := 7) (q := some (aad A 5)) rfl rfl), ybind_eq (gR_of x1 (k := 7) (q := some (zn σ0 + 1)) rfl rfl), bd_at, bd_at, ybind_eq c1]
  let D0 : cA := (fun r => if r = 1 then zn σ0 else if r = 5 then zn σ0 + 1 else if 12 ≤ r ∧ r < 16 then zn σ0 + (r - 10) else d + 1, fun _ => none, fun _ => d, fun _ => 0, fun _ => 0, arf A)
  let N0 : Nat → Nat := fun k => if 1 ≤ k ∧ k ≤ 4 then 0 else N k
  have z0 : ∀ k, 1 ≤ k → k ≤ 4 → N0 k = 0 := fun k h1 h4 => if_pos ⟨h1, h4⟩
  have zw : ∀ k, 1 ≤ k → k ≤ 4 → zow D0 k = false := by
    intro k h1 h4
    refine decide_eq_false ?_
    show ¬ d = (if 15 + k = 1 then zn σ0 else if 15 + k = 5 then zn σ0 + 1 else if 12 ≤ 15 + k ∧ 15 + k < 16 then zn σ0 + (15 + k - 10) else d + 1)
    rw [if_neg (by omega), if_neg (by omega), if_neg (by omega)]
    omega
  have zr : ∀ r, wrl r → zal N0 (zow D0) r → r = 1 ∨ r = 5 ∨ (∃ j, 1 ≤ j ∧ j ≤ 4 ∧ r = 11 + j) := by
    intro r hw hr
    rcases hr with h | ⟨k, k1, k4, rfl, h⟩ | ⟨k, i, k1, k4, hi, h100, rfl⟩
    · rcases hw with h' | h' | h'
      · exact Or.inl h'
      · exact Or.inr (Or.inl h')
      · exact Or.inr (Or.inr ⟨r - 11, by omega, by omega, by omega⟩)
    · rw [zw k k1 k4] at h; cases h
    · rw [z0 k k1 k4] at hi; omega
  have dl : ∀ j, 1 ≤ j → j ≤ 4 → aad D0 (11 + j) = zn σ0 + 1 + j := by
    intro j h1 h4
    show (if 11 + j = 1 then zn σ0 else if 11 + j = 5 then zn σ0 + 1 else if 12 ≤ 11 + j ∧ 11 + j < 16 then zn σ0 + (11 + j - 10) else d + 1) = _
    rw [if_neg (by omega), if_neg (by omega), if_pos (by omega)]
    omega
  have d1 : aad D0 1 = zn σ0 := rfl
  have d5 : aad D0 5 = zn σ0 + 1 := rfl
  have C0 : CP σ0 σ4 D0 N0 (cpU U) 6 33 := by
    refine ⟨⟨fun r hw hr => ?_, fun r r' hw hw' hr hr' e => ?_, fun k k1 k4 => ⟨by rw [z0 k k1 k4]; omega, Or.inr ⟨fun q => ?_, z0 k k1 k4, ?_⟩⟩⟩, fun r hw hr => ?_, fun q hq => ?_, j3, j4, by show zn σ0 ≤ zn σ2; omega, fun q hq => ?_, by show zc σ0 ≤ zc σ2 + 6; omega, by show zz σ0 ≤ zz σ2 + 33; omega⟩
    · show zbs σ2 ≤ aad D0 r ∧ aad D0 r < zn σ2 ∧ σ4.1 (aad D0 r) = _
      rcases zr r hw hr with rfl | rfl | ⟨j, h1, h4, rfl⟩
      · rw [d1]
        refine ⟨hb2, by omega, ?_⟩
        show (if zn σ0 = zn σ0 + 1 then _ else σ3.1 (zn σ0)) = _
        rw [if_neg (by omega), x1]
        rfl
      · rw [d5]
        refine ⟨by omega, by omega, ?_⟩
        show (if zn σ0 + 1 = zn σ0 + 1 then _ else σ3.1 (zn σ0 + 1)) = _
        rw [if_pos rfl]
        rfl
      · rw [dl j h1 h4]
        refine ⟨by omega, by omega, ?_⟩
        show (if zn σ0 + 1 + j = zn σ0 + 1 then _ else if zn σ0 + 1 + j = zn σ0 then _ else σ2.1 (zn σ0 + 1 + j)) = _
        rw [if_neg (by omega), if_neg (by omega), i2, if_neg (by omega), if_neg (by show ¬ zn σ0 + 1 + j = zn σ0 + 1; omega), if_pos (by show zn σ0 + 1 < zn σ0 + 1 + j ∧ zn σ0 + 1 + j < zn σ0 + 1 + 5; omega), cCt_ls h1 h4]
        show _ = some (Sum.inr (19, [Value.int 0, .ref d, .int (Int32.ofNat (N0 j))]))
        rw [z0 j h1 h4]
        rfl
    · rcases zr r hw hr with rfl | rfl | ⟨j, h1, h4, rfl⟩ <;> rcases zr r' hw' hr' with rfl | rfl | ⟨j', h1', h4', rfl⟩
      · rfl
      · rw [d1, d5] at e; omega
      · rw [d1, dl j' h1' h4'] at e; omega
      · rw [d1, d5] at e; omega
      · rfl
      · rw [d5, dl j' h1' h4'] at e; omega
      · rw [d1, dl j h1 h4] at e; omega
      · rw [d5, dl j h1 h4] at e; omega
      · rw [dl j h1 h4, dl j' h1' h4'] at e; omega
    · have := zw k k1 k4
      have h' := of_decide_eq_false this
      exact h' q
    · show zsv σ2 1 = some d
      rw [j3]; exact hd
    · rcases zr r hw hr with rfl | rfl | ⟨j, h1, h4, rfl⟩
      · rw [d1]; omega
      · rw [d5]; omega
      · rw [dl j h1 h4]; omega
    · show (if q = zn σ0 + 1 then _ else if q = zn σ0 then _ else σ2.1 q) = _
      rw [if_neg (by omega), if_neg (by omega)]; exact m2 q hq
    · have hq' : zn σ0 + 6 ≤ q := by
        have : zn σ2 ≤ q := hq
        omega
      show (if q = zn σ0 + 1 then _ else if q = zn σ0 then _ else σ2.1 q) = _
      rw [if_neg (by omega), if_neg (by omega), i2, if_neg (by omega), if_neg (by show ¬ q = zn σ0 + 1; omega), if_neg (by show ¬ (zn σ0 + 1 < q ∧ q < zn σ0 + 1 + 5); omega)]
      exact (if_neg (by omega)).trans (hf q (by omega))
  have hc4 : zc σ4 = zc σ0 - 6 := by show zc σ2 = _; omega
  have hz4 : zz σ4 = zz σ0 - 33 := by show zz σ2 = _; omega
  obtain ⟨s1, D1, a1, a2, a3, a4, a5⟩ := copy_89 (U2 := cpU U) (cpU_t (by omega)) E hbz W0 (N 1) 0 σ4 D0 NN 6 33 (by omega) (by unfold NN; omega) C0 (z0 1 (by omega) (by omega)) (by omega) (by omega)
  obtain ⟨s2, D2, b1, b2, b3, b4, b5⟩ := copy_130 (U2 := cpU U) (cpU_t (by omega)) E hbz W0 (N 2) 0 s1 D1 NN _ _ (by omega) (by unfold NN; omega) a1 ((if_neg (by omega)).trans (z0 2 (by omega) (by omega))) (by have := a1.2.2.2.2.2.2.2.1; omega) (by have := a1.2.2.2.2.2.2.2.2; omega)
  obtain ⟨s3, D3, g1, g2, g3, g4, g5⟩ := copy_171 (U2 := cpU U) (cpU_t (by omega)) hzb E hbz W0 (N 4) 0 s2 D2 NN _ _ (by omega) (by unfold NN; omega) b1 ((if_neg (by omega)).trans ((if_neg (by omega)).trans (z0 4 (by omega) (by omega)))) (by have := b1.2.2.2.2.2.2.2.1; omega) (by have := b1.2.2.2.2.2.2.2.2; omega)
  have D31 : aad D3 1 = zn σ0 ∧ aad D2 1 = zn σ0 ∧ aad D1 1 = zn σ0 := ⟨(g3 1 (by omega)).trans ((b3 1 (by omega)).trans (a3 1 (by omega))), (b3 1 (by omega)).trans (a3 1 (by omega)), a3 1 (by omega)⟩
  obtain ⟨σ', D', k1, k2, k3, k4, k5, k6, k7, k8, k9, k10, k11, k12⟩ := copy_offers (d := d) E hbz W0 g1 (cpU_t (by omega)) ((if_neg (by omega)).trans ((if_neg (by omega)).trans ((if_neg (by omega)).trans (z0 3 (by omega) (by omega))))) (fun k hk => by
      show (if k = 4 then N 4 else if k = 2 then N 2 else if k = 1 then N 1 else if 1 ≤ k ∧ k ≤ 4 then 0 else N k) = N k
      by_cases q4 : k = 4
      · rw [if_pos q4, q4]
      · by_cases q2 : k = 2
        · rw [if_neg q4, if_pos q2, q2]
        · by_cases q1 : k = 1
          · rw [if_neg q4, if_neg q2, if_pos q1, q1]
          · rw [if_neg q4, if_neg q2, if_neg q1, if_neg (by omega)]) (g5.1.trans (b5.1.trans a5.1)) (g5.2.1.trans (b5.2.1.trans (a5.2.1.trans (zw 3 (by omega) (by omega))))) (g5.2.2.trans (b5.2.2.trans a5.2.2)) hd (by have h1 := g1.2.2.2.2.2.2.2.1; have h2 := g1.2.2.2.2.2.2.2.2; omega)
  refine ⟨σ', D', ?_, k2, k3, k4, k5, k6, k7, k8, by omega, by omega, ?_⟩
  · rw [e2]
    have q1 : f_X2_copy_89 (aad A 1) (some (zn σ0)) 0 σ4 = f_X2_copy_130 (aad A 1) (some (zn σ0)) 0 s1 := a2
    have q2 : f_X2_copy_130 (aad A 1) (some (zn σ0)) 0 s1 = f_X2_copy_171 (aad A 1) (some (zn σ0)) 0 s2 := by rw [D31.2.2] at b2; exact b2
    have q3 : f_X2_copy_171 (aad A 1) (some (zn σ0)) 0 s2 = copy_end (aad A 1) (zn σ0) s3 := by rw [D31.2.1] at g2; exact g2
    rw [q1, q2, q3, k11, ← D31.1]
    exact k1
  · rw [k12, g4, b4, a4]
end ZCE
/-- the addresses of a world -/
def In (D : cA) (N : Nat → Nat) (q : Nat) : Prop := ∃ r, wrl r ∧ zal N (zow D) r ∧ q = aad D r
/-- the component's numbers when the world U' comes back -/
def bkU (U U' : cU) : cU := (fun k => if k < 7 then U'.1 k else U.1 k, fun t => if t ≤ 4 then (cpU U').2 t else U.2 t)
section ZIM
variable {σ σ' τ : zS} {A A' B D : cA} {N N' : Nat → Nat} {U U' : cU} {S : Nat → Prop} {c : Nat} {M M' : mS} {m m' : Nat → Int32}
/-- heap cells may come; what is set aside may be chosen anew -/
theorem Cs_new {S' : Nat → Prop} (C : Cs σ A N U S) (h1 : ∀ q, q < zn σ → τ.1 q = σ.1 q) (h2 : zsv τ = zsv σ) (h3 : zbs τ = zbs σ) (h4 : zn σ ≤ zn τ) (h5 : ∀ q, zn τ ≤ q → τ.1 q = none) (hS' : ∀ q, S' q → q < zn τ ∧ ∀ r, zal N (zow A) r → aad A r = q → 300 ≤ r ∧ r < 400) : ∃ A', Cs τ A' N U S' ∧ (∀ r, (∃ o, cCt A (U.1, U.2, N) r = some o) → aad A' r = aad A r) ∧ aer A' = aer A ∧ acap A' = acap A ∧ amc A' = amc A ∧ arf A' = arf A := by
  obtain ⟨R, hS, hD⟩ := C
  let own : Nat → Bool := zow A
  have hal : ∀ r, zal N own r → ∃ o, cCt A (U.1, U.2, N) r = some o := fun r h => zal_some h
  have hla : ∀ r, (∃ o, cCt A (U.1, U.2, N) r = some o) → zal N own r := fun r h => some_zal h
  have g1 : ∀ j, 1 ≤ j → j ≤ 4 → N j < 100 ∧ ((own j = true ∧ aer A j = aad A (15 + j) ∧ N j ≤ acap A j ∧ 1 ≤ acap A j ∧ acap A j ≤ 90) ∨ (own j = false ∧ N j = 0 ∧ aer A j < zbs τ)) := by
    intro j j1 j4
    refine ⟨(R.1.2.2.1 j j1 j4).1, ?_⟩
    rcases R.2.2.2.2 j j1 j4 with h | h
    · exact Or.inl ⟨decide_eq_true h.1, h⟩
    · by_cases z : aer A j = aad A (15 + j)
      · have := R.1.2.1 (15 + j)
        omega
      · exact Or.inr ⟨decide_eq_false z, h.1, by rw [h3]; exact h.2⟩
  have g2 : ∀ r, zal N own r → zbs τ ≤ aad A r ∧ aad A r < zn τ := fun r hr => ⟨by rw [h3]; exact R.1.2.1 r, Nat.lt_of_lt_of_le (Rp_lt R (hal r hr)) h4⟩
  have g3 : ∀ r r', zal N own r → zal N own r' → aad A r = aad A r' → r = r' := by
    intro r r' _ _ e
    have e1 := R.1.1 r
    rw [e, R.1.1 r'] at e1
    exact (Option.some.inj e1).symm
  have g4 : ∀ r, zal N own r → τ.1 (aad A r) = cCt (aad A, fun _ => none, aer A, acap A, amc A, arf A) (U.1, U.2, N) r := by
    intro r hr
    rw [h1 _ (Rp_lt R (hal r hr)), R.2.1 r]
    exact cCt_iv r
  obtain ⟨A', a1, a2, a3, a4, a5, a6, a7⟩ := Rp_mk (σ := τ) (U := U) (N := N) (aad A) (aer A) (acap A) (amc A) (arf A) own g1 g2 g3 g4 h5 (by rw [h3]; exact Nat.le_trans R.2.2.2.1 h4)
  refine ⟨A', ⟨a1, fun q hq => ⟨(hS' q hq).1, fun r e => ?_⟩, fun j j1 j4 => ?_⟩, fun r hr => a2 r (hla r hr), a3, a4, a5, a6⟩
  · rcases Classical.em (zal N own r) with z | z
    · rw [a2 r z] at e; exact (hS' q hq).2 r z e
    · have := a7 r z
      have := (hS' q hq).1
      omega
  · rcases hD j j1 j4 with h | h
    · left
      rw [a3, a2 _ (Or.inr (Or.inl ⟨j, j1, j4, rfl, decide_eq_true h⟩))]; exact h
    · right
      rw [a3]
      show zsv τ 1 = _
      rw [h2]; exact h
theorem Cs_inj (C : Cs σ A N U S) {r r' : Nat} (e : aad A r = aad A r') : r = r' := by
  have e1 := C.1.1.1 r
  rw [e, C.1.1.1 r'] at e1
  exact (Option.some.inj e1).symm
theorem Cs_lt (C : Cs σ A N U S) {r : Nat} (h : zal N (zow A) r) : aad A r < zn σ := Rp_lt C.1 (zal_some h)
/-- the image's pointer is told anew -/
theorem Cs_arf0 (v : Option Nat) (C : Cs σ A N U S) : Cs (zset σ (aad A 0) (.inr (0, [.ref (aad A 1), va_rf v, .ref (aad A 2), .ref (aad A 3), .ref (aad A 4), .ref (aad A 6), .int (U.1 7)]))) (aad A, ainv A, aer A, acap A, amc A, fun k => if k = 0 then v else arf A k) N U S := by
  have hinj : ∀ r, r ≠ 0 → aad A r ≠ aad A 0 := fun r h e => h (Cs_inj C e)
  have hlt := Cs_lt C (r := 0) (Or.inl (by omega))
  obtain ⟨⟨r1, r2, r3, r4, r5⟩, hS, hD⟩ := C
  refine ⟨⟨r1, fun r => ?_, fun q hq => ?_, r4, r5⟩, hS, hD⟩
  · show (if aad A r = aad A 0 then _ else σ.1 (aad A r)) = _
    by_cases z : r = 0
    · subst z
      rw [if_pos rfl]
      rfl
    · rw [if_neg (hinj r z), r2 r]
      match r, z with
      | 1, _ => rfl
      | 2, _ => rfl
      | 3, _ => rfl
      | 4, _ => rfl
      | 5, _ => rfl
      | 6, _ => rfl
      | 7, _ => rfl
      | 8, _ => rfl
      | 9, _ => rfl
      | 10, _ => rfl
      | 11, _ => rfl
      | 12, _ => rfl
      | 13, _ => rfl
      | 14, _ => rfl
      | 15, _ => rfl
      | 16, _ => rfl
      | 17, _ => rfl
      | 18, _ => rfl
      | 19, _ => rfl
      | _ + 20, _ => rfl
  · show (if q = aad A 0 then _ else σ.1 q) = none
    have : zn σ ≤ q := hq
    rw [if_neg (by omega)]
    exact r3 q hq
/-- the law's pointer is told anew -/
theorem Cs_arf1 (v : Option Nat) (C : Cs σ A N U S) : Cs (zset σ (aad A 1) (.inr (1, [.int (U.1 0), .int (U.1 1), .int (U.1 2), .int (U.1 3), .int (U.1 4), .int (U.1 5), .int (U.1 6), .ref (aad A 5), .ref (aad A 12), .ref (aad A 13), .ref (aad A 14), .ref (aad A 15), va_rf v]))) (aad A, ainv A, aer A, acap A, amc A, fun k => if k = 1 then v else arf A k) N U S := by
  have hinj : ∀ r, r ≠ 1 → aad A r ≠ aad A 1 := fun r h e => h (Cs_inj C e)
  have hlt := Cs_lt C (r := 1) (Or.inl (by omega))
  obtain ⟨⟨r1, r2, r3, r4, r5⟩, hS, hD⟩ := C
  refine ⟨⟨r1, fun r => ?_, fun q hq => ?_, r4, r5⟩, hS, hD⟩
  · show (if aad A r = aad A 1 then _ else σ.1 (aad A r)) = _
    by_cases z : r = 1
    · subst z
      rw [if_pos rfl]
      rfl
    · rw [if_neg (hinj r z), r2 r]
      match r, z with
      | 0, _ => rfl
      | 2, _ => rfl
      | 3, _ => rfl
      | 4, _ => rfl
      | 5, _ => rfl
      | 6, _ => rfl
      | 7, _ => rfl
      | 8, _ => rfl
      | 9, _ => rfl
      | 10, _ => rfl
      | 11, _ => rfl
      | 12, _ => rfl
      | 13, _ => rfl
      | 14, _ => rfl
      | 15, _ => rfl
      | 16, _ => rfl
      | 17, _ => rfl
      | 18, _ => rfl
      | 19, _ => rfl
      | _ + 20, _ => rfl
  · show (if q = aad A 1 then _ else σ.1 q) = none
    have : zn σ ≤ q := hq
    rw [if_neg (by omega)]
    exact r3 q hq
theorem RI_zb (I : RI c N U) : ∀ e, e < N 4 → (U.2 4 (8 * e + 6) = 0 ∨ U.2 4 (8 * e + 6) = 1) ∧ (U.2 4 (8 * e + 7) = 0 ∨ U.2 4 (8 * e + 7) = 1) := by
  have b1 : ∀ x : Int32, bd 1 x → x = 0 ∨ x = 1 := by
    rintro x ⟨n, h, rfl⟩
    rcases (show n = 0 ∨ n = 1 by omega) with rfl | rfl
    · exact Or.inl rfl
    · exact Or.inr rfl
  intro e he
  obtain ⟨-, -, -, -, -, -, -, -, h6, h7⟩ := RI_ent I e he
  exact ⟨b1 _ h6, b1 _ h7⟩
theorem RI_60 (I : RI c N U) : ∀ j, 1 ≤ j → j ≤ 4 → N j ≤ 60 := by
  intro j j1 j4
  have h1 := RI_n1 I
  have h2 := RI_n2 I
  have h3 := RI_n3 I
  have h4 := RI_n4 I
  rcases (show j = 1 ∨ j = 2 ∨ j = 3 ∨ j = 4 by omega) with rfl | rfl | rfl | rfl <;> omega
/-- the first eight debts are all that counts -/
theorem RI_bk (I : RI c N' U') : RI c N' (bkU U U') := by
  obtain ⟨h0, h1, h2, h3, h4, h5, h6, h7, h8, h9, h10, h11, h12⟩ := I
  exact ⟨h0, h1, h2, h3, h4, h5, h6, h7, h8, h9, h10, fun h hh => by
    show bd _ ((cpU U').2 0 h)
    rw [cpU_0 hh]; exact h11 h hh, h12⟩
theorem RM_bk (R : yRM N' U' m) : yRM N' (bkU U U') m := by
  obtain ⟨h0, h1, h2, h3, h4, h5, h6, h7, h8, h9, h10, h11⟩ := R
  exact ⟨h0, h1, h2, h3, h4, h5, h6, h7, h8, h9, fun h hh => by
    show m (12 + h) = (cpU U').2 0 h
    rw [cpU_0 hh]; exact h10 h hh, h11⟩
theorem RI_cp (I : RI c N U) : RI c N (cpU U) := by
  obtain ⟨h0, h1, h2, h3, h4, h5, h6, h7, h8, h9, h10, h11, h12⟩ := I
  exact ⟨h0, h1, h2, h3, h4, h5, h6, h7, h8, h9, h10, fun h hh => by rw [cpU_0 hh]; exact h11 h hh, h12⟩
theorem RM_cp (R : yRM N U m) : yRM N (cpU U) m := by
  obtain ⟨h0, h1, h2, h3, h4, h5, h6, h7, h8, h9, h10, h11⟩ := R
  exact ⟨h0, h1, h2, h3, h4, h5, h6, h7, h8, h9, fun h hh => by rw [cpU_0 hh]; exact h10 h hh, h11⟩
theorem RM_congr (I : RI c N U) (R : yRM N U m) (h : ∀ k, k < 542 → m' k = m k) : yRM N U m' := by
  have n1 := RI_n1 I
  have n2 := RI_n2 I
  have n3 := RI_n3 I
  have n4 := RI_n4 I
  obtain ⟨h0, h1, h2, h3, h4, h5, h6, h7, h8, h9, h10, h11, h12, h13, h14⟩ := R
  refine ⟨by rw [h _ (by omega)]; exact h0, by rw [h _ (by omega)]; exact h1, by rw [h _ (by omega)]; exact h2, by rw [h _ (by omega)]; exact h3, by rw [h _ (by omega)]; exact h4, by rw [h _ (by omega)]; exact h5, by rw [h _ (by omega)]; exact h6, by rw [h _ (by omega)]; exact h7, by rw [h _ (by omega)]; exact h8, by rw [h _ (by omega)]; exact h9, fun i hi => by rw [h _ (by omega)]; exact h10 i hi, fun i hi => ?_, fun i hi => ?_, fun i hi => ?_, fun i hi => ?_⟩
  · rw [h _ (by omega), h _ (by omega), h _ (by omega), h _ (by omega)]; exact h11 i hi
  · rw [h _ (by omega), h _ (by omega), h _ (by omega)]; exact h12 i hi
  · rw [h _ (by omega), h _ (by omega)]; exact h13 i hi
  · rw [h _ (by omega), h _ (by omega), h _ (by omega), h _ (by omega), h _ (by omega), h _ (by omega), h _ (by omega)]; exact h14 i hi
/-- the world is kept as the image -/
theorem F_image {d : Nat} (C : Cs σ A N U S) (E : yEv σ) (I : RI c N U) (hd : zk σ 1 = some d) (hc : 400 ≤ zc σ ∧ 20000 ≤ zz σ) :
    ∃ σ' A' D, f_X1_image (aad A 0) σ = some ((), σ') ∧ Cs σ' A' N U (fun q => S q ∨ In D N q) ∧ ySt σ σ' S 400 20000 ∧ yWd σ' D N (cpU U) ∧ (∀ r, r < 16 → aad A' r = aad A r) ∧ arf A' 0 = some (aad D 1) ∧ arf A' 1 = arf A 1 ∧ arf D 1 = arf A 1 := by
  have W0 := Cs_Wd C E (RI_60 I)
  have hbz := C.1.2.2.2.1
  obtain ⟨σ1, D, a1, a2, a3, a4, a5, a6, a7, a8, a9, a10, a11⟩ := X2_copy_spec E hbz C.1.2.2.1 W0 hd (RI_zb I) hc
  have hin : ∀ q, In D N q → q < zn σ1 ∧ ∀ r, zal N (zow A) r → aad A r = q → 300 ≤ r ∧ r < 400 := by
    rintro q ⟨r, h1, h2, rfl⟩
    refine ⟨(a2.1 r h1 h2).2.1, fun r' hr' e => ?_⟩
    rcases a3 r h1 h2 with h | ⟨h3, h4, h5⟩
    · have := Cs_lt C hr'; omega
    · rw [h5] at e
      rw [Cs_inj C e]; exact ⟨h3, h4⟩
  obtain ⟨A1, b1, b2, b3, b4, b5, b6⟩ := Cs_new (S' := fun q => S q ∨ In D N q) C a4 a5 a6 a7 a8 (fun q hq => hq.elim (fun h => ⟨Nat.lt_of_lt_of_le (C.2.1 q h).1 a7, fun r _ e => (C.2.1 q h).2 r e⟩) (hin q))
  have hal : ∀ r, r < 16 → aad A1 r = aad A r := fun r h => b2 r (zal_some (A := A) (N := N) (U := U) (Or.inl h))
  have C2 := Cs_arf0 (some (aad D 1)) b1
  have row0 : σ1.1 (aad A 0) = some (.inr (0, [.ref (aad A 1), va_rf (arf A 0), .ref (aad A 2), .ref (aad A 3), .ref (aad A 4), .ref (aad A 6), .int (U.1 7)])) := (a4 _ (Cs_lt C (Or.inl (by omega)))).trans (C.1.2.1 0)
  have z0 : zal N (zow A) 0 := Or.inl (by omega)
  have hne : ∀ q, S q ∨ q < zbs σ → q ≠ aad A 0 := by
    intro q hq e
    rcases hq with h | h
    · have := (C.2.1 q h).2 0 e.symm; omega
    · have := C.1.1.2.1 0; omega
  refine ⟨_, _, D, ?_, C2, ⟨a5, a6, a7, fun q hq => ?_, a9, a10⟩, ?_, hal, rfl, ?_, a11⟩
  · unfold f_X1_image
    have w1 := Wd_1 W0
    have pr : pR σ1 (aad A 0) 0 1 (some (aad D 1)) = some (zset σ1 (aad A 0) (.inr (0, [.ref (aad A 1), va_rf (some (aad D 1)), .ref (aad A 2), .ref (aad A 3), .ref (aad A 4), .ref (aad A 6), .int (U.1 7)]))) := pF_of row0 (Nat.le_of_ble_eq_true rfl) (by rw [a6]; exact C.1.1.2.1 0)
    rw [ybind_eq (gR_of (C.1.2.1 0) (k := 0) (q := some (aad A 1)) rfl rfl), bd_at, zif_t (cl_of w1 rfl), zb2_eq a1, ybind_eq pr, hal 0 (by omega), hal 1 (by omega), hal 2 (by omega), hal 3 (by omega), hal 4 (by omega), hal 6 (by omega)]
  · show (if q = aad A1 0 then _ else σ1.1 q) = _
    rw [hal 0 (by omega), if_neg (hne q hq)]
    refine a4 q ?_
    rcases hq with h | h
    · exact (C.2.1 q h).1
    · omega
  · refine Wd_keep a2 (fun r h1 h2 => ?_) rfl rfl (Nat.le_refl _)
    show (if aad D r = aad A1 0 then _ else σ1.1 (aad D r)) = _
    rw [hal 0 (by omega), if_neg]
    intro e
    have := (hin (aad D r) ⟨r, h1, h2, rfl⟩).2 0 z0 e.symm
    omega
  · show arf A1 1 = _
    rw [b6]
/-- the image comes back -/
theorem F_back {d : Nat} (C : Cs σ A N U S) (E : yEv σ) (I : RI c N' U') (hB : arf A 0 = some (aad B 1)) (yW : yWd σ B N' U') (hBS : ∀ q, In B N' q → S q) (hd : zk σ 1 = some d) (hc : 400 ≤ zc σ ∧ 20000 ≤ zz σ) :
    ∃ σ' A', f_X1_back (aad A 0) σ = some (1, σ') ∧ Cs σ' A' N' (bkU U U') S ∧ ySt σ σ' S 400 20000 ∧ aad A' 0 = aad A 0 ∧ arf A' 0 = arf A 0 ∧ arf A' 1 = arf B 1 := by
  have hbz := C.1.2.2.2.1
  obtain ⟨σ1, D, a1, a2, a3, a4, a5, a6, a7, a8, a9, a10, a11⟩ := X2_copy_spec E hbz C.1.2.2.1 yW hd (RI_zb I) hc
  have E1 : yEv σ1 := Ev_to E a5 a6 hbz a4
  let ad : Nat → Nat := fun r => if r = 1 ∨ r = 5 ∨ 12 ≤ r then aad D r else aad A r
  let rf : Nat → Option Nat := fun k => if k = 0 then arf A 0 else arf D k
  have adw : ∀ r, wrl r → ad r = aad D r := fun r h => if_pos h
  have adn : ∀ r, ¬ wrl r → ad r = aad A r := fun r h => if_neg h
  have nw : ∀ r, ¬ wrl r → r < 12 ∧ r ≠ 1 ∧ r ≠ 5 := fun r h => ⟨Nat.lt_of_not_le fun q => h (Or.inr (Or.inr q)), fun q => h (Or.inl q), fun q => h (Or.inr (Or.inl q))⟩
  have zA : ∀ r, ¬ wrl r → zal N (zow A) r := fun r h => Or.inl (by have := (nw r h).1; omega)
  have sep : ∀ r r', wrl r → zal N' (zow D) r → ¬ wrl r' → aad D r ≠ aad A r' := by
    intro r r' h1 h2 h3 e
    rcases a3 r h1 h2 with h | ⟨h4, h5, h6⟩
    · have := Cs_lt C (zA r' h3); omega
    · have hz : zal N' (zow B) r := by
        rcases h2 with q | ⟨j, j1, j4, q, -⟩ | q
        · exact Or.inl q
        · omega
        · exact Or.inr (Or.inr q)
      have := (C.2.1 (aad D r) (hBS _ ⟨r, h1, hz, h6⟩)).2 r' e.symm
      have := nw r' h3
      omega
  let σ2 : zS := zset σ1 (aad A 0) (.inr (0, [.ref (aad D 1), va_rf (arf A 0), .ref (aad A 2), .ref (aad A 3), .ref (aad A 4), .ref (aad A 6), .int (U.1 7)]))
  have n0 : ¬ wrl 0 := by unfold wrl; omega
  have row0 : σ1.1 (aad A 0) = some (.inr (0, [.ref (aad A 1), va_rf (arf A 0), .ref (aad A 2), .ref (aad A 3), .ref (aad A 4), .ref (aad A 6), .int (U.1 7)])) := (a4 _ (Cs_lt C (Or.inl (by omega)))).trans (C.1.2.1 0)
  have m2 : ∀ q, q ≠ aad A 0 → σ2.1 q = σ1.1 q := fun q h => if_neg h
  have g1 : ∀ j, 1 ≤ j → j ≤ 4 → N' j < 100 ∧ ((zow D j = true ∧ aer D j = ad (15 + j) ∧ N' j ≤ acap D j ∧ 1 ≤ acap D j ∧ acap D j ≤ 90) ∨ (zow D j = false ∧ N' j = 0 ∧ aer D j < zbs σ2)) := by
    intro j j1 j4
    obtain ⟨h60, h⟩ := a2.2.2 j j1 j4
    refine ⟨by omega, ?_⟩
    rcases h with ⟨o1, o2⟩ | ⟨o1, o2, o3⟩
    · exact Or.inl ⟨decide_eq_true o1, by rw [adw _ (Or.inr (Or.inr (by omega)))]; exact o1, o2⟩
    · exact Or.inr ⟨decide_eq_false o1, o2, (E1.2 _ o3).1⟩
  have g2 : ∀ r, zal N' (zow D) r → zbs σ2 ≤ ad r ∧ ad r < zn σ2 := by
    intro r hr
    rcases Classical.em (wrl r) with h | h
    · rw [adw r h]; exact ⟨(a2.1 r h hr).1, (a2.1 r h hr).2.1⟩
    · rw [adn r h]
      refine ⟨by show zbs σ1 ≤ _; rw [a6]; exact C.1.1.2.1 r, ?_⟩
      have := Cs_lt C (zA r h)
      show aad A r < zn σ1
      omega
  have g3 : ∀ r r', zal N' (zow D) r → zal N' (zow D) r' → ad r = ad r' → r = r' := by
    intro r r' hr hr' e
    rcases Classical.em (wrl r) with h | h <;> rcases Classical.em (wrl r') with h' | h'
    · rw [adw r h, adw r' h'] at e; exact a2.2.1 r r' h h' hr hr' e
    · rw [adw r h, adn r' h'] at e; exact absurd e (sep r r' h hr h')
    · rw [adn r h, adw r' h'] at e; exact absurd e.symm (sep r' r h' hr' h)
    · rw [adn r h, adn r' h'] at e; exact Cs_inj C e
  have hEa : ∀ j, 1 ≤ j → cEa D ((cpU U').1, (cpU U').2, N') j = cEa (ad, fun _ => none, aer D, acap D, amc D, rf) ((bkU U U').1, (bkU U U').2, N') j := by
    intro j j1
    have ef : (fun i => if i < N' j then some (ad (100 * j + i)) else none) = (fun i => if i < N' j then some (aad D (100 * j + i)) else none) := by
      funext i
      rw [adw (100 * j + i) (Or.inr (Or.inr (by omega)))]
    unfold cEa
    show (if aer D j = aad D (15 + j) then some (Sum.inl (3, acap D j, Sum.inr (Sum.inr (Sum.inr (Sum.inr (fun i => if i < N' j then some (aad D (100 * j + i)) else none)))))) else none) = (if aer D j = ad (15 + j) then some (Sum.inl (3, acap D j, Sum.inr (Sum.inr (Sum.inr (Sum.inr (fun i => if i < N' j then some (ad (100 * j + i)) else none)))))) else none)
    rw [ef, adw (15 + j) (Or.inr (Or.inr (by omega)))]
  have g4 : ∀ r, zal N' (zow D) r → σ2.1 (ad r) = cCt (ad, fun _ => none, aer D, acap D, amc D, rf) ((bkU U U').1, (bkU U U').2, N') r := by
    intro r hr
    rcases Classical.em (wrl r) with h | h
    · rw [adw r h, m2 _ (sep r 0 h hr n0), (a2.1 r h hr).2.2]
      match r, h with
      | 1, _ => rfl
      | 5, _ => rfl
      | 12, _ => rfl
      | 13, _ => rfl
      | 14, _ => rfl
      | 15, _ => rfl
      | 16, _ => exact hEa 1 (by omega)
      | 17, _ => exact hEa 2 (by omega)
      | 18, _ => exact hEa 3 (by omega)
      | 19, _ => exact hEa 4 (by omega)
      | r + 20, _ =>
        show (if r < 80 then none else cEl D ((cpU U').1, (cpU U').2, N') ((r + 20) / 100) ((r + 20) % 100)) = (if r < 80 then none else cEl (ad, fun _ => none, aer D, acap D, amc D, rf) ((bkU U U').1, (bkU U U').2, N') ((r + 20) / 100) ((r + 20) % 100))
        by_cases z : r < 80
        · rw [if_pos z, if_pos z]
        · rw [if_neg z, if_neg z]
          generalize (r + 20) / 100 = j
          generalize (r + 20) % 100 = i
          unfold cEl
          show (if i < N' j then _ else none) = (if i < N' j then _ else none)
          by_cases y : i < N' j
          · rw [if_pos y, if_pos y]
            match j with
            | 0 => rfl
            | 1 => rfl
            | 2 => rfl
            | 3 => rfl
            | 4 => rfl
            | j + 5 => rfl
          · rw [if_neg y, if_neg y]
      | 0, h => exact absurd h (by unfold wrl; omega)
      | 2, h => exact absurd h (by unfold wrl; omega)
      | 3, h => exact absurd h (by unfold wrl; omega)
      | 4, h => exact absurd h (by unfold wrl; omega)
      | 6, h => exact absurd h (by unfold wrl; omega)
      | 7, h => exact absurd h (by unfold wrl; omega)
      | 8, h => exact absurd h (by unfold wrl; omega)
      | 9, h => exact absurd h (by unfold wrl; omega)
      | 10, h => exact absurd h (by unfold wrl; omega)
      | 11, h => exact absurd h (by unfold wrl; omega)
    · rw [adn r h]
      by_cases z : r = 0
      · subst z
        exact if_pos rfl
      · rw [m2 _ (fun e => z (Cs_inj C e)), a4 _ (Cs_lt C (zA r h)), C.1.2.1 r]
        have hs : ∀ k, 7 ≤ k → (bkU U U').1 k = U.1 k := fun k hk => if_neg (by omega)
        match r, h, z with
        | 2, _, _ => rfl
        | 3, _, _ => rfl
        | 4, _, _ =>
          have hsw : sw (U.1, U.2, N) = 0 ∨ sw (U.1, U.2, N) = 1 := by
            unfold sw
            split
            · exact Or.inl rfl
            · exact Or.inr rfl
          have hw : sw ((bkU U U').1, (bkU U U').2, N') = sw (U.1, U.2, N) := rfl
          show some (Sum.inr (4, [Value.ref (aad A 7), .ref (aad A 8), .ref (aad A (9 + sw (U.1, U.2, N))), .ref (aad A (10 - sw (U.1, U.2, N))), .int (U.1 21), .int (U.1 22), .int (U.1 23), .int (U.1 24), .ref (aad A 0)])) = some (Sum.inr (4, [Value.ref (ad 7), .ref (ad 8), .ref (ad (9 + sw ((bkU U U').1, (bkU U U').2, N'))), .ref (ad (10 - sw ((bkU U U').1, (bkU U U').2, N'))), .int (U.1 21), .int (U.1 22), .int (U.1 23), .int (U.1 24), .ref (ad 0)]))
          rw [hw, adn 7 (by unfold wrl; omega), adn 8 (by unfold wrl; omega), adn 0 n0, adn (9 + sw (U.1, U.2, N)) (by unfold wrl; omega), adn (10 - sw (U.1, U.2, N)) (by unfold wrl; omega)]
        | 6, _, _ => rfl
        | 7, _, _ => rfl
        | 8, _, _ => rfl
        | 9, _, _ => rfl
        | 10, _, _ => rfl
        | 11, _, _ => rfl
        | 1, h, _ => exact absurd (Or.inl rfl) h
        | 5, h, _ => exact absurd (Or.inr (Or.inl rfl)) h
        | r + 12, h, _ => exact absurd (Or.inr (Or.inr (by omega))) h
  have l0 : aad A 0 < zn σ := Cs_lt C (Or.inl (by omega))
  obtain ⟨A', b1, b2, b3, b4, b5, b6, b7⟩ := Rp_mk (σ := σ2) (U := bkU U U') (N := N') ad (aer D) (acap D) (amc D) rf (zow D) g1 g2 g3 g4 (fun q hq => by
    have hq' : zn σ1 ≤ q := hq
    rw [m2 q (by omega)]; exact a8 q hq') (by show zbs σ1 ≤ zn σ1; rw [a6]; omega)
  have hne : ∀ q, S q ∨ q < zbs σ → q ≠ aad A 0 := by
    intro q hq e
    rcases hq with h | h
    · have := (C.2.1 q h).2 0 e.symm; omega
    · have := C.1.1.2.1 0; omega
  refine ⟨σ2, A', ?_, ⟨b1, fun q hq => ⟨?_, fun r e => ?_⟩, fun j j1 j4 => ?_⟩, ⟨a5, a6, a7, fun q hq => ?_, a9, a10⟩, ?_, by rw [b6]; rfl, by rw [b6]; exact a11⟩
  · unfold f_X1_back
    have w1 := Wd_1 yW
    have pr : pR σ1 (aad A 0) 0 0 (some (aad D 1)) = some σ2 := pF_of row0 (Nat.le_of_ble_eq_true rfl) (by rw [a6]; exact C.1.1.2.1 0)
    have gr : gR σ (aad A 0) 0 1 = some (some (aad B 1)) := by
      have := gR_of (C.1.2.1 0) (k := 1) (q := arf A 0) rfl rfl
      rw [this, hB]
    rw [ybind_eq gr]
    show (gR σ (aad A 0) 0 1).bind _ = _
    rw [ybind_eq gr, bd_at, zif_t (cl_of w1 rfl), zb2_eq a1, ybind_eq pr]
  · have := (C.2.1 q hq).1
    show q < zn σ1
    omega
  · rcases Classical.em (zal N' (zow D) r) with z | z
    · rw [b2 r z] at e
      rcases Classical.em (wrl r) with h | h
      · rw [adw r h] at e
        rcases a3 r h z with y | y
        · have := (C.2.1 q hq).1; omega
        · exact ⟨y.1, y.2.1⟩
      · rw [adn r h] at e
        exact (C.2.1 q hq).2 r e
    · have h1 := b7 r z
      have h2 := (C.2.1 q hq).1
      have h3 : zn σ2 = zn σ1 := rfl
      omega
  · rcases (a2.2.2 j j1 j4).2 with ⟨o1, o2⟩ | ⟨o1, o2, o3⟩
    · left
      rw [b3, b2 _ (Or.inr (Or.inl ⟨j, j1, j4, rfl, decide_eq_true o1⟩)), adw _ (Or.inr (Or.inr (by omega)))]; exact o1
    · right
      rw [b3]; exact o3
  · rw [m2 q (hne q hq)]
    refine a4 q ?_
    rcases hq with h | h
    · exact (C.2.1 q h).1
    · omega
  · rw [b2 0 (Or.inl (by omega)), adn 0 n0]
/-- a row is copied up to a place -/
def cpR (M : mS) (a b i : Nat) : mS := (M.1, fun q => if q = a then (fun k => if k < i then M.2 b k else M.2 a k) else M.2 q)
theorem cpR_0 (a b : Nat) : cpR M a b 0 = M := by
  refine Prod.ext rfl (funext fun q => ?_)
  show (if q = a then (fun k => if k < 0 then M.2 b k else M.2 a k) else M.2 q) = M.2 q
  by_cases z : q = a
  · rw [if_pos z, z]
    exact funext fun k => if_neg (Nat.not_lt_zero k)
  · rw [if_neg z]
theorem cpR_s {a b i : Nat} (hab : a ≠ b) : mj (cpR M a b i) a i ((cpR M a b i).2 b i) = cpR M a b (i + 1) := by
  refine Prod.ext rfl (funext fun q => ?_)
  have e1 : (cpR M a b i).2 b i = M.2 b i := by
    show (if b = a then (fun k => if k < i then M.2 b k else M.2 a k) else M.2 b) i = _
    rw [if_neg (fun z => hab z.symm)]
  have e2 : (cpR M a b i).2 a = fun k => if k < i then M.2 b k else M.2 a k := if_pos rfl
  rw [e1]
  show (if q = a then upd ((cpR M a b i).2 a) i (M.2 b i) else (if q = a then (fun k => if k < i then M.2 b k else M.2 a k) else M.2 q)) = (if q = a then (fun k => if k < i + 1 then M.2 b k else M.2 a k) else M.2 q)
  by_cases z : q = a
  · rw [if_pos z, if_pos z, e2]
    funext k
    by_cases y : k = i
    · subst y
      rw [upd_at, if_pos (by omega)]
    · rw [upd_no y]
      by_cases x : k < i
      · rw [if_pos x, if_pos (by omega)]
      · rw [if_neg x, if_neg (by omega)]
  · rw [if_neg z, if_neg z, if_neg z]
/-- the model's image -/
theorem g_image : ∃ M', g_X6_image M = some ((), M') ∧ M'.1 = (mset (mset M 0 0) 3 1).1 ∧ (∀ j, j ≠ 1 → M'.2 j = M.2 j) ∧ ∀ k, k < 942 → M'.2 1 k = M.2 0 k := by
  refine ⟨mset (cpR (mset M 0 0) 1 0 942) 3 1, ?_, rfl, fun j hj => if_neg hj, fun k hk => ?_⟩
  · unfold g_X6_image g_X6_image_7
    rw [zl_at]
    have q := zlp1_it (F := g_X6_image_7_b) (n := 942) (R := some ((), mset (cpR (mset M 0 0) 1 0 942) 3 1)) (fun i => nI i) (fun i => cpR (mset M 0 0) 1 0 i) (fun i rf hi => ?_) (fun rf => ?_) NN (NN_lt (by omega))
    · rw [cpR_0 1 0] at q
      exact q
    · show g_X6_image_7_b rf (nI i) (cpR (mset M 0 0) 1 0 i) = rf (nI (i + 1)) (cpR (mset M 0 0) 1 0 (i + 1))
      unfold g_X6_image_7_b
      rw [show (942 : Int32) = nI 942 from rfl, nleF hi (by omega), mL_n (j := 0) (show i < 942 by omega) (by omega), bd_at, mj_set (j := 1) (show i < 942 by omega), bd_at, zl_at, nI_1, cpR_s (by omega)]
    · show g_X6_image_7_b rf (nI 942) (cpR (mset M 0 0) 1 0 942) = _
      unfold g_X6_image_7_b
      have hle : (942 : Int32) ≤ nI 942 := Int32.le_refl _
      rw [if_pos hle, mPZ_at (Or.inr rfl), bd_at]
  · show (if 1 = 1 then (fun k => if k < 942 then M.2 0 k else M.2 1 k) else M.2 1) k = _
    rw [if_pos rfl, if_pos hk]
theorem g_back0 (h : M.1 3 = 0) : g_X6_back M = some (0, mset M 0 0) := by
  unfold g_X6_back
  rw [zl_at]
  have h' : (mset M 0 0).1 3 = 0 := h
  rw [if_neg (fun q => q h')]
theorem g_back1 (h : ¬ M.1 3 = 0) : ∃ M', g_X6_back M = some (1, M') ∧ M'.1 = (mset M 0 0).1 ∧ (∀ j, j ≠ 0 → M'.2 j = M.2 j) ∧ ∀ k, k < 942 → M'.2 0 k = M.2 1 k := by
  refine ⟨cpR (mset M 0 0) 0 1 942, ?_, rfl, fun j hj => if_neg hj, fun k hk => ?_⟩
  · unfold g_X6_back g_X6_back_16
    have h' : ¬ (mset M 0 0).1 3 = 0 := h
    rw [zl_at, if_pos h']
    have q := zlp1_it (F := g_X6_back_16_b) (n := 942) (R := some (1, cpR (mset M 0 0) 0 1 942)) (fun i => nI i) (fun i => cpR (mset M 0 0) 0 1 i) (fun i rf hi => ?_) (fun rf => ?_) NN (NN_lt (by omega))
    · rw [cpR_0 0 1] at q
      exact q
    · show g_X6_back_16_b rf (nI i) (cpR (mset M 0 0) 0 1 i) = rf (nI (i + 1)) (cpR (mset M 0 0) 0 1 (i + 1))
      unfold g_X6_back_16_b
      rw [show (942 : Int32) = nI 942 from rfl, nleF hi (by omega), mL_n (j := 1) (show i < 942 by omega) (by omega), bd_at, mj_set (j := 0) (show i < 942 by omega), bd_at, zl_at, nI_1, cpR_s (by omega)]
    · show g_X6_back_16_b rf (nI 942) (cpR (mset M 0 0) 0 1 942) = _
      unfold g_X6_back_16_b
      have hle : (942 : Int32) ≤ nI 942 := Int32.le_refl _
      rw [if_pos hle]
  · show (if 0 = 0 then (fun k => if k < 942 then M.2 1 k else M.2 0 k) else M.2 0) k = _
    rw [if_pos rfl, if_pos hk]
end ZIM
