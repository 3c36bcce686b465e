/-! pure land: H2 H3 (see wip/D-94657w/pl) -/
section ZCP
variable {σ σ' τ : zS} {A A' D D' : cA} {N N' Nt : Nat → Nat} {U U' U'' : cU} {S : Nat → Prop} {c : Nat} {M M' : mS}
/-- a new empty list, told to a field of a -/
theorem init_list {a k d : Nat} {fs : List Value} (ha : σ.1 a = some (.inr (1, fs))) (hk : k < fs.length) (hb : zbs σ ≤ a) (han : a < zn σ) (hbz : zbs σ ≤ zn σ) (hd : zk σ 1 = some d) (hc : 1 ≤ zc σ ∧ 3 ≤ zz σ) :
    ∃ σ', (∀ K : zS → Option (Unit × zS), (zb2 (znewO σ 19 [.int 0, .null, .int 0]) fun a6 σ7 => zb2 (f_J2_init a6 σ7) fun _ σ9 => (pR σ9 a 1 k (some a6)).bind K) = K σ') ∧ (∀ q, σ'.1 q = if q = a then some (.inr (1, fs.set k (.ref (zn σ)))) else if q = zn σ then some (.inr (19, [.int 0, .ref d, .int 0])) else σ.1 q) ∧ zsv σ' = zsv σ ∧ zbs σ' = zbs σ ∧ zn σ' = zn σ + 1 ∧ zc σ' = zc σ - 1 ∧ zz σ' = zz σ - 3 := by
  let τ : zS := (zup σ.1 (zn σ) (.inr (19, [.int 0, .null, .int 0])), zsv σ, zbs σ, zn σ + 1, zc σ - 1, zz σ - 3)
  have e1 : znewO σ 19 [.int 0, .null, .int 0] = some (zn σ, τ) := znewO_at hc
  have t1 : τ.1 (zn σ) = some (.inr (19, [.int 0, .null, .int 0])) := if_pos rfl
  have e2 : f_J2_init (zn σ) τ = some ((), zset τ (zn σ) (.inr (19, [.int 0, .ref d, .int 0]))) := by
    unfold f_J2_init f_J1_init f_J0_init
    have p1 : pI τ (zn σ) 19 0 0 = some (zset τ (zn σ) (.inr (19, [.int 0, .null, .int 0]))) := pI_of t1 (Nat.le_of_ble_eq_true rfl) hbz
    rw [zb2_at, ybind_eq p1, zb2_at]
    have k1 : zk (zset τ (zn σ) (.inr (19, [.int 0, .null, .int 0]))) 1 = some d := hd
    rw [k1, zl_at]
    have p2 : pR (zset τ (zn σ) (.inr (19, [.int 0, .null, .int 0]))) (zn σ) 19 1 (some d) = some (zset (zset τ (zn σ) (.inr (19, [.int 0, .null, .int 0]))) (zn σ) (.inr (19, [.int 0, .ref d, .int 0]))) := pF_of (zs_at (σ := τ)) (Nat.le_of_ble_eq_true rfl) hbz
    rw [ybind_eq p2, zset2]
  let τ2 : zS := zset τ (zn σ) (.inr (19, [.int 0, .ref d, .int 0]))
  have t2 : τ2.1 a = some (.inr (1, fs)) := by
    show (if a = zn σ then _ else if a = zn σ then _ else σ.1 a) = _
    rw [if_neg (by omega), if_neg (by omega)]; exact ha
  have e3 : pR τ2 a 1 k (some (zn σ)) = some (zset τ2 a (.inr (1, fs.set k (.ref (zn σ))))) := pF_of t2 hk hb
  refine ⟨zset τ2 a (.inr (1, fs.set k (.ref (zn σ)))), ?_, fun q => ?_, rfl, rfl, rfl, rfl, rfl⟩
  · intro K
    rw [zb2_eq e1, zb2_eq e2, ybind_eq e3]
  · show (if q = a then _ else if q = zn σ then _ else if q = zn σ then _ else σ.1 q) = _
    by_cases z : q = a
    · rw [if_pos z, if_pos z]
    · by_cases y : q = zn σ
      · rw [if_neg z, if_pos y, if_neg z, if_pos y]
      · rw [if_neg z, if_neg y, if_neg y, if_neg z, if_neg y]
/-- a new world -/
theorem X2_init_spec {a d : Nat} (ha : σ.1 a = some (.inr (1, [.int 0, .int 0, .int 0, .int 0, .int 0, .int 0, .int 0, .null, .null, .null, .null, .null, .null]))) (hb : zbs σ ≤ a) (han : a < zn σ) (hbz : zbs σ ≤ zn σ) (hd : zk σ 1 = some d) (hc : 5 ≤ zc σ ∧ 20 ≤ zz σ) :
    ∃ σ', f_X2_init a σ = some ((), σ') ∧ (∀ q, σ'.1 q = if q = a then some (.inr (1, [.int 0, .int 0, .int 100, .int 0, .int 0, .int 1, .int 0, .ref (zn σ), .ref (zn σ + 1), .ref (zn σ + 2), .ref (zn σ + 3), .ref (zn σ + 4), .null])) else if q = zn σ then some (.inl (0, 8, .inl (fun _ => 0))) else if zn σ < q ∧ q < zn σ + 5 then some (.inr (19, [.int 0, .ref d, .int 0])) else σ.1 q) ∧ zsv σ' = zsv σ ∧ zbs σ' = zbs σ ∧ zn σ' = zn σ + 5 ∧ zc σ' = zc σ - 5 ∧ zz σ' = zz σ - 20 := by
  have p1 : pI σ a 1 2 100 = some (zset σ a (.inr (1, [.int 0, .int 0, .int 100, .int 0, .int 0, .int 0, .int 0, .null, .null, .null, .null, .null, .null]))) := pI_of ha (Nat.le_of_ble_eq_true rfl) hb
  have p2 : pI (zset σ a (.inr (1, [.int 0, .int 0, .int 100, .int 0, .int 0, .int 0, .int 0, .null, .null, .null, .null, .null, .null]))) a 1 5 1 = some (zset σ a (.inr (1, [.int 0, .int 0, .int 100, .int 0, .int 0, .int 1, .int 0, .null, .null, .null, .null, .null, .null]))) := (pI_of (zs_at (σ := σ)) (Nat.le_of_ble_eq_true rfl) hb).trans (congrArg some zset2)
  let σ2 : zS := zset σ a (.inr (1, [.int 0, .int 0, .int 100, .int 0, .int 0, .int 1, .int 0, .null, .null, .null, .null, .null, .null]))
  let σ4 : zS := (zup σ2.1 (zn σ2) (.inl (0, 8, .inl (fun _ => 0))), zsv σ2, zbs σ2, zn σ2 + 1, zc σ2 - 1, zz σ2 - 8)
  have p3 : znewI σ2 8 = some (zn σ2, σ4) := by
    unfold znewI znew
    rw [if_neg (by decide)]
    have hh : 1 ≤ zc σ2 ∧ (8 : Int32).toNatClampNeg ≤ zz σ2 := ⟨by show 1 ≤ zc σ; omega, by show 8 ≤ zz σ; omega⟩
    rw [if_pos hh]
    rfl
  have h4 : σ4.1 a = some (.inr (1, [.int 0, .int 0, .int 100, .int 0, .int 0, .int 1, .int 0, .null, .null, .null, .null, .null, .null])) := by
    show (if a = zn σ then _ else σ2.1 a) = _
    rw [if_neg (by omega)]
    exact zs_at
  have p4 : pR σ4 a 1 7 (some (zn σ2)) = some (zset σ4 a (.inr (1, [.int 0, .int 0, .int 100, .int 0, .int 0, .int 1, .int 0, .ref (zn σ), .null, .null, .null, .null, .null]))) := pF_of h4 (Nat.le_of_ble_eq_true rfl) hb
  let σ5 : zS := zset σ4 a (.inr (1, [.int 0, .int 0, .int 100, .int 0, .int 0, .int 1, .int 0, .ref (zn σ), .null, .null, .null, .null, .null]))
  have n5 : zn σ5 = zn σ + 1 ∧ zc σ5 = zc σ - 1 ∧ zz σ5 = zz σ - 8 ∧ zbs σ5 = zbs σ ∧ zk σ5 1 = some d := ⟨rfl, rfl, rfl, rfl, hd⟩
  have m5 : ∀ q, σ5.1 q = if q = a then some (.inr (1, [.int 0, .int 0, .int 100, .int 0, .int 0, .int 1, .int 0, .ref (zn σ), .null, .null, .null, .null, .null])) else if q = zn σ then some (.inl (0, 8, .inl (fun _ => 0))) else σ.1 q := by
    intro q
    show (if q = a then _ else if q = zn σ then _ else if q = a then _ else σ.1 q) = _
    by_cases z : q = a
    · rw [if_pos z, if_pos z]
    · rw [if_neg z, if_neg z, if_neg z]
  obtain ⟨τ1, k1, m1, v1, b1, q1, c1, z1⟩ := init_list (σ := σ5) (a := a) (k := 8) (d := d) (fs := [.int 0, .int 0, .int 100, .int 0, .int 0, .int 1, .int 0, .ref (zn σ), .null, .null, .null, .null, .null]) (by rw [m5, if_pos rfl]) (Nat.le_of_ble_eq_true rfl) hb (by rw [n5.1]; omega) (by rw [n5.1, n5.2.2.2.1]; omega) hd (by rw [n5.2.1, n5.2.2.1]; omega)
  rw [n5.1] at m1 q1
  rw [n5.2.1] at c1
  rw [n5.2.2.1] at z1
  have v1' : zsv τ1 = zsv σ := v1
  have b1' : zbs τ1 = zbs σ := b1
  obtain ⟨τ2, k2, m2, v2, b2, q2, c2, z2⟩ := init_list (σ := τ1) (a := a) (k := 9) (d := d) (by rw [m1, if_pos rfl]) (Nat.le_of_ble_eq_true rfl) (by rw [b1']; exact hb) (by omega) (by omega) (by show zsv τ1 1 = _; rw [v1']; exact hd) (by omega)
  rw [q1] at m2 q2
  obtain ⟨τ3, k3, m3, v3, b3, q3, c3, z3⟩ := init_list (σ := τ2) (a := a) (k := 10) (d := d) (by rw [m2, if_pos rfl]) (Nat.le_of_ble_eq_true rfl) (by rw [b2, b1']; exact hb) (by omega) (by omega) (by show zsv τ2 1 = _; rw [v2, v1']; exact hd) (by omega)
  rw [q2] at m3 q3
  obtain ⟨τ4, k4, m4, v4, b4, q4, c4', z4⟩ := init_list (σ := τ3) (a := a) (k := 11) (d := d) (by rw [m3, if_pos rfl]) (Nat.le_of_ble_eq_true rfl) (by rw [b3, b2, b1']; exact hb) (by omega) (by omega) (by show zsv τ3 1 = _; rw [v3, v2, v1']; exact hd) (by omega)
  rw [q3] at m4 q4
  refine ⟨τ4, ?_, fun q => ?_, by rw [v4, v3, v2, v1'], by rw [b4, b3, b2, b1'], by omega, by omega, by omega⟩
  · unfold f_X2_init
    rw [ybind_eq p1, ybind_eq p2, zb2_eq p3, ybind_eq p4, k1, k2, k3, k4]
  · rw [m4]
    by_cases z : q = a
    · rw [if_pos z, if_pos z]
      rfl
    · rw [if_neg z, if_neg z, m3, if_neg z, m2, if_neg z, m1, if_neg z, m5, if_neg z]
      by_cases y0 : q = zn σ
      · rw [if_neg (by omega), if_neg (by omega), if_neg (by omega), if_neg (by omega), if_pos y0, if_pos y0]
      · rw [if_neg y0, if_neg y0]
        by_cases y4 : q = zn σ + 1 + 1 + 1 + 1
        · rw [if_pos y4, if_pos (by omega)]
        · rw [if_neg y4]
          by_cases y3 : q = zn σ + 1 + 1 + 1
          · rw [if_pos y3, if_pos (by omega)]
          · rw [if_neg y3]
            by_cases y2 : q = zn σ + 1 + 1
            · rw [if_pos y2, if_pos (by omega)]
            · rw [if_neg y2]
              by_cases y1 : q = zn σ + 1
              · rw [if_pos y1, if_pos (by omega)]
              · rw [if_neg y1, if_neg (by omega)]
end ZCP
/-- a world that is made anew behind σ0 -/
def CP (σ0 σ : zS) (D : cA) (Nt : Nat → Nat) (U : cU) (a b : Nat) : Prop := yWd σ D Nt U ∧ (∀ r, wrl r → zal Nt (zow D) r → zn σ0 ≤ aad D r) ∧ (∀ q, q < zn σ0 → σ.1 q = σ0.1 q) ∧ zsv σ = zsv σ0 ∧ zbs σ = zbs σ0 ∧ zn σ0 ≤ zn σ ∧ (∀ q, zn σ ≤ q → σ.1 q = none) ∧ zc σ0 ≤ zc σ + a ∧ zz σ0 ≤ zz σ + b
/-- the offers are taken over by their objects -/
def copy_end (o e : Nat) (σ : zS) : Option (Option Nat × zS) := (gR σ e 1 10).bind fun r42 => (gR σ o 1 10).bind fun r43 => r42.bind fun a44 => zif (zcl σ a44 = 19) <| zb2 (f_J2_addAll a44 r43 σ) fun _ σ47 => some (some e, σ47)
section ZCQ
variable {σ0 σ σ' τ : zS} {A A' D D' : cA} {N N' Nt : Nat → Nat} {U U' U'' : cU} {S : Nat → Prop} {c : Nat} {M M' : mS} {a b : Nat}
theorem Ev_to (E : yEv σ0) (h1 : zsv σ = zsv σ0) (h2 : zbs σ = zbs σ0) (h3 : zbs σ0 ≤ zn σ0) (h4 : ∀ q, q < zn σ0 → σ.1 q = σ0.1 q) : yEv σ := by
  obtain ⟨⟨m, q1⟩, q2⟩ := E
  refine ⟨⟨m, by show zsv σ 0 = _; rw [h1]; exact q1⟩, fun d hd => ?_⟩
  have hd' : zk σ0 1 = some d := by
    have : zsv σ 1 = some d := hd
    rw [h1] at this; exact this
  obtain ⟨g1, g2⟩ := q2 d hd'
  exact ⟨by rw [h2]; exact g1, by rw [h4 d (by omega)]; exact g2⟩
theorem CP_add {j x s : Nat} {o : zOb} (j1 : 1 ≤ j) (j4 : j ≤ 4) (E : yEv σ0) (hb0 : zbs σ0 ≤ zn σ0) (yW : CP σ0 σ D Nt U a b) (hx : x = zn σ) (hτ : ∀ q, τ.1 q = if q = x then some o else σ.1 q) (tv : zsv τ = zsv σ) (tb : zbs τ = zbs σ) (tn : zn τ = zn σ + 1) (tc : zc σ ≤ zc τ + 1) (tz : zz σ ≤ zz τ + 8) (hn : Nt j < 60)
    (ho : cEl D (U.1, U.2, Nj Nt j (Nt j + 1)) j (Nt j) = some o) (hc : 1 ≤ zc τ ∧ 90 ≤ zz τ) :
    ∃ σ' D', f_J2_add (aad D (11 + j)) (some x) τ = some (1, σ') ∧ CP σ0 σ' D' (Nj Nt j (Nt j + 1)) U (a + 2) (b + 98) ∧ (∀ r, r < 16 → aad D' r = aad D r) ∧ arf D' = arf D ∧ zc σ ≤ zc σ' + 2 ∧ zz σ ≤ zz σ' + 98 ∧ (∀ k, 1 ≤ k → k ≤ 4 → k ≠ j → aer D' k = aer D k ∧ (zow D' k = zow D k) ∧ amc D' k = amc D k) := by
  obtain ⟨w1, w2, w3, w4, w5, w6, w7, w8, w9⟩ := yW
  have Q : ∀ q, q ≠ x → τ.1 q = σ.1 q := fun q hq => by rw [hτ, if_neg hq]
  have hlt : ∀ r, wrl r → zal Nt (zow D) r → aad D r < zn σ := fun r hr hz => (w1.1 r hr hz).2.1
  have Wτ : yWd τ D Nt U := Wd_keep w1 (fun r hr hz => Q _ (by have := hlt r hr hz; omega)) tv tb (by omega)
  have Eτ : yEv τ := Ev_to E (tv.trans w4) (tb.trans w5) hb0 (fun q hq => (Q q (by omega)).trans (w3 q hq))
  obtain ⟨σ', D', a1, a2, a3, a4, a5, a6, a7, a8, a9, a10, a11, a12, a13, a14, a15⟩ := Wd_add j1 j4 Wτ Eτ (by rw [tb, w5]; omega) (fun q hq => by rw [Q q (by omega)]; exact w7 q (by omega)) (by rw [hτ, if_pos rfl]) (by rw [tb, w5]; omega) (by omega) (fun r hr hz => by have := hlt r hr hz; omega) hn ho hc
  refine ⟨σ', D', a1, ⟨a2, fun r hr hz => ?_, fun q hq => ?_, a3.trans (tv.trans w4), a4.trans (tb.trans w5), by omega, a6, by omega, by omega⟩, a10, a11, by omega, by omega, a15⟩
  · rcases a14 r hr hz with ⟨h1, h2⟩ | ⟨-, h2⟩ | ⟨h1, -⟩
    · rw [h2]; exact w2 r hr h1
    · omega
    · omega
  · rw [a9 q (by omega) (fun r hr hz e => by have := w2 r hr hz; omega), Q q (by omega)]
    exact w3 q hq
theorem X7_copy_spec {s : Nat} {v0 v1 v2 v3 : Int32} (h : σ.1 s = some (.inr (6, [.int v0, .int v1, .int v2, .int v3]))) (hs : s < zn σ) (hb : zbs σ ≤ zn σ) (hc : 1 ≤ zc σ ∧ 8 ≤ zz σ) : ∃ τ, f_X7_copy s σ = some (some (zn σ), τ) ∧ (∀ q, τ.1 q = if q = zn σ then some (.inr (6, [.int v0, .int v1, .int v2, .int v3])) else σ.1 q) ∧ zsv τ = zsv σ ∧ zbs τ = zbs σ ∧ zn τ = zn σ + 1 ∧ zc τ = zc σ - 1 ∧ zz τ = zz σ - 4 := by
  let τ0 : zS := (zup σ.1 (zn σ) (.inr (6, [.int 0, .int 0, .int 0, .int 0])), zsv σ, zbs σ, zn σ + 1, zc σ - 1, zz σ - 4)
  have e1 : znewO σ 6 [.int 0, .int 0, .int 0, .int 0] = some (zn σ, τ0) := znewO_at ⟨hc.1, by show 4 ≤ zz σ; omega⟩
  have t1 : τ0.1 (zn σ) = some (.inr (6, [.int 0, .int 0, .int 0, .int 0])) := if_pos rfl
  have t2 : τ0.1 s = some (.inr (6, [.int v0, .int v1, .int v2, .int v3])) := (if_neg (by omega)).trans h
  have e2 : f_X7_init (zn σ) v0 v1 v3 v2 τ0 = some ((), zset τ0 (zn σ) (.inr (6, [.int v0, .int v1, .int v2, .int v3]))) := by
    unfold f_X7_init
    have hb' : zbs τ0 ≤ zn σ := hb
    have p1 : pI τ0 (zn σ) 6 0 v0 = some (zset τ0 (zn σ) (.inr (6, [.int v0, .int 0, .int 0, .int 0]))) := pI_of t1 (Nat.le_of_ble_eq_true rfl) hb'
    have p2 : pI (zset τ0 (zn σ) (.inr (6, [.int v0, .int 0, .int 0, .int 0]))) (zn σ) 6 1 v1 = some (zset τ0 (zn σ) (.inr (6, [.int v0, .int v1, .int 0, .int 0]))) := (pI_of (zs_at (σ := τ0)) (Nat.le_of_ble_eq_true rfl) hb').trans (congrArg some zset2)
    have p3 : pI (zset τ0 (zn σ) (.inr (6, [.int v0, .int v1, .int 0, .int 0]))) (zn σ) 6 3 v3 = some (zset τ0 (zn σ) (.inr (6, [.int v0, .int v1, .int 0, .int v3]))) := (pI_of (zs_at (σ := τ0)) (Nat.le_of_ble_eq_true rfl) hb').trans (congrArg some zset2)
    have p4 : pI (zset τ0 (zn σ) (.inr (6, [.int v0, .int v1, .int 0, .int v3]))) (zn σ) 6 2 v2 = some (zset τ0 (zn σ) (.inr (6, [.int v0, .int v1, .int v2, .int v3]))) := (pI_of (zs_at (σ := τ0)) (Nat.le_of_ble_eq_true rfl) hb').trans (congrArg some zset2)
    rw [ybind_eq p1, ybind_eq p2, ybind_eq p3, ybind_eq p4]
  refine ⟨zset τ0 (zn σ) (.inr (6, [.int v0, .int v1, .int v2, .int v3])), ?_, fun q => ?_, rfl, rfl, rfl, rfl, rfl⟩
  · unfold f_X7_copy
    rw [zb2_eq e1, ybind_eq (gI_of t2 (v := v0) rfl rfl), ybind_eq (gI_of t2 (v := v1) rfl rfl), ybind_eq (gI_of t2 (v := v3) rfl rfl), ybind_eq (gI_of t2 (v := v2) rfl rfl), zb2_eq e2]
  · show (if q = zn σ then _ else if q = zn σ then _ else σ.1 q) = _
    by_cases z : q = zn σ
    · rw [if_pos z, if_pos z]
    · rw [if_neg z, if_neg z, if_neg z]
theorem X8_copy_spec {s : Nat} {v0 v1 v2 : Int32} (h : σ.1 s = some (.inr (7, [.int v0, .int v1, .int v2]))) (hs : s < zn σ) (hb : zbs σ ≤ zn σ) (hc : 1 ≤ zc σ ∧ 8 ≤ zz σ) : ∃ τ, f_X8_copy s σ = some (some (zn σ), τ) ∧ (∀ q, τ.1 q = if q = zn σ then some (.inr (7, [.int v0, .int v1, .int v2])) else σ.1 q) ∧ zsv τ = zsv σ ∧ zbs τ = zbs σ ∧ zn τ = zn σ + 1 ∧ zc τ = zc σ - 1 ∧ zz τ = zz σ - 3 := by
  let τ0 : zS := (zup σ.1 (zn σ) (.inr (7, [.int 0, .int 0, .int 0])), zsv σ, zbs σ, zn σ + 1, zc σ - 1, zz σ - 3)
  have e1 : znewO σ 7 [.int 0, .int 0, .int 0] = some (zn σ, τ0) := znewO_at ⟨hc.1, by show 3 ≤ zz σ; omega⟩
  have t1 : τ0.1 (zn σ) = some (.inr (7, [.int 0, .int 0, .int 0])) := if_pos rfl
  have t2 : τ0.1 s = some (.inr (7, [.int v0, .int v1, .int v2])) := (if_neg (by omega)).trans h
  have hb' : zbs τ0 ≤ zn σ := hb
  have e2 : f_X8_init (zn σ) v0 τ0 = some ((), zset τ0 (zn σ) (.inr (7, [.int v0, .int 0, .int 0]))) := by
    unfold f_X8_init
    rw [pI_of t1 (Nat.le_of_ble_eq_true rfl) hb', bd_at]
    rfl
  have tt : ∀ o, (zset τ0 (zn σ) o).1 s = some (.inr (7, [.int v0, .int v1, .int v2])) := fun o => (if_neg (by omega)).trans t2
  refine ⟨zset τ0 (zn σ) (.inr (7, [.int v0, .int v1, .int v2])), ?_, fun q => ?_, rfl, rfl, rfl, rfl, rfl⟩
  · unfold f_X8_copy
    have p1 : pI (zset τ0 (zn σ) (.inr (7, [.int v0, .int 0, .int 0]))) (zn σ) 7 1 v1 = some (zset τ0 (zn σ) (.inr (7, [.int v0, .int v1, .int 0]))) := (pI_of (zs_at (σ := τ0)) (Nat.le_of_ble_eq_true rfl) hb').trans (congrArg some zset2)
    have p2 : pI (zset τ0 (zn σ) (.inr (7, [.int v0, .int v1, .int 0]))) (zn σ) 7 2 v2 = some (zset τ0 (zn σ) (.inr (7, [.int v0, .int v1, .int v2]))) := (pI_of (zs_at (σ := τ0)) (Nat.le_of_ble_eq_true rfl) hb').trans (congrArg some zset2)
    rw [zb2_eq e1, ybind_eq (gI_of t2 (v := v0) rfl rfl), zb2_eq e2, ybind_eq (gI_of (tt _) (v := v1) rfl rfl), ybind_eq p1, ybind_eq (gI_of (tt _) (v := v2) rfl rfl), ybind_eq p2]
  · show (if q = zn σ then _ else if q = zn σ then _ else σ.1 q) = _
    by_cases z : q = zn σ
    · rw [if_pos z, if_pos z]
    · rw [if_neg z, if_neg z, if_neg z]
theorem X9_copy_spec {s : Nat} {v0 v1 v2 v3 v4 v5 v6 v7 : Int32} (h6 : v6 = 0 ∨ v6 = 1) (h7 : v7 = 0 ∨ v7 = 1) (h : σ.1 s = some (.inr (8, [.int v0, .int v1, .int v2, .int v3, .int v4, .int v5, .int v6, .int v7]))) (hs : s < zn σ) (hb : zbs σ ≤ zn σ) (hc : 1 ≤ zc σ ∧ 8 ≤ zz σ) : ∃ τ, f_X9_copy s σ = some (some (zn σ), τ) ∧ (∀ q, τ.1 q = if q = zn σ then some (.inr (8, [.int v0, .int v1, .int v2, .int v3, .int v4, .int v5, .int v6, .int v7])) else σ.1 q) ∧ zsv τ = zsv σ ∧ zbs τ = zbs σ ∧ zn τ = zn σ + 1 ∧ zc τ = zc σ - 1 ∧ zz τ = zz σ - 8 := by
  let τ0 : zS := (zup σ.1 (zn σ) (.inr (8, [.int 0, .int 0, .int 0, .int 0, .int 0, .int 0, .int 0, .int 0])), zsv σ, zbs σ, zn σ + 1, zc σ - 1, zz σ - 8)
  have e1 : znewO σ 8 [.int 0, .int 0, .int 0, .int 0, .int 0, .int 0, .int 0, .int 0] = some (zn σ, τ0) := znewO_at ⟨hc.1, by show 8 ≤ zz σ; omega⟩
  have t1 : τ0.1 (zn σ) = some (.inr (8, [.int 0, .int 0, .int 0, .int 0, .int 0, .int 0, .int 0, .int 0])) := if_pos rfl
  have t2 : τ0.1 s = some (.inr (8, [.int v0, .int v1, .int v2, .int v3, .int v4, .int v5, .int v6, .int v7])) := (if_neg (by omega)).trans h
  have hb' : zbs τ0 ≤ zn σ := hb
  have e2 := X9_init (σ := τ0) (a := zn σ) (s := v0) (d := v1) (w := v2) (h := v3) (k := v4) (nt := v6) (t := v5) h6 t1 hb'
  have tt : ∀ o, (zset τ0 (zn σ) o).1 s = some (.inr (8, [.int v0, .int v1, .int v2, .int v3, .int v4, .int v5, .int v6, .int v7])) := fun o => (if_neg (by omega)).trans t2
  refine ⟨zset τ0 (zn σ) (.inr (8, [.int v0, .int v1, .int v2, .int v3, .int v4, .int v5, .int v6, .int v7])), ?_, fun q => ?_, rfl, rfl, rfl, rfl, rfl⟩
  · unfold f_X9_copy
    have p1 : pZ (zset τ0 (zn σ) (.inr (8, [.int v0, .int v1, .int v2, .int v3, .int v4, .int v5, .int v6, .int 0]))) (zn σ) 8 7 v7 = some (zset τ0 (zn σ) (.inr (8, [.int v0, .int v1, .int v2, .int v3, .int v4, .int v5, .int v6, .int v7]))) := (pZ_of h7 (zs_at (σ := τ0)) (Nat.le_of_ble_eq_true rfl) hb').trans (congrArg some zset2)
    rw [zb2_eq e1, ybind_eq (gI_of t2 (v := v0) rfl rfl), ybind_eq (gI_of t2 (v := v1) rfl rfl), ybind_eq (gI_of t2 (v := v2) rfl rfl), ybind_eq (gI_of t2 (v := v3) rfl rfl), ybind_eq (gI_of t2 (v := v4) rfl rfl), ybind_eq (gI_of t2 (v := v6) rfl rfl), ybind_eq (gI_of t2 (v := v5) rfl rfl), zb2_eq e2, ybind_eq (gI_of (tt _) (v := v7) rfl rfl), ybind_eq p1]
  · show (if q = zn σ then _ else if q = zn σ then _ else σ.1 q) = _
    by_cases z : q = zn σ
    · rw [if_pos z, if_pos z]
    · rw [if_neg z, if_neg z, if_neg z]
/-- reads of the world that is copied -/
theorem Wd_get {j i : Nat} (j1 : 1 ≤ j) (j4 : j ≤ 4) (yW : yWd σ A N U) (hi : i < N j) : f_J2_get (aad A (11 + j)) (nI i) σ = some (some (aad A (100 * j + i)), σ) := by
  obtain ⟨w1, w2, w3⟩ := yW
  obtain ⟨h60, h⟩ := w3 j j1 j4
  obtain ⟨o1, o2, o3, o4⟩ : aer A j = aad A (15 + j) ∧ N j ≤ acap A j ∧ 1 ≤ acap A j ∧ acap A j ≤ 90 := by
    rcases h with h | h
    · exact h
    · omega
  obtain ⟨l1, l2, l3⟩ := w1 (11 + j) (Or.inr (Or.inr (by omega))) (Or.inl (by omega))
  obtain ⟨e1, e2, e3⟩ := w1 (15 + j) (Or.inr (Or.inr (by omega))) (Or.inr (Or.inl ⟨j, j1, j4, rfl, decide_eq_true o1⟩))
  have hl : σ.1 (aad A (11 + j)) = some (.inr (19, [.int (amc A j), .ref (aer A j), .int (nI (N j))])) := l3.trans (cCt_ls j1 j4)
  have he : σ.1 (aer A j) = some (.inl (3, acap A j, obA (lsA (N j) (fun i => aad A (100 * j + i))))) := by
    rw [o1, e3, cCt_ea j1 j4]
    unfold cEa
    rw [if_pos o1]
    rfl
  have hci : f_J3_checkIndex (nI i) (nI (N j)) σ = some (nI i, σ) := by
    unfold f_J3_checkIndex f_J4_checkIndex
    rw [if_neg (nI_pos (by omega)), if_pos (nI_lt hi (by omega))]
    rfl
  have hlr : lR σ (aer A j) (nI i) = some (some (aad A (100 * j + i))) := by
    unfold lR
    rw [he]
    show (if (3 ≤ 3 ∧ 3 ≤ 5) ∧ ¬ (nI i < 0 ∨ acap A j ≤ (nI i).toNatClampNeg) then some (lsA (N j) (fun i => aad A (100 * j + i)) (nI i).toNatClampNeg) else none) = _
    rw [if_pos ⟨⟨by decide, by decide⟩, nI_in (by omega) (by omega)⟩, nI_clamp (by omega)]
    exact congrArg some (if_pos hi)
  unfold f_J2_get f_J2_elementData
  rw [ybind_eq (gI_of hl (v := nI (N j)) rfl rfl), zb2_eq hci, zif_t (cl_of hl rfl), ybind_eq (gR_of hl (q := some (aer A j)) rfl rfl), bd_at, ybind_eq hlr, zb2_at]
theorem Wd_size {j : Nat} (j1 : 1 ≤ j) (j4 : j ≤ 4) (yW : yWd σ A N U) : f_J2_size (aad A (11 + j)) σ = some (nI (N j), σ) ∧ zcl σ (aad A (11 + j)) = 19 := by
  obtain ⟨l1, l2, l3⟩ := yW.1 (11 + j) (Or.inr (Or.inr (by omega))) (Or.inl (by omega))
  have hl : σ.1 (aad A (11 + j)) = some (.inr (19, [.int (amc A j), .ref (aer A j), .int (nI (N j))])) := l3.trans (cCt_ls j1 j4)
  refine ⟨?_, cl_of hl rfl⟩
  unfold f_J2_size
  rw [ybind_eq (gI_of hl (v := nI (N j)) rfl rfl)]
theorem Wd_1 (yW : yWd σ A N U) : σ.1 (aad A 1) = some (.inr (1, [.int (U.1 0), .int (U.1 1), .int (U.1 2), .int (U.1 3), .int (U.1 4), .int (U.1 5), .int (U.1 6), .ref (aad A 5), .ref (aad A 12), .ref (aad A 13), .ref (aad A 14), .ref (aad A 15), va_rf (arf A 1)])) := (yW.1 1 (Or.inl rfl) (Or.inl (by omega))).2.2
/-- the world before is there still -/
theorem CP_src (W0 : yWd σ0 A N U) (yW : CP σ0 σ D Nt U' a b) : yWd σ A N U := Wd_keep W0 (fun r hr hz => yW.2.2.1 _ (W0.1 r hr hz).2.1) yW.2.2.2.1 yW.2.2.2.2.1 yW.2.2.2.2.2.1

theorem copy_89 {U2 : cU} (hU : U2.2 1 = U.2 1) (E : yEv σ0) (hb0 : zbs σ0 ≤ zn σ0) (W0 : yWd σ0 A N U) : ∀ n k σ D fu a b, k + n = N 1 → n < fu → CP σ0 σ D Nt U2 a b → Nt 1 = k → 2 * n + 1 ≤ zc σ → 98 * n + 100 ≤ zz σ →
    ∃ σ' D', CP σ0 σ' D' (Nj Nt 1 (N 1)) U2 (a + 2 * n) (b + 98 * n) ∧ zlp1 (f_X2_copy_89_b (aad A 1) (some (aad D 1))) fu (nI k) σ = f_X2_copy_130 (aad A 1) (some (aad D 1)) 0 σ' ∧ (∀ r, r < 16 → aad D' r = aad D r) ∧ arf D' = arf D ∧ (aer D' 3 = aer D 3 ∧ (zow D' 3 = zow D 3) ∧ amc D' 3 = amc D 3) := by
  intro n
  induction n generalizing Nt with
  | zero =>
    intro k σ D fu a b hk hf yW hN _ _
    obtain ⟨fu, rfl⟩ : ∃ f', fu = f' + 1 := ⟨fu - 1, by omega⟩
    have Ws := CP_src W0 yW
    obtain ⟨s1, s2⟩ := Wd_size (j := 1) (by omega) (by omega) Ws
    have eN : Nj Nt 1 (N 1) = Nt := by
      funext q
      show (if q = 1 then N 1 else Nt q) = Nt q
      by_cases z : q = 1
      · rw [if_pos z, z]; omega
      · rw [if_neg z]
    refine ⟨σ, D, by rw [eN]; exact yW, ?_, fun _ _ => rfl, rfl, rfl, rfl, rfl⟩
    rw [zlp1_s]
    unfold f_X2_copy_89_b
    rw [ybind_eq (gR_of (Wd_1 Ws) (k := 8) (q := some (aad A 12)) rfl rfl), bd_at, zif_t s2, zb2_eq s1, if_pos (nI_le (by omega) (by have := (W0.2.2 1 (by omega) (by omega)).1; omega))]
  | succ n ih =>
    intro k σ D fu a b hk hf yW hN hzc hzz
    obtain ⟨fu, rfl⟩ : ∃ f', fu = f' + 1 := ⟨fu - 1, by omega⟩
    have h60 := (W0.2.2 1 (by omega) (by omega)).1
    have Ws := CP_src W0 yW
    obtain ⟨s1, s2⟩ := Wd_size (j := 1) (by omega) (by omega) Ws
    have sg := Wd_get (j := 1) (i := k) (by omega) (by omega) Ws (by omega)
    have zr : zal N (zow A) (100 * 1 + k) := Or.inr (Or.inr ⟨1, k, by omega, by omega, by omega, by omega, rfl⟩)
    obtain ⟨x1, x2, x3⟩ := W0.1 (100 * 1 + k) (Or.inr (Or.inr (by omega))) zr
    have hxs : σ.1 (aad A (100 * 1 + k)) = some (.inr (6, [.int (U.2 1 (4 * k)), .int (U.2 1 (4 * k + 1)), .int (U.2 1 (4 * k + 2)), .int (U.2 1 (4 * k + 3))])) := by
      rw [yW.2.2.1 _ x2, x3, cEl_at (by omega) (by omega)]
      unfold cEl
      exact if_pos (show k < N 1 by omega)
    have hbz : zbs σ ≤ zn σ := by
      have := yW.2.2.2.2.1
      have := yW.2.2.2.2.2.1
      omega
    obtain ⟨τ, c1, c2, c3, yc4, c5, c6, c7⟩ := X7_copy_spec hxs (by have := yW.2.2.2.2.2.1; omega) hbz (by omega)
    have ho : cEl D (U2.1, U2.2, Nj Nt 1 (Nt 1 + 1)) 1 (Nt 1) = some (.inr (6, [.int (U.2 1 (4 * k)), .int (U.2 1 (4 * k + 1)), .int (U.2 1 (4 * k + 2)), .int (U.2 1 (4 * k + 3))])) := by
      unfold cEl
      show (if Nt 1 < Nj Nt 1 (Nt 1 + 1) 1 then _ else none) = _
      rw [if_pos (by rw [Nj_at]; omega), hN, ← hU]
      rfl
    obtain ⟨σ1, D1, g1, g2, g3, g4, hz1, hz2, g5⟩ := CP_add (j := 1) (s := 0) (by omega) (by omega) E hb0 yW rfl c2 c3 yc4 c5 (by omega) (by omega) (by omega) ho (by omega)
    obtain ⟨σ', D', i1, i2, i3, i4, i5, i6, i7⟩ := ih (Nt := Nj Nt 1 (Nt 1 + 1)) (k + 1) σ1 D1 fu (a + 2) (b + 98) (by omega) (by omega) g2 (by rw [Nj_at]; omega) (by omega) (by omega)
    refine ⟨σ', D', ?_, ?_, fun r hr => (i3 r hr).trans (g3 r hr), i4.trans g4, i5.trans (g5 3 (by omega) (by omega) (by omega)).1, i6.trans (g5 3 (by omega) (by omega) (by omega)).2.1, i7.trans (g5 3 (by omega) (by omega) (by omega)).2.2⟩
    · have eN : Nj (Nj Nt 1 (Nt 1 + 1)) 1 (N 1) = Nj Nt 1 (N 1) := by
        funext q
        show (if q = 1 then N 1 else if q = 1 then Nt 1 + 1 else Nt q) = if q = 1 then N 1 else Nt q
        by_cases z : q = 1
        · rw [if_pos z, if_pos z]
        · rw [if_neg z, if_neg z, if_neg z]
      rw [eN] at i1
      rw [show a + 2 * (n + 1) = a + 2 + 2 * n by omega, show b + 98 * (n + 1) = b + 98 + 98 * n by omega]
      exact i1
    · rw [g3 1 (by omega)] at i2
      rw [← i2, zlp1_s]
      generalize zlp1 (f_X2_copy_89_b (aad A 1) (some (aad D 1))) fu = rf
      unfold f_X2_copy_89_b
      have w1 := Wd_1 yW.1
      have ck : zckC σ (some (aad A (100 * 1 + k))) 6 = true := by
        show Nat.beq (zcl σ (aad A (100 * 1 + k))) 6 = true
        rw [cl_of hxs rfl]
        rfl
      have l1 : τ.1 (aad D 12) = σ.1 (aad D 12) := by
        rw [c2, if_neg]
        have := (yW.1.1 12 (Or.inr (Or.inr (by omega))) (Or.inl (by omega))).2.1
        omega
      have l2 : zcl τ (aad D 12) = 19 := by
        have := (Wd_size (j := 1) (by omega) (by omega) yW.1).2
        unfold zcl at this ⊢
        rw [l1]; exact this
      rw [ybind_eq (gR_of (Wd_1 Ws) (k := 8) (q := some (aad A 12)) rfl rfl), bd_at, zif_t s2, zb2_eq s1, nleF (show k < N 1 by omega) (by omega), bd_at, ybind_eq (gR_of w1 (k := 8) (q := some (aad D 12)) rfl rfl), ybind_eq (gR_of (Wd_1 Ws) (k := 8) (q := some (aad A 12)) rfl rfl), bd_at, zif_t s2, zb2_eq sg, zif_t ck, bd_at, zif_t (cl_of hxs rfl), zb2_eq c1, bd_at, zif_t l2, zb2_eq g1, zl_at, nI_1]

theorem copy_130 {U2 : cU} (hU : U2.2 2 = U.2 2) (E : yEv σ0) (hb0 : zbs σ0 ≤ zn σ0) (W0 : yWd σ0 A N U) : ∀ n k σ D fu a b, k + n = N 2 → n < fu → CP σ0 σ D Nt U2 a b → Nt 2 = k → 2 * n + 1 ≤ zc σ → 98 * n + 100 ≤ zz σ →
    ∃ σ' D', CP σ0 σ' D' (Nj Nt 2 (N 2)) U2 (a + 2 * n) (b + 98 * n) ∧ zlp1 (f_X2_copy_130_b (aad A 1) (some (aad D 1))) fu (nI k) σ = f_X2_copy_171 (aad A 1) (some (aad D 1)) 0 σ' ∧ (∀ r, r < 16 → aad D' r = aad D r) ∧ arf D' = arf D ∧ (aer D' 3 = aer D 3 ∧ (zow D' 3 = zow D 3) ∧ amc D' 3 = amc D 3) := by
  intro n
  induction n generalizing Nt with
  | zero =>
    intro k σ D fu a b hk hf yW hN _ _
    obtain ⟨fu, rfl⟩ : ∃ f', fu = f' + 1 := ⟨fu - 1, by omega⟩
    have Ws := CP_src W0 yW
    obtain ⟨s1, s2⟩ := Wd_size (j := 2) (by omega) (by omega) Ws
    have eN : Nj Nt 2 (N 2) = Nt := by
      funext q
      show (if q = 2 then N 2 else Nt q) = Nt q
      by_cases z : q = 2
      · rw [if_pos z, z]; omega
      · rw [if_neg z]
    refine ⟨σ, D, by rw [eN]; exact yW, ?_, fun _ _ => rfl, rfl, rfl, rfl, rfl⟩
    rw [zlp1_s]
    unfold f_X2_copy_130_b
    rw [ybind_eq (gR_of (Wd_1 Ws) (k := 9) (q := some (aad A 13)) rfl rfl), bd_at, zif_t s2, zb2_eq s1, if_pos (nI_le (by omega) (by have := (W0.2.2 2 (by omega) (by omega)).1; omega))]
  | succ n ih =>
    intro k σ D fu a b hk hf yW hN hzc hzz
    obtain ⟨fu, rfl⟩ : ∃ f', fu = f' + 1 := ⟨fu - 1, by omega⟩
    have h60 := (W0.2.2 2 (by omega) (by omega)).1
    have Ws := CP_src W0 yW
    obtain ⟨s1, s2⟩ := Wd_size (j := 2) (by omega) (by omega) Ws
    have sg := Wd_get (j := 2) (i := k) (by omega) (by omega) Ws (by omega)
    have zr : zal N (zow A) (100 * 2 + k) := Or.inr (Or.inr ⟨2, k, by omega, by omega, by omega, by omega, rfl⟩)
    obtain ⟨x1, x2, x3⟩ := W0.1 (100 * 2 + k) (Or.inr (Or.inr (by omega))) zr
    have hxs : σ.1 (aad A (100 * 2 + k)) = some (.inr (7, [.int (U.2 2 (3 * k)), .int (U.2 2 (3 * k + 1)), .int (U.2 2 (3 * k + 2))])) := by
      rw [yW.2.2.1 _ x2, x3, cEl_at (by omega) (by omega)]
      unfold cEl
      exact if_pos (show k < N 2 by omega)
    have hbz : zbs σ ≤ zn σ := by
      have := yW.2.2.2.2.1
      have := yW.2.2.2.2.2.1
      omega
    obtain ⟨τ, c1, c2, c3, yc4, c5, c6, c7⟩ := X8_copy_spec hxs (by have := yW.2.2.2.2.2.1; omega) hbz (by omega)
    have ho : cEl D (U2.1, U2.2, Nj Nt 2 (Nt 2 + 1)) 2 (Nt 2) = some (.inr (7, [.int (U.2 2 (3 * k)), .int (U.2 2 (3 * k + 1)), .int (U.2 2 (3 * k + 2))])) := by
      unfold cEl
      show (if Nt 2 < Nj Nt 2 (Nt 2 + 1) 2 then _ else none) = _
      rw [if_pos (by rw [Nj_at]; omega), hN, ← hU]
      rfl
    obtain ⟨σ1, D1, g1, g2, g3, g4, hz1, hz2, g5⟩ := CP_add (j := 2) (s := 0) (by omega) (by omega) E hb0 yW rfl c2 c3 yc4 c5 (by omega) (by omega) (by omega) ho (by omega)
    obtain ⟨σ', D', i1, i2, i3, i4, i5, i6, i7⟩ := ih (Nt := Nj Nt 2 (Nt 2 + 1)) (k + 1) σ1 D1 fu (a + 2) (b + 98) (by omega) (by omega) g2 (by rw [Nj_at]; omega) (by omega) (by omega)
    refine ⟨σ', D', ?_, ?_, fun r hr => (i3 r hr).trans (g3 r hr), i4.trans g4, i5.trans (g5 3 (by omega) (by omega) (by omega)).1, i6.trans (g5 3 (by omega) (by omega) (by omega)).2.1, i7.trans (g5 3 (by omega) (by omega) (by omega)).2.2⟩
    · have eN : Nj (Nj Nt 2 (Nt 2 + 1)) 2 (N 2) = Nj Nt 2 (N 2) := by
        funext q
        show (if q = 2 then N 2 else if q = 2 then Nt 2 + 1 else Nt q) = if q = 2 then N 2 else Nt q
        by_cases z : q = 2
        · rw [if_pos z, if_pos z]
        · rw [if_neg z, if_neg z, if_neg z]
      rw [eN] at i1
      rw [show a + 2 * (n + 1) = a + 2 + 2 * n by omega, show b + 98 * (n + 1) = b + 98 + 98 * n by omega]
      exact i1
    · rw [g3 1 (by omega)] at i2
      rw [← i2, zlp1_s]
      generalize zlp1 (f_X2_copy_130_b (aad A 1) (some (aad D 1))) fu = rf
      unfold f_X2_copy_130_b
      have w1 := Wd_1 yW.1
      have ck : zckC σ (some (aad A (100 * 2 + k))) 7 = true := by
        show Nat.beq (zcl σ (aad A (100 * 2 + k))) 7 = true
        rw [cl_of hxs rfl]
        rfl
      have l1 : τ.1 (aad D 13) = σ.1 (aad D 13) := by
        rw [c2, if_neg]
        have := (yW.1.1 13 (Or.inr (Or.inr (by omega))) (Or.inl (by omega))).2.1
        omega
      have l2 : zcl τ (aad D 13) = 19 := by
        have := (Wd_size (j := 2) (by omega) (by omega) yW.1).2
        unfold zcl at this ⊢
        rw [l1]; exact this
      rw [ybind_eq (gR_of (Wd_1 Ws) (k := 9) (q := some (aad A 13)) rfl rfl), bd_at, zif_t s2, zb2_eq s1, nleF (show k < N 2 by omega) (by omega), bd_at, ybind_eq (gR_of w1 (k := 9) (q := some (aad D 13)) rfl rfl), ybind_eq (gR_of (Wd_1 Ws) (k := 9) (q := some (aad A 13)) rfl rfl), bd_at, zif_t s2, zb2_eq sg, zif_t ck, bd_at, zif_t (cl_of hxs rfl), zb2_eq c1, bd_at, zif_t l2, zb2_eq g1, zl_at, nI_1]

theorem copy_171 {U2 : cU} (hU : U2.2 4 = U.2 4) (hzb : ∀ e, e < N 4 → (U.2 4 (8 * e + 6) = 0 ∨ U.2 4 (8 * e + 6) = 1) ∧ (U.2 4 (8 * e + 7) = 0 ∨ U.2 4 (8 * e + 7) = 1)) (E : yEv σ0) (hb0 : zbs σ0 ≤ zn σ0) (W0 : yWd σ0 A N U) : ∀ n k σ D fu a b, k + n = N 4 → n < fu → CP σ0 σ D Nt U2 a b → Nt 4 = k → 2 * n + 1 ≤ zc σ → 98 * n + 100 ≤ zz σ →
    ∃ σ' D', CP σ0 σ' D' (Nj Nt 4 (N 4)) U2 (a + 2 * n) (b + 98 * n) ∧ zlp1 (f_X2_copy_171_b (aad A 1) (some (aad D 1))) fu (nI k) σ = copy_end (aad A 1) (aad D 1) σ' ∧ (∀ r, r < 16 → aad D' r = aad D r) ∧ arf D' = arf D ∧ (aer D' 3 = aer D 3 ∧ (zow D' 3 = zow D 3) ∧ amc D' 3 = amc D 3) := by
  intro n
  induction n generalizing Nt with
  | zero =>
    intro k σ D fu a b hk hf yW hN _ _
    obtain ⟨fu, rfl⟩ : ∃ f', fu = f' + 1 := ⟨fu - 1, by omega⟩
    have Ws := CP_src W0 yW
    obtain ⟨s1, s2⟩ := Wd_size (j := 4) (by omega) (by omega) Ws
    have eN : Nj Nt 4 (N 4) = Nt := by
      funext q
      show (if q = 4 then N 4 else Nt q) = Nt q
      by_cases z : q = 4
      · rw [if_pos z, z]; omega
      · rw [if_neg z]
    refine ⟨σ, D, by rw [eN]; exact yW, ?_, fun _ _ => rfl, rfl, rfl, rfl, rfl⟩
    rw [zlp1_s]
    unfold f_X2_copy_171_b
    rw [ybind_eq (gR_of (Wd_1 Ws) (k := 11) (q := some (aad A 15)) rfl rfl), bd_at, zif_t s2, zb2_eq s1, if_pos (nI_le (by omega) (by have := (W0.2.2 4 (by omega) (by omega)).1; omega)), bd_at]; exact rfl --]
  | succ n ih =>
    intro k σ D fu a b hk hf yW hN hzc hzz
    obtain ⟨fu, rfl⟩ : ∃ f', fu = f' + 1 := ⟨fu - 1, by omega⟩
    have h60 := (W0.2.2 4 (by omega) (by omega)).1
    have Ws := CP_src W0 yW
    obtain ⟨s1, s2⟩ := Wd_size (j := 4) (by omega) (by omega) Ws
    have sg := Wd_get (j := 4) (i := k) (by omega) (by omega) Ws (by omega)
    have zr : zal N (zow A) (100 * 4 + k) := Or.inr (Or.inr ⟨4, k, by omega, by omega, by omega, by omega, rfl⟩)
    obtain ⟨x1, x2, x3⟩ := W0.1 (100 * 4 + k) (Or.inr (Or.inr (by omega))) zr
    have hxs : σ.1 (aad A (100 * 4 + k)) = some (.inr (8, [.int (U.2 4 (8 * k)), .int (U.2 4 (8 * k + 1)), .int (U.2 4 (8 * k + 2)), .int (U.2 4 (8 * k + 3)), .int (U.2 4 (8 * k + 4)), .int (U.2 4 (8 * k + 5)), .int (U.2 4 (8 * k + 6)), .int (U.2 4 (8 * k + 7))])) := by
      rw [yW.2.2.1 _ x2, x3, cEl_at (by omega) (by omega)]
      unfold cEl
      exact if_pos (show k < N 4 by omega)
    have hbz : zbs σ ≤ zn σ := by
      have := yW.2.2.2.2.1
      have := yW.2.2.2.2.2.1
      omega
    obtain ⟨τ, c1, c2, c3, yc4, c5, c6, c7⟩ := X9_copy_spec (hzb k (by omega)).1 (hzb k (by omega)).2 hxs (by have := yW.2.2.2.2.2.1; omega) hbz (by omega)
    have ho : cEl D (U2.1, U2.2, Nj Nt 4 (Nt 4 + 1)) 4 (Nt 4) = some (.inr (8, [.int (U.2 4 (8 * k)), .int (U.2 4 (8 * k + 1)), .int (U.2 4 (8 * k + 2)), .int (U.2 4 (8 * k + 3)), .int (U.2 4 (8 * k + 4)), .int (U.2 4 (8 * k + 5)), .int (U.2 4 (8 * k + 6)), .int (U.2 4 (8 * k + 7))])) := by
      unfold cEl
      show (if Nt 4 < Nj Nt 4 (Nt 4 + 1) 4 then _ else none) = _
      rw [if_pos (by rw [Nj_at]; omega), hN, ← hU]
      rfl
    obtain ⟨σ1, D1, g1, g2, g3, g4, hz1, hz2, g5⟩ := CP_add (j := 4) (s := 0) (by omega) (by omega) E hb0 yW rfl c2 c3 yc4 c5 (by omega) (by omega) (by omega) ho (by omega)
    obtain ⟨σ', D', i1, i2, i3, i4, i5, i6, i7⟩ := ih (Nt := Nj Nt 4 (Nt 4 + 1)) (k + 1) σ1 D1 fu (a + 2) (b + 98) (by omega) (by omega) g2 (by rw [Nj_at]; omega) (by omega) (by omega)
    refine ⟨σ', D', ?_, ?_, fun r hr => (i3 r hr).trans (g3 r hr), i4.trans g4, i5.trans (g5 3 (by omega) (by omega) (by omega)).1, i6.trans (g5 3 (by omega) (by omega) (by omega)).2.1, i7.trans (g5 3 (by omega) (by omega) (by omega)).2.2⟩
    · have eN : Nj (Nj Nt 4 (Nt 4 + 1)) 4 (N 4) = Nj Nt 4 (N 4) := by
        funext q
        show (if q = 4 then N 4 else if q = 4 then Nt 4 + 1 else Nt q) = if q = 4 then N 4 else Nt q
        by_cases z : q = 4
        · rw [if_pos z, if_pos z]
        · rw [if_neg z, if_neg z, if_neg z]
      rw [eN] at i1
      rw [show a + 2 * (n + 1) = a + 2 + 2 * n by omega, show b + 98 * (n + 1) = b + 98 + 98 * n by omega]
      exact i1
    · rw [g3 1 (by omega)] at i2
      rw [← i2, zlp1_s]
      generalize zlp1 (f_X2_copy_171_b (aad A 1) (some (aad D 1))) fu = rf
      unfold f_X2_copy_171_b
      have w1 := Wd_1 yW.1
      have ck : zckC σ (some (aad A (100 * 4 + k))) 8 = true := by
        show Nat.beq (zcl σ (aad A (100 * 4 + k))) 8 = true
        rw [cl_of hxs rfl]
        rfl
      have l1 : τ.1 (aad D 15) = σ.1 (aad D 15) := by
        rw [c2, if_neg]
        have := (yW.1.1 15 (Or.inr (Or.inr (by omega))) (Or.inl (by omega))).2.1
        omega
      have l2 : zcl τ (aad D 15) = 19 := by
        have := (Wd_size (j := 4) (by omega) (by omega) yW.1).2
        unfold zcl at this ⊢
        rw [l1]; exact this
      rw [ybind_eq (gR_of (Wd_1 Ws) (k := 11) (q := some (aad A 15)) rfl rfl), bd_at, zif_t s2, zb2_eq s1, nleF (show k < N 4 by omega) (by omega), bd_at, ybind_eq (gR_of w1 (k := 11) (q := some (aad D 15)) rfl rfl), ybind_eq (gR_of (Wd_1 Ws) (k := 11) (q := some (aad A 15)) rfl rfl), bd_at, zif_t s2, zb2_eq sg, zif_t ck, bd_at, zif_t (cl_of hxs rfl), zb2_eq c1, bd_at, zif_t l2, zb2_eq g1, zl_at, nI_1]

end ZCQ
