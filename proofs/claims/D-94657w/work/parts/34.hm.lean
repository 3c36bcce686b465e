/-! the component's methods over plain numbers, and that the functions over the map do the same -/
def h_J17_bitCount (N : Nat → Nat) (p1 : Int32) (U : cU) : Option (Int32 × cU) :=
  zl (p1 - (((p1.toUInt32 >>> ((1 : Int32).toUInt32 &&& Int32.toUInt32 31)).toInt32) &&& 1431655765)) fun x1 =>
  zl ((x1 &&& 858993459) + (((x1.toUInt32 >>> ((2 : Int32).toUInt32 &&& Int32.toUInt32 31)).toInt32) &&& 858993459)) fun x2 =>
  zl ((x2 + ((x2.toUInt32 >>> ((4 : Int32).toUInt32 &&& Int32.toUInt32 31)).toInt32)) &&& 252645135) fun x3 =>
  zl (x3 + ((x3.toUInt32 >>> ((8 : Int32).toUInt32 &&& Int32.toUInt32 31)).toInt32)) fun x4 =>
  zl (x4 + ((x4.toUInt32 >>> ((16 : Int32).toUInt32 &&& Int32.toUInt32 31)).toInt32)) fun x5 =>
  some (x5 &&& 63, U)

set_option maxHeartbeats 4000000 in
theorem e_J17_bitCount {σ : zS} {A : cA} {N : Nat → Nat} (hA : cOKN σ A N) {p1 : Int32} {U : cU} {Rt : Int32 × cU} (h : h_J17_bitCount N p1 U = some Rt) : f_J17_bitCount p1 (pU σ A N U) = some (Rt.1, (pU σ A N Rt.2)) := by
  unfold h_J17_bitCount at h
  unfold f_J17_bitCount
  refine z_zlq h (fun x1 h => ?_)
  refine z_zlq h (fun x2 h => ?_)
  refine z_zlq h (fun x3 h => ?_)
  refine z_zlq h (fun x4 h => ?_)
  refine z_zlq h (fun x5 h => ?_)
  obtain rfl := Option.some.inj h
  rfl

def h_X1_in (N : Nat → Nat) (p1 : Int32) (p2 : Int32) (p3 : Int32) (U : cU) : Option (Int32 × cU) :=
  if p1 < p2 then
    some ((0 : Int32), U)
  else
    if p3 < p1 then
      some ((0 : Int32), U)
    else
      some ((1 : Int32), U)

set_option maxHeartbeats 4000000 in
theorem e_X1_in {σ : zS} {A : cA} {N : Nat → Nat} (hA : cOKN σ A N) {p1 : Int32} {p2 : Int32} {p3 : Int32} {U : cU} {Rt : Int32 × cU} (h : h_X1_in N p1 p2 p3 U = some Rt) : f_X1_in p1 p2 p3 (pU σ A N U) = some (Rt.1, (pU σ A N Rt.2)) := by
  unfold h_X1_in at h
  unfold f_X1_in
  refine z_ifq h (fun h => ?_) (fun h => ?_)
  · obtain rfl := Option.some.inj h
    rfl
  · refine z_ifq h (fun h => ?_) (fun h => ?_)
    · obtain rfl := Option.some.inj h
      rfl
    · obtain rfl := Option.some.inj h
      rfl

def h_X1_there (N : Nat → Nat) (p1 : Int32) (p2 : Int32) (U : cU) : Option ((Unit ⊕ Nat) × cU) :=
  zb2 (h_X1_in N p1 0 (p2 - 1) U) fun x1 U2 =>
  if ¬ x1 = 0 then
    some (.inl (), U2)
  else
    some (.inr 2, U2)

set_option maxHeartbeats 4000000 in
theorem e_X1_there {σ : zS} {A : cA} {N : Nat → Nat} (hA : cOKN σ A N) (hz : 1 ≤ zc σ ∧ 6 ≤ zz σ) {p1 : Int32} {p2 : Int32} {U : cU} {Rt : (Unit ⊕ Nat) × cU} (h : h_X1_there N p1 p2 U = some Rt) : f_X1_there p1 p2 (pU σ A N U) = some (Rt.1, (pU (zbx Rt.1 σ) A N Rt.2)) := by
  unfold h_X1_there at h
  unfold f_X1_there
  obtain ⟨x1, U2, e9, h⟩ := z_bd2 h
  refine z_b2q (e_X1_in hA e9) ?_
  refine z_ifq h (fun h => ?_) (fun h => ?_)
  · obtain rfl := Option.some.inj h
    rfl
  · obtain rfl := Option.some.inj h
    exact z_bq (zth_U hz) rfl

def h_X1_demand (N : Nat → Nat) (p1 : Int32) (U : cU) : Option ((Unit ⊕ Nat) × cU) :=
  if ¬ p1 = 0 then
    some (.inl (), U)
  else
    some (.inr 0, U)

set_option maxHeartbeats 4000000 in
theorem e_X1_demand {σ : zS} {A : cA} {N : Nat → Nat} (hA : cOKN σ A N) (hz : 1 ≤ zc σ ∧ 6 ≤ zz σ) {p1 : Int32} {U : cU} {Rt : (Unit ⊕ Nat) × cU} (h : h_X1_demand N p1 U = some Rt) : f_X1_demand p1 (pU σ A N U) = some (Rt.1, (pU (zbx Rt.1 σ) A N Rt.2)) := by
  unfold h_X1_demand at h
  unfold f_X1_demand
  refine z_ifq h (fun h => ?_) (fun h => ?_)
  · obtain rfl := Option.some.inj h
    rfl
  · obtain rfl := Option.some.inj h
    exact z_bq (zth_U hz) rfl

def h_X1_can (N : Nat → Nat) (p1 : Int32) (U : cU) : Option ((Unit ⊕ Nat) × cU) :=
  if ¬ p1 = 0 then
    some (.inl (), U)
  else
    some (.inr 4, U)

set_option maxHeartbeats 4000000 in
theorem e_X1_can {σ : zS} {A : cA} {N : Nat → Nat} (hA : cOKN σ A N) (hz : 1 ≤ zc σ ∧ 6 ≤ zz σ) {p1 : Int32} {U : cU} {Rt : (Unit ⊕ Nat) × cU} (h : h_X1_can N p1 U = some Rt) : f_X1_can p1 (pU σ A N U) = some (Rt.1, (pU (zbx Rt.1 σ) A N Rt.2)) := by
  unfold h_X1_can at h
  unfold f_X1_can
  refine z_ifq h (fun h => ?_) (fun h => ?_)
  · obtain rfl := Option.some.inj h
    rfl
  · obtain rfl := Option.some.inj h
    exact z_bq (zth_U hz) rfl

def h_X1_asked (N : Nat → Nat) (p1 : Int32) (p2 : Int32) (U : cU) : Option ((Unit ⊕ Nat) × cU) :=
  zb2 (h_X1_in N p1 0 p2 U) fun x1 U2 =>
  if ¬ x1 = 0 then
    some (.inl (), U2)
  else
    some (.inr 3, U2)

set_option maxHeartbeats 4000000 in
theorem e_X1_asked {σ : zS} {A : cA} {N : Nat → Nat} (hA : cOKN σ A N) (hz : 1 ≤ zc σ ∧ 6 ≤ zz σ) {p1 : Int32} {p2 : Int32} {U : cU} {Rt : (Unit ⊕ Nat) × cU} (h : h_X1_asked N p1 p2 U = some Rt) : f_X1_asked p1 p2 (pU σ A N U) = some (Rt.1, (pU (zbx Rt.1 σ) A N Rt.2)) := by
  unfold h_X1_asked at h
  unfold f_X1_asked
  obtain ⟨x1, U2, e9, h⟩ := z_bd2 h
  refine z_b2q (e_X1_in hA e9) ?_
  refine z_ifq h (fun h => ?_) (fun h => ?_)
  · obtain rfl := Option.some.inj h
    rfl
  · obtain rfl := Option.some.inj h
    exact z_bq (zth_U hz) rfl

def h_X1_houseAt (N : Nat → Nat) (p1 : Int32) (U : cU) : Option ((Unit ⊕ Nat) × cU) :=
  zbt (h_X1_there N p1 (U.1 1) U) (fun k9 U9 => some (.inr k9, U9)) fun _ U2 =>
  some (.inl (), U2)

set_option maxHeartbeats 4000000 in
theorem e_X1_houseAt {σ : zS} {A : cA} {N : Nat → Nat} (hA : cOKN σ A N) (hz : 1 ≤ zc σ ∧ 6 ≤ zz σ) {p1 : Int32} {U : cU} {Rt : (Unit ⊕ Nat) × cU} (h : h_X1_houseAt N p1 U = some Rt) : f_X1_houseAt (aad A 0) p1 (pU σ A N U) = some (Rt.1, (pU (zbx Rt.1 σ) A N Rt.2)) := by
  unfold h_X1_houseAt at h
  unfold f_X1_houseAt
  refine z_bq (cgR hA (r := 0) (ci := 0) (V := (U.1, U.2, N)) (q := some (aad A 1)) rfl rfl rfl) ?_
  refine z_bq rfl ?_
  refine z_bq (cgI hA (r := 1) (ci := 1) (V := (U.1, U.2, N)) rfl rfl rfl) ?_
  rcases z_bt3 h with ⟨u1, U2, e9, h⟩ | ⟨k9, U9, e9, h⟩
  · refine z_bt1 (e_X1_there hA hz e9) ?_
    obtain rfl := Option.some.inj h
    rfl
  · refine z_bt2 (e_X1_there hA hz e9) ?_
    obtain rfl := Option.some.inj h
    rfl

def h_X2_beads_39 (N : Nat → Nat) (rec4 : Int32 → Int32 → cU → Option (Int32 × cU)) (v1 : Int32) (v3 : Int32) (t0 : Int32) (t1 : Int32) (U : cU) : Option (Int32 × cU) :=
  zl (t0 + t1) fun x2 =>
  zl (v3 + 1) fun x3 =>
  rec4 x2 x3 U

set_option maxHeartbeats 4000000 in
theorem e_X2_beads_39 {σ : zS} {A : cA} {N : Nat → Nat} (hA : cOKN σ A N) {Rt : Int32 × cU} {v1 : Int32} {v3 : Int32} {t0 : Int32} {t1 : Int32} {rec4 : Int32 → Int32 → cU → Option (Int32 × cU)} {frec4 : Int32 → Int32 → zS → Option (Int32 × zS)} (hrec4 : ∀ (v2 : Int32) (v3 : Int32) (U : cU), rec4 v2 v3 U = some Rt → frec4 v2 v3 (pU σ A N U) = some (Rt.1, (pU σ A N Rt.2))) {U : cU} (h : h_X2_beads_39 N rec4 v1 v3 t0 t1 U = some Rt) : f_X2_beads_39 (aad A 1) frec4 v1 v3 t0 t1 (pU σ A N U) = some (Rt.1, (pU σ A N Rt.2)) := by
  unfold h_X2_beads_39 at h
  unfold f_X2_beads_39
  refine z_zlq h (fun x2 h => ?_)
  refine z_zlq h (fun x3 h => ?_)
  exact hrec4 _ _ _ h

def h_X2_beads_4_b (N : Nat → Nat) (v1 : Int32) (rec4 : Int32 → Int32 → cU → Option (Int32 × cU)) (v2 : Int32) (v3 : Int32) (U : cU) : Option (Int32 × cU) :=
  if (Int32.ofNat (N 4)) ≤ v3 then
    some (v2, U)
  else
    (vix (N 4) v3).bind fun i1 =>
    if ¬ (U.2 4 (8 * i1 + 3)) = v1 then
      h_X2_beads_39 N rec4 v1 v3 v2 0 U
    else
      h_X2_beads_39 N rec4 v1 v3 v2 1 U

def h_X2_beads_4 (N : Nat → Nat) (v1 : Int32) : Int32 → Int32 → cU → Option (Int32 × cU) := zlp2 (h_X2_beads_4_b N v1) NN
set_option maxHeartbeats 4000000 in
theorem e_X2_beads_4_b {σ : zS} {A : cA} {N : Nat → Nat} (hA : cOKN σ A N) {Rt : Int32 × cU} {v1 : Int32} {rec4 : Int32 → Int32 → cU → Option (Int32 × cU)} {frec4 : Int32 → Int32 → zS → Option (Int32 × zS)} (hrec4 : ∀ (v2 : Int32) (v3 : Int32) (U : cU), rec4 v2 v3 U = some Rt → frec4 v2 v3 (pU σ A N U) = some (Rt.1, (pU σ A N Rt.2))) {v2 : Int32} {v3 : Int32} {U : cU} (h : h_X2_beads_4_b N v1 rec4 v2 v3 U = some Rt) : f_X2_beads_4_b (aad A 1) v1 frec4 v2 v3 (pU σ A N U) = some (Rt.1, (pU σ A N Rt.2)) := by
  unfold h_X2_beads_4_b at h
  unfold f_X2_beads_4_b
  refine z_bq (cgR hA (r := 1) (ci := 1) (V := (U.1, U.2, N)) (q := some (aad A 15)) rfl rfl rfl) ?_
  refine z_bq rfl ?_
  refine z_zifq (ccl hA (r := 15) (ci := 19) (V := (U.1, U.2, N)) rfl rfl) ?_
  refine z_b2q (csize hA (j := 4) (V := (U.1, U.2, N)) (by decide) (by decide)) ?_
  refine z_ifq h (fun h => ?_) (fun h => ?_)
  · obtain rfl := Option.some.inj h
    rfl
  · refine z_bq (cgR hA (r := 1) (ci := 1) (V := (U.1, U.2, N)) (q := some (aad A 15)) rfl rfl rfl) ?_
    refine z_bq rfl ?_
    refine z_zifq (ccl hA (r := 15) (ci := 19) (V := (U.1, U.2, N)) rfl rfl) ?_
    obtain ⟨i1, q_i1, h⟩ := z_bd h
    have hi_i1 := (vix_inv q_i1).2.1
    refine z_b2q (cget hA (j := 4) (V := (U.1, U.2, N)) (by decide) (by decide) q_i1) ?_
    refine z_zifq (cckC hA (r := (100 * 4 + i1)) (ci := 8) (V := (U.1, U.2, N)) (cE4_ hA hi_i1) rfl) ?_
    refine z_bq rfl ?_
    refine z_bq (cgI hA (r := (100 * 4 + i1)) (ci := 8) (V := (U.1, U.2, N)) (cE4_ hA hi_i1) rfl rfl) ?_
    refine z_ifq h (fun h => ?_) (fun h => ?_)
    · exact e_X2_beads_39 hA hrec4 h
    · exact e_X2_beads_39 hA hrec4 h

theorem e_X2_beads_4 {σ : zS} {A : cA} {N : Nat → Nat} (hA : cOKN σ A N) {Rt : Int32 × cU} {v1 : Int32} {v2 : Int32} {v3 : Int32} {U : cU} (h : h_X2_beads_4 N v1 v2 v3 U = some Rt) : f_X2_beads_4 (aad A 1) v1 v2 v3 (pU σ A N U) = some (Rt.1, (pU σ A N Rt.2)) := by
  unfold h_X2_beads_4 at h
  unfold f_X2_beads_4
  generalize NN = n9 at h ⊢
  exact zlp2_rel (F := f_X2_beads_4_b (aad A 1) v1) (G := h_X2_beads_4_b N v1) (R := Rt) (R' := (Rt.1, (pU σ A N Rt.2))) (fun v => v) (fun v => v) (pU σ A N) (fun rf rg hr v2 v3 t h => e_X2_beads_4_b hA (frec4 := rf) hr h) n9 v2 v3 U h
def h_X2_beads (N : Nat → Nat) (p1 : Int32) (U : cU) : Option (Int32 × cU) :=
  h_X2_beads_4 N p1 0 0 U

set_option maxHeartbeats 4000000 in
theorem e_X2_beads {σ : zS} {A : cA} {N : Nat → Nat} (hA : cOKN σ A N) {p1 : Int32} {U : cU} {Rt : Int32 × cU} (h : h_X2_beads N p1 U = some Rt) : f_X2_beads (aad A 1) p1 (pU σ A N U) = some (Rt.1, (pU σ A N Rt.2)) := by
  unfold h_X2_beads at h
  unfold f_X2_beads
  exact e_X2_beads_4 hA h

def h_X2_burnt_38 (N : Nat → Nat) (rec4 : Int32 → Int32 → cU → Option (Int32 × cU)) (v2 : Int32) (t0 : Int32) (t1 : Int32) (U : cU) : Option (Int32 × cU) :=
  zl (t0 + t1) fun x2 =>
  zl (v2 + 1) fun x3 =>
  rec4 x2 x3 U

set_option maxHeartbeats 4000000 in
theorem e_X2_burnt_38 {σ : zS} {A : cA} {N : Nat → Nat} (hA : cOKN σ A N) {Rt : Int32 × cU} {v2 : Int32} {t0 : Int32} {t1 : Int32} {rec4 : Int32 → Int32 → cU → Option (Int32 × cU)} {frec4 : Int32 → Int32 → zS → Option (Int32 × zS)} (hrec4 : ∀ (v1 : Int32) (v2 : Int32) (U : cU), rec4 v1 v2 U = some Rt → frec4 v1 v2 (pU σ A N U) = some (Rt.1, (pU σ A N Rt.2))) {U : cU} (h : h_X2_burnt_38 N rec4 v2 t0 t1 U = some Rt) : f_X2_burnt_38 (aad A 1) frec4 v2 t0 t1 (pU σ A N U) = some (Rt.1, (pU σ A N Rt.2)) := by
  unfold h_X2_burnt_38 at h
  unfold f_X2_burnt_38
  refine z_zlq h (fun x2 h => ?_)
  refine z_zlq h (fun x3 h => ?_)
  exact hrec4 _ _ _ h

def h_X2_burnt_4_b (N : Nat → Nat) (rec4 : Int32 → Int32 → cU → Option (Int32 × cU)) (v1 : Int32) (v2 : Int32) (U : cU) : Option (Int32 × cU) :=
  if (Int32.ofNat (N 4)) ≤ v2 then
    some (v1, U)
  else
    (vix (N 4) v2).bind fun i1 =>
    if (U.2 4 (8 * i1 + 7)) = 0 then
      h_X2_burnt_38 N rec4 v2 v1 0 U
    else
      h_X2_burnt_38 N rec4 v2 v1 1 U

def h_X2_burnt_4 (N : Nat → Nat) : Int32 → Int32 → cU → Option (Int32 × cU) := zlp2 (h_X2_burnt_4_b N) NN
set_option maxHeartbeats 4000000 in
theorem e_X2_burnt_4_b {σ : zS} {A : cA} {N : Nat → Nat} (hA : cOKN σ A N) {Rt : Int32 × cU} {rec4 : Int32 → Int32 → cU → Option (Int32 × cU)} {frec4 : Int32 → Int32 → zS → Option (Int32 × zS)} (hrec4 : ∀ (v1 : Int32) (v2 : Int32) (U : cU), rec4 v1 v2 U = some Rt → frec4 v1 v2 (pU σ A N U) = some (Rt.1, (pU σ A N Rt.2))) {v1 : Int32} {v2 : Int32} {U : cU} (h : h_X2_burnt_4_b N rec4 v1 v2 U = some Rt) : f_X2_burnt_4_b (aad A 1) frec4 v1 v2 (pU σ A N U) = some (Rt.1, (pU σ A N Rt.2)) := by
  unfold h_X2_burnt_4_b at h
  unfold f_X2_burnt_4_b
  refine z_bq (cgR hA (r := 1) (ci := 1) (V := (U.1, U.2, N)) (q := some (aad A 15)) rfl rfl rfl) ?_
  refine z_bq rfl ?_
  refine z_zifq (ccl hA (r := 15) (ci := 19) (V := (U.1, U.2, N)) rfl rfl) ?_
  refine z_b2q (csize hA (j := 4) (V := (U.1, U.2, N)) (by decide) (by decide)) ?_
  refine z_ifq h (fun h => ?_) (fun h => ?_)
  · obtain rfl := Option.some.inj h
    rfl
  · refine z_bq (cgR hA (r := 1) (ci := 1) (V := (U.1, U.2, N)) (q := some (aad A 15)) rfl rfl rfl) ?_
    refine z_bq rfl ?_
    refine z_zifq (ccl hA (r := 15) (ci := 19) (V := (U.1, U.2, N)) rfl rfl) ?_
    obtain ⟨i1, q_i1, h⟩ := z_bd h
    have hi_i1 := (vix_inv q_i1).2.1
    refine z_b2q (cget hA (j := 4) (V := (U.1, U.2, N)) (by decide) (by decide) q_i1) ?_
    refine z_zifq (cckC hA (r := (100 * 4 + i1)) (ci := 8) (V := (U.1, U.2, N)) (cE4_ hA hi_i1) rfl) ?_
    refine z_bq rfl ?_
    refine z_bq (cgI hA (r := (100 * 4 + i1)) (ci := 8) (V := (U.1, U.2, N)) (cE4_ hA hi_i1) rfl rfl) ?_
    refine z_ifq h (fun h => ?_) (fun h => ?_)
    · exact e_X2_burnt_38 hA hrec4 h
    · exact e_X2_burnt_38 hA hrec4 h

theorem e_X2_burnt_4 {σ : zS} {A : cA} {N : Nat → Nat} (hA : cOKN σ A N) {Rt : Int32 × cU} {v1 : Int32} {v2 : Int32} {U : cU} (h : h_X2_burnt_4 N v1 v2 U = some Rt) : f_X2_burnt_4 (aad A 1) v1 v2 (pU σ A N U) = some (Rt.1, (pU σ A N Rt.2)) := by
  unfold h_X2_burnt_4 at h
  unfold f_X2_burnt_4
  generalize NN = n9 at h ⊢
  exact zlp2_rel (F := f_X2_burnt_4_b (aad A 1)) (G := h_X2_burnt_4_b N) (R := Rt) (R' := (Rt.1, (pU σ A N Rt.2))) (fun v => v) (fun v => v) (pU σ A N) (fun rf rg hr v1 v2 t h => e_X2_burnt_4_b hA (frec4 := rf) hr h) n9 v1 v2 U h
def h_X2_burnt (N : Nat → Nat) (U : cU) : Option (Int32 × cU) :=
  h_X2_burnt_4 N 0 0 U

set_option maxHeartbeats 4000000 in
theorem e_X2_burnt {σ : zS} {A : cA} {N : Nat → Nat} (hA : cOKN σ A N) {U : cU} {Rt : Int32 × cU} (h : h_X2_burnt N U = some Rt) : f_X2_burnt (aad A 1) (pU σ A N U) = some (Rt.1, (pU σ A N Rt.2)) := by
  unfold h_X2_burnt at h
  unfold f_X2_burnt
  exact e_X2_burnt_4 hA h

def h_X2_paces_4_b (N : Nat → Nat) (v1 : Int32) (rec4 : Int32 → Int32 → cU → Option (Int32 × cU)) (v2 : Int32) (v3 : Int32) (U : cU) : Option (Int32 × cU) :=
  if v1 ≤ v3 then
    some (v2, U)
  else
    (vix (N 2) v3).bind fun i1 =>
    zl (v2 + (U.2 2 (3 * i1))) fun x2 =>
    zl (v3 + 1) fun x3 =>
    rec4 x2 x3 U

def h_X2_paces_4 (N : Nat → Nat) (v1 : Int32) : Int32 → Int32 → cU → Option (Int32 × cU) := zlp2 (h_X2_paces_4_b N v1) NN
set_option maxHeartbeats 4000000 in
theorem e_X2_paces_4_b {σ : zS} {A : cA} {N : Nat → Nat} (hA : cOKN σ A N) {Rt : Int32 × cU} {v1 : Int32} {rec4 : Int32 → Int32 → cU → Option (Int32 × cU)} {frec4 : Int32 → Int32 → zS → Option (Int32 × zS)} (hrec4 : ∀ (v2 : Int32) (v3 : Int32) (U : cU), rec4 v2 v3 U = some Rt → frec4 v2 v3 (pU σ A N U) = some (Rt.1, (pU σ A N Rt.2))) {v2 : Int32} {v3 : Int32} {U : cU} (h : h_X2_paces_4_b N v1 rec4 v2 v3 U = some Rt) : f_X2_paces_4_b (aad A 1) v1 frec4 v2 v3 (pU σ A N U) = some (Rt.1, (pU σ A N Rt.2)) := by
  unfold h_X2_paces_4_b at h
  unfold f_X2_paces_4_b
  refine z_ifq h (fun h => ?_) (fun h => ?_)
  · obtain rfl := Option.some.inj h
    rfl
  · refine z_bq (cgR hA (r := 1) (ci := 1) (V := (U.1, U.2, N)) (q := some (aad A 13)) rfl rfl rfl) ?_
    refine z_bq rfl ?_
    refine z_zifq (ccl hA (r := 13) (ci := 19) (V := (U.1, U.2, N)) rfl rfl) ?_
    obtain ⟨i1, q_i1, h⟩ := z_bd h
    have hi_i1 := (vix_inv q_i1).2.1
    refine z_b2q (cget hA (j := 2) (V := (U.1, U.2, N)) (by decide) (by decide) q_i1) ?_
    refine z_zifq (cckC hA (r := (100 * 2 + i1)) (ci := 7) (V := (U.1, U.2, N)) (cE2_ hA hi_i1) rfl) ?_
    refine z_bq rfl ?_
    refine z_bq (cgI hA (r := (100 * 2 + i1)) (ci := 7) (V := (U.1, U.2, N)) (cE2_ hA hi_i1) rfl rfl) ?_
    refine z_zlq h (fun x2 h => ?_)
    refine z_zlq h (fun x3 h => ?_)
    exact hrec4 _ _ _ h

theorem e_X2_paces_4 {σ : zS} {A : cA} {N : Nat → Nat} (hA : cOKN σ A N) {Rt : Int32 × cU} {v1 : Int32} {v2 : Int32} {v3 : Int32} {U : cU} (h : h_X2_paces_4 N v1 v2 v3 U = some Rt) : f_X2_paces_4 (aad A 1) v1 v2 v3 (pU σ A N U) = some (Rt.1, (pU σ A N Rt.2)) := by
  unfold h_X2_paces_4 at h
  unfold f_X2_paces_4
  generalize NN = n9 at h ⊢
  exact zlp2_rel (F := f_X2_paces_4_b (aad A 1) v1) (G := h_X2_paces_4_b N v1) (R := Rt) (R' := (Rt.1, (pU σ A N Rt.2))) (fun v => v) (fun v => v) (pU σ A N) (fun rf rg hr v2 v3 t h => e_X2_paces_4_b hA (frec4 := rf) hr h) n9 v2 v3 U h
def h_X2_paces (N : Nat → Nat) (p1 : Int32) (U : cU) : Option (Int32 × cU) :=
  h_X2_paces_4 N p1 0 0 U

set_option maxHeartbeats 4000000 in
theorem e_X2_paces {σ : zS} {A : cA} {N : Nat → Nat} (hA : cOKN σ A N) {p1 : Int32} {U : cU} {Rt : Int32 × cU} (h : h_X2_paces N p1 U = some Rt) : f_X2_paces (aad A 1) p1 (pU σ A N U) = some (Rt.1, (pU σ A N Rt.2)) := by
  unfold h_X2_paces at h
  unfold f_X2_paces
  exact e_X2_paces_4 hA h

def h_X2_may_134 (N : Nat → Nat) (rec56 : Int32 → cU → Option (Int32 × cU)) (v1 : Int32) (v3 : Int32) (v4 : Int32) (U : cU) : Option (Int32 × cU) :=
  zl (v4 + 1) fun x2 =>
  rec56 x2 U

set_option maxHeartbeats 4000000 in
theorem e_X2_may_134 {σ : zS} {A : cA} {N : Nat → Nat} (hA : cOKN σ A N) {Rt : Int32 × cU} {v1 : Int32} {v3 : Int32} {v4 : Int32} {rec56 : Int32 → cU → Option (Int32 × cU)} {frec56 : Int32 → zS → Option (Int32 × zS)} (hrec56 : ∀ (v4 : Int32) (U : cU), rec56 v4 U = some Rt → frec56 v4 (pU σ A N U) = some (Rt.1, (pU σ A N Rt.2))) {U : cU} (h : h_X2_may_134 N rec56 v1 v3 v4 U = some Rt) : f_X2_may_134 (aad A 1) frec56 v1 v3 v4 (pU σ A N U) = some (Rt.1, (pU σ A N Rt.2)) := by
  unfold h_X2_may_134 at h
  unfold f_X2_may_134
  refine z_zlq h (fun x2 h => ?_)
  exact hrec56 _ _ h

def h_X2_may_56_b (N : Nat → Nat) (v1 : Int32) (v3 : Int32) (rec56 : Int32 → cU → Option (Int32 × cU)) (v4 : Int32) (U : cU) : Option (Int32 × cU) :=
  if (Int32.ofNat (N 4)) ≤ v4 then
    some ((1 : Int32), U)
  else
    (vix (N 4) v4).bind fun i1 =>
    if ¬ (U.2 4 (8 * i1 + 2)) = v1 then
      h_X2_may_134 N rec56 v1 v3 v4 U
    else
      if (U.1 4) ≤ (U.2 4 (8 * i1 + 1)) then
        if ¬ (U.2 4 (8 * i1 + 6)) = v3 then
          h_X2_may_134 N rec56 v1 v3 v4 U
        else
          some ((0 : Int32), U)
      else
        if (U.1 3) < ((U.1 4) - (U.2 4 (8 * i1 + 1))) then
          h_X2_may_134 N rec56 v1 v3 v4 U
        else
          some ((0 : Int32), U)

def h_X2_may_56 (N : Nat → Nat) (v1 : Int32) (v3 : Int32) : Int32 → cU → Option (Int32 × cU) := zlp1 (h_X2_may_56_b N v1 v3) NN
set_option maxHeartbeats 4000000 in
theorem e_X2_may_56_b {σ : zS} {A : cA} {N : Nat → Nat} (hA : cOKN σ A N) {Rt : Int32 × cU} {v1 : Int32} {v3 : Int32} {rec56 : Int32 → cU → Option (Int32 × cU)} {frec56 : Int32 → zS → Option (Int32 × zS)} (hrec56 : ∀ (v4 : Int32) (U : cU), rec56 v4 U = some Rt → frec56 v4 (pU σ A N U) = some (Rt.1, (pU σ A N Rt.2))) {v4 : Int32} {U : cU} (h : h_X2_may_56_b N v1 v3 rec56 v4 U = some Rt) : f_X2_may_56_b (aad A 1) v1 v3 frec56 v4 (pU σ A N U) = some (Rt.1, (pU σ A N Rt.2)) := by
  unfold h_X2_may_56_b at h
  unfold f_X2_may_56_b
  refine z_bq (cgR hA (r := 1) (ci := 1) (V := (U.1, U.2, N)) (q := some (aad A 15)) rfl rfl rfl) ?_
  refine z_bq rfl ?_
  refine z_zifq (ccl hA (r := 15) (ci := 19) (V := (U.1, U.2, N)) rfl rfl) ?_
  refine z_b2q (csize hA (j := 4) (V := (U.1, U.2, N)) (by decide) (by decide)) ?_
  refine z_ifq h (fun h => ?_) (fun h => ?_)
  · obtain rfl := Option.some.inj h
    rfl
  · refine z_bq (cgR hA (r := 1) (ci := 1) (V := (U.1, U.2, N)) (q := some (aad A 15)) rfl rfl rfl) ?_
    refine z_bq rfl ?_
    refine z_zifq (ccl hA (r := 15) (ci := 19) (V := (U.1, U.2, N)) rfl rfl) ?_
    obtain ⟨i1, q_i1, h⟩ := z_bd h
    have hi_i1 := (vix_inv q_i1).2.1
    refine z_b2q (cget hA (j := 4) (V := (U.1, U.2, N)) (by decide) (by decide) q_i1) ?_
    refine z_zifq (cckC hA (r := (100 * 4 + i1)) (ci := 8) (V := (U.1, U.2, N)) (cE4_ hA hi_i1) rfl) ?_
    refine z_bq rfl ?_
    refine z_bq (cgI hA (r := (100 * 4 + i1)) (ci := 8) (V := (U.1, U.2, N)) (cE4_ hA hi_i1) rfl rfl) ?_
    refine z_ifq h (fun h => ?_) (fun h => ?_)
    · exact e_X2_may_134 hA hrec56 h
    · refine z_bq (cgI hA (r := (100 * 4 + i1)) (ci := 8) (V := (U.1, U.2, N)) (cE4_ hA hi_i1) rfl rfl) ?_
      refine z_bq (cgI hA (r := 1) (ci := 1) (V := (U.1, U.2, N)) rfl rfl rfl) ?_
      refine z_ifq h (fun h => ?_) (fun h => ?_)
      · refine z_bq (cgI hA (r := (100 * 4 + i1)) (ci := 8) (V := (U.1, U.2, N)) (cE4_ hA hi_i1) rfl rfl) ?_
        refine z_ifq h (fun h => ?_) (fun h => ?_)
        · exact e_X2_may_134 hA hrec56 h
        · obtain rfl := Option.some.inj h
          rfl
      · refine z_bq (cgI hA (r := 1) (ci := 1) (V := (U.1, U.2, N)) rfl rfl rfl) ?_
        refine z_bq (cgI hA (r := (100 * 4 + i1)) (ci := 8) (V := (U.1, U.2, N)) (cE4_ hA hi_i1) rfl rfl) ?_
        refine z_bq (cgI hA (r := 1) (ci := 1) (V := (U.1, U.2, N)) rfl rfl rfl) ?_
        refine z_ifq h (fun h => ?_) (fun h => ?_)
        · exact e_X2_may_134 hA hrec56 h
        · obtain rfl := Option.some.inj h
          rfl

theorem e_X2_may_56 {σ : zS} {A : cA} {N : Nat → Nat} (hA : cOKN σ A N) {Rt : Int32 × cU} {v1 : Int32} {v3 : Int32} {v4 : Int32} {U : cU} (h : h_X2_may_56 N v1 v3 v4 U = some Rt) : f_X2_may_56 (aad A 1) v1 v3 v4 (pU σ A N U) = some (Rt.1, (pU σ A N Rt.2)) := by
  unfold h_X2_may_56 at h
  unfold f_X2_may_56
  generalize NN = n9 at h ⊢
  exact zlp1_rel (F := f_X2_may_56_b (aad A 1) v1 v3) (G := h_X2_may_56_b N v1 v3) (R := Rt) (R' := (Rt.1, (pU σ A N Rt.2))) (fun v => v) (pU σ A N) (fun rf rg hr v4 t h => e_X2_may_56_b hA (frec56 := rf) hr h) n9 v4 U h
def h_X2_may_17_b (N : Nat → Nat) (v1 : Int32) (v2 : Int32) (v3 : Int32) (rec17 : Int32 → cU → Option (Int32 × cU)) (v4 : Int32) (U : cU) : Option (Int32 × cU) :=
  if v2 ≤ v4 then
    h_X2_may_56 N v1 v3 0 U
  else
    (vix (N 2) v4).bind fun i3 =>
    if (U.2 2 (3 * i3 + 1)) < (U.1 2) then
      zl (v4 + 1) fun x4 =>
      rec17 x4 U
    else
      some ((0 : Int32), U)

def h_X2_may_17 (N : Nat → Nat) (v1 : Int32) (v2 : Int32) (v3 : Int32) : Int32 → cU → Option (Int32 × cU) := zlp1 (h_X2_may_17_b N v1 v2 v3) NN
set_option maxHeartbeats 4000000 in
theorem e_X2_may_17_b {σ : zS} {A : cA} {N : Nat → Nat} (hA : cOKN σ A N) {Rt : Int32 × cU} {v1 : Int32} {v2 : Int32} {v3 : Int32} {rec17 : Int32 → cU → Option (Int32 × cU)} {frec17 : Int32 → zS → Option (Int32 × zS)} (hrec17 : ∀ (v4 : Int32) (U : cU), rec17 v4 U = some Rt → frec17 v4 (pU σ A N U) = some (Rt.1, (pU σ A N Rt.2))) {v4 : Int32} {U : cU} (h : h_X2_may_17_b N v1 v2 v3 rec17 v4 U = some Rt) : f_X2_may_17_b (aad A 1) v1 v2 v3 frec17 v4 (pU σ A N U) = some (Rt.1, (pU σ A N Rt.2)) := by
  unfold h_X2_may_17_b at h
  unfold f_X2_may_17_b
  refine z_ifq h (fun h => ?_) (fun h => ?_)
  · exact e_X2_may_56 hA h
  · refine z_bq (cgR hA (r := 1) (ci := 1) (V := (U.1, U.2, N)) (q := some (aad A 13)) rfl rfl rfl) ?_
    refine z_bq rfl ?_
    refine z_zifq (ccl hA (r := 13) (ci := 19) (V := (U.1, U.2, N)) rfl rfl) ?_
    obtain ⟨i3, q_i3, h⟩ := z_bd h
    have hi_i3 := (vix_inv q_i3).2.1
    refine z_b2q (cget hA (j := 2) (V := (U.1, U.2, N)) (by decide) (by decide) q_i3) ?_
    refine z_zifq (cckC hA (r := (100 * 2 + i3)) (ci := 7) (V := (U.1, U.2, N)) (cE2_ hA hi_i3) rfl) ?_
    refine z_bq rfl ?_
    refine z_bq (cgI hA (r := (100 * 2 + i3)) (ci := 7) (V := (U.1, U.2, N)) (cE2_ hA hi_i3) rfl rfl) ?_
    refine z_bq (cgI hA (r := 1) (ci := 1) (V := (U.1, U.2, N)) rfl rfl rfl) ?_
    refine z_ifq h (fun h => ?_) (fun h => ?_)
    · refine z_zlq h (fun x4 h => ?_)
      exact hrec17 _ _ h
    · obtain rfl := Option.some.inj h
      rfl

theorem e_X2_may_17 {σ : zS} {A : cA} {N : Nat → Nat} (hA : cOKN σ A N) {Rt : Int32 × cU} {v1 : Int32} {v2 : Int32} {v3 : Int32} {v4 : Int32} {U : cU} (h : h_X2_may_17 N v1 v2 v3 v4 U = some Rt) : f_X2_may_17 (aad A 1) v1 v2 v3 v4 (pU σ A N U) = some (Rt.1, (pU σ A N Rt.2)) := by
  unfold h_X2_may_17 at h
  unfold f_X2_may_17
  generalize NN = n9 at h ⊢
  exact zlp1_rel (F := f_X2_may_17_b (aad A 1) v1 v2 v3) (G := h_X2_may_17_b N v1 v2 v3) (R := Rt) (R' := (Rt.1, (pU σ A N Rt.2))) (fun v => v) (pU σ A N) (fun rf rg hr v4 t h => e_X2_may_17_b hA (frec17 := rf) hr h) n9 v4 U h
def h_X2_may (N : Nat → Nat) (p1 : Int32) (p2 : Int32) (p3 : Int32) (U : cU) : Option (Int32 × cU) :=
  if ¬ (Int32.ofNat (N 4)) = 60 then
    h_X2_may_17 N p1 p2 p3 0 U
  else
    some ((0 : Int32), U)

set_option maxHeartbeats 4000000 in
theorem e_X2_may {σ : zS} {A : cA} {N : Nat → Nat} (hA : cOKN σ A N) {p1 : Int32} {p2 : Int32} {p3 : Int32} {U : cU} {Rt : Int32 × cU} (h : h_X2_may N p1 p2 p3 U = some Rt) : f_X2_may (aad A 1) p1 p2 p3 (pU σ A N U) = some (Rt.1, (pU σ A N Rt.2)) := by
  unfold h_X2_may at h
  unfold f_X2_may
  refine z_bq (cgR hA (r := 1) (ci := 1) (V := (U.1, U.2, N)) (q := some (aad A 15)) rfl rfl rfl) ?_
  refine z_bq rfl ?_
  refine z_zifq (ccl hA (r := 15) (ci := 19) (V := (U.1, U.2, N)) rfl rfl) ?_
  refine z_b2q (csize hA (j := 4) (V := (U.1, U.2, N)) (by decide) (by decide)) ?_
  refine z_ifq h (fun h => ?_) (fun h => ?_)
  · exact e_X2_may_17 hA h
  · obtain rfl := Option.some.inj h
    rfl

def h_X2_missed_74 (N : Nat → Nat) (rec21 : Int32 → Int32 → cU → Option (Int32 × cU)) (v1 : Int32) (v2 : Nat) (v4 : Int32) (t0 : Int32) (t1 : Int32) (U : cU) : Option (Int32 × cU) :=
  zl (t0 + t1) fun x4 =>
  zl (v4 + 1) fun x5 =>
  rec21 x4 x5 U

set_option maxHeartbeats 4000000 in
theorem e_X2_missed_74 {σ : zS} {A : cA} {N : Nat → Nat} (hA : cOKN σ A N) {Rt : Int32 × cU} {v1 : Int32} {v2 : Nat} (hi_v2 : v2 < N 2) {v4 : Int32} {t0 : Int32} {t1 : Int32} {rec21 : Int32 → Int32 → cU → Option (Int32 × cU)} {frec21 : Int32 → Int32 → zS → Option (Int32 × zS)} (hrec21 : ∀ (v3 : Int32) (v4 : Int32) (U : cU), rec21 v3 v4 U = some Rt → frec21 v3 v4 (pU σ A N U) = some (Rt.1, (pU σ A N Rt.2))) {U : cU} (h : h_X2_missed_74 N rec21 v1 v2 v4 t0 t1 U = some Rt) : f_X2_missed_74 (aad A 1) frec21 v1 (some (aad A (100 * 2 + v2))) v4 t0 t1 (pU σ A N U) = some (Rt.1, (pU σ A N Rt.2)) := by
  unfold h_X2_missed_74 at h
  unfold f_X2_missed_74
  refine z_zlq h (fun x4 h => ?_)
  refine z_zlq h (fun x5 h => ?_)
  exact hrec21 _ _ _ h

def h_X2_missed_73 (N : Nat → Nat) (rec21 : Int32 → Int32 → cU → Option (Int32 × cU)) (v1 : Int32) (v2 : Nat) (v4 : Int32) (t0 : Int32) (U : cU) : Option (Int32 × cU) :=
  h_X2_missed_74 N rec21 v1 v2 v4 t0 0 U

set_option maxHeartbeats 4000000 in
theorem e_X2_missed_73 {σ : zS} {A : cA} {N : Nat → Nat} (hA : cOKN σ A N) {Rt : Int32 × cU} {v1 : Int32} {v2 : Nat} (hi_v2 : v2 < N 2) {v4 : Int32} {t0 : Int32} {rec21 : Int32 → Int32 → cU → Option (Int32 × cU)} {frec21 : Int32 → Int32 → zS → Option (Int32 × zS)} (hrec21 : ∀ (v3 : Int32) (v4 : Int32) (U : cU), rec21 v3 v4 U = some Rt → frec21 v3 v4 (pU σ A N U) = some (Rt.1, (pU σ A N Rt.2))) {U : cU} (h : h_X2_missed_73 N rec21 v1 v2 v4 t0 U = some Rt) : f_X2_missed_73 (aad A 1) frec21 v1 (some (aad A (100 * 2 + v2))) v4 t0 (pU σ A N U) = some (Rt.1, (pU σ A N Rt.2)) := by
  unfold h_X2_missed_73 at h
  unfold f_X2_missed_73
  exact e_X2_missed_74 hA hi_v2 hrec21 h

def h_X2_missed_21_b (N : Nat → Nat) (v1 : Int32) (v2 : Nat) (rec21 : Int32 → Int32 → cU → Option (Int32 × cU)) (v3 : Int32) (v4 : Int32) (U : cU) : Option (Int32 × cU) :=
  if (Int32.ofNat (N 4)) ≤ v4 then
    some (v3, U)
  else
    (vix (N 4) v4).bind fun i3 =>
    if (U.2 4 (8 * i3 + 4)) ≤ v1 then
      h_X2_missed_73 N rec21 v1 v2 v4 v3 U
    else
      if (U.2 4 (8 * i3)) ≤ (U.2 2 (3 * v2 + 2)) then
        h_X2_missed_73 N rec21 v1 v2 v4 v3 U
      else
        h_X2_missed_74 N rec21 v1 v2 v4 v3 1 U

def h_X2_missed_21 (N : Nat → Nat) (v1 : Int32) (v2 : Nat) : Int32 → Int32 → cU → Option (Int32 × cU) := zlp2 (h_X2_missed_21_b N v1 v2) NN
set_option maxHeartbeats 4000000 in
theorem e_X2_missed_21_b {σ : zS} {A : cA} {N : Nat → Nat} (hA : cOKN σ A N) {Rt : Int32 × cU} {v1 : Int32} {v2 : Nat} (hi_v2 : v2 < N 2) {rec21 : Int32 → Int32 → cU → Option (Int32 × cU)} {frec21 : Int32 → Int32 → zS → Option (Int32 × zS)} (hrec21 : ∀ (v3 : Int32) (v4 : Int32) (U : cU), rec21 v3 v4 U = some Rt → frec21 v3 v4 (pU σ A N U) = some (Rt.1, (pU σ A N Rt.2))) {v3 : Int32} {v4 : Int32} {U : cU} (h : h_X2_missed_21_b N v1 v2 rec21 v3 v4 U = some Rt) : f_X2_missed_21_b (aad A 1) v1 (some (aad A (100 * 2 + v2))) frec21 v3 v4 (pU σ A N U) = some (Rt.1, (pU σ A N Rt.2)) := by
  unfold h_X2_missed_21_b at h
  unfold f_X2_missed_21_b
  refine z_bq (cgR hA (r := 1) (ci := 1) (V := (U.1, U.2, N)) (q := some (aad A 15)) rfl rfl rfl) ?_
  refine z_bq rfl ?_
  refine z_zifq (ccl hA (r := 15) (ci := 19) (V := (U.1, U.2, N)) rfl rfl) ?_
  refine z_b2q (csize hA (j := 4) (V := (U.1, U.2, N)) (by decide) (by decide)) ?_
  refine z_ifq h (fun h => ?_) (fun h => ?_)
  · obtain rfl := Option.some.inj h
    rfl
  · refine z_bq (cgR hA (r := 1) (ci := 1) (V := (U.1, U.2, N)) (q := some (aad A 15)) rfl rfl rfl) ?_
    refine z_bq rfl ?_
    refine z_zifq (ccl hA (r := 15) (ci := 19) (V := (U.1, U.2, N)) rfl rfl) ?_
    obtain ⟨i3, q_i3, h⟩ := z_bd h
    have hi_i3 := (vix_inv q_i3).2.1
    refine z_b2q (cget hA (j := 4) (V := (U.1, U.2, N)) (by decide) (by decide) q_i3) ?_
    refine z_zifq (cckC hA (r := (100 * 4 + i3)) (ci := 8) (V := (U.1, U.2, N)) (cE4_ hA hi_i3) rfl) ?_
    refine z_bq rfl ?_
    refine z_bq (cgI hA (r := (100 * 4 + i3)) (ci := 8) (V := (U.1, U.2, N)) (cE4_ hA hi_i3) rfl rfl) ?_
    refine z_ifq h (fun h => ?_) (fun h => ?_)
    · exact e_X2_missed_73 hA hi_v2 hrec21 h
    · refine z_bq (cgI hA (r := (100 * 4 + i3)) (ci := 8) (V := (U.1, U.2, N)) (cE4_ hA hi_i3) rfl rfl) ?_
      refine z_bq rfl ?_
      refine z_bq (cgI hA (r := (100 * 2 + v2)) (ci := 7) (V := (U.1, U.2, N)) (cE2_ hA hi_v2) rfl rfl) ?_
      refine z_ifq h (fun h => ?_) (fun h => ?_)
      · exact e_X2_missed_73 hA hi_v2 hrec21 h
      · exact e_X2_missed_74 hA hi_v2 hrec21 h

theorem e_X2_missed_21 {σ : zS} {A : cA} {N : Nat → Nat} (hA : cOKN σ A N) {Rt : Int32 × cU} {v1 : Int32} {v2 : Nat} (hi_v2 : v2 < N 2) {v3 : Int32} {v4 : Int32} {U : cU} (h : h_X2_missed_21 N v1 v2 v3 v4 U = some Rt) : f_X2_missed_21 (aad A 1) v1 (some (aad A (100 * 2 + v2))) v3 v4 (pU σ A N U) = some (Rt.1, (pU σ A N Rt.2)) := by
  unfold h_X2_missed_21 at h
  unfold f_X2_missed_21
  generalize NN = n9 at h ⊢
  exact zlp2_rel (F := f_X2_missed_21_b (aad A 1) v1 (some (aad A (100 * 2 + v2)))) (G := h_X2_missed_21_b N v1 v2) (R := Rt) (R' := (Rt.1, (pU σ A N Rt.2))) (fun v => v) (fun v => v) (pU σ A N) (fun rf rg hr v3 v4 t h => e_X2_missed_21_b hA hi_v2 (frec21 := rf) hr h) n9 v3 v4 U h
def h_X2_missed (N : Nat → Nat) (p1 : Int32) (U : cU) : Option (Int32 × cU) :=
  (vix (N 2) p1).bind fun i1 =>
  zl (-(U.2 2 (3 * i1 + 1))) fun x2 =>
  h_X2_missed_21 N p1 i1 x2 0 U

set_option maxHeartbeats 4000000 in
theorem e_X2_missed {σ : zS} {A : cA} {N : Nat → Nat} (hA : cOKN σ A N) {p1 : Int32} {U : cU} {Rt : Int32 × cU} (h : h_X2_missed N p1 U = some Rt) : f_X2_missed (aad A 1) p1 (pU σ A N U) = some (Rt.1, (pU σ A N Rt.2)) := by
  unfold h_X2_missed at h
  unfold f_X2_missed
  refine z_bq (cgR hA (r := 1) (ci := 1) (V := (U.1, U.2, N)) (q := some (aad A 13)) rfl rfl rfl) ?_
  refine z_bq rfl ?_
  refine z_zifq (ccl hA (r := 13) (ci := 19) (V := (U.1, U.2, N)) rfl rfl) ?_
  obtain ⟨i1, q_i1, h⟩ := z_bd h
  have hi_i1 := (vix_inv q_i1).2.1
  refine z_b2q (cget hA (j := 2) (V := (U.1, U.2, N)) (by decide) (by decide) q_i1) ?_
  refine z_zifq (cckC hA (r := (100 * 2 + i1)) (ci := 7) (V := (U.1, U.2, N)) (cE2_ hA hi_i1) rfl) ?_
  refine z_bq rfl ?_
  refine z_bq (cgI hA (r := (100 * 2 + i1)) (ci := 7) (V := (U.1, U.2, N)) (cE2_ hA hi_i1) rfl rfl) ?_
  refine z_zlq h (fun x2 h => ?_)
  exact e_X2_missed_21 hA hi_i1 h

def h_X1_lost_65 (N : Nat → Nat) (rec4 : Int32 → Int32 → cU → Option (Int32 × cU)) (v1 : Int32) (v3 : Int32) (t0 : Int32) (t1 : Int32) (U : cU) : Option (Int32 × cU) :=
  zl (t0 + t1) fun x2 =>
  zl (v3 + 1) fun x3 =>
  rec4 x2 x3 U

set_option maxHeartbeats 4000000 in
theorem e_X1_lost_65 {σ : zS} {A : cA} {N : Nat → Nat} (hA : cOKN σ A N) {Rt : Int32 × cU} {v1 : Int32} {v3 : Int32} {t0 : Int32} {t1 : Int32} {rec4 : Int32 → Int32 → cU → Option (Int32 × cU)} {frec4 : Int32 → Int32 → zS → Option (Int32 × zS)} (hrec4 : ∀ (v2 : Int32) (v3 : Int32) (U : cU), rec4 v2 v3 U = some Rt → frec4 v2 v3 (pU σ A N U) = some (Rt.1, (pU σ A N Rt.2))) {U : cU} (h : h_X1_lost_65 N rec4 v1 v3 t0 t1 U = some Rt) : f_X1_lost_65 (aad A 0) frec4 v1 v3 t0 t1 (pU σ A N U) = some (Rt.1, (pU σ A N Rt.2)) := by
  unfold h_X1_lost_65 at h
  unfold f_X1_lost_65
  refine z_zlq h (fun x2 h => ?_)
  refine z_zlq h (fun x3 h => ?_)
  exact hrec4 _ _ _ h

def h_X1_lost_64 (N : Nat → Nat) (rec4 : Int32 → Int32 → cU → Option (Int32 × cU)) (v1 : Int32) (v3 : Int32) (t0 : Int32) (U : cU) : Option (Int32 × cU) :=
  h_X1_lost_65 N rec4 v1 v3 t0 0 U

set_option maxHeartbeats 4000000 in
theorem e_X1_lost_64 {σ : zS} {A : cA} {N : Nat → Nat} (hA : cOKN σ A N) {Rt : Int32 × cU} {v1 : Int32} {v3 : Int32} {t0 : Int32} {rec4 : Int32 → Int32 → cU → Option (Int32 × cU)} {frec4 : Int32 → Int32 → zS → Option (Int32 × zS)} (hrec4 : ∀ (v2 : Int32) (v3 : Int32) (U : cU), rec4 v2 v3 U = some Rt → frec4 v2 v3 (pU σ A N U) = some (Rt.1, (pU σ A N Rt.2))) {U : cU} (h : h_X1_lost_64 N rec4 v1 v3 t0 U = some Rt) : f_X1_lost_64 (aad A 0) frec4 v1 v3 t0 (pU σ A N U) = some (Rt.1, (pU σ A N Rt.2)) := by
  unfold h_X1_lost_64 at h
  unfold f_X1_lost_64
  exact e_X1_lost_65 hA hrec4 h

def h_X1_lost_4_b (N : Nat → Nat) (v1 : Int32) (rec4 : Int32 → Int32 → cU → Option (Int32 × cU)) (v2 : Int32) (v3 : Int32) (U : cU) : Option (Int32 × cU) :=
  if (Int32.ofNat (N 4)) ≤ v3 then
    some (v2, U)
  else
    (vix (N 4) v3).bind fun i1 =>
    if ¬ (U.2 4 (8 * i1 + 3)) = v1 then
      h_X1_lost_64 N rec4 v1 v3 v2 U
    else
      (vix (N 4) v3).bind fun i4 =>
      if (U.2 4 (8 * i4 + 7)) = 0 then
        h_X1_lost_64 N rec4 v1 v3 v2 U
      else
        h_X1_lost_65 N rec4 v1 v3 v2 1 U

def h_X1_lost_4 (N : Nat → Nat) (v1 : Int32) : Int32 → Int32 → cU → Option (Int32 × cU) := zlp2 (h_X1_lost_4_b N v1) NN
set_option maxHeartbeats 4000000 in
theorem e_X1_lost_4_b {σ : zS} {A : cA} {N : Nat → Nat} (hA : cOKN σ A N) {Rt : Int32 × cU} {v1 : Int32} {rec4 : Int32 → Int32 → cU → Option (Int32 × cU)} {frec4 : Int32 → Int32 → zS → Option (Int32 × zS)} (hrec4 : ∀ (v2 : Int32) (v3 : Int32) (U : cU), rec4 v2 v3 U = some Rt → frec4 v2 v3 (pU σ A N U) = some (Rt.1, (pU σ A N Rt.2))) {v2 : Int32} {v3 : Int32} {U : cU} (h : h_X1_lost_4_b N v1 rec4 v2 v3 U = some Rt) : f_X1_lost_4_b (aad A 0) v1 frec4 v2 v3 (pU σ A N U) = some (Rt.1, (pU σ A N Rt.2)) := by
  unfold h_X1_lost_4_b at h
  unfold f_X1_lost_4_b
  refine z_bq (cgR hA (r := 0) (ci := 0) (V := (U.1, U.2, N)) (q := some (aad A 1)) rfl rfl rfl) ?_
  refine z_bq rfl ?_
  refine z_bq (cgR hA (r := 1) (ci := 1) (V := (U.1, U.2, N)) (q := some (aad A 15)) rfl rfl rfl) ?_
  refine z_bq rfl ?_
  refine z_zifq (ccl hA (r := 15) (ci := 19) (V := (U.1, U.2, N)) rfl rfl) ?_
  refine z_b2q (csize hA (j := 4) (V := (U.1, U.2, N)) (by decide) (by decide)) ?_
  refine z_ifq h (fun h => ?_) (fun h => ?_)
  · obtain rfl := Option.some.inj h
    rfl
  · refine z_bq (cgR hA (r := 0) (ci := 0) (V := (U.1, U.2, N)) (q := some (aad A 1)) rfl rfl rfl) ?_
    refine z_bq rfl ?_
    refine z_bq (cgR hA (r := 1) (ci := 1) (V := (U.1, U.2, N)) (q := some (aad A 15)) rfl rfl rfl) ?_
    refine z_bq rfl ?_
    refine z_zifq (ccl hA (r := 15) (ci := 19) (V := (U.1, U.2, N)) rfl rfl) ?_
    obtain ⟨i1, q_i1, h⟩ := z_bd h
    have hi_i1 := (vix_inv q_i1).2.1
    refine z_b2q (cget hA (j := 4) (V := (U.1, U.2, N)) (by decide) (by decide) q_i1) ?_
    refine z_zifq (cckC hA (r := (100 * 4 + i1)) (ci := 8) (V := (U.1, U.2, N)) (cE4_ hA hi_i1) rfl) ?_
    refine z_bq rfl ?_
    refine z_bq (cgI hA (r := (100 * 4 + i1)) (ci := 8) (V := (U.1, U.2, N)) (cE4_ hA hi_i1) rfl rfl) ?_
    refine z_ifq h (fun h => ?_) (fun h => ?_)
    · exact e_X1_lost_64 hA hrec4 h
    · refine z_bq (cgR hA (r := 0) (ci := 0) (V := (U.1, U.2, N)) (q := some (aad A 1)) rfl rfl rfl) ?_
      refine z_bq rfl ?_
      refine z_bq (cgR hA (r := 1) (ci := 1) (V := (U.1, U.2, N)) (q := some (aad A 15)) rfl rfl rfl) ?_
      refine z_bq rfl ?_
      refine z_zifq (ccl hA (r := 15) (ci := 19) (V := (U.1, U.2, N)) rfl rfl) ?_
      obtain ⟨i4, q_i4, h⟩ := z_bd h
      have hi_i4 := (vix_inv q_i4).2.1
      refine z_b2q (cget hA (j := 4) (V := (U.1, U.2, N)) (by decide) (by decide) q_i4) ?_
      refine z_zifq (cckC hA (r := (100 * 4 + i4)) (ci := 8) (V := (U.1, U.2, N)) (cE4_ hA hi_i4) rfl) ?_
      refine z_bq rfl ?_
      refine z_bq (cgI hA (r := (100 * 4 + i4)) (ci := 8) (V := (U.1, U.2, N)) (cE4_ hA hi_i4) rfl rfl) ?_
      refine z_ifq h (fun h => ?_) (fun h => ?_)
      · exact e_X1_lost_64 hA hrec4 h
      · exact e_X1_lost_65 hA hrec4 h

theorem e_X1_lost_4 {σ : zS} {A : cA} {N : Nat → Nat} (hA : cOKN σ A N) {Rt : Int32 × cU} {v1 : Int32} {v2 : Int32} {v3 : Int32} {U : cU} (h : h_X1_lost_4 N v1 v2 v3 U = some Rt) : f_X1_lost_4 (aad A 0) v1 v2 v3 (pU σ A N U) = some (Rt.1, (pU σ A N Rt.2)) := by
  unfold h_X1_lost_4 at h
  unfold f_X1_lost_4
  generalize NN = n9 at h ⊢
  exact zlp2_rel (F := f_X1_lost_4_b (aad A 0) v1) (G := h_X1_lost_4_b N v1) (R := Rt) (R' := (Rt.1, (pU σ A N Rt.2))) (fun v => v) (fun v => v) (pU σ A N) (fun rf rg hr v2 v3 t h => e_X1_lost_4_b hA (frec4 := rf) hr h) n9 v2 v3 U h
def h_X1_lost (N : Nat → Nat) (p1 : Int32) (U : cU) : Option (Int32 × cU) :=
  h_X1_lost_4 N p1 0 0 U

set_option maxHeartbeats 4000000 in
theorem e_X1_lost {σ : zS} {A : cA} {N : Nat → Nat} (hA : cOKN σ A N) {p1 : Int32} {U : cU} {Rt : Int32 × cU} (h : h_X1_lost N p1 U = some Rt) : f_X1_lost (aad A 0) p1 (pU σ A N U) = some (Rt.1, (pU σ A N Rt.2)) := by
  unfold h_X1_lost at h
  unfold f_X1_lost
  exact e_X1_lost_4 hA h

def h_X1_known_61 (N : Nat → Nat) (rec4 : Int32 → Int32 → cU → Option (Int32 × cU)) (v1 : Int32) (v3 : Int32) (t0 : Int32) (t1 : Int32) (U : cU) : Option (Int32 × cU) :=
  zl (t0 + t1) fun x2 =>
  zl (v3 + 1) fun x3 =>
  rec4 x2 x3 U

set_option maxHeartbeats 4000000 in
theorem e_X1_known_61 {σ : zS} {A : cA} {N : Nat → Nat} (hA : cOKN σ A N) {Rt : Int32 × cU} {v1 : Int32} {v3 : Int32} {t0 : Int32} {t1 : Int32} {rec4 : Int32 → Int32 → cU → Option (Int32 × cU)} {frec4 : Int32 → Int32 → zS → Option (Int32 × zS)} (hrec4 : ∀ (v2 : Int32) (v3 : Int32) (U : cU), rec4 v2 v3 U = some Rt → frec4 v2 v3 (pU σ A N U) = some (Rt.1, (pU σ A N Rt.2))) {U : cU} (h : h_X1_known_61 N rec4 v1 v3 t0 t1 U = some Rt) : f_X1_known_61 (aad A 0) frec4 v1 v3 t0 t1 (pU σ A N U) = some (Rt.1, (pU σ A N Rt.2)) := by
  unfold h_X1_known_61 at h
  unfold f_X1_known_61
  refine z_zlq h (fun x2 h => ?_)
  refine z_zlq h (fun x3 h => ?_)
  exact hrec4 _ _ _ h

def h_X1_known_60 (N : Nat → Nat) (rec4 : Int32 → Int32 → cU → Option (Int32 × cU)) (v1 : Int32) (v3 : Int32) (t0 : Int32) (U : cU) : Option (Int32 × cU) :=
  h_X1_known_61 N rec4 v1 v3 t0 0 U

set_option maxHeartbeats 4000000 in
theorem e_X1_known_60 {σ : zS} {A : cA} {N : Nat → Nat} (hA : cOKN σ A N) {Rt : Int32 × cU} {v1 : Int32} {v3 : Int32} {t0 : Int32} {rec4 : Int32 → Int32 → cU → Option (Int32 × cU)} {frec4 : Int32 → Int32 → zS → Option (Int32 × zS)} (hrec4 : ∀ (v2 : Int32) (v3 : Int32) (U : cU), rec4 v2 v3 U = some Rt → frec4 v2 v3 (pU σ A N U) = some (Rt.1, (pU σ A N Rt.2))) {U : cU} (h : h_X1_known_60 N rec4 v1 v3 t0 U = some Rt) : f_X1_known_60 (aad A 0) frec4 v1 v3 t0 (pU σ A N U) = some (Rt.1, (pU σ A N Rt.2)) := by
  unfold h_X1_known_60 at h
  unfold f_X1_known_60
  exact e_X1_known_61 hA hrec4 h

def h_X1_known_4_b (N : Nat → Nat) (v1 : Int32) (rec4 : Int32 → Int32 → cU → Option (Int32 × cU)) (v2 : Int32) (v3 : Int32) (U : cU) : Option (Int32 × cU) :=
  if (Int32.ofNat (N 4)) ≤ v3 then
    some (v2, U)
  else
    (vix (N 4) v3).bind fun i1 =>
    if ¬ (U.2 4 (8 * i1 + 3)) = v1 then
      h_X1_known_60 N rec4 v1 v3 v2 U
    else
      if ¬ (U.2 4 (8 * i1 + 7)) = 0 then
        h_X1_known_60 N rec4 v1 v3 v2 U
      else
        h_X1_known_61 N rec4 v1 v3 v2 (U.2 4 (8 * i1 + 5)) U

def h_X1_known_4 (N : Nat → Nat) (v1 : Int32) : Int32 → Int32 → cU → Option (Int32 × cU) := zlp2 (h_X1_known_4_b N v1) NN
set_option maxHeartbeats 4000000 in
theorem e_X1_known_4_b {σ : zS} {A : cA} {N : Nat → Nat} (hA : cOKN σ A N) {Rt : Int32 × cU} {v1 : Int32} {rec4 : Int32 → Int32 → cU → Option (Int32 × cU)} {frec4 : Int32 → Int32 → zS → Option (Int32 × zS)} (hrec4 : ∀ (v2 : Int32) (v3 : Int32) (U : cU), rec4 v2 v3 U = some Rt → frec4 v2 v3 (pU σ A N U) = some (Rt.1, (pU σ A N Rt.2))) {v2 : Int32} {v3 : Int32} {U : cU} (h : h_X1_known_4_b N v1 rec4 v2 v3 U = some Rt) : f_X1_known_4_b (aad A 0) v1 frec4 v2 v3 (pU σ A N U) = some (Rt.1, (pU σ A N Rt.2)) := by
  unfold h_X1_known_4_b at h
  unfold f_X1_known_4_b
  refine z_bq (cgR hA (r := 0) (ci := 0) (V := (U.1, U.2, N)) (q := some (aad A 1)) rfl rfl rfl) ?_
  refine z_bq rfl ?_
  refine z_bq (cgR hA (r := 1) (ci := 1) (V := (U.1, U.2, N)) (q := some (aad A 15)) rfl rfl rfl) ?_
  refine z_bq rfl ?_
  refine z_zifq (ccl hA (r := 15) (ci := 19) (V := (U.1, U.2, N)) rfl rfl) ?_
  refine z_b2q (csize hA (j := 4) (V := (U.1, U.2, N)) (by decide) (by decide)) ?_
  refine z_ifq h (fun h => ?_) (fun h => ?_)
  · obtain rfl := Option.some.inj h
    rfl
  · refine z_bq (cgR hA (r := 0) (ci := 0) (V := (U.1, U.2, N)) (q := some (aad A 1)) rfl rfl rfl) ?_
    refine z_bq rfl ?_
    refine z_bq (cgR hA (r := 1) (ci := 1) (V := (U.1, U.2, N)) (q := some (aad A 15)) rfl rfl rfl) ?_
    refine z_bq rfl ?_
    refine z_zifq (ccl hA (r := 15) (ci := 19) (V := (U.1, U.2, N)) rfl rfl) ?_
    obtain ⟨i1, q_i1, h⟩ := z_bd h
    have hi_i1 := (vix_inv q_i1).2.1
    refine z_b2q (cget hA (j := 4) (V := (U.1, U.2, N)) (by decide) (by decide) q_i1) ?_
    refine z_zifq (cckC hA (r := (100 * 4 + i1)) (ci := 8) (V := (U.1, U.2, N)) (cE4_ hA hi_i1) rfl) ?_
    refine z_bq rfl ?_
    refine z_bq (cgI hA (r := (100 * 4 + i1)) (ci := 8) (V := (U.1, U.2, N)) (cE4_ hA hi_i1) rfl rfl) ?_
    refine z_ifq h (fun h => ?_) (fun h => ?_)
    · exact e_X1_known_60 hA hrec4 h
    · refine z_bq (cgI hA (r := (100 * 4 + i1)) (ci := 8) (V := (U.1, U.2, N)) (cE4_ hA hi_i1) rfl rfl) ?_
      refine z_ifq h (fun h => ?_) (fun h => ?_)
      · exact e_X1_known_60 hA hrec4 h
      · refine z_bq (cgI hA (r := (100 * 4 + i1)) (ci := 8) (V := (U.1, U.2, N)) (cE4_ hA hi_i1) rfl rfl) ?_
        exact e_X1_known_61 hA hrec4 h

theorem e_X1_known_4 {σ : zS} {A : cA} {N : Nat → Nat} (hA : cOKN σ A N) {Rt : Int32 × cU} {v1 : Int32} {v2 : Int32} {v3 : Int32} {U : cU} (h : h_X1_known_4 N v1 v2 v3 U = some Rt) : f_X1_known_4 (aad A 0) v1 v2 v3 (pU σ A N U) = some (Rt.1, (pU σ A N Rt.2)) := by
  unfold h_X1_known_4 at h
  unfold f_X1_known_4
  generalize NN = n9 at h ⊢
  exact zlp2_rel (F := f_X1_known_4_b (aad A 0) v1) (G := h_X1_known_4_b N v1) (R := Rt) (R' := (Rt.1, (pU σ A N Rt.2))) (fun v => v) (fun v => v) (pU σ A N) (fun rf rg hr v2 v3 t h => e_X1_known_4_b hA (frec4 := rf) hr h) n9 v2 v3 U h
def h_X1_known (N : Nat → Nat) (p1 : Int32) (U : cU) : Option (Int32 × cU) :=
  h_X1_known_4 N p1 0 0 U

set_option maxHeartbeats 4000000 in
theorem e_X1_known {σ : zS} {A : cA} {N : Nat → Nat} (hA : cOKN σ A N) {p1 : Int32} {U : cU} {Rt : Int32 × cU} (h : h_X1_known N p1 U = some Rt) : f_X1_known (aad A 0) p1 (pU σ A N U) = some (Rt.1, (pU σ A N Rt.2)) := by
  unfold h_X1_known at h
  unfold f_X1_known
  exact e_X1_known_4 hA h

def h_X1_sum_39_b (N : Nat → Nat) (v1 : Int32) (rec39 : Int32 → Int32 → cU → Option (Int32 × cU)) (v2 : Int32) (v3 : Int32) (U : cU) : Option (Int32 × cU) :=
  if (Int32.ofNat (N 4)) ≤ v3 then
    some (v2, U)
  else
    if ¬ v1 = 0 then
      some (v2, U)
    else
      (vix (N 4) v3).bind fun i1 =>
      zl (v2 + (U.2 4 (8 * i1 + 5))) fun x2 =>
      zl (v3 + 1) fun x3 =>
      rec39 x2 x3 U

def h_X1_sum_39 (N : Nat → Nat) (v1 : Int32) : Int32 → Int32 → cU → Option (Int32 × cU) := zlp2 (h_X1_sum_39_b N v1) NN
set_option maxHeartbeats 4000000 in
theorem e_X1_sum_39_b {σ : zS} {A : cA} {N : Nat → Nat} (hA : cOKN σ A N) {Rt : Int32 × cU} {v1 : Int32} {rec39 : Int32 → Int32 → cU → Option (Int32 × cU)} {frec39 : Int32 → Int32 → zS → Option (Int32 × zS)} (hrec39 : ∀ (v2 : Int32) (v3 : Int32) (U : cU), rec39 v2 v3 U = some Rt → frec39 v2 v3 (pU σ A N U) = some (Rt.1, (pU σ A N Rt.2))) {v2 : Int32} {v3 : Int32} {U : cU} (h : h_X1_sum_39_b N v1 rec39 v2 v3 U = some Rt) : f_X1_sum_39_b (aad A 0) v1 frec39 v2 v3 (pU σ A N U) = some (Rt.1, (pU σ A N Rt.2)) := by
  unfold h_X1_sum_39_b at h
  unfold f_X1_sum_39_b
  refine z_bq (cgR hA (r := 0) (ci := 0) (V := (U.1, U.2, N)) (q := some (aad A 1)) rfl rfl rfl) ?_
  refine z_bq rfl ?_
  refine z_bq (cgR hA (r := 1) (ci := 1) (V := (U.1, U.2, N)) (q := some (aad A 15)) rfl rfl rfl) ?_
  refine z_bq rfl ?_
  refine z_zifq (ccl hA (r := 15) (ci := 19) (V := (U.1, U.2, N)) rfl rfl) ?_
  refine z_b2q (csize hA (j := 4) (V := (U.1, U.2, N)) (by decide) (by decide)) ?_
  refine z_ifq h (fun h => ?_) (fun h => ?_)
  · obtain rfl := Option.some.inj h
    rfl
  · refine z_ifq h (fun h => ?_) (fun h => ?_)
    · obtain rfl := Option.some.inj h
      rfl
    · refine z_bq (cgR hA (r := 0) (ci := 0) (V := (U.1, U.2, N)) (q := some (aad A 1)) rfl rfl rfl) ?_
      refine z_bq rfl ?_
      refine z_bq (cgR hA (r := 1) (ci := 1) (V := (U.1, U.2, N)) (q := some (aad A 15)) rfl rfl rfl) ?_
      refine z_bq rfl ?_
      refine z_zifq (ccl hA (r := 15) (ci := 19) (V := (U.1, U.2, N)) rfl rfl) ?_
      obtain ⟨i1, q_i1, h⟩ := z_bd h
      have hi_i1 := (vix_inv q_i1).2.1
      refine z_b2q (cget hA (j := 4) (V := (U.1, U.2, N)) (by decide) (by decide) q_i1) ?_
      refine z_zifq (cckC hA (r := (100 * 4 + i1)) (ci := 8) (V := (U.1, U.2, N)) (cE4_ hA hi_i1) rfl) ?_
      refine z_bq rfl ?_
      refine z_bq (cgI hA (r := (100 * 4 + i1)) (ci := 8) (V := (U.1, U.2, N)) (cE4_ hA hi_i1) rfl rfl) ?_
      refine z_zlq h (fun x2 h => ?_)
      refine z_zlq h (fun x3 h => ?_)
      exact hrec39 _ _ _ h

theorem e_X1_sum_39 {σ : zS} {A : cA} {N : Nat → Nat} (hA : cOKN σ A N) {Rt : Int32 × cU} {v1 : Int32} {v2 : Int32} {v3 : Int32} {U : cU} (h : h_X1_sum_39 N v1 v2 v3 U = some Rt) : f_X1_sum_39 (aad A 0) v1 v2 v3 (pU σ A N U) = some (Rt.1, (pU σ A N Rt.2)) := by
  unfold h_X1_sum_39 at h
  unfold f_X1_sum_39
  generalize NN = n9 at h ⊢
  exact zlp2_rel (F := f_X1_sum_39_b (aad A 0) v1) (G := h_X1_sum_39_b N v1) (R := Rt) (R' := (Rt.1, (pU σ A N Rt.2))) (fun v => v) (fun v => v) (pU σ A N) (fun rf rg hr v2 v3 t h => e_X1_sum_39_b hA (frec39 := rf) hr h) n9 v2 v3 U h
def h_X1_sum_37 (N : Nat → Nat) (v1 : Int32) (v2 : Int32) (U : cU) : Option (Int32 × cU) :=
  h_X1_sum_39 N v1 v2 0 U

set_option maxHeartbeats 4000000 in
theorem e_X1_sum_37 {σ : zS} {A : cA} {N : Nat → Nat} (hA : cOKN σ A N) {Rt : Int32 × cU} {v1 : Int32} {v2 : Int32} {U : cU} (h : h_X1_sum_37 N v1 v2 U = some Rt) : f_X1_sum_37 (aad A 0) v1 v2 (pU σ A N U) = some (Rt.1, (pU σ A N Rt.2)) := by
  unfold h_X1_sum_37 at h
  unfold f_X1_sum_37
  exact e_X1_sum_39 hA h

def h_X1_sum_4_b (N : Nat → Nat) (v1 : Int32) (rec4 : Int32 → Int32 → cU → Option (Int32 × cU)) (v2 : Int32) (v3 : Int32) (U : cU) : Option (Int32 × cU) :=
  if (U.1 1) ≤ v3 then
    h_X1_sum_37 N v1 v2 U
  else
    if v1 = 0 then
      h_X1_sum_37 N v1 v2 U
    else
      (uL U 0 8 v3).bind fun x4 =>
      zl (v2 + x4) fun x5 =>
      zl (v3 + 1) fun x6 =>
      rec4 x5 x6 U

def h_X1_sum_4 (N : Nat → Nat) (v1 : Int32) : Int32 → Int32 → cU → Option (Int32 × cU) := zlp2 (h_X1_sum_4_b N v1) NN
set_option maxHeartbeats 4000000 in
theorem e_X1_sum_4_b {σ : zS} {A : cA} {N : Nat → Nat} (hA : cOKN σ A N) {Rt : Int32 × cU} {v1 : Int32} {rec4 : Int32 → Int32 → cU → Option (Int32 × cU)} {frec4 : Int32 → Int32 → zS → Option (Int32 × zS)} (hrec4 : ∀ (v2 : Int32) (v3 : Int32) (U : cU), rec4 v2 v3 U = some Rt → frec4 v2 v3 (pU σ A N U) = some (Rt.1, (pU σ A N Rt.2))) {v2 : Int32} {v3 : Int32} {U : cU} (h : h_X1_sum_4_b N v1 rec4 v2 v3 U = some Rt) : f_X1_sum_4_b (aad A 0) v1 frec4 v2 v3 (pU σ A N U) = some (Rt.1, (pU σ A N Rt.2)) := by
  unfold h_X1_sum_4_b at h
  unfold f_X1_sum_4_b
  refine z_bq (cgR hA (r := 0) (ci := 0) (V := (U.1, U.2, N)) (q := some (aad A 1)) rfl rfl rfl) ?_
  refine z_bq rfl ?_
  refine z_bq (cgI hA (r := 1) (ci := 1) (V := (U.1, U.2, N)) rfl rfl rfl) ?_
  refine z_ifq h (fun h => ?_) (fun h => ?_)
  · exact e_X1_sum_37 hA h
  · refine z_ifq h (fun h => ?_) (fun h => ?_)
    · exact e_X1_sum_37 hA h
    · refine z_bq (cgR hA (r := 0) (ci := 0) (V := (U.1, U.2, N)) (q := some (aad A 1)) rfl rfl rfl) ?_
      refine z_bq rfl ?_
      refine z_bq (cgR hA (r := 1) (ci := 1) (V := (U.1, U.2, N)) (q := some (aad A 5)) rfl rfl rfl) ?_
      refine z_bq rfl ?_
      obtain ⟨x4, e9, h⟩ := z_bd h
      refine z_bq (clI hA (r := 5) (t := 0) (n := 8) (V := (U.1, U.2, N)) rfl rfl e9) ?_
      refine z_zlq h (fun x5 h => ?_)
      refine z_zlq h (fun x6 h => ?_)
      exact hrec4 _ _ _ h

theorem e_X1_sum_4 {σ : zS} {A : cA} {N : Nat → Nat} (hA : cOKN σ A N) {Rt : Int32 × cU} {v1 : Int32} {v2 : Int32} {v3 : Int32} {U : cU} (h : h_X1_sum_4 N v1 v2 v3 U = some Rt) : f_X1_sum_4 (aad A 0) v1 v2 v3 (pU σ A N U) = some (Rt.1, (pU σ A N Rt.2)) := by
  unfold h_X1_sum_4 at h
  unfold f_X1_sum_4
  generalize NN = n9 at h ⊢
  exact zlp2_rel (F := f_X1_sum_4_b (aad A 0) v1) (G := h_X1_sum_4_b N v1) (R := Rt) (R' := (Rt.1, (pU σ A N Rt.2))) (fun v => v) (fun v => v) (pU σ A N) (fun rf rg hr v2 v3 t h => e_X1_sum_4_b hA (frec4 := rf) hr h) n9 v2 v3 U h
def h_X1_sum (N : Nat → Nat) (p1 : Int32) (U : cU) : Option (Int32 × cU) :=
  h_X1_sum_4 N p1 0 0 U

set_option maxHeartbeats 4000000 in
theorem e_X1_sum {σ : zS} {A : cA} {N : Nat → Nat} (hA : cOKN σ A N) {p1 : Int32} {U : cU} {Rt : Int32 × cU} (h : h_X1_sum N p1 U = some Rt) : f_X1_sum (aad A 0) p1 (pU σ A N U) = some (Rt.1, (pU σ A N Rt.2)) := by
  unfold h_X1_sum at h
  unfold f_X1_sum
  exact e_X1_sum_4 hA h

def h_X1_seed (N : Nat → Nat) (p1 : Int32) (U : cU) : Option (Int32 × cU) :=
  zl (uset U 5 p1) fun U1 =>
  some (U.1 5, U1)

set_option maxHeartbeats 4000000 in
theorem e_X1_seed {σ : zS} {A : cA} {N : Nat → Nat} (hA : cOKN σ A N) {p1 : Int32} {U : cU} {Rt : Int32 × cU} (h : h_X1_seed N p1 U = some Rt) : f_X1_seed (aad A 0) p1 (pU σ A N U) = some (Rt.1, (pU σ A N Rt.2)) := by
  unfold h_X1_seed at h
  unfold f_X1_seed
  refine z_bq (cgR hA (r := 0) (ci := 0) (V := (U.1, U.2, N)) (q := some (aad A 1)) rfl rfl rfl) ?_
  refine z_bq rfl ?_
  refine z_bq (cgI hA (r := 1) (ci := 1) (V := (U.1, U.2, N)) rfl rfl rfl) ?_
  refine z_bq (cgR hA (r := 0) (ci := 0) (V := (U.1, U.2, N)) (q := some (aad A 1)) rfl rfl rfl) ?_
  refine z_bq rfl ?_
  refine z_putq (cpF hA (r := 1) (ci := 1) (V := (U.1, U.2, N)) (V' := ((uset U 5 p1).1, (uset U 5 p1).2, N)) rfl (Nat.le_of_ble_eq_true rfl) rfl (vso_5 (V := (U.1, U.2, N)) (x := p1))) h (fun U1 h => ?_)
  obtain rfl := Option.some.inj h
  rfl

def h_X1_draw (N : Nat → Nat) (p1 : Int32) (U : cU) : Option (Int32 × cU) :=
  zl (uset U 5 (((U.1 5) * 1103515245) + 12345)) fun U1 =>
  (zrem (((U1.1 5) >>> (16 &&& 31)) &&& 32767) p1).bind fun x2 =>
  some (x2, U1)

set_option maxHeartbeats 4000000 in
theorem e_X1_draw {σ : zS} {A : cA} {N : Nat → Nat} (hA : cOKN σ A N) {p1 : Int32} {U : cU} {Rt : Int32 × cU} (h : h_X1_draw N p1 U = some Rt) : f_X1_draw (aad A 0) p1 (pU σ A N U) = some (Rt.1, (pU σ A N Rt.2)) := by
  unfold h_X1_draw at h
  unfold f_X1_draw
  refine z_bq (cgR hA (r := 0) (ci := 0) (V := (U.1, U.2, N)) (q := some (aad A 1)) rfl rfl rfl) ?_
  refine z_bq (cgR hA (r := 0) (ci := 0) (V := (U.1, U.2, N)) (q := some (aad A 1)) rfl rfl rfl) ?_
  refine z_bq rfl ?_
  refine z_bq (cgI hA (r := 1) (ci := 1) (V := (U.1, U.2, N)) rfl rfl rfl) ?_
  refine z_bq rfl ?_
  refine z_putq (cpF hA (r := 1) (ci := 1) (V := (U.1, U.2, N)) (V' := ((uset U 5 (((U.1 5) * 1103515245) + 12345)).1, (uset U 5 (((U.1 5) * 1103515245) + 12345)).2, N)) rfl (Nat.le_of_ble_eq_true rfl) rfl (vso_5 (V := (U.1, U.2, N)) (x := ((U.1 5) * 1103515245) + 12345))) h (fun U1 h => ?_)
  refine z_bq (cgR hA (r := 0) (ci := 0) (V := (U1.1, U1.2, N)) (q := some (aad A 1)) rfl rfl rfl) ?_
  refine z_bq rfl ?_
  refine z_bq (cgI hA (r := 1) (ci := 1) (V := (U1.1, U1.2, N)) rfl rfl rfl) ?_
  obtain ⟨x2, e9, h⟩ := z_bd h
  refine z_bq e9 ?_
  obtain rfl := Option.some.inj h
  rfl

def h_X1_days (N : Nat → Nat) (p1 : Int32) (U : cU) : Option ((Int32 ⊕ Nat) × cU) :=
  zb2 (h_X1_in N p1 1 99 U) fun x1 U2 =>
  zbt (h_X1_demand N x1 U2) (fun k9 U9 => some (.inr k9, U9)) fun _ U4 =>
  zl (uset U4 4 ((U4.1 4) + p1)) fun U5 =>
  some (.inl (U5.1 4), U5)

set_option maxHeartbeats 4000000 in
theorem e_X1_days {σ : zS} {A : cA} {N : Nat → Nat} (hA : cOKN σ A N) (hz : 1 ≤ zc σ ∧ 6 ≤ zz σ) {p1 : Int32} {U : cU} {Rt : (Int32 ⊕ Nat) × cU} (h : h_X1_days N p1 U = some Rt) : f_X1_days (aad A 0) p1 (pU σ A N U) = some (Rt.1, (pU (zbx Rt.1 σ) A N Rt.2)) := by
  unfold h_X1_days at h
  unfold f_X1_days
  obtain ⟨x1, U2, e9, h⟩ := z_bd2 h
  refine z_b2q (e_X1_in hA e9) ?_
  rcases z_bt3 h with ⟨u3, U4, e9, h⟩ | ⟨k9, U9, e9, h⟩
  · refine z_bt1 (e_X1_demand hA hz e9) ?_
    refine z_bq (cgR hA (r := 0) (ci := 0) (V := (U4.1, U4.2, N)) (q := some (aad A 1)) rfl rfl rfl) ?_
    refine z_bq rfl ?_
    refine z_bq (cgI hA (r := 1) (ci := 1) (V := (U4.1, U4.2, N)) rfl rfl rfl) ?_
    refine z_putq (cpF hA (r := 1) (ci := 1) (V := (U4.1, U4.2, N)) (V' := ((uset U4 4 ((U4.1 4) + p1)).1, (uset U4 4 ((U4.1 4) + p1)).2, N)) rfl (Nat.le_of_ble_eq_true rfl) rfl (vso_4 (V := (U4.1, U4.2, N)) (x := (U4.1 4) + p1))) h (fun U5 h => ?_)
    refine z_bq (cgR hA (r := 0) (ci := 0) (V := (U5.1, U5.2, N)) (q := some (aad A 1)) rfl rfl rfl) ?_
    refine z_bq rfl ?_
    refine z_bq (cgI hA (r := 1) (ci := 1) (V := (U5.1, U5.2, N)) rfl rfl rfl) ?_
    obtain rfl := Option.some.inj h
    rfl
  · refine z_bt2 (e_X1_demand hA hz e9) ?_
    obtain rfl := Option.some.inj h
    rfl

def h_X1_house_86 (N : Nat → Nat) (rec43 : Int32 → Int32 → cU → Option ((Int32 ⊕ Nat) × cU)) (v1 : Int32) (v4 : Int32) (t0 : Int32) (t1 : Int32) (U : cU) : Option ((Int32 ⊕ Nat) × cU) :=
  zl (t0 + t1) fun x6 =>
  zl (v4 + 1) fun x7 =>
  rec43 x6 x7 U

set_option maxHeartbeats 4000000 in
theorem e_X1_house_86 {σ : zS} {A : cA} {N : Nat → Nat} (hA : cOKN σ A N) (hz : 1 ≤ zc σ ∧ 6 ≤ zz σ) {Rt : (Int32 ⊕ Nat) × cU} {v1 : Int32} {v4 : Int32} {t0 : Int32} {t1 : Int32} {rec43 : Int32 → Int32 → cU → Option ((Int32 ⊕ Nat) × cU)} {frec43 : Int32 → Int32 → zS → Option ((Int32 ⊕ Nat) × zS)} (hrec43 : ∀ (v3 : Int32) (v4 : Int32) (U : cU), rec43 v3 v4 U = some Rt → frec43 v3 v4 (pU σ A N U) = some (Rt.1, (pU (zbx Rt.1 σ) A N Rt.2))) {U : cU} (h : h_X1_house_86 N rec43 v1 v4 t0 t1 U = some Rt) : f_X1_house_86 (aad A 0) frec43 v1 v4 t0 t1 (pU σ A N U) = some (Rt.1, (pU (zbx Rt.1 σ) A N Rt.2)) := by
  unfold h_X1_house_86 at h
  unfold f_X1_house_86
  refine z_zlq h (fun x6 h => ?_)
  refine z_zlq h (fun x7 h => ?_)
  exact hrec43 _ _ _ h

def h_X1_house_43_b (N : Nat → Nat) (v1 : Int32) (rec43 : Int32 → Int32 → cU → Option ((Int32 ⊕ Nat) × cU)) (v3 : Int32) (v4 : Int32) (U : cU) : Option ((Int32 ⊕ Nat) × cU) :=
  if (Int32.ofNat (N 1)) ≤ v4 then
    some (.inl v3, U)
  else
    (vix (N 1) v4).bind fun i5 =>
    if ¬ (U.2 1 (4 * i5 + 3)) = v1 then
      h_X1_house_86 N rec43 v1 v4 v3 0 U
    else
      h_X1_house_86 N rec43 v1 v4 v3 1 U

def h_X1_house_43 (N : Nat → Nat) (v1 : Int32) : Int32 → Int32 → cU → Option ((Int32 ⊕ Nat) × cU) := zlp2 (h_X1_house_43_b N v1) NN
set_option maxHeartbeats 4000000 in
theorem e_X1_house_43_b {σ : zS} {A : cA} {N : Nat → Nat} (hA : cOKN σ A N) (hz : 1 ≤ zc σ ∧ 6 ≤ zz σ) {Rt : (Int32 ⊕ Nat) × cU} {v1 : Int32} {rec43 : Int32 → Int32 → cU → Option ((Int32 ⊕ Nat) × cU)} {frec43 : Int32 → Int32 → zS → Option ((Int32 ⊕ Nat) × zS)} (hrec43 : ∀ (v3 : Int32) (v4 : Int32) (U : cU), rec43 v3 v4 U = some Rt → frec43 v3 v4 (pU σ A N U) = some (Rt.1, (pU (zbx Rt.1 σ) A N Rt.2))) {v3 : Int32} {v4 : Int32} {U : cU} (h : h_X1_house_43_b N v1 rec43 v3 v4 U = some Rt) : f_X1_house_43_b (aad A 0) v1 frec43 v3 v4 (pU σ A N U) = some (Rt.1, (pU (zbx Rt.1 σ) A N Rt.2)) := by
  unfold h_X1_house_43_b at h
  unfold f_X1_house_43_b
  refine z_bq (cgR hA (r := 0) (ci := 0) (V := (U.1, U.2, N)) (q := some (aad A 1)) rfl rfl rfl) ?_
  refine z_bq rfl ?_
  refine z_bq (cgR hA (r := 1) (ci := 1) (V := (U.1, U.2, N)) (q := some (aad A 12)) rfl rfl rfl) ?_
  refine z_bq rfl ?_
  refine z_zifq (ccl hA (r := 12) (ci := 19) (V := (U.1, U.2, N)) rfl rfl) ?_
  refine z_b2q (csize hA (j := 1) (V := (U.1, U.2, N)) (by decide) (by decide)) ?_
  refine z_ifq h (fun h => ?_) (fun h => ?_)
  · obtain rfl := Option.some.inj h
    rfl
  · refine z_bq (cgR hA (r := 0) (ci := 0) (V := (U.1, U.2, N)) (q := some (aad A 1)) rfl rfl rfl) ?_
    refine z_bq rfl ?_
    refine z_bq (cgR hA (r := 1) (ci := 1) (V := (U.1, U.2, N)) (q := some (aad A 12)) rfl rfl rfl) ?_
    refine z_bq rfl ?_
    refine z_zifq (ccl hA (r := 12) (ci := 19) (V := (U.1, U.2, N)) rfl rfl) ?_
    obtain ⟨i5, q_i5, h⟩ := z_bd h
    have hi_i5 := (vix_inv q_i5).2.1
    refine z_b2q (cget hA (j := 1) (V := (U.1, U.2, N)) (by decide) (by decide) q_i5) ?_
    refine z_zifq (cckC hA (r := (100 * 1 + i5)) (ci := 6) (V := (U.1, U.2, N)) (cE1_ hA hi_i5) rfl) ?_
    refine z_bq rfl ?_
    refine z_bq (cgI hA (r := (100 * 1 + i5)) (ci := 6) (V := (U.1, U.2, N)) (cE1_ hA hi_i5) rfl rfl) ?_
    refine z_ifq h (fun h => ?_) (fun h => ?_)
    · exact e_X1_house_86 hA hz hrec43 h
    · exact e_X1_house_86 hA hz hrec43 h

theorem e_X1_house_43 {σ : zS} {A : cA} {N : Nat → Nat} (hA : cOKN σ A N) (hz : 1 ≤ zc σ ∧ 6 ≤ zz σ) {Rt : (Int32 ⊕ Nat) × cU} {v1 : Int32} {v3 : Int32} {v4 : Int32} {U : cU} (h : h_X1_house_43 N v1 v3 v4 U = some Rt) : f_X1_house_43 (aad A 0) v1 v3 v4 (pU σ A N U) = some (Rt.1, (pU (zbx Rt.1 σ) A N Rt.2)) := by
  unfold h_X1_house_43 at h
  unfold f_X1_house_43
  generalize NN = n9 at h ⊢
  exact zlp2_rel (F := f_X1_house_43_b (aad A 0) v1) (G := h_X1_house_43_b N v1) (R := Rt) (R' := (Rt.1, (pU (zbx Rt.1 σ) A N Rt.2))) (fun v => v) (fun v => v) (pU σ A N) (fun rf rg hr v3 v4 t h => e_X1_house_43_b hA hz (frec43 := rf) hr h) n9 v3 v4 U h
def h_X1_house (N : Nat → Nat) (p1 : Int32) (p2 : Int32) (U : cU) : Option ((Int32 ⊕ Nat) × cU) :=
  zbt (h_X1_houseAt N p1 U) (fun k9 U9 => some (.inr k9, U9)) fun _ U2 =>
  zbt (h_X1_asked N p2 2 U2) (fun k9 U9 => some (.inr k9, U9)) fun _ U4 =>
  if ¬ p2 = 0 then
    if ¬ p2 = 2 then
      h_X1_house_43 N p1 0 0 U4
    else
      zb2 (h_X2_beads N p1 U4) fun x8 U9 =>
      some (.inl x8, U9)
  else
    (uL U4 0 8 p1).bind fun x10 =>
    some (.inl x10, U4)

set_option maxHeartbeats 4000000 in
theorem e_X1_house {σ : zS} {A : cA} {N : Nat → Nat} (hA : cOKN σ A N) (hz : 1 ≤ zc σ ∧ 6 ≤ zz σ) {p1 : Int32} {p2 : Int32} {U : cU} {Rt : (Int32 ⊕ Nat) × cU} (h : h_X1_house N p1 p2 U = some Rt) : f_X1_house (aad A 0) p1 p2 (pU σ A N U) = some (Rt.1, (pU (zbx Rt.1 σ) A N Rt.2)) := by
  unfold h_X1_house at h
  unfold f_X1_house
  refine z_zifq (ccl hA (r := 0) (ci := 0) (V := (U.1, U.2, N)) rfl rfl) ?_
  rcases z_bt3 h with ⟨u1, U2, e9, h⟩ | ⟨k9, U9, e9, h⟩
  · refine z_bt1 (e_X1_houseAt hA hz e9) ?_
    rcases z_bt3 h with ⟨u3, U4, e9, h⟩ | ⟨k9, U9, e9, h⟩
    · refine z_bt1 (e_X1_asked hA hz e9) ?_
      refine z_ifq h (fun h => ?_) (fun h => ?_)
      · refine z_ifq h (fun h => ?_) (fun h => ?_)
        · exact e_X1_house_43 hA hz h
        · refine z_bq (cgR hA (r := 0) (ci := 0) (V := (U4.1, U4.2, N)) (q := some (aad A 1)) rfl rfl rfl) ?_
          refine z_bq rfl ?_
          refine z_zifq (ccl hA (r := 1) (ci := 1) (V := (U4.1, U4.2, N)) rfl rfl) ?_
          obtain ⟨x8, U9, e9, h⟩ := z_bd2 h
          refine z_b2q (e_X2_beads hA e9) ?_
          obtain rfl := Option.some.inj h
          rfl
      · refine z_bq (cgR hA (r := 0) (ci := 0) (V := (U4.1, U4.2, N)) (q := some (aad A 1)) rfl rfl rfl) ?_
        refine z_bq rfl ?_
        refine z_bq (cgR hA (r := 1) (ci := 1) (V := (U4.1, U4.2, N)) (q := some (aad A 5)) rfl rfl rfl) ?_
        refine z_bq rfl ?_
        obtain ⟨x10, e9, h⟩ := z_bd h
        refine z_bq (clI hA (r := 5) (t := 0) (n := 8) (V := (U4.1, U4.2, N)) rfl rfl e9) ?_
        obtain rfl := Option.some.inj h
        rfl
    · refine z_bt2 (e_X1_asked hA hz e9) ?_
      obtain rfl := Option.some.inj h
      rfl
  · refine z_bt2 (e_X1_houseAt hA hz e9) ?_
    obtain rfl := Option.some.inj h
    rfl

def h_X1_turnAt (N : Nat → Nat) (p1 : Int32) (U : cU) : Option ((Nat ⊕ Nat) × cU) :=
  zbt (h_X1_there N p1 (Int32.ofNat (N 2)) U) (fun k9 U9 => some (.inr k9, U9)) fun _ U2 =>
  (vix (N 2) p1).bind fun i3 =>
  some (.inl i3, U2)

set_option maxHeartbeats 4000000 in
theorem e_X1_turnAt {σ : zS} {A : cA} {N : Nat → Nat} (hA : cOKN σ A N) (hz : 1 ≤ zc σ ∧ 6 ≤ zz σ) {p1 : Int32} {U : cU} {Rt : (Nat ⊕ Nat) × cU} (h : h_X1_turnAt N p1 U = some Rt) : f_X1_turnAt (aad A 0) p1 (pU σ A N U) = some ((zsm (fun i => some (aad A (100 * 2 + i))) Rt.1), (pU (zbx Rt.1 σ) A N Rt.2)) := by
  unfold h_X1_turnAt at h
  unfold f_X1_turnAt
  refine z_bq (cgR hA (r := 0) (ci := 0) (V := (U.1, U.2, N)) (q := some (aad A 1)) rfl rfl rfl) ?_
  refine z_bq rfl ?_
  refine z_bq (cgR hA (r := 1) (ci := 1) (V := (U.1, U.2, N)) (q := some (aad A 13)) rfl rfl rfl) ?_
  refine z_bq rfl ?_
  refine z_zifq (ccl hA (r := 13) (ci := 19) (V := (U.1, U.2, N)) rfl rfl) ?_
  refine z_b2q (csize hA (j := 2) (V := (U.1, U.2, N)) (by decide) (by decide)) ?_
  rcases z_bt3 h with ⟨u1, U2, e9, h⟩ | ⟨k9, U9, e9, h⟩
  · refine z_bt1 (e_X1_there hA hz e9) ?_
    refine z_bq (cgR hA (r := 0) (ci := 0) (V := (U2.1, U2.2, N)) (q := some (aad A 1)) rfl rfl rfl) ?_
    refine z_bq rfl ?_
    refine z_bq (cgR hA (r := 1) (ci := 1) (V := (U2.1, U2.2, N)) (q := some (aad A 13)) rfl rfl rfl) ?_
    refine z_bq rfl ?_
    refine z_zifq (ccl hA (r := 13) (ci := 19) (V := (U2.1, U2.2, N)) rfl rfl) ?_
    obtain ⟨i3, q_i3, h⟩ := z_bd h
    have hi_i3 := (vix_inv q_i3).2.1
    refine z_b2q (cget hA (j := 2) (V := (U2.1, U2.2, N)) (by decide) (by decide) q_i3) ?_
    refine z_zifq (cckC hA (r := (100 * 2 + i3)) (ci := 7) (V := (U2.1, U2.2, N)) (cE2_ hA hi_i3) rfl) ?_
    obtain rfl := Option.some.inj h
    rfl
  · refine z_bt2 (e_X1_there hA hz e9) ?_
    obtain rfl := Option.some.inj h
    rfl

theorem r_X1_turnAt {N : Nat → Nat} {p1 : Int32} {U U' : cU} {i : Nat} (h : h_X1_turnAt N p1 U = some (.inl i, U')) : i < N 2 := by
  unfold h_X1_turnAt at h
  rcases z_bt3 h with ⟨u, U1, e9, h⟩ | ⟨k, U1, e9, h⟩
  · obtain ⟨i1, q, h⟩ := z_bd h
    have h9 := (vix_inv q).2.1
    cases h
    exact h9
  · cases h
def h_X1_turn (N : Nat → Nat) (p1 : Int32) (p2 : Int32) (U : cU) : Option ((Int32 ⊕ Nat) × cU) :=
  zbt (h_X1_turnAt N p1 U) (fun k9 U9 => some (.inr k9, U9)) fun i1 U2 =>
  zbt (h_X1_asked N p2 2 U2) (fun k9 U9 => some (.inr k9, U9)) fun _ U4 =>
  if ¬ p2 = 0 then
    if ¬ p2 = 1 then
      zb2 (h_X2_missed N p1 U4) fun x5 U6 =>
      some (.inl x5, U6)
    else
      some (.inl (U4.2 2 (3 * i1 + 1)), U4)
  else
    some (.inl (U4.2 2 (3 * i1)), U4)

set_option maxHeartbeats 4000000 in
theorem e_X1_turn {σ : zS} {A : cA} {N : Nat → Nat} (hA : cOKN σ A N) (hz : 1 ≤ zc σ ∧ 6 ≤ zz σ) {p1 : Int32} {p2 : Int32} {U : cU} {Rt : (Int32 ⊕ Nat) × cU} (h : h_X1_turn N p1 p2 U = some Rt) : f_X1_turn (aad A 0) p1 p2 (pU σ A N U) = some (Rt.1, (pU (zbx Rt.1 σ) A N Rt.2)) := by
  unfold h_X1_turn at h
  unfold f_X1_turn
  refine z_zifq (ccl hA (r := 0) (ci := 0) (V := (U.1, U.2, N)) rfl rfl) ?_
  rcases z_bt3 h with ⟨i1, U2, e9, h⟩ | ⟨k9, U9, e9, h⟩
  · refine z_bt1 (e_X1_turnAt hA hz e9) ?_
    have hi_i1 := r_X1_turnAt e9
    rcases z_bt3 h with ⟨u3, U4, e9, h⟩ | ⟨k9, U9, e9, h⟩
    · refine z_bt1 (e_X1_asked hA hz e9) ?_
      refine z_ifq h (fun h => ?_) (fun h => ?_)
      · refine z_ifq h (fun h => ?_) (fun h => ?_)
        · refine z_bq (cgR hA (r := 0) (ci := 0) (V := (U4.1, U4.2, N)) (q := some (aad A 1)) rfl rfl rfl) ?_
          refine z_bq rfl ?_
          refine z_zifq (ccl hA (r := 1) (ci := 1) (V := (U4.1, U4.2, N)) rfl rfl) ?_
          obtain ⟨x5, U6, e9, h⟩ := z_bd2 h
          refine z_b2q (e_X2_missed hA e9) ?_
          obtain rfl := Option.some.inj h
          rfl
        · refine z_bq rfl ?_
          refine z_bq (cgI hA (r := (100 * 2 + i1)) (ci := 7) (V := (U4.1, U4.2, N)) (cE2_ hA hi_i1) rfl rfl) ?_
          obtain rfl := Option.some.inj h
          rfl
      · refine z_bq rfl ?_
        refine z_bq (cgI hA (r := (100 * 2 + i1)) (ci := 7) (V := (U4.1, U4.2, N)) (cE2_ hA hi_i1) rfl rfl) ?_
        obtain rfl := Option.some.inj h
        rfl
    · refine z_bt2 (e_X1_asked hA hz e9) ?_
      obtain rfl := Option.some.inj h
      rfl
  · refine z_bt2 (e_X1_turnAt hA hz e9) ?_
    obtain rfl := Option.some.inj h
    rfl

def h_X1_mend (N : Nat → Nat) (p1 : Int32) (U : cU) : Option ((Int32 ⊕ Nat) × cU) :=
  zbt (h_X1_turnAt N p1 U) (fun k9 U9 => some (.inr k9, U9)) fun i1 U2 =>
  zl (utab U2 2 (3 * i1 + 1) 0) fun U3 =>
  zl (utab U3 2 (3 * i1 + 2) (U3.1 6)) fun U4 =>
  some (.inl (U2.2 2 (3 * i1 + 1)), U4)

set_option maxHeartbeats 4000000 in
theorem e_X1_mend {σ : zS} {A : cA} {N : Nat → Nat} (hA : cOKN σ A N) (hz : 1 ≤ zc σ ∧ 6 ≤ zz σ) {p1 : Int32} {U : cU} {Rt : (Int32 ⊕ Nat) × cU} (h : h_X1_mend N p1 U = some Rt) : f_X1_mend (aad A 0) p1 (pU σ A N U) = some (Rt.1, (pU (zbx Rt.1 σ) A N Rt.2)) := by
  unfold h_X1_mend at h
  unfold f_X1_mend
  refine z_zifq (ccl hA (r := 0) (ci := 0) (V := (U.1, U.2, N)) rfl rfl) ?_
  rcases z_bt3 h with ⟨i1, U2, e9, h⟩ | ⟨k9, U9, e9, h⟩
  · refine z_bt1 (e_X1_turnAt hA hz e9) ?_
    have hi_i1 := r_X1_turnAt e9
    refine z_bq rfl ?_
    refine z_bq (cgI hA (r := (100 * 2 + i1)) (ci := 7) (V := (U2.1, U2.2, N)) (cE2_ hA hi_i1) rfl rfl) ?_
    refine z_putq (cpE2_1 hA hi_i1) h (fun U3 h => ?_)
    refine z_bq (cgR hA (r := 0) (ci := 0) (V := (U3.1, U3.2, N)) (q := some (aad A 1)) rfl rfl rfl) ?_
    refine z_bq rfl ?_
    refine z_bq (cgI hA (r := 1) (ci := 1) (V := (U3.1, U3.2, N)) rfl rfl rfl) ?_
    refine z_putq (cpE2_2 hA hi_i1) h (fun U4 h => ?_)
    obtain rfl := Option.some.inj h
    rfl
  · refine z_bt2 (e_X1_turnAt hA hz e9) ?_
    obtain rfl := Option.some.inj h
    rfl

def h_X1_worn (N : Nat → Nat) (p1 : Int32) (p2 : Int32) (U : cU) : Option ((Int32 ⊕ Nat) × cU) :=
  zbt (h_X1_turnAt N p1 U) (fun k9 U9 => some (.inr k9, U9)) fun i1 U2 =>
  zb2 (h_X1_in N p2 0 999 U2) fun x3 U4 =>
  zbt (h_X1_demand N x3 U4) (fun k9 U9 => some (.inr k9, U9)) fun _ U6 =>
  zl (utab U6 2 (3 * i1 + 1) p2) fun U7 =>
  some (.inl (U6.2 2 (3 * i1 + 1)), U7)

set_option maxHeartbeats 4000000 in
theorem e_X1_worn {σ : zS} {A : cA} {N : Nat → Nat} (hA : cOKN σ A N) (hz : 1 ≤ zc σ ∧ 6 ≤ zz σ) {p1 : Int32} {p2 : Int32} {U : cU} {Rt : (Int32 ⊕ Nat) × cU} (h : h_X1_worn N p1 p2 U = some Rt) : f_X1_worn (aad A 0) p1 p2 (pU σ A N U) = some (Rt.1, (pU (zbx Rt.1 σ) A N Rt.2)) := by
  unfold h_X1_worn at h
  unfold f_X1_worn
  refine z_zifq (ccl hA (r := 0) (ci := 0) (V := (U.1, U.2, N)) rfl rfl) ?_
  rcases z_bt3 h with ⟨i1, U2, e9, h⟩ | ⟨k9, U9, e9, h⟩
  · refine z_bt1 (e_X1_turnAt hA hz e9) ?_
    have hi_i1 := r_X1_turnAt e9
    obtain ⟨x3, U4, e9, h⟩ := z_bd2 h
    refine z_b2q (e_X1_in hA e9) ?_
    rcases z_bt3 h with ⟨u5, U6, e9, h⟩ | ⟨k9, U9, e9, h⟩
    · refine z_bt1 (e_X1_demand hA hz e9) ?_
      refine z_bq rfl ?_
      refine z_bq (cgI hA (r := (100 * 2 + i1)) (ci := 7) (V := (U6.1, U6.2, N)) (cE2_ hA hi_i1) rfl rfl) ?_
      refine z_putq (cpE2_1 hA hi_i1) h (fun U7 h => ?_)
      obtain rfl := Option.some.inj h
      rfl
    · refine z_bt2 (e_X1_demand hA hz e9) ?_
      obtain rfl := Option.some.inj h
      rfl
  · refine z_bt2 (e_X1_turnAt hA hz e9) ?_
    obtain rfl := Option.some.inj h
    rfl

def h_X1_walker_98_b (N : Nat → Nat) (v1 : Int32) (rec98 : Int32 → cU → Option ((Int32 ⊕ Nat) × cU)) (v4 : Int32) (U : cU) : Option ((Int32 ⊕ Nat) × cU) :=
  if v4 < 0 then
    some (.inl ((-1) : Int32), U)
  else
    (vix (N 4) v4).bind fun i7 =>
    if ¬ (U.2 4 (8 * i7 + 2)) = v1 then
      zl (v4 + (-1)) fun x8 =>
      rec98 x8 U
    else
      (vix (N 4) v4).bind fun i9 =>
      some (.inl (U.2 4 (8 * i9 + 1)), U)

def h_X1_walker_98 (N : Nat → Nat) (v1 : Int32) : Int32 → cU → Option ((Int32 ⊕ Nat) × cU) := zlp1 (h_X1_walker_98_b N v1) NN
set_option maxHeartbeats 4000000 in
theorem e_X1_walker_98_b {σ : zS} {A : cA} {N : Nat → Nat} (hA : cOKN σ A N) (hz : 1 ≤ zc σ ∧ 6 ≤ zz σ) {Rt : (Int32 ⊕ Nat) × cU} {v1 : Int32} {rec98 : Int32 → cU → Option ((Int32 ⊕ Nat) × cU)} {frec98 : Int32 → zS → Option ((Int32 ⊕ Nat) × zS)} (hrec98 : ∀ (v4 : Int32) (U : cU), rec98 v4 U = some Rt → frec98 v4 (pU σ A N U) = some (Rt.1, (pU (zbx Rt.1 σ) A N Rt.2))) {v4 : Int32} {U : cU} (h : h_X1_walker_98_b N v1 rec98 v4 U = some Rt) : f_X1_walker_98_b (aad A 0) v1 frec98 v4 (pU σ A N U) = some (Rt.1, (pU (zbx Rt.1 σ) A N Rt.2)) := by
  unfold h_X1_walker_98_b at h
  unfold f_X1_walker_98_b
  refine z_ifq h (fun h => ?_) (fun h => ?_)
  · obtain rfl := Option.some.inj h
    rfl
  · refine z_bq (cgR hA (r := 0) (ci := 0) (V := (U.1, U.2, N)) (q := some (aad A 1)) rfl rfl rfl) ?_
    refine z_bq rfl ?_
    refine z_bq (cgR hA (r := 1) (ci := 1) (V := (U.1, U.2, N)) (q := some (aad A 15)) rfl rfl rfl) ?_
    refine z_bq rfl ?_
    refine z_zifq (ccl hA (r := 15) (ci := 19) (V := (U.1, U.2, N)) rfl rfl) ?_
    obtain ⟨i7, q_i7, h⟩ := z_bd h
    have hi_i7 := (vix_inv q_i7).2.1
    refine z_b2q (cget hA (j := 4) (V := (U.1, U.2, N)) (by decide) (by decide) q_i7) ?_
    refine z_zifq (cckC hA (r := (100 * 4 + i7)) (ci := 8) (V := (U.1, U.2, N)) (cE4_ hA hi_i7) rfl) ?_
    refine z_bq rfl ?_
    refine z_bq (cgI hA (r := (100 * 4 + i7)) (ci := 8) (V := (U.1, U.2, N)) (cE4_ hA hi_i7) rfl rfl) ?_
    refine z_ifq h (fun h => ?_) (fun h => ?_)
    · refine z_zlq h (fun x8 h => ?_)
      exact hrec98 _ _ h
    · refine z_bq (cgR hA (r := 0) (ci := 0) (V := (U.1, U.2, N)) (q := some (aad A 1)) rfl rfl rfl) ?_
      refine z_bq rfl ?_
      refine z_bq (cgR hA (r := 1) (ci := 1) (V := (U.1, U.2, N)) (q := some (aad A 15)) rfl rfl rfl) ?_
      refine z_bq rfl ?_
      refine z_zifq (ccl hA (r := 15) (ci := 19) (V := (U.1, U.2, N)) rfl rfl) ?_
      obtain ⟨i9, q_i9, h⟩ := z_bd h
      have hi_i9 := (vix_inv q_i9).2.1
      refine z_b2q (cget hA (j := 4) (V := (U.1, U.2, N)) (by decide) (by decide) q_i9) ?_
      refine z_zifq (cckC hA (r := (100 * 4 + i9)) (ci := 8) (V := (U.1, U.2, N)) (cE4_ hA hi_i9) rfl) ?_
      refine z_bq rfl ?_
      refine z_bq (cgI hA (r := (100 * 4 + i9)) (ci := 8) (V := (U.1, U.2, N)) (cE4_ hA hi_i9) rfl rfl) ?_
      obtain rfl := Option.some.inj h
      rfl

theorem e_X1_walker_98 {σ : zS} {A : cA} {N : Nat → Nat} (hA : cOKN σ A N) (hz : 1 ≤ zc σ ∧ 6 ≤ zz σ) {Rt : (Int32 ⊕ Nat) × cU} {v1 : Int32} {v4 : Int32} {U : cU} (h : h_X1_walker_98 N v1 v4 U = some Rt) : f_X1_walker_98 (aad A 0) v1 v4 (pU σ A N U) = some (Rt.1, (pU (zbx Rt.1 σ) A N Rt.2)) := by
  unfold h_X1_walker_98 at h
  unfold f_X1_walker_98
  generalize NN = n9 at h ⊢
  exact zlp1_rel (F := f_X1_walker_98_b (aad A 0) v1) (G := h_X1_walker_98_b N v1) (R := Rt) (R' := (Rt.1, (pU (zbx Rt.1 σ) A N Rt.2))) (fun v => v) (pU σ A N) (fun rf rg hr v4 t h => e_X1_walker_98_b hA hz (frec98 := rf) hr h) n9 v4 U h
def h_X1_walker (N : Nat → Nat) (p1 : Int32) (p2 : Int32) (U : cU) : Option ((Int32 ⊕ Nat) × cU) :=
  zbt (h_X1_there N p1 (Int32.ofNat (N 1)) U) (fun k9 U9 => some (.inr k9, U9)) fun _ U2 =>
  zbt (h_X1_asked N p2 4 U2) (fun k9 U9 => some (.inr k9, U9)) fun _ U4 =>
  (vix (N 1) p1).bind fun i5 =>
  if p2.toInt < 0 ∨ 3 < p2.toInt then
    zl ((Int32.ofNat (N 4)) - 1) fun x6 =>
    h_X1_walker_98 N p1 x6 U4
  else if p2 = 0 then
    some (.inl (U4.2 1 (4 * i5)), U4)
  else if p2 = 1 then
    some (.inl (U4.2 1 (4 * i5 + 1)), U4)
  else if p2 = 2 then
    some (.inl (U4.2 1 (4 * i5 + 3)), U4)
  else if p2 = 3 then
    some (.inl (U4.2 1 (4 * i5 + 2)), U4)
  else none

set_option maxHeartbeats 4000000 in
theorem e_X1_walker {σ : zS} {A : cA} {N : Nat → Nat} (hA : cOKN σ A N) (hz : 1 ≤ zc σ ∧ 6 ≤ zz σ) {p1 : Int32} {p2 : Int32} {U : cU} {Rt : (Int32 ⊕ Nat) × cU} (h : h_X1_walker N p1 p2 U = some Rt) : f_X1_walker (aad A 0) p1 p2 (pU σ A N U) = some (Rt.1, (pU (zbx Rt.1 σ) A N Rt.2)) := by
  unfold h_X1_walker at h
  unfold f_X1_walker
  refine z_bq (cgR hA (r := 0) (ci := 0) (V := (U.1, U.2, N)) (q := some (aad A 1)) rfl rfl rfl) ?_
  refine z_bq rfl ?_
  refine z_bq (cgR hA (r := 1) (ci := 1) (V := (U.1, U.2, N)) (q := some (aad A 12)) rfl rfl rfl) ?_
  refine z_bq rfl ?_
  refine z_zifq (ccl hA (r := 12) (ci := 19) (V := (U.1, U.2, N)) rfl rfl) ?_
  refine z_b2q (csize hA (j := 1) (V := (U.1, U.2, N)) (by decide) (by decide)) ?_
  rcases z_bt3 h with ⟨u1, U2, e9, h⟩ | ⟨k9, U9, e9, h⟩
  · refine z_bt1 (e_X1_there hA hz e9) ?_
    rcases z_bt3 h with ⟨u3, U4, e9, h⟩ | ⟨k9, U9, e9, h⟩
    · refine z_bt1 (e_X1_asked hA hz e9) ?_
      refine z_bq (cgR hA (r := 0) (ci := 0) (V := (U4.1, U4.2, N)) (q := some (aad A 1)) rfl rfl rfl) ?_
      refine z_bq rfl ?_
      refine z_bq (cgR hA (r := 1) (ci := 1) (V := (U4.1, U4.2, N)) (q := some (aad A 12)) rfl rfl rfl) ?_
      refine z_bq rfl ?_
      refine z_zifq (ccl hA (r := 12) (ci := 19) (V := (U4.1, U4.2, N)) rfl rfl) ?_
      obtain ⟨i5, q_i5, h⟩ := z_bd h
      have hi_i5 := (vix_inv q_i5).2.1
      refine z_b2q (cget hA (j := 1) (V := (U4.1, U4.2, N)) (by decide) (by decide) q_i5) ?_
      refine z_zifq (cckC hA (r := (100 * 1 + i5)) (ci := 6) (V := (U4.1, U4.2, N)) (cE1_ hA hi_i5) rfl) ?_
      refine z_ifq h (fun h => ?_) (fun h => ?_)
      · refine z_bq (cgR hA (r := 0) (ci := 0) (V := (U4.1, U4.2, N)) (q := some (aad A 1)) rfl rfl rfl) ?_
        refine z_bq rfl ?_
        refine z_bq (cgR hA (r := 1) (ci := 1) (V := (U4.1, U4.2, N)) (q := some (aad A 15)) rfl rfl rfl) ?_
        refine z_bq rfl ?_
        refine z_zifq (ccl hA (r := 15) (ci := 19) (V := (U4.1, U4.2, N)) rfl rfl) ?_
        refine z_b2q (csize hA (j := 4) (V := (U4.1, U4.2, N)) (by decide) (by decide)) ?_
        refine z_zlq h (fun x6 h => ?_)
        exact e_X1_walker_98 hA hz h
      · refine z_ifq h (fun h => ?_) (fun h => ?_)
        · refine z_bq rfl ?_
          refine z_bq (cgI hA (r := (100 * 1 + i5)) (ci := 6) (V := (U4.1, U4.2, N)) (cE1_ hA hi_i5) rfl rfl) ?_
          obtain rfl := Option.some.inj h
          rfl
        refine z_ifq h (fun h => ?_) (fun h => ?_)
        · refine z_bq rfl ?_
          refine z_bq (cgI hA (r := (100 * 1 + i5)) (ci := 6) (V := (U4.1, U4.2, N)) (cE1_ hA hi_i5) rfl rfl) ?_
          obtain rfl := Option.some.inj h
          rfl
        refine z_ifq h (fun h => ?_) (fun h => ?_)
        · refine z_bq rfl ?_
          refine z_bq (cgI hA (r := (100 * 1 + i5)) (ci := 6) (V := (U4.1, U4.2, N)) (cE1_ hA hi_i5) rfl rfl) ?_
          obtain rfl := Option.some.inj h
          rfl
        refine z_ifq h (fun h => ?_) (fun h => ?_)
        · refine z_bq rfl ?_
          refine z_bq (cgI hA (r := (100 * 1 + i5)) (ci := 6) (V := (U4.1, U4.2, N)) (cE1_ hA hi_i5) rfl rfl) ?_
          obtain rfl := Option.some.inj h
          rfl
        cases h
    · refine z_bt2 (e_X1_asked hA hz e9) ?_
      obtain rfl := Option.some.inj h
      rfl
  · refine z_bt2 (e_X1_there hA hz e9) ?_
    obtain rfl := Option.some.inj h
    rfl

def h_X1_entry (N : Nat → Nat) (p1 : Int32) (p2 : Int32) (U : cU) : Option ((Int32 ⊕ Nat) × cU) :=
  zbt (h_X1_there N p1 (Int32.ofNat (N 4)) U) (fun k9 U9 => some (.inr k9, U9)) fun _ U2 =>
  zbt (h_X1_asked N p2 5 U2) (fun k9 U9 => some (.inr k9, U9)) fun _ U4 =>
  (vix (N 4) p1).bind fun i5 =>
  if ¬ p2 = 5 then
    if (U4.2 4 (8 * i5 + 7)) = 0 then
      if p2.toInt < 0 ∨ 3 < p2.toInt then
        if (U4.2 4 (8 * i5 + 6)) = 0 then
          some (.inl (0 : Int32), U4)
        else
          some (.inl (1 : Int32), U4)
      else if p2 = 0 then
        some (.inl (U4.2 4 (8 * i5 + 1)), U4)
      else if p2 = 1 then
        some (.inl (U4.2 4 (8 * i5 + 2)), U4)
      else if p2 = 2 then
        some (.inl (U4.2 4 (8 * i5 + 3)), U4)
      else if p2 = 3 then
        some (.inl (U4.2 4 (8 * i5 + 4)), U4)
      else none
    else
      some (.inl ((-1) : Int32), U4)
  else
    some (.inl (U4.2 4 (8 * i5 + 5)), U4)

set_option maxHeartbeats 4000000 in
theorem e_X1_entry {σ : zS} {A : cA} {N : Nat → Nat} (hA : cOKN σ A N) (hz : 1 ≤ zc σ ∧ 6 ≤ zz σ) {p1 : Int32} {p2 : Int32} {U : cU} {Rt : (Int32 ⊕ Nat) × cU} (h : h_X1_entry N p1 p2 U = some Rt) : f_X1_entry (aad A 0) p1 p2 (pU σ A N U) = some (Rt.1, (pU (zbx Rt.1 σ) A N Rt.2)) := by
  unfold h_X1_entry at h
  unfold f_X1_entry
  refine z_bq (cgR hA (r := 0) (ci := 0) (V := (U.1, U.2, N)) (q := some (aad A 1)) rfl rfl rfl) ?_
  refine z_bq rfl ?_
  refine z_bq (cgR hA (r := 1) (ci := 1) (V := (U.1, U.2, N)) (q := some (aad A 15)) rfl rfl rfl) ?_
  refine z_bq rfl ?_
  refine z_zifq (ccl hA (r := 15) (ci := 19) (V := (U.1, U.2, N)) rfl rfl) ?_
  refine z_b2q (csize hA (j := 4) (V := (U.1, U.2, N)) (by decide) (by decide)) ?_
  rcases z_bt3 h with ⟨u1, U2, e9, h⟩ | ⟨k9, U9, e9, h⟩
  · refine z_bt1 (e_X1_there hA hz e9) ?_
    rcases z_bt3 h with ⟨u3, U4, e9, h⟩ | ⟨k9, U9, e9, h⟩
    · refine z_bt1 (e_X1_asked hA hz e9) ?_
      refine z_bq (cgR hA (r := 0) (ci := 0) (V := (U4.1, U4.2, N)) (q := some (aad A 1)) rfl rfl rfl) ?_
      refine z_bq rfl ?_
      refine z_bq (cgR hA (r := 1) (ci := 1) (V := (U4.1, U4.2, N)) (q := some (aad A 15)) rfl rfl rfl) ?_
      refine z_bq rfl ?_
      refine z_zifq (ccl hA (r := 15) (ci := 19) (V := (U4.1, U4.2, N)) rfl rfl) ?_
      obtain ⟨i5, q_i5, h⟩ := z_bd h
      have hi_i5 := (vix_inv q_i5).2.1
      refine z_b2q (cget hA (j := 4) (V := (U4.1, U4.2, N)) (by decide) (by decide) q_i5) ?_
      refine z_zifq (cckC hA (r := (100 * 4 + i5)) (ci := 8) (V := (U4.1, U4.2, N)) (cE4_ hA hi_i5) rfl) ?_
      refine z_ifq h (fun h => ?_) (fun h => ?_)
      · refine z_bq rfl ?_
        refine z_bq (cgI hA (r := (100 * 4 + i5)) (ci := 8) (V := (U4.1, U4.2, N)) (cE4_ hA hi_i5) rfl rfl) ?_
        refine z_ifq h (fun h => ?_) (fun h => ?_)
        · refine z_ifq h (fun h => ?_) (fun h => ?_)
          · refine z_bq (cgI hA (r := (100 * 4 + i5)) (ci := 8) (V := (U4.1, U4.2, N)) (cE4_ hA hi_i5) rfl rfl) ?_
            refine z_ifq h (fun h => ?_) (fun h => ?_)
            · obtain rfl := Option.some.inj h
              rfl
            · obtain rfl := Option.some.inj h
              rfl
          · refine z_ifq h (fun h => ?_) (fun h => ?_)
            · refine z_bq (cgI hA (r := (100 * 4 + i5)) (ci := 8) (V := (U4.1, U4.2, N)) (cE4_ hA hi_i5) rfl rfl) ?_
              obtain rfl := Option.some.inj h
              rfl
            refine z_ifq h (fun h => ?_) (fun h => ?_)
            · refine z_bq (cgI hA (r := (100 * 4 + i5)) (ci := 8) (V := (U4.1, U4.2, N)) (cE4_ hA hi_i5) rfl rfl) ?_
              obtain rfl := Option.some.inj h
              rfl
            refine z_ifq h (fun h => ?_) (fun h => ?_)
            · refine z_bq (cgI hA (r := (100 * 4 + i5)) (ci := 8) (V := (U4.1, U4.2, N)) (cE4_ hA hi_i5) rfl rfl) ?_
              obtain rfl := Option.some.inj h
              rfl
            refine z_ifq h (fun h => ?_) (fun h => ?_)
            · refine z_bq (cgI hA (r := (100 * 4 + i5)) (ci := 8) (V := (U4.1, U4.2, N)) (cE4_ hA hi_i5) rfl rfl) ?_
              obtain rfl := Option.some.inj h
              rfl
            cases h
        · obtain rfl := Option.some.inj h
          rfl
      · refine z_bq rfl ?_
        refine z_bq (cgI hA (r := (100 * 4 + i5)) (ci := 8) (V := (U4.1, U4.2, N)) (cE4_ hA hi_i5) rfl rfl) ?_
        obtain rfl := Option.some.inj h
        rfl
    · refine z_bt2 (e_X1_asked hA hz e9) ?_
      obtain rfl := Option.some.inj h
      rfl
  · refine z_bt2 (e_X1_there hA hz e9) ?_
    obtain rfl := Option.some.inj h
    rfl

def h_X1_aWalk (N : Nat → Nat) (p1 : Int32) (p2 : Int32) (p3 : Int32) (U : cU) : Option ((Unit ⊕ Nat) × cU) :=
  zbt (h_X1_there N p1 (Int32.ofNat (N 1)) U) (fun k9 U9 => some (.inr k9, U9)) fun _ U2 =>
  zbt (h_X1_houseAt N p2 U2) (fun k9 U9 => some (.inr k9, U9)) fun _ U4 =>
  zb2 (h_X1_in N p3 1 (Int32.ofNat (N 2)) U4) fun x5 U6 =>
  zbt (h_X1_demand N x5 U6) (fun k9 U9 => some (.inr k9, U9)) fun _ U8 =>
  some (.inl (), U8)

set_option maxHeartbeats 4000000 in
theorem e_X1_aWalk {σ : zS} {A : cA} {N : Nat → Nat} (hA : cOKN σ A N) (hz : 1 ≤ zc σ ∧ 6 ≤ zz σ) {p1 : Int32} {p2 : Int32} {p3 : Int32} {U : cU} {Rt : (Unit ⊕ Nat) × cU} (h : h_X1_aWalk N p1 p2 p3 U = some Rt) : f_X1_aWalk (aad A 0) p1 p2 p3 (pU σ A N U) = some (Rt.1, (pU (zbx Rt.1 σ) A N Rt.2)) := by
  unfold h_X1_aWalk at h
  unfold f_X1_aWalk
  refine z_bq (cgR hA (r := 0) (ci := 0) (V := (U.1, U.2, N)) (q := some (aad A 1)) rfl rfl rfl) ?_
  refine z_bq rfl ?_
  refine z_bq (cgR hA (r := 1) (ci := 1) (V := (U.1, U.2, N)) (q := some (aad A 12)) rfl rfl rfl) ?_
  refine z_bq rfl ?_
  refine z_zifq (ccl hA (r := 12) (ci := 19) (V := (U.1, U.2, N)) rfl rfl) ?_
  refine z_b2q (csize hA (j := 1) (V := (U.1, U.2, N)) (by decide) (by decide)) ?_
  rcases z_bt3 h with ⟨u1, U2, e9, h⟩ | ⟨k9, U9, e9, h⟩
  · refine z_bt1 (e_X1_there hA hz e9) ?_
    refine z_zifq (ccl hA (r := 0) (ci := 0) (V := (U2.1, U2.2, N)) rfl rfl) ?_
    rcases z_bt3 h with ⟨u3, U4, e9, h⟩ | ⟨k9, U9, e9, h⟩
    · refine z_bt1 (e_X1_houseAt hA hz e9) ?_
      refine z_bq (cgR hA (r := 0) (ci := 0) (V := (U4.1, U4.2, N)) (q := some (aad A 1)) rfl rfl rfl) ?_
      refine z_bq rfl ?_
      refine z_bq (cgR hA (r := 1) (ci := 1) (V := (U4.1, U4.2, N)) (q := some (aad A 13)) rfl rfl rfl) ?_
      refine z_bq rfl ?_
      refine z_zifq (ccl hA (r := 13) (ci := 19) (V := (U4.1, U4.2, N)) rfl rfl) ?_
      refine z_b2q (csize hA (j := 2) (V := (U4.1, U4.2, N)) (by decide) (by decide)) ?_
      obtain ⟨x5, U6, e9, h⟩ := z_bd2 h
      refine z_b2q (e_X1_in hA e9) ?_
      rcases z_bt3 h with ⟨u7, U8, e9, h⟩ | ⟨k9, U9, e9, h⟩
      · refine z_bt1 (e_X1_demand hA hz e9) ?_
        obtain rfl := Option.some.inj h
        rfl
      · refine z_bt2 (e_X1_demand hA hz e9) ?_
        obtain rfl := Option.some.inj h
        rfl
    · refine z_bt2 (e_X1_houseAt hA hz e9) ?_
      obtain rfl := Option.some.inj h
      rfl
  · refine z_bt2 (e_X1_there hA hz e9) ?_
    obtain rfl := Option.some.inj h
    rfl

def h_X1_counted_142 (N : Nat → Nat) (lw : Bool) (nb : cU → Option Int32) (v6 : Int32) (t1 : Int32) (U : cU) : Option (Int32 × cU) :=
  (usetZ U 20 t1).bind fun U11 =>
  zif (lw = true) <|
  (nb U11).bind fun x12 =>
  some ((v6 * x12) / 10, U11)

set_option maxHeartbeats 4000000 in
theorem e_X1_counted_142 {σ : zS} {A : cA} {N : Nat → Nat} (hA : cOKN σ A N) {lw : Bool} {nb : cU → Option Int32} (hlw : (arf A 1).isSome = lw) (hnb : ∀ a U n, arf A 1 = some a → nb U = some n → f_X12_number a (some (aad A 3)) (pU σ A N U) = some (n, pU σ A N U)) (hlc : ∀ a U, arf A 1 = some a → zcl (pU σ A N U) a = 11) {Rt : Int32 × cU} {v6 : Int32} {t1 : Int32} {U : cU} (h : h_X1_counted_142 N lw nb v6 t1 U = some Rt) : f_X1_counted_142 (aad A 0) (some (aad A 1)) v6 (some (aad A 3)) t1 (pU σ A N U) = some (Rt.1, (pU σ A N Rt.2)) := by
  unfold h_X1_counted_142 at h
  unfold f_X1_counted_142
  refine z_bq rfl ?_
  refine z_putZq (U1 := uset U 20 t1) (fun hx => cpZ hA hx (r := 3) (ci := 3) (V := (U.1, U.2, N)) (V' := ((uset U 20 t1).1, (uset U 20 t1).2, N)) rfl (Nat.le_of_ble_eq_true rfl) rfl (vso_20 (V := (U.1, U.2, N)) (x := t1))) h (fun U11 h => ?_)
  refine z_bq rfl ?_
  refine z_bq (cgR hA (r := 1) (ci := 1) (V := (U11.1, U11.2, N)) (q := (arf A 1)) rfl rfl rfl) ?_
  refine z_bq (cgR hA (r := 0) (ci := 0) (V := (U11.1, U11.2, N)) (q := some (aad A 3)) rfl rfl rfl) ?_
  obtain ⟨c8, h⟩ := z_ck h
  obtain ⟨la, e8⟩ := Option.isSome_iff_exists.mp (hlw.trans c8)
  obtain ⟨x12, e9, h⟩ := z_bd h
  refine z_bq e8 ?_
  refine z_zifq (hlc la _ e8) ?_
  refine z_b2q (hnb la _ _ e8 e9) ?_
  obtain rfl := Option.some.inj h
  rfl

def h_X1_counted (N : Nat → Nat) (lw : Bool) (nb : cU → Option Int32) (p1 : Int32) (p2 : Int32) (p3 : Int32) (p4 : Int32) (U : cU) : Option (Int32 × cU) :=
  zb2 (h_X2_paces N p3 U) fun x1 U2 =>
  if lw = false then
    some (x1, U2)
  else
    if ¬ p3 = 0 then
      (vix (N 1) p1).bind fun i3 =>
      zl (uset U2 14 (U2.2 1 (4 * i3))) fun U4 =>
      zl (uset U4 15 (U4.2 1 (4 * i3 + 1))) fun U5 =>
      (vix (N 2) (p3 - 1)).bind fun i6 =>
      zl (uset U5 16 (U5.2 2 (3 * i6 + 1))) fun U7 =>
      zl (uset U7 17 x1) fun U8 =>
      zl (uset U8 18 ((U8.1 4) - (U8.1 4) / 7 * 7)) fun U9 =>
      (usetZ U9 19 p4).bind fun U10 =>
      if ¬ (U10.2 1 (4 * i3 + 3)) = p2 then
        h_X1_counted_142 N lw nb x1 0 U10
      else
        h_X1_counted_142 N lw nb x1 1 U10
    else
      some (x1, U2)

set_option maxHeartbeats 4000000 in
theorem e_X1_counted {σ : zS} {A : cA} {N : Nat → Nat} (hA : cOKN σ A N) {lw : Bool} {nb : cU → Option Int32} (hlw : (arf A 1).isSome = lw) (hnb : ∀ a U n, arf A 1 = some a → nb U = some n → f_X12_number a (some (aad A 3)) (pU σ A N U) = some (n, pU σ A N U)) (hlc : ∀ a U, arf A 1 = some a → zcl (pU σ A N U) a = 11) {p1 : Int32} {p2 : Int32} {p3 : Int32} {p4 : Int32} {U : cU} {Rt : Int32 × cU} (h : h_X1_counted N lw nb p1 p2 p3 p4 U = some Rt) : f_X1_counted (aad A 0) p1 p2 p3 p4 (pU σ A N U) = some (Rt.1, (pU σ A N Rt.2)) := by
  unfold h_X1_counted at h
  unfold f_X1_counted
  refine z_bq (cgR hA (r := 0) (ci := 0) (V := (U.1, U.2, N)) (q := some (aad A 1)) rfl rfl rfl) ?_
  refine z_bq rfl ?_
  refine z_zifq (ccl hA (r := 1) (ci := 1) (V := (U.1, U.2, N)) rfl rfl) ?_
  obtain ⟨x1, U2, e9, h⟩ := z_bd2 h
  refine z_b2q (e_X2_paces hA e9) ?_
  refine z_bq (cgR hA (r := 1) (ci := 1) (V := (U2.1, U2.2, N)) (q := (arf A 1)) rfl rfl rfl) ?_
  rcases e8 : arf A 1 with _ | la
  · have h := (z_itE h).1 (by rw [← hlw, e8]; rfl)
    obtain rfl := Option.some.inj h
    rfl
  · have h := (z_itE h).2 (by rw [← hlw, e8]; exact fun z => nomatch z)
    refine z_ifq h (fun h => ?_) (fun h => ?_)
    · refine z_bq (cgR hA (r := 1) (ci := 1) (V := (U2.1, U2.2, N)) (q := some (aad A 12)) rfl rfl rfl) ?_
      refine z_bq rfl ?_
      refine z_zifq (ccl hA (r := 12) (ci := 19) (V := (U2.1, U2.2, N)) rfl rfl) ?_
      obtain ⟨i3, q_i3, h⟩ := z_bd h
      have hi_i3 := (vix_inv q_i3).2.1
      refine z_b2q (cget hA (j := 1) (V := (U2.1, U2.2, N)) (by decide) (by decide) q_i3) ?_
      refine z_zifq (cckC hA (r := (100 * 1 + i3)) (ci := 6) (V := (U2.1, U2.2, N)) (cE1_ hA hi_i3) rfl) ?_
      refine z_bq (cgR hA (r := 0) (ci := 0) (V := (U2.1, U2.2, N)) (q := some (aad A 3)) rfl rfl rfl) ?_
      refine z_bq rfl ?_
      refine z_bq (cgI hA (r := (100 * 1 + i3)) (ci := 6) (V := (U2.1, U2.2, N)) (cE1_ hA hi_i3) rfl rfl) ?_
      refine z_bq rfl ?_
      refine z_putq (cpF hA (r := 3) (ci := 3) (V := (U2.1, U2.2, N)) (V' := ((uset U2 14 (U2.2 1 (4 * i3))).1, (uset U2 14 (U2.2 1 (4 * i3))).2, N)) rfl (Nat.le_of_ble_eq_true rfl) rfl (vso_14 (V := (U2.1, U2.2, N)) (x := U2.2 1 (4 * i3)))) h (fun U4 h => ?_)
      refine z_bq (cgR hA (r := 0) (ci := 0) (V := (U4.1, U4.2, N)) (q := some (aad A 3)) rfl rfl rfl) ?_
      refine z_bq (cgI hA (r := (100 * 1 + i3)) (ci := 6) (V := (U4.1, U4.2, N)) (cE1_ hA hi_i3) rfl rfl) ?_
      refine z_bq rfl ?_
      refine z_putq (cpF hA (r := 3) (ci := 3) (V := (U4.1, U4.2, N)) (V' := ((uset U4 15 (U4.2 1 (4 * i3 + 1))).1, (uset U4 15 (U4.2 1 (4 * i3 + 1))).2, N)) rfl (Nat.le_of_ble_eq_true rfl) rfl (vso_15 (V := (U4.1, U4.2, N)) (x := U4.2 1 (4 * i3 + 1)))) h (fun U5 h => ?_)
      refine z_bq (cgR hA (r := 0) (ci := 0) (V := (U5.1, U5.2, N)) (q := some (aad A 3)) rfl rfl rfl) ?_
      refine z_bq (cgR hA (r := 1) (ci := 1) (V := (U5.1, U5.2, N)) (q := some (aad A 13)) rfl rfl rfl) ?_
      refine z_bq rfl ?_
      refine z_zifq (ccl hA (r := 13) (ci := 19) (V := (U5.1, U5.2, N)) rfl rfl) ?_
      obtain ⟨i6, q_i6, h⟩ := z_bd h
      have hi_i6 := (vix_inv q_i6).2.1
      refine z_b2q (cget hA (j := 2) (V := (U5.1, U5.2, N)) (by decide) (by decide) q_i6) ?_
      refine z_zifq (cckC hA (r := (100 * 2 + i6)) (ci := 7) (V := (U5.1, U5.2, N)) (cE2_ hA hi_i6) rfl) ?_
      refine z_bq rfl ?_
      refine z_bq (cgI hA (r := (100 * 2 + i6)) (ci := 7) (V := (U5.1, U5.2, N)) (cE2_ hA hi_i6) rfl rfl) ?_
      refine z_bq rfl ?_
      refine z_putq (cpF hA (r := 3) (ci := 3) (V := (U5.1, U5.2, N)) (V' := ((uset U5 16 (U5.2 2 (3 * i6 + 1))).1, (uset U5 16 (U5.2 2 (3 * i6 + 1))).2, N)) rfl (Nat.le_of_ble_eq_true rfl) rfl (vso_16 (V := (U5.1, U5.2, N)) (x := U5.2 2 (3 * i6 + 1)))) h (fun U7 h => ?_)
      refine z_bq (cgR hA (r := 0) (ci := 0) (V := (U7.1, U7.2, N)) (q := some (aad A 3)) rfl rfl rfl) ?_
      refine z_bq rfl ?_
      refine z_putq (cpF hA (r := 3) (ci := 3) (V := (U7.1, U7.2, N)) (V' := ((uset U7 17 x1).1, (uset U7 17 x1).2, N)) rfl (Nat.le_of_ble_eq_true rfl) rfl (vso_17 (V := (U7.1, U7.2, N)) (x := x1))) h (fun U8 h => ?_)
      refine z_bq (cgR hA (r := 0) (ci := 0) (V := (U8.1, U8.2, N)) (q := some (aad A 3)) rfl rfl rfl) ?_
      refine z_bq (cgI hA (r := 1) (ci := 1) (V := (U8.1, U8.2, N)) rfl rfl rfl) ?_
      refine z_bq rfl ?_
      refine z_putq (cpF hA (r := 3) (ci := 3) (V := (U8.1, U8.2, N)) (V' := ((uset U8 18 ((U8.1 4) - (U8.1 4) / 7 * 7)).1, (uset U8 18 ((U8.1 4) - (U8.1 4) / 7 * 7)).2, N)) rfl (Nat.le_of_ble_eq_true rfl) rfl (vso_18 (V := (U8.1, U8.2, N)) (x := (U8.1 4) - (U8.1 4) / 7 * 7))) h (fun U9 h => ?_)
      refine z_bq (cgR hA (r := 0) (ci := 0) (V := (U9.1, U9.2, N)) (q := some (aad A 3)) rfl rfl rfl) ?_
      refine z_bq rfl ?_
      refine z_putZq (U1 := uset U9 19 p4) (fun hx => cpZ hA hx (r := 3) (ci := 3) (V := (U9.1, U9.2, N)) (V' := ((uset U9 19 p4).1, (uset U9 19 p4).2, N)) rfl (Nat.le_of_ble_eq_true rfl) rfl (vso_19 (V := (U9.1, U9.2, N)) (x := p4))) h (fun U10 h => ?_)
      refine z_bq (cgR hA (r := 0) (ci := 0) (V := (U10.1, U10.2, N)) (q := some (aad A 3)) rfl rfl rfl) ?_
      refine z_bq (cgI hA (r := (100 * 1 + i3)) (ci := 6) (V := (U10.1, U10.2, N)) (cE1_ hA hi_i3) rfl rfl) ?_
      refine z_ifq h (fun h => ?_) (fun h => ?_)
      · exact e_X1_counted_142 hA hlw hnb hlc h
      · exact e_X1_counted_142 hA hlw hnb hlc h
    · obtain rfl := Option.some.inj h
      rfl

def h_X1_counts (N : Nat → Nat) (lw : Bool) (nb : cU → Option Int32) (p1 : Int32) (p2 : Int32) (p3 : Int32) (p4 : Int32) (U : cU) : Option ((Int32 ⊕ Nat) × cU) :=
  zbt (h_X1_aWalk N p1 p2 p3 U) (fun k9 U9 => some (.inr k9, U9)) fun _ U2 =>
  zb2 (h_X1_counted N lw nb p1 p2 p3 p4 U2) fun x3 U4 =>
  some (.inl x3, U4)

set_option maxHeartbeats 4000000 in
theorem e_X1_counts {σ : zS} {A : cA} {N : Nat → Nat} (hA : cOKN σ A N) (hz : 1 ≤ zc σ ∧ 6 ≤ zz σ) {lw : Bool} {nb : cU → Option Int32} (hlw : (arf A 1).isSome = lw) (hnb : ∀ a U n, arf A 1 = some a → nb U = some n → f_X12_number a (some (aad A 3)) (pU σ A N U) = some (n, pU σ A N U)) (hlc : ∀ a U, arf A 1 = some a → zcl (pU σ A N U) a = 11) {p1 : Int32} {p2 : Int32} {p3 : Int32} {p4 : Int32} {U : cU} {Rt : (Int32 ⊕ Nat) × cU} (h : h_X1_counts N lw nb p1 p2 p3 p4 U = some Rt) : f_X1_counts (aad A 0) p1 p2 p3 p4 (pU σ A N U) = some (Rt.1, (pU (zbx Rt.1 σ) A N Rt.2)) := by
  unfold h_X1_counts at h
  unfold f_X1_counts
  refine z_zifq (ccl hA (r := 0) (ci := 0) (V := (U.1, U.2, N)) rfl rfl) ?_
  rcases z_bt3 h with ⟨u1, U2, e9, h⟩ | ⟨k9, U9, e9, h⟩
  · refine z_bt1 (e_X1_aWalk hA hz e9) ?_
    refine z_zifq (ccl hA (r := 0) (ci := 0) (V := (U2.1, U2.2, N)) rfl rfl) ?_
    obtain ⟨x3, U4, e9, h⟩ := z_bd2 h
    refine z_b2q (e_X1_counted hA hlw hnb hlc e9) ?_
    obtain rfl := Option.some.inj h
    rfl
  · refine z_bt2 (e_X1_aWalk hA hz e9) ?_
    obtain rfl := Option.some.inj h
    rfl

def h_X1_twoHouses_20 (N : Nat → Nat) (t0 : Int32) (U : cU) : Option ((Unit ⊕ Nat) × cU) :=
  zbt (h_X1_demand N t0 U) (fun k9 U9 => some (.inr k9, U9)) fun _ U6 =>
  some (.inl (), U6)

set_option maxHeartbeats 4000000 in
theorem e_X1_twoHouses_20 {σ : zS} {A : cA} {N : Nat → Nat} (hA : cOKN σ A N) (hz : 1 ≤ zc σ ∧ 6 ≤ zz σ) {Rt : (Unit ⊕ Nat) × cU} {t0 : Int32} {U : cU} (h : h_X1_twoHouses_20 N t0 U = some Rt) : f_X1_twoHouses_20 (aad A 0) t0 (pU σ A N U) = some (Rt.1, (pU (zbx Rt.1 σ) A N Rt.2)) := by
  unfold h_X1_twoHouses_20 at h
  unfold f_X1_twoHouses_20
  rcases z_bt3 h with ⟨u5, U6, e9, h⟩ | ⟨k9, U9, e9, h⟩
  · refine z_bt1 (e_X1_demand hA hz e9) ?_
    obtain rfl := Option.some.inj h
    rfl
  · refine z_bt2 (e_X1_demand hA hz e9) ?_
    obtain rfl := Option.some.inj h
    rfl

def h_X1_twoHouses (N : Nat → Nat) (p1 : Int32) (p2 : Int32) (U : cU) : Option ((Unit ⊕ Nat) × cU) :=
  zbt (h_X1_houseAt N p1 U) (fun k9 U9 => some (.inr k9, U9)) fun _ U2 =>
  zbt (h_X1_houseAt N p2 U2) (fun k9 U9 => some (.inr k9, U9)) fun _ U4 =>
  if p1 = p2 then
    h_X1_twoHouses_20 N 0 U4
  else
    h_X1_twoHouses_20 N 1 U4

set_option maxHeartbeats 4000000 in
theorem e_X1_twoHouses {σ : zS} {A : cA} {N : Nat → Nat} (hA : cOKN σ A N) (hz : 1 ≤ zc σ ∧ 6 ≤ zz σ) {p1 : Int32} {p2 : Int32} {U : cU} {Rt : (Unit ⊕ Nat) × cU} (h : h_X1_twoHouses N p1 p2 U = some Rt) : f_X1_twoHouses (aad A 0) p1 p2 (pU σ A N U) = some (Rt.1, (pU (zbx Rt.1 σ) A N Rt.2)) := by
  unfold h_X1_twoHouses at h
  unfold f_X1_twoHouses
  refine z_zifq (ccl hA (r := 0) (ci := 0) (V := (U.1, U.2, N)) rfl rfl) ?_
  rcases z_bt3 h with ⟨u1, U2, e9, h⟩ | ⟨k9, U9, e9, h⟩
  · refine z_bt1 (e_X1_houseAt hA hz e9) ?_
    refine z_zifq (ccl hA (r := 0) (ci := 0) (V := (U2.1, U2.2, N)) rfl rfl) ?_
    rcases z_bt3 h with ⟨u3, U4, e9, h⟩ | ⟨k9, U9, e9, h⟩
    · refine z_bt1 (e_X1_houseAt hA hz e9) ?_
      refine z_ifq h (fun h => ?_) (fun h => ?_)
      · exact e_X1_twoHouses_20 hA hz h
      · exact e_X1_twoHouses_20 hA hz h
    · refine z_bt2 (e_X1_houseAt hA hz e9) ?_
      obtain rfl := Option.some.inj h
      rfl
  · refine z_bt2 (e_X1_houseAt hA hz e9) ?_
    obtain rfl := Option.some.inj h
    rfl

def h_X1_pass_53 (N : Nat → Nat) (v1 : Int32) (v2 : Int32) (v4 : Int32) (t0 : Int32) (U : cU) : Option ((Int32 ⊕ Nat) × cU) :=
  zbt (h_X1_can N t0 U) (fun k9 U9 => some (.inr k9, U9)) fun _ U11 =>
  (uL U11 0 8 v1).bind fun x12 =>
  (uSt U11 0 8 v1 (x12 - v4)).bind fun U13 =>
  (uL U13 0 8 v2).bind fun x14 =>
  (uSt U13 0 8 v2 (x14 + v4)).bind fun U15 =>
  some (.inl v4, U15)

set_option maxHeartbeats 4000000 in
theorem e_X1_pass_53 {σ : zS} {A : cA} {N : Nat → Nat} (hA : cOKN σ A N) (hz : 1 ≤ zc σ ∧ 6 ≤ zz σ) {Rt : (Int32 ⊕ Nat) × cU} {v1 : Int32} {v2 : Int32} {v4 : Int32} {t0 : Int32} {U : cU} (h : h_X1_pass_53 N v1 v2 v4 t0 U = some Rt) : f_X1_pass_53 (aad A 0) v1 v2 v4 t0 (pU σ A N U) = some (Rt.1, (pU (zbx Rt.1 σ) A N Rt.2)) := by
  unfold h_X1_pass_53 at h
  unfold f_X1_pass_53
  rcases z_bt3 h with ⟨u10, U11, e9, h⟩ | ⟨k9, U9, e9, h⟩
  · refine z_bt1 (e_X1_can hA hz e9) ?_
    refine z_bq (cgR hA (r := 0) (ci := 0) (V := (U11.1, U11.2, N)) (q := some (aad A 1)) rfl rfl rfl) ?_
    refine z_bq rfl ?_
    refine z_bq (cgR hA (r := 1) (ci := 1) (V := (U11.1, U11.2, N)) (q := some (aad A 5)) rfl rfl rfl) ?_
    refine z_bq rfl ?_
    obtain ⟨x12, e9, h⟩ := z_bd h
    refine z_bq (clI hA (r := 5) (t := 0) (n := 8) (V := (U11.1, U11.2, N)) rfl rfl e9) ?_
    obtain ⟨U13, e9, h⟩ := z_bd h
    refine z_bq (csU0 hA e9) ?_
    refine z_bq (cgR hA (r := 0) (ci := 0) (V := (U13.1, U13.2, N)) (q := some (aad A 1)) rfl rfl rfl) ?_
    refine z_bq rfl ?_
    refine z_bq (cgR hA (r := 1) (ci := 1) (V := (U13.1, U13.2, N)) (q := some (aad A 5)) rfl rfl rfl) ?_
    refine z_bq rfl ?_
    obtain ⟨x14, e9, h⟩ := z_bd h
    refine z_bq (clI hA (r := 5) (t := 0) (n := 8) (V := (U13.1, U13.2, N)) rfl rfl e9) ?_
    obtain ⟨U15, e9, h⟩ := z_bd h
    refine z_bq (csU0 hA e9) ?_
    obtain rfl := Option.some.inj h
    rfl
  · refine z_bt2 (e_X1_can hA hz e9) ?_
    obtain rfl := Option.some.inj h
    rfl

def h_X1_pass (N : Nat → Nat) (p1 : Int32) (p2 : Int32) (p3 : Int32) (U : cU) : Option ((Int32 ⊕ Nat) × cU) :=
  zbt (h_X1_twoHouses N p1 p2 U) (fun k9 U9 => some (.inr k9, U9)) fun _ U2 =>
  zb2 (h_X1_in N p3 1 99999 U2) fun x3 U4 =>
  zbt (h_X1_demand N x3 U4) (fun k9 U9 => some (.inr k9, U9)) fun _ U6 =>
  (uL U6 0 8 p1).bind fun x7 =>
  zl (zmin p3 x7) fun x8 =>
  (uL U6 0 8 p2).bind fun x9 =>
  if 99999 < (x9 + x8) then
    h_X1_pass_53 N p1 p2 x8 0 U6
  else
    h_X1_pass_53 N p1 p2 x8 1 U6

set_option maxHeartbeats 4000000 in
theorem e_X1_pass {σ : zS} {A : cA} {N : Nat → Nat} (hA : cOKN σ A N) (hz : 1 ≤ zc σ ∧ 6 ≤ zz σ) {p1 : Int32} {p2 : Int32} {p3 : Int32} {U : cU} {Rt : (Int32 ⊕ Nat) × cU} (h : h_X1_pass N p1 p2 p3 U = some Rt) : f_X1_pass (aad A 0) p1 p2 p3 (pU σ A N U) = some (Rt.1, (pU (zbx Rt.1 σ) A N Rt.2)) := by
  unfold h_X1_pass at h
  unfold f_X1_pass
  refine z_zifq (ccl hA (r := 0) (ci := 0) (V := (U.1, U.2, N)) rfl rfl) ?_
  rcases z_bt3 h with ⟨u1, U2, e9, h⟩ | ⟨k9, U9, e9, h⟩
  · refine z_bt1 (e_X1_twoHouses hA hz e9) ?_
    obtain ⟨x3, U4, e9, h⟩ := z_bd2 h
    refine z_b2q (e_X1_in hA e9) ?_
    rcases z_bt3 h with ⟨u5, U6, e9, h⟩ | ⟨k9, U9, e9, h⟩
    · refine z_bt1 (e_X1_demand hA hz e9) ?_
      refine z_bq (cgR hA (r := 0) (ci := 0) (V := (U6.1, U6.2, N)) (q := some (aad A 1)) rfl rfl rfl) ?_
      refine z_bq rfl ?_
      refine z_bq (cgR hA (r := 1) (ci := 1) (V := (U6.1, U6.2, N)) (q := some (aad A 5)) rfl rfl rfl) ?_
      refine z_bq rfl ?_
      obtain ⟨x7, e9, h⟩ := z_bd h
      refine z_bq (clI hA (r := 5) (t := 0) (n := 8) (V := (U6.1, U6.2, N)) rfl rfl e9) ?_
      refine z_zlq h (fun x8 h => ?_)
      refine z_bq (cgR hA (r := 0) (ci := 0) (V := (U6.1, U6.2, N)) (q := some (aad A 1)) rfl rfl rfl) ?_
      refine z_bq rfl ?_
      refine z_bq (cgR hA (r := 1) (ci := 1) (V := (U6.1, U6.2, N)) (q := some (aad A 5)) rfl rfl rfl) ?_
      refine z_bq rfl ?_
      obtain ⟨x9, e9, h⟩ := z_bd h
      refine z_bq (clI hA (r := 5) (t := 0) (n := 8) (V := (U6.1, U6.2, N)) rfl rfl e9) ?_
      refine z_ifq h (fun h => ?_) (fun h => ?_)
      · exact e_X1_pass_53 hA hz h
      · exact e_X1_pass_53 hA hz h
    · refine z_bt2 (e_X1_demand hA hz e9) ?_
      obtain rfl := Option.some.inj h
      rfl
  · refine z_bt2 (e_X1_twoHouses hA hz e9) ?_
    obtain rfl := Option.some.inj h
    rfl

def h_X1_marry_124 (N : Nat → Nat) (rec71 : Int32 → cU → Option ((Int32 ⊕ Nat) × cU)) (v1 : Int32) (v2 : Int32) (v3 : Int32) (U : cU) : Option ((Int32 ⊕ Nat) × cU) :=
  zl (v3 + 1) fun x13 =>
  rec71 x13 U

set_option maxHeartbeats 4000000 in
theorem e_X1_marry_124 {σ : zS} {A : cA} {N : Nat → Nat} (hA : cOKN σ A N) (hz : 1 ≤ zc σ ∧ 6 ≤ zz σ) {Rt : (Int32 ⊕ Nat) × cU} {v1 : Int32} {v2 : Int32} {v3 : Int32} {rec71 : Int32 → cU → Option ((Int32 ⊕ Nat) × cU)} {frec71 : Int32 → zS → Option ((Int32 ⊕ Nat) × zS)} (hrec71 : ∀ (v3 : Int32) (U : cU), rec71 v3 U = some Rt → frec71 v3 (pU σ A N U) = some (Rt.1, (pU (zbx Rt.1 σ) A N Rt.2))) {U : cU} (h : h_X1_marry_124 N rec71 v1 v2 v3 U = some Rt) : f_X1_marry_124 (aad A 0) frec71 v1 v2 v3 (pU σ A N U) = some (Rt.1, (pU (zbx Rt.1 σ) A N Rt.2)) := by
  unfold h_X1_marry_124 at h
  unfold f_X1_marry_124
  refine z_zlq h (fun x13 h => ?_)
  exact hrec71 _ _ h

def h_X1_marry_71_b (N : Nat → Nat) (v1 : Int32) (v2 : Int32) (rec71 : Int32 → cU → Option ((Int32 ⊕ Nat) × cU)) (v3 : Int32) (U : cU) : Option ((Int32 ⊕ Nat) × cU) :=
  if (Int32.ofNat (N 1)) ≤ v3 then
    (uL U 0 8 v1).bind fun x11 =>
    some (.inl x11, U)
  else
    (vix (N 1) v3).bind fun i12 =>
    if ¬ (U.2 1 (4 * i12 + 3)) = v2 then
      h_X1_marry_124 N rec71 v1 v2 v3 U
    else
      (vix (N 1) v3).bind fun i14 =>
      zl (utab U 1 (4 * i14 + 3) v1) fun U15 =>
      h_X1_marry_124 N rec71 v1 v2 v3 U15

def h_X1_marry_71 (N : Nat → Nat) (v1 : Int32) (v2 : Int32) : Int32 → cU → Option ((Int32 ⊕ Nat) × cU) := zlp1 (h_X1_marry_71_b N v1 v2) NN
set_option maxHeartbeats 4000000 in
theorem e_X1_marry_71_b {σ : zS} {A : cA} {N : Nat → Nat} (hA : cOKN σ A N) (hz : 1 ≤ zc σ ∧ 6 ≤ zz σ) {Rt : (Int32 ⊕ Nat) × cU} {v1 : Int32} {v2 : Int32} {rec71 : Int32 → cU → Option ((Int32 ⊕ Nat) × cU)} {frec71 : Int32 → zS → Option ((Int32 ⊕ Nat) × zS)} (hrec71 : ∀ (v3 : Int32) (U : cU), rec71 v3 U = some Rt → frec71 v3 (pU σ A N U) = some (Rt.1, (pU (zbx Rt.1 σ) A N Rt.2))) {v3 : Int32} {U : cU} (h : h_X1_marry_71_b N v1 v2 rec71 v3 U = some Rt) : f_X1_marry_71_b (aad A 0) v1 v2 frec71 v3 (pU σ A N U) = some (Rt.1, (pU (zbx Rt.1 σ) A N Rt.2)) := by
  unfold h_X1_marry_71_b at h
  unfold f_X1_marry_71_b
  refine z_bq (cgR hA (r := 0) (ci := 0) (V := (U.1, U.2, N)) (q := some (aad A 1)) rfl rfl rfl) ?_
  refine z_bq rfl ?_
  refine z_bq (cgR hA (r := 1) (ci := 1) (V := (U.1, U.2, N)) (q := some (aad A 12)) rfl rfl rfl) ?_
  refine z_bq rfl ?_
  refine z_zifq (ccl hA (r := 12) (ci := 19) (V := (U.1, U.2, N)) rfl rfl) ?_
  refine z_b2q (csize hA (j := 1) (V := (U.1, U.2, N)) (by decide) (by decide)) ?_
  refine z_ifq h (fun h => ?_) (fun h => ?_)
  · refine z_bq (cgR hA (r := 0) (ci := 0) (V := (U.1, U.2, N)) (q := some (aad A 1)) rfl rfl rfl) ?_
    refine z_bq rfl ?_
    refine z_bq (cgR hA (r := 1) (ci := 1) (V := (U.1, U.2, N)) (q := some (aad A 5)) rfl rfl rfl) ?_
    refine z_bq rfl ?_
    obtain ⟨x11, e9, h⟩ := z_bd h
    refine z_bq (clI hA (r := 5) (t := 0) (n := 8) (V := (U.1, U.2, N)) rfl rfl e9) ?_
    obtain rfl := Option.some.inj h
    rfl
  · refine z_bq (cgR hA (r := 0) (ci := 0) (V := (U.1, U.2, N)) (q := some (aad A 1)) rfl rfl rfl) ?_
    refine z_bq rfl ?_
    refine z_bq (cgR hA (r := 1) (ci := 1) (V := (U.1, U.2, N)) (q := some (aad A 12)) rfl rfl rfl) ?_
    refine z_bq rfl ?_
    refine z_zifq (ccl hA (r := 12) (ci := 19) (V := (U.1, U.2, N)) rfl rfl) ?_
    obtain ⟨i12, q_i12, h⟩ := z_bd h
    have hi_i12 := (vix_inv q_i12).2.1
    refine z_b2q (cget hA (j := 1) (V := (U.1, U.2, N)) (by decide) (by decide) q_i12) ?_
    refine z_zifq (cckC hA (r := (100 * 1 + i12)) (ci := 6) (V := (U.1, U.2, N)) (cE1_ hA hi_i12) rfl) ?_
    refine z_bq rfl ?_
    refine z_bq (cgI hA (r := (100 * 1 + i12)) (ci := 6) (V := (U.1, U.2, N)) (cE1_ hA hi_i12) rfl rfl) ?_
    refine z_ifq h (fun h => ?_) (fun h => ?_)
    · exact e_X1_marry_124 hA hz hrec71 h
    · refine z_bq (cgR hA (r := 0) (ci := 0) (V := (U.1, U.2, N)) (q := some (aad A 1)) rfl rfl rfl) ?_
      refine z_bq rfl ?_
      refine z_bq (cgR hA (r := 1) (ci := 1) (V := (U.1, U.2, N)) (q := some (aad A 12)) rfl rfl rfl) ?_
      refine z_bq rfl ?_
      refine z_zifq (ccl hA (r := 12) (ci := 19) (V := (U.1, U.2, N)) rfl rfl) ?_
      obtain ⟨i14, q_i14, h⟩ := z_bd h
      have hi_i14 := (vix_inv q_i14).2.1
      refine z_b2q (cget hA (j := 1) (V := (U.1, U.2, N)) (by decide) (by decide) q_i14) ?_
      refine z_zifq (cckC hA (r := (100 * 1 + i14)) (ci := 6) (V := (U.1, U.2, N)) (cE1_ hA hi_i14) rfl) ?_
      refine z_bq rfl ?_
      refine z_putq (cpE1_3 hA hi_i14) h (fun U15 h => ?_)
      exact e_X1_marry_124 hA hz hrec71 h

theorem e_X1_marry_71 {σ : zS} {A : cA} {N : Nat → Nat} (hA : cOKN σ A N) (hz : 1 ≤ zc σ ∧ 6 ≤ zz σ) {Rt : (Int32 ⊕ Nat) × cU} {v1 : Int32} {v2 : Int32} {v3 : Int32} {U : cU} (h : h_X1_marry_71 N v1 v2 v3 U = some Rt) : f_X1_marry_71 (aad A 0) v1 v2 v3 (pU σ A N U) = some (Rt.1, (pU (zbx Rt.1 σ) A N Rt.2)) := by
  unfold h_X1_marry_71 at h
  unfold f_X1_marry_71
  generalize NN = n9 at h ⊢
  exact zlp1_rel (F := f_X1_marry_71_b (aad A 0) v1 v2) (G := h_X1_marry_71_b N v1 v2) (R := Rt) (R' := (Rt.1, (pU (zbx Rt.1 σ) A N Rt.2))) (fun v => v) (pU σ A N) (fun rf rg hr v3 t h => e_X1_marry_71_b hA hz (frec71 := rf) hr h) n9 v3 U h
def h_X1_marry_35 (N : Nat → Nat) (v1 : Int32) (v2 : Int32) (t0 : Int32) (U : cU) : Option ((Int32 ⊕ Nat) × cU) :=
  zbt (h_X1_can N t0 U) (fun k9 U9 => some (.inr k9, U9)) fun _ U6 =>
  (uL U6 0 8 v1).bind fun x7 =>
  (uL U6 0 8 v2).bind fun x8 =>
  (uSt U6 0 8 v1 (x7 + x8)).bind fun U9 =>
  (uSt U9 0 8 v2 0).bind fun U10 =>
  h_X1_marry_71 N v1 v2 0 U10

set_option maxHeartbeats 4000000 in
theorem e_X1_marry_35 {σ : zS} {A : cA} {N : Nat → Nat} (hA : cOKN σ A N) (hz : 1 ≤ zc σ ∧ 6 ≤ zz σ) {Rt : (Int32 ⊕ Nat) × cU} {v1 : Int32} {v2 : Int32} {t0 : Int32} {U : cU} (h : h_X1_marry_35 N v1 v2 t0 U = some Rt) : f_X1_marry_35 (aad A 0) v1 v2 t0 (pU σ A N U) = some (Rt.1, (pU (zbx Rt.1 σ) A N Rt.2)) := by
  unfold h_X1_marry_35 at h
  unfold f_X1_marry_35
  rcases z_bt3 h with ⟨u5, U6, e9, h⟩ | ⟨k9, U9, e9, h⟩
  · refine z_bt1 (e_X1_can hA hz e9) ?_
    refine z_bq (cgR hA (r := 0) (ci := 0) (V := (U6.1, U6.2, N)) (q := some (aad A 1)) rfl rfl rfl) ?_
    refine z_bq rfl ?_
    refine z_bq (cgR hA (r := 1) (ci := 1) (V := (U6.1, U6.2, N)) (q := some (aad A 5)) rfl rfl rfl) ?_
    refine z_bq rfl ?_
    obtain ⟨x7, e9, h⟩ := z_bd h
    refine z_bq (clI hA (r := 5) (t := 0) (n := 8) (V := (U6.1, U6.2, N)) rfl rfl e9) ?_
    refine z_bq (cgR hA (r := 0) (ci := 0) (V := (U6.1, U6.2, N)) (q := some (aad A 1)) rfl rfl rfl) ?_
    refine z_bq rfl ?_
    refine z_bq (cgR hA (r := 1) (ci := 1) (V := (U6.1, U6.2, N)) (q := some (aad A 5)) rfl rfl rfl) ?_
    refine z_bq rfl ?_
    obtain ⟨x8, e9, h⟩ := z_bd h
    refine z_bq (clI hA (r := 5) (t := 0) (n := 8) (V := (U6.1, U6.2, N)) rfl rfl e9) ?_
    obtain ⟨U9, e9, h⟩ := z_bd h
    refine z_bq (csU0 hA e9) ?_
    refine z_bq (cgR hA (r := 0) (ci := 0) (V := (U9.1, U9.2, N)) (q := some (aad A 1)) rfl rfl rfl) ?_
    refine z_bq rfl ?_
    refine z_bq (cgR hA (r := 1) (ci := 1) (V := (U9.1, U9.2, N)) (q := some (aad A 5)) rfl rfl rfl) ?_
    refine z_bq rfl ?_
    obtain ⟨U10, e9, h⟩ := z_bd h
    refine z_bq (csU0 hA e9) ?_
    exact e_X1_marry_71 hA hz h
  · refine z_bt2 (e_X1_can hA hz e9) ?_
    obtain rfl := Option.some.inj h
    rfl

def h_X1_marry (N : Nat → Nat) (p1 : Int32) (p2 : Int32) (U : cU) : Option ((Int32 ⊕ Nat) × cU) :=
  zbt (h_X1_twoHouses N p1 p2 U) (fun k9 U9 => some (.inr k9, U9)) fun _ U2 =>
  (uL U2 0 8 p1).bind fun x3 =>
  (uL U2 0 8 p2).bind fun x4 =>
  if 99999 < (x3 + x4) then
    h_X1_marry_35 N p1 p2 0 U2
  else
    h_X1_marry_35 N p1 p2 1 U2

set_option maxHeartbeats 4000000 in
theorem e_X1_marry {σ : zS} {A : cA} {N : Nat → Nat} (hA : cOKN σ A N) (hz : 1 ≤ zc σ ∧ 6 ≤ zz σ) {p1 : Int32} {p2 : Int32} {U : cU} {Rt : (Int32 ⊕ Nat) × cU} (h : h_X1_marry N p1 p2 U = some Rt) : f_X1_marry (aad A 0) p1 p2 (pU σ A N U) = some (Rt.1, (pU (zbx Rt.1 σ) A N Rt.2)) := by
  unfold h_X1_marry at h
  unfold f_X1_marry
  refine z_zifq (ccl hA (r := 0) (ci := 0) (V := (U.1, U.2, N)) rfl rfl) ?_
  rcases z_bt3 h with ⟨u1, U2, e9, h⟩ | ⟨k9, U9, e9, h⟩
  · refine z_bt1 (e_X1_twoHouses hA hz e9) ?_
    refine z_bq (cgR hA (r := 0) (ci := 0) (V := (U2.1, U2.2, N)) (q := some (aad A 1)) rfl rfl rfl) ?_
    refine z_bq rfl ?_
    refine z_bq (cgR hA (r := 1) (ci := 1) (V := (U2.1, U2.2, N)) (q := some (aad A 5)) rfl rfl rfl) ?_
    refine z_bq rfl ?_
    obtain ⟨x3, e9, h⟩ := z_bd h
    refine z_bq (clI hA (r := 5) (t := 0) (n := 8) (V := (U2.1, U2.2, N)) rfl rfl e9) ?_
    refine z_bq (cgR hA (r := 0) (ci := 0) (V := (U2.1, U2.2, N)) (q := some (aad A 1)) rfl rfl rfl) ?_
    refine z_bq rfl ?_
    refine z_bq (cgR hA (r := 1) (ci := 1) (V := (U2.1, U2.2, N)) (q := some (aad A 5)) rfl rfl rfl) ?_
    refine z_bq rfl ?_
    obtain ⟨x4, e9, h⟩ := z_bd h
    refine z_bq (clI hA (r := 5) (t := 0) (n := 8) (V := (U2.1, U2.2, N)) rfl rfl e9) ?_
    refine z_ifq h (fun h => ?_) (fun h => ?_)
    · exact e_X1_marry_35 hA hz h
    · exact e_X1_marry_35 hA hz h
  · refine z_bt2 (e_X1_twoHouses hA hz e9) ?_
    obtain rfl := Option.some.inj h
    rfl

def h_X1_missed_2_b (N : Nat → Nat) (rec2 : Int32 → cU → Option (Int32 × cU)) (v1 : Int32) (U : cU) : Option (Int32 × cU) :=
  if (Int32.ofNat (N 2)) ≤ v1 then
    some (((-1) : Int32), U)
  else
    zb2 (h_X2_missed N v1 U) fun x1 U2 =>
    if x1 = 0 then
      zl (v1 + 1) fun x3 =>
      rec2 x3 U2
    else
      some (v1, U2)

def h_X1_missed_2 (N : Nat → Nat) : Int32 → cU → Option (Int32 × cU) := zlp1 (h_X1_missed_2_b N) NN
set_option maxHeartbeats 4000000 in
theorem e_X1_missed_2_b {σ : zS} {A : cA} {N : Nat → Nat} (hA : cOKN σ A N) {Rt : Int32 × cU} {rec2 : Int32 → cU → Option (Int32 × cU)} {frec2 : Int32 → zS → Option (Int32 × zS)} (hrec2 : ∀ (v1 : Int32) (U : cU), rec2 v1 U = some Rt → frec2 v1 (pU σ A N U) = some (Rt.1, (pU σ A N Rt.2))) {v1 : Int32} {U : cU} (h : h_X1_missed_2_b N rec2 v1 U = some Rt) : f_X1_missed_2_b (aad A 0) frec2 v1 (pU σ A N U) = some (Rt.1, (pU σ A N Rt.2)) := by
  unfold h_X1_missed_2_b at h
  unfold f_X1_missed_2_b
  refine z_bq (cgR hA (r := 0) (ci := 0) (V := (U.1, U.2, N)) (q := some (aad A 1)) rfl rfl rfl) ?_
  refine z_bq rfl ?_
  refine z_bq (cgR hA (r := 1) (ci := 1) (V := (U.1, U.2, N)) (q := some (aad A 13)) rfl rfl rfl) ?_
  refine z_bq rfl ?_
  refine z_zifq (ccl hA (r := 13) (ci := 19) (V := (U.1, U.2, N)) rfl rfl) ?_
  refine z_b2q (csize hA (j := 2) (V := (U.1, U.2, N)) (by decide) (by decide)) ?_
  refine z_ifq h (fun h => ?_) (fun h => ?_)
  · obtain rfl := Option.some.inj h
    rfl
  · refine z_bq (cgR hA (r := 0) (ci := 0) (V := (U.1, U.2, N)) (q := some (aad A 1)) rfl rfl rfl) ?_
    refine z_bq rfl ?_
    refine z_zifq (ccl hA (r := 1) (ci := 1) (V := (U.1, U.2, N)) rfl rfl) ?_
    obtain ⟨x1, U2, e9, h⟩ := z_bd2 h
    refine z_b2q (e_X2_missed hA e9) ?_
    refine z_ifq h (fun h => ?_) (fun h => ?_)
    · refine z_zlq h (fun x3 h => ?_)
      exact hrec2 _ _ h
    · obtain rfl := Option.some.inj h
      rfl

theorem e_X1_missed_2 {σ : zS} {A : cA} {N : Nat → Nat} (hA : cOKN σ A N) {Rt : Int32 × cU} {v1 : Int32} {U : cU} (h : h_X1_missed_2 N v1 U = some Rt) : f_X1_missed_2 (aad A 0) v1 (pU σ A N U) = some (Rt.1, (pU σ A N Rt.2)) := by
  unfold h_X1_missed_2 at h
  unfold f_X1_missed_2
  generalize NN = n9 at h ⊢
  exact zlp1_rel (F := f_X1_missed_2_b (aad A 0)) (G := h_X1_missed_2_b N) (R := Rt) (R' := (Rt.1, (pU σ A N Rt.2))) (fun v => v) (pU σ A N) (fun rf rg hr v1 t h => e_X1_missed_2_b hA (frec2 := rf) hr h) n9 v1 U h
def h_X1_missed (N : Nat → Nat) (U : cU) : Option (Int32 × cU) :=
  h_X1_missed_2 N 0 U

set_option maxHeartbeats 4000000 in
theorem e_X1_missed {σ : zS} {A : cA} {N : Nat → Nat} (hA : cOKN σ A N) {U : cU} {Rt : Int32 × cU} (h : h_X1_missed N U = some Rt) : f_X1_missed (aad A 0) (pU σ A N U) = some (Rt.1, (pU σ A N Rt.2)) := by
  unfold h_X1_missed at h
  unfold f_X1_missed
  exact e_X1_missed_2 hA h

def h_X1_bestDeal_157 (N : Nat → Nat) (rec7 : Int32 → Int32 → Int32 → cU → Option (Int32 × cU)) (v1 : Int32) (v2 : Int32) (v3 : Int32) (v4 : Int32) (U : cU) : Option (Int32 × cU) :=
  zl (v4 + 1) fun x1 =>
  rec7 v2 v3 x1 U

set_option maxHeartbeats 4000000 in
theorem e_X1_bestDeal_157 {σ : zS} {A : cA} {N : Nat → Nat} (hA : cOKN σ A N) {Rt : Int32 × cU} {v1 : Int32} {v2 : Int32} {v3 : Int32} {v4 : Int32} {rec7 : Int32 → Int32 → Int32 → cU → Option (Int32 × cU)} {frec7 : Int32 → Int32 → Int32 → zS → Option (Int32 × zS)} (hrec7 : ∀ (v2 : Int32) (v3 : Int32) (v4 : Int32) (U : cU), rec7 v2 v3 v4 U = some Rt → frec7 v2 v3 v4 (pU σ A N U) = some (Rt.1, (pU σ A N Rt.2))) {U : cU} (h : h_X1_bestDeal_157 N rec7 v1 v2 v3 v4 U = some Rt) : f_X1_bestDeal_157 (aad A 0) frec7 v1 v2 v3 v4 (pU σ A N U) = some (Rt.1, (pU σ A N Rt.2)) := by
  unfold h_X1_bestDeal_157 at h
  unfold f_X1_bestDeal_157
  refine z_zlq h (fun x1 h => ?_)
  exact hrec7 _ _ _ _ h

def h_X1_bestDeal_151 (N : Nat → Nat) (rec7 : Int32 → Int32 → Int32 → cU → Option (Int32 × cU)) (v1 : Int32) (v4 : Int32) (v6 : Int32) (U : cU) : Option (Int32 × cU) :=
  h_X1_bestDeal_157 N rec7 v1 v4 v6 v4 U

set_option maxHeartbeats 4000000 in
theorem e_X1_bestDeal_151 {σ : zS} {A : cA} {N : Nat → Nat} (hA : cOKN σ A N) {Rt : Int32 × cU} {v1 : Int32} {v4 : Int32} {v6 : Int32} {rec7 : Int32 → Int32 → Int32 → cU → Option (Int32 × cU)} {frec7 : Int32 → Int32 → Int32 → zS → Option (Int32 × zS)} (hrec7 : ∀ (v2 : Int32) (v3 : Int32) (v4 : Int32) (U : cU), rec7 v2 v3 v4 U = some Rt → frec7 v2 v3 v4 (pU σ A N U) = some (Rt.1, (pU σ A N Rt.2))) {U : cU} (h : h_X1_bestDeal_151 N rec7 v1 v4 v6 U = some Rt) : f_X1_bestDeal_151 (aad A 0) frec7 v1 v4 v6 (pU σ A N U) = some (Rt.1, (pU σ A N Rt.2)) := by
  unfold h_X1_bestDeal_151 at h
  unfold f_X1_bestDeal_151
  exact e_X1_bestDeal_157 hA hrec7 h

def h_X1_bestDeal_107 (N : Nat → Nat) (rec7 : Int32 → Int32 → Int32 → cU → Option (Int32 × cU)) (rec33 : Int32 → Int32 → Int32 → cU → Option (Int32 × cU)) (v1 : Int32) (v2 : Int32) (v3 : Int32) (v4 : Int32) (v5 : Int32) (v6 : Int32) (v7 : Int32) (U : cU) : Option (Int32 × cU) :=
  zl (v7 + 1) fun x10 =>
  rec33 v5 v6 x10 U

set_option maxHeartbeats 4000000 in
theorem e_X1_bestDeal_107 {σ : zS} {A : cA} {N : Nat → Nat} (hA : cOKN σ A N) {Rt : Int32 × cU} {v1 : Int32} {v2 : Int32} {v3 : Int32} {v4 : Int32} {v5 : Int32} {v6 : Int32} {v7 : Int32} {rec7 : Int32 → Int32 → Int32 → cU → Option (Int32 × cU)} {frec7 : Int32 → Int32 → Int32 → zS → Option (Int32 × zS)} (hrec7 : ∀ (v2 : Int32) (v3 : Int32) (v4 : Int32) (U : cU), rec7 v2 v3 v4 U = some Rt → frec7 v2 v3 v4 (pU σ A N U) = some (Rt.1, (pU σ A N Rt.2))) {rec33 : Int32 → Int32 → Int32 → cU → Option (Int32 × cU)} {frec33 : Int32 → Int32 → Int32 → zS → Option (Int32 × zS)} (hrec33 : ∀ (v5 : Int32) (v6 : Int32) (v7 : Int32) (U : cU), rec33 v5 v6 v7 U = some Rt → frec33 v5 v6 v7 (pU σ A N U) = some (Rt.1, (pU σ A N Rt.2))) {U : cU} (h : h_X1_bestDeal_107 N rec7 rec33 v1 v2 v3 v4 v5 v6 v7 U = some Rt) : f_X1_bestDeal_107 (aad A 0) frec7 frec33 v1 v2 v3 v4 v5 v6 v7 (pU σ A N U) = some (Rt.1, (pU σ A N Rt.2)) := by
  unfold h_X1_bestDeal_107 at h
  unfold f_X1_bestDeal_107
  refine z_zlq h (fun x10 h => ?_)
  exact hrec33 _ _ _ _ h

def h_X1_bestDeal_33_b (N : Nat → Nat) (rec7 : Int32 → Int32 → Int32 → cU → Option (Int32 × cU)) (v1 : Int32) (v2 : Int32) (v3 : Int32) (v4 : Int32) (rec33 : Int32 → Int32 → Int32 → cU → Option (Int32 × cU)) (v5 : Int32) (v6 : Int32) (v7 : Int32) (U : cU) : Option (Int32 × cU) :=
  if (Int32.ofNat (N 3)) ≤ v7 then
    if v5 < v1 then
      h_X1_bestDeal_157 N rec7 v1 v2 v3 v4 U
    else
      if v2 = (-1) then
        h_X1_bestDeal_151 N rec7 v1 v4 v6 U
      else
        if v3 < v6 then
          h_X1_bestDeal_157 N rec7 v1 v2 v3 v4 U
        else
          if ¬ v6 = v3 then
            h_X1_bestDeal_151 N rec7 v1 v4 v6 U
          else
            zb2 (h_J17_bitCount N v4 U) fun x2 U3 =>
            zb2 (h_J17_bitCount N v2 U3) fun x4 U5 =>
            if x2 < x4 then
              h_X1_bestDeal_151 N rec7 v1 v4 v6 U5
            else
              h_X1_bestDeal_157 N rec7 v1 v2 v3 v4 U5
  else
    if ¬ ((v4 >>> (v7 &&& 31)) &&& 1) = 0 then
      (vix (N 3) v7).bind fun i6 =>
      zl (v5 + (U.2 3 (2 * i6))) fun x7 =>
      (vix (N 3) v7).bind fun i8 =>
      zl (v6 + (U.2 3 (2 * i8 + 1))) fun x9 =>
      h_X1_bestDeal_107 N rec7 rec33 v1 v2 v3 v4 x7 x9 v7 U
    else
      h_X1_bestDeal_107 N rec7 rec33 v1 v2 v3 v4 v5 v6 v7 U

def h_X1_bestDeal_33 (N : Nat → Nat) (rec7 : Int32 → Int32 → Int32 → cU → Option (Int32 × cU)) (v1 : Int32) (v2 : Int32) (v3 : Int32) (v4 : Int32) : Int32 → Int32 → Int32 → cU → Option (Int32 × cU) := zlp3 (h_X1_bestDeal_33_b N rec7 v1 v2 v3 v4) NN
set_option maxHeartbeats 4000000 in
theorem e_X1_bestDeal_33_b {σ : zS} {A : cA} {N : Nat → Nat} (hA : cOKN σ A N) {Rt : Int32 × cU} {v1 : Int32} {v2 : Int32} {v3 : Int32} {v4 : Int32} {rec7 : Int32 → Int32 → Int32 → cU → Option (Int32 × cU)} {frec7 : Int32 → Int32 → Int32 → zS → Option (Int32 × zS)} (hrec7 : ∀ (v2 : Int32) (v3 : Int32) (v4 : Int32) (U : cU), rec7 v2 v3 v4 U = some Rt → frec7 v2 v3 v4 (pU σ A N U) = some (Rt.1, (pU σ A N Rt.2))) {rec33 : Int32 → Int32 → Int32 → cU → Option (Int32 × cU)} {frec33 : Int32 → Int32 → Int32 → zS → Option (Int32 × zS)} (hrec33 : ∀ (v5 : Int32) (v6 : Int32) (v7 : Int32) (U : cU), rec33 v5 v6 v7 U = some Rt → frec33 v5 v6 v7 (pU σ A N U) = some (Rt.1, (pU σ A N Rt.2))) {v5 : Int32} {v6 : Int32} {v7 : Int32} {U : cU} (h : h_X1_bestDeal_33_b N rec7 v1 v2 v3 v4 rec33 v5 v6 v7 U = some Rt) : f_X1_bestDeal_33_b (aad A 0) frec7 v1 v2 v3 v4 frec33 v5 v6 v7 (pU σ A N U) = some (Rt.1, (pU σ A N Rt.2)) := by
  unfold h_X1_bestDeal_33_b at h
  unfold f_X1_bestDeal_33_b
  refine z_bq (cgR hA (r := 0) (ci := 0) (V := (U.1, U.2, N)) (q := some (aad A 1)) rfl rfl rfl) ?_
  refine z_bq rfl ?_
  refine z_bq (cgR hA (r := 1) (ci := 1) (V := (U.1, U.2, N)) (q := some (aad A 14)) rfl rfl rfl) ?_
  refine z_bq rfl ?_
  refine z_zifq (ccl hA (r := 14) (ci := 19) (V := (U.1, U.2, N)) rfl rfl) ?_
  refine z_b2q (csize hA (j := 3) (V := (U.1, U.2, N)) (by decide) (by decide)) ?_
  refine z_ifq h (fun h => ?_) (fun h => ?_)
  · refine z_ifq h (fun h => ?_) (fun h => ?_)
    · exact e_X1_bestDeal_157 hA hrec7 h
    · refine z_ifq h (fun h => ?_) (fun h => ?_)
      · exact e_X1_bestDeal_151 hA hrec7 h
      · refine z_ifq h (fun h => ?_) (fun h => ?_)
        · exact e_X1_bestDeal_157 hA hrec7 h
        · refine z_ifq h (fun h => ?_) (fun h => ?_)
          · exact e_X1_bestDeal_151 hA hrec7 h
          · obtain ⟨x2, U3, e9, h⟩ := z_bd2 h
            refine z_b2q (e_J17_bitCount hA e9) ?_
            obtain ⟨x4, U5, e9, h⟩ := z_bd2 h
            refine z_b2q (e_J17_bitCount hA e9) ?_
            refine z_ifq h (fun h => ?_) (fun h => ?_)
            · exact e_X1_bestDeal_151 hA hrec7 h
            · exact e_X1_bestDeal_157 hA hrec7 h
  · refine z_ifq h (fun h => ?_) (fun h => ?_)
    · refine z_bq (cgR hA (r := 0) (ci := 0) (V := (U.1, U.2, N)) (q := some (aad A 1)) rfl rfl rfl) ?_
      refine z_bq rfl ?_
      refine z_bq (cgR hA (r := 1) (ci := 1) (V := (U.1, U.2, N)) (q := some (aad A 14)) rfl rfl rfl) ?_
      refine z_bq rfl ?_
      refine z_zifq (ccl hA (r := 14) (ci := 19) (V := (U.1, U.2, N)) rfl rfl) ?_
      obtain ⟨i6, q_i6, h⟩ := z_bd h
      have hi_i6 := (vix_inv q_i6).2.1
      refine z_b2q (cget hA (j := 3) (V := (U.1, U.2, N)) (by decide) (by decide) q_i6) ?_
      refine z_zifq (cckC hA (r := (100 * 3 + i6)) (ci := 10) (V := (U.1, U.2, N)) (cE3_ hA hi_i6) rfl) ?_
      refine z_bq rfl ?_
      refine z_bq (cgI hA (r := (100 * 3 + i6)) (ci := 10) (V := (U.1, U.2, N)) (cE3_ hA hi_i6) rfl rfl) ?_
      refine z_zlq h (fun x7 h => ?_)
      refine z_bq (cgR hA (r := 0) (ci := 0) (V := (U.1, U.2, N)) (q := some (aad A 1)) rfl rfl rfl) ?_
      refine z_bq rfl ?_
      refine z_bq (cgR hA (r := 1) (ci := 1) (V := (U.1, U.2, N)) (q := some (aad A 14)) rfl rfl rfl) ?_
      refine z_bq rfl ?_
      refine z_zifq (ccl hA (r := 14) (ci := 19) (V := (U.1, U.2, N)) rfl rfl) ?_
      obtain ⟨i8, q_i8, h⟩ := z_bd h
      have hi_i8 := (vix_inv q_i8).2.1
      refine z_b2q (cget hA (j := 3) (V := (U.1, U.2, N)) (by decide) (by decide) q_i8) ?_
      refine z_zifq (cckC hA (r := (100 * 3 + i8)) (ci := 10) (V := (U.1, U.2, N)) (cE3_ hA hi_i8) rfl) ?_
      refine z_bq rfl ?_
      refine z_bq (cgI hA (r := (100 * 3 + i8)) (ci := 10) (V := (U.1, U.2, N)) (cE3_ hA hi_i8) rfl rfl) ?_
      refine z_zlq h (fun x9 h => ?_)
      exact e_X1_bestDeal_107 hA hrec7 hrec33 h
    · exact e_X1_bestDeal_107 hA hrec7 hrec33 h

theorem e_X1_bestDeal_33 {σ : zS} {A : cA} {N : Nat → Nat} (hA : cOKN σ A N) {Rt : Int32 × cU} {v1 : Int32} {v2 : Int32} {v3 : Int32} {v4 : Int32} {rec7 : Int32 → Int32 → Int32 → cU → Option (Int32 × cU)} {frec7 : Int32 → Int32 → Int32 → zS → Option (Int32 × zS)} (hrec7 : ∀ (v2 : Int32) (v3 : Int32) (v4 : Int32) (U : cU), rec7 v2 v3 v4 U = some Rt → frec7 v2 v3 v4 (pU σ A N U) = some (Rt.1, (pU σ A N Rt.2))) {v5 : Int32} {v6 : Int32} {v7 : Int32} {U : cU} (h : h_X1_bestDeal_33 N rec7 v1 v2 v3 v4 v5 v6 v7 U = some Rt) : f_X1_bestDeal_33 (aad A 0) frec7 v1 v2 v3 v4 v5 v6 v7 (pU σ A N U) = some (Rt.1, (pU σ A N Rt.2)) := by
  unfold h_X1_bestDeal_33 at h
  unfold f_X1_bestDeal_33
  generalize NN = n9 at h ⊢
  exact zlp3_rel (F := f_X1_bestDeal_33_b (aad A 0) frec7 v1 v2 v3 v4) (G := h_X1_bestDeal_33_b N rec7 v1 v2 v3 v4) (R := Rt) (R' := (Rt.1, (pU σ A N Rt.2))) (fun v => v) (fun v => v) (fun v => v) (pU σ A N) (fun rf rg hr v5 v6 v7 t h => e_X1_bestDeal_33_b hA hrec7 (frec33 := rf) hr h) n9 v5 v6 v7 U h
def h_X1_bestDeal_7_b (N : Nat → Nat) (v1 : Int32) (rec7 : Int32 → Int32 → Int32 → cU → Option (Int32 × cU)) (v2 : Int32) (v3 : Int32) (v4 : Int32) (U : cU) : Option (Int32 × cU) :=
  if (1 <<< ((Int32.ofNat (N 3)) &&& 31)) ≤ v4 then
    some (v2, U)
  else
    h_X1_bestDeal_33 N rec7 v1 v2 v3 v4 0 0 0 U

def h_X1_bestDeal_7 (N : Nat → Nat) (v1 : Int32) : Int32 → Int32 → Int32 → cU → Option (Int32 × cU) := zlp3 (h_X1_bestDeal_7_b N v1) NN
set_option maxHeartbeats 4000000 in
theorem e_X1_bestDeal_7_b {σ : zS} {A : cA} {N : Nat → Nat} (hA : cOKN σ A N) {Rt : Int32 × cU} {v1 : Int32} {rec7 : Int32 → Int32 → Int32 → cU → Option (Int32 × cU)} {frec7 : Int32 → Int32 → Int32 → zS → Option (Int32 × zS)} (hrec7 : ∀ (v2 : Int32) (v3 : Int32) (v4 : Int32) (U : cU), rec7 v2 v3 v4 U = some Rt → frec7 v2 v3 v4 (pU σ A N U) = some (Rt.1, (pU σ A N Rt.2))) {v2 : Int32} {v3 : Int32} {v4 : Int32} {U : cU} (h : h_X1_bestDeal_7_b N v1 rec7 v2 v3 v4 U = some Rt) : f_X1_bestDeal_7_b (aad A 0) v1 frec7 v2 v3 v4 (pU σ A N U) = some (Rt.1, (pU σ A N Rt.2)) := by
  unfold h_X1_bestDeal_7_b at h
  unfold f_X1_bestDeal_7_b
  refine z_bq (cgR hA (r := 0) (ci := 0) (V := (U.1, U.2, N)) (q := some (aad A 1)) rfl rfl rfl) ?_
  refine z_bq rfl ?_
  refine z_bq (cgR hA (r := 1) (ci := 1) (V := (U.1, U.2, N)) (q := some (aad A 14)) rfl rfl rfl) ?_
  refine z_bq rfl ?_
  refine z_zifq (ccl hA (r := 14) (ci := 19) (V := (U.1, U.2, N)) rfl rfl) ?_
  refine z_b2q (csize hA (j := 3) (V := (U.1, U.2, N)) (by decide) (by decide)) ?_
  refine z_ifq h (fun h => ?_) (fun h => ?_)
  · obtain rfl := Option.some.inj h
    rfl
  · exact e_X1_bestDeal_33 hA hrec7 h

theorem e_X1_bestDeal_7 {σ : zS} {A : cA} {N : Nat → Nat} (hA : cOKN σ A N) {Rt : Int32 × cU} {v1 : Int32} {v2 : Int32} {v3 : Int32} {v4 : Int32} {U : cU} (h : h_X1_bestDeal_7 N v1 v2 v3 v4 U = some Rt) : f_X1_bestDeal_7 (aad A 0) v1 v2 v3 v4 (pU σ A N U) = some (Rt.1, (pU σ A N Rt.2)) := by
  unfold h_X1_bestDeal_7 at h
  unfold f_X1_bestDeal_7
  generalize NN = n9 at h ⊢
  exact zlp3_rel (F := f_X1_bestDeal_7_b (aad A 0) v1) (G := h_X1_bestDeal_7_b N v1) (R := Rt) (R' := (Rt.1, (pU σ A N Rt.2))) (fun v => v) (fun v => v) (fun v => v) (pU σ A N) (fun rf rg hr v2 v3 v4 t h => e_X1_bestDeal_7_b hA (frec7 := rf) hr h) n9 v2 v3 v4 U h
def h_X1_bestDeal (N : Nat → Nat) (p1 : Int32) (U : cU) : Option (Int32 × cU) :=
  h_X1_bestDeal_7 N p1 (-1) 0 0 U

set_option maxHeartbeats 4000000 in
theorem e_X1_bestDeal {σ : zS} {A : cA} {N : Nat → Nat} (hA : cOKN σ A N) {p1 : Int32} {U : cU} {Rt : Int32 × cU} (h : h_X1_bestDeal N p1 U = some Rt) : f_X1_bestDeal (aad A 0) p1 (pU σ A N U) = some (Rt.1, (pU σ A N Rt.2)) := by
  unfold h_X1_bestDeal at h
  unfold f_X1_bestDeal
  exact e_X1_bestDeal_7 hA h

def h_X1_priceOf_4_b (N : Nat → Nat) (v1 : Int32) (rec4 : Int32 → Int32 → cU → Option (Int32 × cU)) (v2 : Int32) (v3 : Int32) (U : cU) : Option (Int32 × cU) :=
  if (Int32.ofNat (N 3)) ≤ v3 then
    some (v2, U)
  else
    (vix (N 3) v3).bind fun i1 =>
    zl (v2 + (((v1 >>> (v3 &&& 31)) &&& 1) * (U.2 3 (2 * i1 + 1)))) fun x2 =>
    zl (v3 + 1) fun x3 =>
    rec4 x2 x3 U

def h_X1_priceOf_4 (N : Nat → Nat) (v1 : Int32) : Int32 → Int32 → cU → Option (Int32 × cU) := zlp2 (h_X1_priceOf_4_b N v1) NN
set_option maxHeartbeats 4000000 in
theorem e_X1_priceOf_4_b {σ : zS} {A : cA} {N : Nat → Nat} (hA : cOKN σ A N) {Rt : Int32 × cU} {v1 : Int32} {rec4 : Int32 → Int32 → cU → Option (Int32 × cU)} {frec4 : Int32 → Int32 → zS → Option (Int32 × zS)} (hrec4 : ∀ (v2 : Int32) (v3 : Int32) (U : cU), rec4 v2 v3 U = some Rt → frec4 v2 v3 (pU σ A N U) = some (Rt.1, (pU σ A N Rt.2))) {v2 : Int32} {v3 : Int32} {U : cU} (h : h_X1_priceOf_4_b N v1 rec4 v2 v3 U = some Rt) : f_X1_priceOf_4_b (aad A 0) v1 frec4 v2 v3 (pU σ A N U) = some (Rt.1, (pU σ A N Rt.2)) := by
  unfold h_X1_priceOf_4_b at h
  unfold f_X1_priceOf_4_b
  refine z_bq (cgR hA (r := 0) (ci := 0) (V := (U.1, U.2, N)) (q := some (aad A 1)) rfl rfl rfl) ?_
  refine z_bq rfl ?_
  refine z_bq (cgR hA (r := 1) (ci := 1) (V := (U.1, U.2, N)) (q := some (aad A 14)) rfl rfl rfl) ?_
  refine z_bq rfl ?_
  refine z_zifq (ccl hA (r := 14) (ci := 19) (V := (U.1, U.2, N)) rfl rfl) ?_
  refine z_b2q (csize hA (j := 3) (V := (U.1, U.2, N)) (by decide) (by decide)) ?_
  refine z_ifq h (fun h => ?_) (fun h => ?_)
  · obtain rfl := Option.some.inj h
    rfl
  · refine z_bq (cgR hA (r := 0) (ci := 0) (V := (U.1, U.2, N)) (q := some (aad A 1)) rfl rfl rfl) ?_
    refine z_bq rfl ?_
    refine z_bq (cgR hA (r := 1) (ci := 1) (V := (U.1, U.2, N)) (q := some (aad A 14)) rfl rfl rfl) ?_
    refine z_bq rfl ?_
    refine z_zifq (ccl hA (r := 14) (ci := 19) (V := (U.1, U.2, N)) rfl rfl) ?_
    obtain ⟨i1, q_i1, h⟩ := z_bd h
    have hi_i1 := (vix_inv q_i1).2.1
    refine z_b2q (cget hA (j := 3) (V := (U.1, U.2, N)) (by decide) (by decide) q_i1) ?_
    refine z_zifq (cckC hA (r := (100 * 3 + i1)) (ci := 10) (V := (U.1, U.2, N)) (cE3_ hA hi_i1) rfl) ?_
    refine z_bq rfl ?_
    refine z_bq (cgI hA (r := (100 * 3 + i1)) (ci := 10) (V := (U.1, U.2, N)) (cE3_ hA hi_i1) rfl rfl) ?_
    refine z_zlq h (fun x2 h => ?_)
    refine z_zlq h (fun x3 h => ?_)
    exact hrec4 _ _ _ h

theorem e_X1_priceOf_4 {σ : zS} {A : cA} {N : Nat → Nat} (hA : cOKN σ A N) {Rt : Int32 × cU} {v1 : Int32} {v2 : Int32} {v3 : Int32} {U : cU} (h : h_X1_priceOf_4 N v1 v2 v3 U = some Rt) : f_X1_priceOf_4 (aad A 0) v1 v2 v3 (pU σ A N U) = some (Rt.1, (pU σ A N Rt.2)) := by
  unfold h_X1_priceOf_4 at h
  unfold f_X1_priceOf_4
  generalize NN = n9 at h ⊢
  exact zlp2_rel (F := f_X1_priceOf_4_b (aad A 0) v1) (G := h_X1_priceOf_4_b N v1) (R := Rt) (R' := (Rt.1, (pU σ A N Rt.2))) (fun v => v) (fun v => v) (pU σ A N) (fun rf rg hr v2 v3 t h => e_X1_priceOf_4_b hA (frec4 := rf) hr h) n9 v2 v3 U h
def h_X1_priceOf (N : Nat → Nat) (p1 : Int32) (U : cU) : Option (Int32 × cU) :=
  h_X1_priceOf_4 N p1 0 0 U

set_option maxHeartbeats 4000000 in
theorem e_X1_priceOf {σ : zS} {A : cA} {N : Nat → Nat} (hA : cOKN σ A N) {p1 : Int32} {U : cU} {Rt : Int32 × cU} (h : h_X1_priceOf N p1 U = some Rt) : f_X1_priceOf (aad A 0) p1 (pU σ A N U) = some (Rt.1, (pU σ A N Rt.2)) := by
  unfold h_X1_priceOf at h
  unfold f_X1_priceOf
  exact e_X1_priceOf_4 hA h

def h_X1_deal (N : Nat → Nat) (p1 : Int32) (p2 : Int32) (U : cU) : Option ((Int32 ⊕ Nat) × cU) :=
  zbt (h_X1_houseAt N p1 U) (fun k9 U9 => some (.inr k9, U9)) fun _ U2 =>
  (uL U2 0 8 p1).bind fun x3 =>
  zb2 (h_X1_bestDeal N x3 U2) fun x4 U5 =>
  if x4 = (-1) then
    some (.inl x4, U5)
  else
    if p2 = 0 then
      zb2 (h_X1_priceOf N x4 U5) fun x6 U7 =>
      some (.inl x6, U7)
    else
      some (.inl x4, U5)

set_option maxHeartbeats 4000000 in
theorem e_X1_deal {σ : zS} {A : cA} {N : Nat → Nat} (hA : cOKN σ A N) (hz : 1 ≤ zc σ ∧ 6 ≤ zz σ) {p1 : Int32} {p2 : Int32} {U : cU} {Rt : (Int32 ⊕ Nat) × cU} (h : h_X1_deal N p1 p2 U = some Rt) : f_X1_deal (aad A 0) p1 p2 (pU σ A N U) = some (Rt.1, (pU (zbx Rt.1 σ) A N Rt.2)) := by
  unfold h_X1_deal at h
  unfold f_X1_deal
  refine z_zifq (ccl hA (r := 0) (ci := 0) (V := (U.1, U.2, N)) rfl rfl) ?_
  rcases z_bt3 h with ⟨u1, U2, e9, h⟩ | ⟨k9, U9, e9, h⟩
  · refine z_bt1 (e_X1_houseAt hA hz e9) ?_
    refine z_bq (cgR hA (r := 0) (ci := 0) (V := (U2.1, U2.2, N)) (q := some (aad A 1)) rfl rfl rfl) ?_
    refine z_bq rfl ?_
    refine z_bq (cgR hA (r := 1) (ci := 1) (V := (U2.1, U2.2, N)) (q := some (aad A 5)) rfl rfl rfl) ?_
    refine z_bq rfl ?_
    obtain ⟨x3, e9, h⟩ := z_bd h
    refine z_bq (clI hA (r := 5) (t := 0) (n := 8) (V := (U2.1, U2.2, N)) rfl rfl e9) ?_
    refine z_zifq (ccl hA (r := 0) (ci := 0) (V := (U2.1, U2.2, N)) rfl rfl) ?_
    obtain ⟨x4, U5, e9, h⟩ := z_bd2 h
    refine z_b2q (e_X1_bestDeal hA e9) ?_
    refine z_ifq h (fun h => ?_) (fun h => ?_)
    · obtain rfl := Option.some.inj h
      rfl
    · refine z_ifq h (fun h => ?_) (fun h => ?_)
      · refine z_zifq (ccl hA (r := 0) (ci := 0) (V := (U5.1, U5.2, N)) rfl rfl) ?_
        obtain ⟨x6, U7, e9, h⟩ := z_bd2 h
        refine z_b2q (e_X1_priceOf hA e9) ?_
        obtain rfl := Option.some.inj h
        rfl
      · obtain rfl := Option.some.inj h
        rfl
  · refine z_bt2 (e_X1_houseAt hA hz e9) ?_
    obtain rfl := Option.some.inj h
    rfl

def h_X1_burn_110_b (N : Nat → Nat) (v2 : Int32) (v3 : Int32) (rec110 : Int32 → cU → Option ((Int32 ⊕ Nat) × cU)) (v4 : Int32) (U : cU) : Option ((Int32 ⊕ Nat) × cU) :=
  if v2 < v4 then
    some (.inl v3, U)
  else
    (vix (N 4) v4).bind fun i11 =>
    (utabZ U 4 (8 * i11 + 7) 1).bind fun U12 =>
    zl (v4 + 1) fun x13 =>
    rec110 x13 U12

def h_X1_burn_110 (N : Nat → Nat) (v2 : Int32) (v3 : Int32) : Int32 → cU → Option ((Int32 ⊕ Nat) × cU) := zlp1 (h_X1_burn_110_b N v2 v3) NN
set_option maxHeartbeats 4000000 in
theorem e_X1_burn_110_b {σ : zS} {A : cA} {N : Nat → Nat} (hA : cOKN σ A N) (hz : 1 ≤ zc σ ∧ 6 ≤ zz σ) {Rt : (Int32 ⊕ Nat) × cU} {v2 : Int32} {v3 : Int32} {rec110 : Int32 → cU → Option ((Int32 ⊕ Nat) × cU)} {frec110 : Int32 → zS → Option ((Int32 ⊕ Nat) × zS)} (hrec110 : ∀ (v4 : Int32) (U : cU), rec110 v4 U = some Rt → frec110 v4 (pU σ A N U) = some (Rt.1, (pU (zbx Rt.1 σ) A N Rt.2))) {v4 : Int32} {U : cU} (h : h_X1_burn_110_b N v2 v3 rec110 v4 U = some Rt) : f_X1_burn_110_b (aad A 0) v2 v3 frec110 v4 (pU σ A N U) = some (Rt.1, (pU (zbx Rt.1 σ) A N Rt.2)) := by
  unfold h_X1_burn_110_b at h
  unfold f_X1_burn_110_b
  refine z_ifq h (fun h => ?_) (fun h => ?_)
  · obtain rfl := Option.some.inj h
    rfl
  · refine z_bq (cgR hA (r := 0) (ci := 0) (V := (U.1, U.2, N)) (q := some (aad A 1)) rfl rfl rfl) ?_
    refine z_bq rfl ?_
    refine z_bq (cgR hA (r := 1) (ci := 1) (V := (U.1, U.2, N)) (q := some (aad A 15)) rfl rfl rfl) ?_
    refine z_bq rfl ?_
    refine z_zifq (ccl hA (r := 15) (ci := 19) (V := (U.1, U.2, N)) rfl rfl) ?_
    obtain ⟨i11, q_i11, h⟩ := z_bd h
    have hi_i11 := (vix_inv q_i11).2.1
    refine z_b2q (cget hA (j := 4) (V := (U.1, U.2, N)) (by decide) (by decide) q_i11) ?_
    refine z_zifq (cckC hA (r := (100 * 4 + i11)) (ci := 8) (V := (U.1, U.2, N)) (cE4_ hA hi_i11) rfl) ?_
    refine z_bq rfl ?_
    refine z_putZq (U1 := utab U 4 (8 * i11 + 7) 1) (fun hx => cpE4_7 hA hi_i11 hx) h (fun U12 h => ?_)
    refine z_zlq h (fun x13 h => ?_)
    exact hrec110 _ _ h

theorem e_X1_burn_110 {σ : zS} {A : cA} {N : Nat → Nat} (hA : cOKN σ A N) (hz : 1 ≤ zc σ ∧ 6 ≤ zz σ) {Rt : (Int32 ⊕ Nat) × cU} {v2 : Int32} {v3 : Int32} {v4 : Int32} {U : cU} (h : h_X1_burn_110 N v2 v3 v4 U = some Rt) : f_X1_burn_110 (aad A 0) v2 v3 v4 (pU σ A N U) = some (Rt.1, (pU (zbx Rt.1 σ) A N Rt.2)) := by
  unfold h_X1_burn_110 at h
  unfold f_X1_burn_110
  generalize NN = n9 at h ⊢
  exact zlp1_rel (F := f_X1_burn_110_b (aad A 0) v2 v3) (G := h_X1_burn_110_b N v2 v3) (R := Rt) (R' := (Rt.1, (pU (zbx Rt.1 σ) A N Rt.2))) (fun v => v) (pU σ A N) (fun rf rg hr v4 t h => e_X1_burn_110_b hA hz (frec110 := rf) hr h) n9 v4 U h
def h_X1_burn_104 (N : Nat → Nat) (v1 : Int32) (v2 : Int32) (v3 : Int32) (t0 : Int32) (U : cU) : Option ((Int32 ⊕ Nat) × cU) :=
  zbt (h_X1_can N t0 U) (fun k9 U9 => some (.inr k9, U9)) fun _ U10 =>
  h_X1_burn_110 N v2 v3 v1 U10

set_option maxHeartbeats 4000000 in
theorem e_X1_burn_104 {σ : zS} {A : cA} {N : Nat → Nat} (hA : cOKN σ A N) (hz : 1 ≤ zc σ ∧ 6 ≤ zz σ) {Rt : (Int32 ⊕ Nat) × cU} {v1 : Int32} {v2 : Int32} {v3 : Int32} {t0 : Int32} {U : cU} (h : h_X1_burn_104 N v1 v2 v3 t0 U = some Rt) : f_X1_burn_104 (aad A 0) v1 v2 v3 t0 (pU σ A N U) = some (Rt.1, (pU (zbx Rt.1 σ) A N Rt.2)) := by
  unfold h_X1_burn_104 at h
  unfold f_X1_burn_104
  rcases z_bt3 h with ⟨u9, U10, e9, h⟩ | ⟨k9, U9, e9, h⟩
  · refine z_bt1 (e_X1_can hA hz e9) ?_
    exact e_X1_burn_110 hA hz h
  · refine z_bt2 (e_X1_can hA hz e9) ?_
    obtain rfl := Option.some.inj h
    rfl

def h_X1_burn_85 (N : Nat → Nat) (rec52 : Int32 → Int32 → cU → Option ((Int32 ⊕ Nat) × cU)) (v1 : Int32) (v2 : Int32) (v4 : Int32) (t0 : Int32) (t1 : Int32) (U : cU) : Option ((Int32 ⊕ Nat) × cU) :=
  zl (t0 + t1) fun x15 =>
  zl (v4 + 1) fun x16 =>
  rec52 x15 x16 U

set_option maxHeartbeats 4000000 in
theorem e_X1_burn_85 {σ : zS} {A : cA} {N : Nat → Nat} (hA : cOKN σ A N) (hz : 1 ≤ zc σ ∧ 6 ≤ zz σ) {Rt : (Int32 ⊕ Nat) × cU} {v1 : Int32} {v2 : Int32} {v4 : Int32} {t0 : Int32} {t1 : Int32} {rec52 : Int32 → Int32 → cU → Option ((Int32 ⊕ Nat) × cU)} {frec52 : Int32 → Int32 → zS → Option ((Int32 ⊕ Nat) × zS)} (hrec52 : ∀ (v3 : Int32) (v4 : Int32) (U : cU), rec52 v3 v4 U = some Rt → frec52 v3 v4 (pU σ A N U) = some (Rt.1, (pU (zbx Rt.1 σ) A N Rt.2))) {U : cU} (h : h_X1_burn_85 N rec52 v1 v2 v4 t0 t1 U = some Rt) : f_X1_burn_85 (aad A 0) frec52 v1 v2 v4 t0 t1 (pU σ A N U) = some (Rt.1, (pU (zbx Rt.1 σ) A N Rt.2)) := by
  unfold h_X1_burn_85 at h
  unfold f_X1_burn_85
  refine z_zlq h (fun x15 h => ?_)
  refine z_zlq h (fun x16 h => ?_)
  exact hrec52 _ _ _ h

def h_X1_burn_52_b (N : Nat → Nat) (v1 : Int32) (v2 : Int32) (rec52 : Int32 → Int32 → cU → Option ((Int32 ⊕ Nat) × cU)) (v3 : Int32) (v4 : Int32) (U : cU) : Option ((Int32 ⊕ Nat) × cU) :=
  if v2 < v4 then
    if 16 < v3 then
      h_X1_burn_104 N v1 v2 v3 0 U
    else
      h_X1_burn_104 N v1 v2 v3 1 U
  else
    (vix (N 4) v4).bind fun i14 =>
    if (U.2 4 (8 * i14 + 7)) = 0 then
      h_X1_burn_85 N rec52 v1 v2 v4 v3 1 U
    else
      h_X1_burn_85 N rec52 v1 v2 v4 v3 0 U

def h_X1_burn_52 (N : Nat → Nat) (v1 : Int32) (v2 : Int32) : Int32 → Int32 → cU → Option ((Int32 ⊕ Nat) × cU) := zlp2 (h_X1_burn_52_b N v1 v2) NN
set_option maxHeartbeats 4000000 in
theorem e_X1_burn_52_b {σ : zS} {A : cA} {N : Nat → Nat} (hA : cOKN σ A N) (hz : 1 ≤ zc σ ∧ 6 ≤ zz σ) {Rt : (Int32 ⊕ Nat) × cU} {v1 : Int32} {v2 : Int32} {rec52 : Int32 → Int32 → cU → Option ((Int32 ⊕ Nat) × cU)} {frec52 : Int32 → Int32 → zS → Option ((Int32 ⊕ Nat) × zS)} (hrec52 : ∀ (v3 : Int32) (v4 : Int32) (U : cU), rec52 v3 v4 U = some Rt → frec52 v3 v4 (pU σ A N U) = some (Rt.1, (pU (zbx Rt.1 σ) A N Rt.2))) {v3 : Int32} {v4 : Int32} {U : cU} (h : h_X1_burn_52_b N v1 v2 rec52 v3 v4 U = some Rt) : f_X1_burn_52_b (aad A 0) v1 v2 frec52 v3 v4 (pU σ A N U) = some (Rt.1, (pU (zbx Rt.1 σ) A N Rt.2)) := by
  unfold h_X1_burn_52_b at h
  unfold f_X1_burn_52_b
  refine z_ifq h (fun h => ?_) (fun h => ?_)
  · refine z_ifq h (fun h => ?_) (fun h => ?_)
    · exact e_X1_burn_104 hA hz h
    · exact e_X1_burn_104 hA hz h
  · refine z_bq (cgR hA (r := 0) (ci := 0) (V := (U.1, U.2, N)) (q := some (aad A 1)) rfl rfl rfl) ?_
    refine z_bq rfl ?_
    refine z_bq (cgR hA (r := 1) (ci := 1) (V := (U.1, U.2, N)) (q := some (aad A 15)) rfl rfl rfl) ?_
    refine z_bq rfl ?_
    refine z_zifq (ccl hA (r := 15) (ci := 19) (V := (U.1, U.2, N)) rfl rfl) ?_
    obtain ⟨i14, q_i14, h⟩ := z_bd h
    have hi_i14 := (vix_inv q_i14).2.1
    refine z_b2q (cget hA (j := 4) (V := (U.1, U.2, N)) (by decide) (by decide) q_i14) ?_
    refine z_zifq (cckC hA (r := (100 * 4 + i14)) (ci := 8) (V := (U.1, U.2, N)) (cE4_ hA hi_i14) rfl) ?_
    refine z_bq rfl ?_
    refine z_bq (cgI hA (r := (100 * 4 + i14)) (ci := 8) (V := (U.1, U.2, N)) (cE4_ hA hi_i14) rfl rfl) ?_
    refine z_ifq h (fun h => ?_) (fun h => ?_)
    · exact e_X1_burn_85 hA hz hrec52 h
    · exact e_X1_burn_85 hA hz hrec52 h

theorem e_X1_burn_52 {σ : zS} {A : cA} {N : Nat → Nat} (hA : cOKN σ A N) (hz : 1 ≤ zc σ ∧ 6 ≤ zz σ) {Rt : (Int32 ⊕ Nat) × cU} {v1 : Int32} {v2 : Int32} {v3 : Int32} {v4 : Int32} {U : cU} (h : h_X1_burn_52 N v1 v2 v3 v4 U = some Rt) : f_X1_burn_52 (aad A 0) v1 v2 v3 v4 (pU σ A N U) = some (Rt.1, (pU (zbx Rt.1 σ) A N Rt.2)) := by
  unfold h_X1_burn_52 at h
  unfold f_X1_burn_52
  generalize NN = n9 at h ⊢
  exact zlp2_rel (F := f_X1_burn_52_b (aad A 0) v1 v2) (G := h_X1_burn_52_b N v1 v2) (R := Rt) (R' := (Rt.1, (pU (zbx Rt.1 σ) A N Rt.2))) (fun v => v) (fun v => v) (pU σ A N) (fun rf rg hr v3 v4 t h => e_X1_burn_52_b hA hz (frec52 := rf) hr h) n9 v3 v4 U h
def h_X1_burn_38 (N : Nat → Nat) (v1 : Int32) (v2 : Int32) (t0 : Int32) (U : cU) : Option ((Int32 ⊕ Nat) × cU) :=
  zbt (h_X1_demand N t0 U) (fun k9 U9 => some (.inr k9, U9)) fun _ U6 =>
  zb2 (h_X2_burnt N U6) fun x7 U8 =>
  h_X1_burn_52 N v1 v2 x7 v1 U8

set_option maxHeartbeats 4000000 in
theorem e_X1_burn_38 {σ : zS} {A : cA} {N : Nat → Nat} (hA : cOKN σ A N) (hz : 1 ≤ zc σ ∧ 6 ≤ zz σ) {Rt : (Int32 ⊕ Nat) × cU} {v1 : Int32} {v2 : Int32} {t0 : Int32} {U : cU} (h : h_X1_burn_38 N v1 v2 t0 U = some Rt) : f_X1_burn_38 (aad A 0) v1 v2 t0 (pU σ A N U) = some (Rt.1, (pU (zbx Rt.1 σ) A N Rt.2)) := by
  unfold h_X1_burn_38 at h
  unfold f_X1_burn_38
  rcases z_bt3 h with ⟨u5, U6, e9, h⟩ | ⟨k9, U9, e9, h⟩
  · refine z_bt1 (e_X1_demand hA hz e9) ?_
    refine z_bq (cgR hA (r := 0) (ci := 0) (V := (U6.1, U6.2, N)) (q := some (aad A 1)) rfl rfl rfl) ?_
    refine z_bq rfl ?_
    refine z_zifq (ccl hA (r := 1) (ci := 1) (V := (U6.1, U6.2, N)) rfl rfl) ?_
    obtain ⟨x7, U8, e9, h⟩ := z_bd2 h
    refine z_b2q (e_X2_burnt hA e9) ?_
    exact e_X1_burn_52 hA hz h
  · refine z_bt2 (e_X1_demand hA hz e9) ?_
    obtain rfl := Option.some.inj h
    rfl

def h_X1_burn (N : Nat → Nat) (p1 : Int32) (p2 : Int32) (U : cU) : Option ((Int32 ⊕ Nat) × cU) :=
  zbt (h_X1_there N p1 (Int32.ofNat (N 4)) U) (fun k9 U9 => some (.inr k9, U9)) fun _ U2 =>
  zbt (h_X1_there N p2 (Int32.ofNat (N 4)) U2) (fun k9 U9 => some (.inr k9, U9)) fun _ U4 =>
  if p2 < p1 then
    h_X1_burn_38 N p1 p2 0 U4
  else
    h_X1_burn_38 N p1 p2 1 U4

set_option maxHeartbeats 4000000 in
theorem e_X1_burn {σ : zS} {A : cA} {N : Nat → Nat} (hA : cOKN σ A N) (hz : 1 ≤ zc σ ∧ 6 ≤ zz σ) {p1 : Int32} {p2 : Int32} {U : cU} {Rt : (Int32 ⊕ Nat) × cU} (h : h_X1_burn N p1 p2 U = some Rt) : f_X1_burn (aad A 0) p1 p2 (pU σ A N U) = some (Rt.1, (pU (zbx Rt.1 σ) A N Rt.2)) := by
  unfold h_X1_burn at h
  unfold f_X1_burn
  refine z_bq (cgR hA (r := 0) (ci := 0) (V := (U.1, U.2, N)) (q := some (aad A 1)) rfl rfl rfl) ?_
  refine z_bq rfl ?_
  refine z_bq (cgR hA (r := 1) (ci := 1) (V := (U.1, U.2, N)) (q := some (aad A 15)) rfl rfl rfl) ?_
  refine z_bq rfl ?_
  refine z_zifq (ccl hA (r := 15) (ci := 19) (V := (U.1, U.2, N)) rfl rfl) ?_
  refine z_b2q (csize hA (j := 4) (V := (U.1, U.2, N)) (by decide) (by decide)) ?_
  rcases z_bt3 h with ⟨u1, U2, e9, h⟩ | ⟨k9, U9, e9, h⟩
  · refine z_bt1 (e_X1_there hA hz e9) ?_
    refine z_bq (cgR hA (r := 0) (ci := 0) (V := (U2.1, U2.2, N)) (q := some (aad A 1)) rfl rfl rfl) ?_
    refine z_bq rfl ?_
    refine z_bq (cgR hA (r := 1) (ci := 1) (V := (U2.1, U2.2, N)) (q := some (aad A 15)) rfl rfl rfl) ?_
    refine z_bq rfl ?_
    refine z_zifq (ccl hA (r := 15) (ci := 19) (V := (U2.1, U2.2, N)) rfl rfl) ?_
    refine z_b2q (csize hA (j := 4) (V := (U2.1, U2.2, N)) (by decide) (by decide)) ?_
    rcases z_bt3 h with ⟨u3, U4, e9, h⟩ | ⟨k9, U9, e9, h⟩
    · refine z_bt1 (e_X1_there hA hz e9) ?_
      refine z_ifq h (fun h => ?_) (fun h => ?_)
      · exact e_X1_burn_38 hA hz h
      · exact e_X1_burn_38 hA hz h
    · refine z_bt2 (e_X1_there hA hz e9) ?_
      obtain rfl := Option.some.inj h
      rfl
  · refine z_bt2 (e_X1_there hA hz e9) ?_
    obtain rfl := Option.some.inj h
    rfl

def h_X1_sifts_110 (N : Nat → Nat) (rec7 : Int32 → cU → Option (Unit × cU)) (v1 : Int32) (U : cU) : Option (Unit × cU) :=
  zl (v1 + 1) fun x5 =>
  rec7 x5 U

set_option maxHeartbeats 4000000 in
theorem e_X1_sifts_110 {σ : zS} {A : cA} {N : Nat → Nat} (hA : cOKN σ A N) {Rt : Unit × cU} {v1 : Int32} {rec7 : Int32 → cU → Option (Unit × cU)} {frec7 : Int32 → zS → Option (Unit × zS)} (hrec7 : ∀ (v1 : Int32) (U : cU), rec7 v1 U = some Rt → frec7 v1 (pU σ A N U) = some (Rt.1, (pU σ A N Rt.2))) {U : cU} (h : h_X1_sifts_110 N rec7 v1 U = some Rt) : f_X1_sifts_110 (aad A 0) frec7 v1 (pU σ A N U) = some (Rt.1, (pU σ A N Rt.2)) := by
  unfold h_X1_sifts_110 at h
  unfold f_X1_sifts_110
  refine z_zlq h (fun x5 h => ?_)
  exact hrec7 _ _ h

def h_X1_sifts_90 (N : Nat → Nat) (rec7 : Int32 → cU → Option (Unit × cU)) (v1 : Int32) (v2 : Nat) (v3 : Int32) (U : cU) : Option (Unit × cU) :=
  (uSt U 5 16 v3 (U.2 4 (8 * v2 + 5))).bind fun U3 =>
  zl (uset U3 7 ((U3.1 7) + 1)) fun U4 =>
  h_X1_sifts_110 N rec7 v1 U4

set_option maxHeartbeats 4000000 in
theorem e_X1_sifts_90 {σ : zS} {A : cA} {N : Nat → Nat} (hA : cOKN σ A N) {Rt : Unit × cU} {v1 : Int32} {v2 : Nat} (hi_v2 : v2 < N 4) {v3 : Int32} {rec7 : Int32 → cU → Option (Unit × cU)} {frec7 : Int32 → zS → Option (Unit × zS)} (hrec7 : ∀ (v1 : Int32) (U : cU), rec7 v1 U = some Rt → frec7 v1 (pU σ A N U) = some (Rt.1, (pU σ A N Rt.2))) {U : cU} (h : h_X1_sifts_90 N rec7 v1 v2 v3 U = some Rt) : f_X1_sifts_90 (aad A 0) frec7 v1 (some (aad A (100 * 4 + v2))) v3 (pU σ A N U) = some (Rt.1, (pU σ A N Rt.2)) := by
  unfold h_X1_sifts_90 at h
  unfold f_X1_sifts_90
  refine z_bq (cgR hA (r := 0) (ci := 0) (V := (U.1, U.2, N)) (q := some (aad A 6)) rfl rfl rfl) ?_
  refine z_bq rfl ?_
  refine z_bq (cgI hA (r := (100 * 4 + v2)) (ci := 8) (V := (U.1, U.2, N)) (cE4_ hA hi_v2) rfl rfl) ?_
  refine z_bq rfl ?_
  obtain ⟨U3, e9, h⟩ := z_bd h
  refine z_bq (csU5 hA e9) ?_
  refine z_bq (cgI hA (r := 0) (ci := 0) (V := (U3.1, U3.2, N)) rfl rfl rfl) ?_
  refine z_putq (cpF hA (r := 0) (ci := 0) (V := (U3.1, U3.2, N)) (V' := ((uset U3 7 ((U3.1 7) + 1)).1, (uset U3 7 ((U3.1 7) + 1)).2, N)) rfl (Nat.le_of_ble_eq_true rfl) rfl (vso_7 (V := (U3.1, U3.2, N)) (x := (U3.1 7) + 1))) h (fun U4 h => ?_)
  exact e_X1_sifts_110 hA hrec7 h

def h_X1_sifts_51_b (N : Nat → Nat) (rec7 : Int32 → cU → Option (Unit × cU)) (v1 : Int32) (v2 : Nat) (rec51 : Int32 → cU → Option (Unit × cU)) (v3 : Int32) (U : cU) : Option (Unit × cU) :=
  if v3 ≤ 0 then
    h_X1_sifts_90 N rec7 v1 v2 v3 U
  else
    (uL U 5 16 (v3 - 1)).bind fun x6 =>
    if x6 ≤ (U.2 4 (8 * v2 + 5)) then
      h_X1_sifts_90 N rec7 v1 v2 v3 U
    else
      (uL U 5 16 (v3 - 1)).bind fun x7 =>
      (uSt U 5 16 v3 x7).bind fun U8 =>
      zl (v3 + (-1)) fun x9 =>
      rec51 x9 U8

def h_X1_sifts_51 (N : Nat → Nat) (rec7 : Int32 → cU → Option (Unit × cU)) (v1 : Int32) (v2 : Nat) : Int32 → cU → Option (Unit × cU) := zlp1 (h_X1_sifts_51_b N rec7 v1 v2) NN
set_option maxHeartbeats 4000000 in
theorem e_X1_sifts_51_b {σ : zS} {A : cA} {N : Nat → Nat} (hA : cOKN σ A N) {Rt : Unit × cU} {v1 : Int32} {v2 : Nat} (hi_v2 : v2 < N 4) {rec7 : Int32 → cU → Option (Unit × cU)} {frec7 : Int32 → zS → Option (Unit × zS)} (hrec7 : ∀ (v1 : Int32) (U : cU), rec7 v1 U = some Rt → frec7 v1 (pU σ A N U) = some (Rt.1, (pU σ A N Rt.2))) {rec51 : Int32 → cU → Option (Unit × cU)} {frec51 : Int32 → zS → Option (Unit × zS)} (hrec51 : ∀ (v3 : Int32) (U : cU), rec51 v3 U = some Rt → frec51 v3 (pU σ A N U) = some (Rt.1, (pU σ A N Rt.2))) {v3 : Int32} {U : cU} (h : h_X1_sifts_51_b N rec7 v1 v2 rec51 v3 U = some Rt) : f_X1_sifts_51_b (aad A 0) frec7 v1 (some (aad A (100 * 4 + v2))) frec51 v3 (pU σ A N U) = some (Rt.1, (pU σ A N Rt.2)) := by
  unfold h_X1_sifts_51_b at h
  unfold f_X1_sifts_51_b
  refine z_ifq h (fun h => ?_) (fun h => ?_)
  · exact e_X1_sifts_90 hA hi_v2 hrec7 h
  · refine z_bq (cgR hA (r := 0) (ci := 0) (V := (U.1, U.2, N)) (q := some (aad A 6)) rfl rfl rfl) ?_
    refine z_bq rfl ?_
    obtain ⟨x6, e9, h⟩ := z_bd h
    refine z_bq (clI hA (r := 6) (t := 5) (n := 16) (V := (U.1, U.2, N)) rfl rfl e9) ?_
    refine z_bq rfl ?_
    refine z_bq (cgI hA (r := (100 * 4 + v2)) (ci := 8) (V := (U.1, U.2, N)) (cE4_ hA hi_v2) rfl rfl) ?_
    refine z_ifq h (fun h => ?_) (fun h => ?_)
    · exact e_X1_sifts_90 hA hi_v2 hrec7 h
    · refine z_bq (cgR hA (r := 0) (ci := 0) (V := (U.1, U.2, N)) (q := some (aad A 6)) rfl rfl rfl) ?_
      refine z_bq (cgR hA (r := 0) (ci := 0) (V := (U.1, U.2, N)) (q := some (aad A 6)) rfl rfl rfl) ?_
      refine z_bq rfl ?_
      obtain ⟨x7, e9, h⟩ := z_bd h
      refine z_bq (clI hA (r := 6) (t := 5) (n := 16) (V := (U.1, U.2, N)) rfl rfl e9) ?_
      refine z_bq rfl ?_
      obtain ⟨U8, e9, h⟩ := z_bd h
      refine z_bq (csU5 hA e9) ?_
      refine z_zlq h (fun x9 h => ?_)
      exact hrec51 _ _ h

theorem e_X1_sifts_51 {σ : zS} {A : cA} {N : Nat → Nat} (hA : cOKN σ A N) {Rt : Unit × cU} {v1 : Int32} {v2 : Nat} (hi_v2 : v2 < N 4) {rec7 : Int32 → cU → Option (Unit × cU)} {frec7 : Int32 → zS → Option (Unit × zS)} (hrec7 : ∀ (v1 : Int32) (U : cU), rec7 v1 U = some Rt → frec7 v1 (pU σ A N U) = some (Rt.1, (pU σ A N Rt.2))) {v3 : Int32} {U : cU} (h : h_X1_sifts_51 N rec7 v1 v2 v3 U = some Rt) : f_X1_sifts_51 (aad A 0) frec7 v1 (some (aad A (100 * 4 + v2))) v3 (pU σ A N U) = some (Rt.1, (pU σ A N Rt.2)) := by
  unfold h_X1_sifts_51 at h
  unfold f_X1_sifts_51
  generalize NN = n9 at h ⊢
  exact zlp1_rel (F := f_X1_sifts_51_b (aad A 0) frec7 v1 (some (aad A (100 * 4 + v2)))) (G := h_X1_sifts_51_b N rec7 v1 v2) (R := Rt) (R' := (Rt.1, (pU σ A N Rt.2))) (fun v => v) (pU σ A N) (fun rf rg hr v3 t h => e_X1_sifts_51_b hA hi_v2 hrec7 (frec51 := rf) hr h) n9 v3 U h
def h_X1_sifts_7_b (N : Nat → Nat) (rec7 : Int32 → cU → Option (Unit × cU)) (v1 : Int32) (U : cU) : Option (Unit × cU) :=
  if (Int32.ofNat (N 4)) ≤ v1 then
    some ((), U)
  else
    (vix (N 4) v1).bind fun i2 =>
    if ¬ (U.2 4 (8 * i2 + 7)) = 0 then
      h_X1_sifts_51 N rec7 v1 i2 (U.1 7) U
    else
      h_X1_sifts_110 N rec7 v1 U

def h_X1_sifts_7 (N : Nat → Nat) : Int32 → cU → Option (Unit × cU) := zlp1 (h_X1_sifts_7_b N) NN
set_option maxHeartbeats 4000000 in
theorem e_X1_sifts_7_b {σ : zS} {A : cA} {N : Nat → Nat} (hA : cOKN σ A N) {Rt : Unit × cU} {rec7 : Int32 → cU → Option (Unit × cU)} {frec7 : Int32 → zS → Option (Unit × zS)} (hrec7 : ∀ (v1 : Int32) (U : cU), rec7 v1 U = some Rt → frec7 v1 (pU σ A N U) = some (Rt.1, (pU σ A N Rt.2))) {v1 : Int32} {U : cU} (h : h_X1_sifts_7_b N rec7 v1 U = some Rt) : f_X1_sifts_7_b (aad A 0) frec7 v1 (pU σ A N U) = some (Rt.1, (pU σ A N Rt.2)) := by
  unfold h_X1_sifts_7_b at h
  unfold f_X1_sifts_7_b
  refine z_bq (cgR hA (r := 0) (ci := 0) (V := (U.1, U.2, N)) (q := some (aad A 1)) rfl rfl rfl) ?_
  refine z_bq rfl ?_
  refine z_bq (cgR hA (r := 1) (ci := 1) (V := (U.1, U.2, N)) (q := some (aad A 15)) rfl rfl rfl) ?_
  refine z_bq rfl ?_
  refine z_zifq (ccl hA (r := 15) (ci := 19) (V := (U.1, U.2, N)) rfl rfl) ?_
  refine z_b2q (csize hA (j := 4) (V := (U.1, U.2, N)) (by decide) (by decide)) ?_
  refine z_ifq h (fun h => ?_) (fun h => ?_)
  · obtain rfl := Option.some.inj h
    rfl
  · refine z_bq (cgR hA (r := 0) (ci := 0) (V := (U.1, U.2, N)) (q := some (aad A 1)) rfl rfl rfl) ?_
    refine z_bq rfl ?_
    refine z_bq (cgR hA (r := 1) (ci := 1) (V := (U.1, U.2, N)) (q := some (aad A 15)) rfl rfl rfl) ?_
    refine z_bq rfl ?_
    refine z_zifq (ccl hA (r := 15) (ci := 19) (V := (U.1, U.2, N)) rfl rfl) ?_
    obtain ⟨i2, q_i2, h⟩ := z_bd h
    have hi_i2 := (vix_inv q_i2).2.1
    refine z_b2q (cget hA (j := 4) (V := (U.1, U.2, N)) (by decide) (by decide) q_i2) ?_
    refine z_zifq (cckC hA (r := (100 * 4 + i2)) (ci := 8) (V := (U.1, U.2, N)) (cE4_ hA hi_i2) rfl) ?_
    refine z_bq rfl ?_
    refine z_bq (cgI hA (r := (100 * 4 + i2)) (ci := 8) (V := (U.1, U.2, N)) (cE4_ hA hi_i2) rfl rfl) ?_
    refine z_ifq h (fun h => ?_) (fun h => ?_)
    · refine z_bq (cgI hA (r := 0) (ci := 0) (V := (U.1, U.2, N)) rfl rfl rfl) ?_
      exact e_X1_sifts_51 hA hi_i2 hrec7 h
    · exact e_X1_sifts_110 hA hrec7 h

theorem e_X1_sifts_7 {σ : zS} {A : cA} {N : Nat → Nat} (hA : cOKN σ A N) {Rt : Unit × cU} {v1 : Int32} {U : cU} (h : h_X1_sifts_7 N v1 U = some Rt) : f_X1_sifts_7 (aad A 0) v1 (pU σ A N U) = some (Rt.1, (pU σ A N Rt.2)) := by
  unfold h_X1_sifts_7 at h
  unfold f_X1_sifts_7
  generalize NN = n9 at h ⊢
  exact zlp1_rel (F := f_X1_sifts_7_b (aad A 0)) (G := h_X1_sifts_7_b N) (R := Rt) (R' := (Rt.1, (pU σ A N Rt.2))) (fun v => v) (pU σ A N) (fun rf rg hr v1 t h => e_X1_sifts_7_b hA (frec7 := rf) hr h) n9 v1 U h
def h_X1_sifts (N : Nat → Nat) (U : cU) : Option (Unit × cU) :=
  zl (uset U 7 0) fun U1 =>
  h_X1_sifts_7 N 0 U1

set_option maxHeartbeats 4000000 in
theorem e_X1_sifts {σ : zS} {A : cA} {N : Nat → Nat} (hA : cOKN σ A N) {U : cU} {Rt : Unit × cU} (h : h_X1_sifts N U = some Rt) : f_X1_sifts (aad A 0) (pU σ A N U) = some (Rt.1, (pU σ A N Rt.2)) := by
  unfold h_X1_sifts at h
  unfold f_X1_sifts
  refine z_putq (cpF hA (r := 0) (ci := 0) (V := (U.1, U.2, N)) (V' := ((uset U 7 0).1, (uset U 7 0).2, N)) rfl (Nat.le_of_ble_eq_true rfl) rfl (vso_7 (V := (U.1, U.2, N)) (x := 0))) h (fun U1 h => ?_)
  exact e_X1_sifts_7 hA h

def h_X1_span_51 (N : Nat → Nat) (rec18 : Int32 → Int32 → cU → Option ((Int32 ⊕ Nat) × cU)) (v1 : Int32) (v2 : Int32) (v4 : Int32) (t0 : Int32) (t2 : Int32) (U : cU) : Option ((Int32 ⊕ Nat) × cU) :=
  (uL U 5 16 t2).bind fun x9 =>
  zl (t0 + x9) fun x10 =>
  zl (v4 + 1) fun x11 =>
  rec18 x10 x11 U

set_option maxHeartbeats 4000000 in
theorem e_X1_span_51 {σ : zS} {A : cA} {N : Nat → Nat} (hA : cOKN σ A N) (hz : 1 ≤ zc σ ∧ 6 ≤ zz σ) {Rt : (Int32 ⊕ Nat) × cU} {v1 : Int32} {v2 : Int32} {v4 : Int32} {t0 : Int32} {t2 : Int32} {rec18 : Int32 → Int32 → cU → Option ((Int32 ⊕ Nat) × cU)} {frec18 : Int32 → Int32 → zS → Option ((Int32 ⊕ Nat) × zS)} (hrec18 : ∀ (v3 : Int32) (v4 : Int32) (U : cU), rec18 v3 v4 U = some Rt → frec18 v3 v4 (pU σ A N U) = some (Rt.1, (pU (zbx Rt.1 σ) A N Rt.2))) {U : cU} (h : h_X1_span_51 N rec18 v1 v2 v4 t0 t2 U = some Rt) : f_X1_span_51 (aad A 0) frec18 v1 v2 v4 t0 (some (aad A 6)) t2 (pU σ A N U) = some (Rt.1, (pU (zbx Rt.1 σ) A N Rt.2)) := by
  unfold h_X1_span_51 at h
  unfold f_X1_span_51
  refine z_bq rfl ?_
  obtain ⟨x9, e9, h⟩ := z_bd h
  refine z_bq (clI hA (r := 6) (t := 5) (n := 16) (V := (U.1, U.2, N)) rfl rfl e9) ?_
  refine z_zlq h (fun x10 h => ?_)
  refine z_zlq h (fun x11 h => ?_)
  exact hrec18 _ _ _ h

def h_X1_span_18_b (N : Nat → Nat) (v1 : Int32) (v2 : Int32) (rec18 : Int32 → Int32 → cU → Option ((Int32 ⊕ Nat) × cU)) (v3 : Int32) (v4 : Int32) (U : cU) : Option ((Int32 ⊕ Nat) × cU) :=
  zb2 (h_X1_lost N v1 U) fun x7 U8 =>
  if x7 ≤ v4 then
    some (.inl v3, U8)
  else
    if v2 = 0 then
      h_X1_span_51 N rec18 v1 v2 v4 v3 v4 U8
    else
      h_X1_span_51 N rec18 v1 v2 v4 v3 (((U8.1 7) - 1) - v4) U8

def h_X1_span_18 (N : Nat → Nat) (v1 : Int32) (v2 : Int32) : Int32 → Int32 → cU → Option ((Int32 ⊕ Nat) × cU) := zlp2 (h_X1_span_18_b N v1 v2) NN
set_option maxHeartbeats 4000000 in
theorem e_X1_span_18_b {σ : zS} {A : cA} {N : Nat → Nat} (hA : cOKN σ A N) (hz : 1 ≤ zc σ ∧ 6 ≤ zz σ) {Rt : (Int32 ⊕ Nat) × cU} {v1 : Int32} {v2 : Int32} {rec18 : Int32 → Int32 → cU → Option ((Int32 ⊕ Nat) × cU)} {frec18 : Int32 → Int32 → zS → Option ((Int32 ⊕ Nat) × zS)} (hrec18 : ∀ (v3 : Int32) (v4 : Int32) (U : cU), rec18 v3 v4 U = some Rt → frec18 v3 v4 (pU σ A N U) = some (Rt.1, (pU (zbx Rt.1 σ) A N Rt.2))) {v3 : Int32} {v4 : Int32} {U : cU} (h : h_X1_span_18_b N v1 v2 rec18 v3 v4 U = some Rt) : f_X1_span_18_b (aad A 0) v1 v2 frec18 v3 v4 (pU σ A N U) = some (Rt.1, (pU (zbx Rt.1 σ) A N Rt.2)) := by
  unfold h_X1_span_18_b at h
  unfold f_X1_span_18_b
  refine z_zifq (ccl hA (r := 0) (ci := 0) (V := (U.1, U.2, N)) rfl rfl) ?_
  obtain ⟨x7, U8, e9, h⟩ := z_bd2 h
  refine z_b2q (e_X1_lost hA e9) ?_
  refine z_ifq h (fun h => ?_) (fun h => ?_)
  · obtain rfl := Option.some.inj h
    rfl
  · refine z_bq (cgR hA (r := 0) (ci := 0) (V := (U8.1, U8.2, N)) (q := some (aad A 6)) rfl rfl rfl) ?_
    refine z_ifq h (fun h => ?_) (fun h => ?_)
    · exact e_X1_span_51 hA hz hrec18 h
    · refine z_bq (cgI hA (r := 0) (ci := 0) (V := (U8.1, U8.2, N)) rfl rfl rfl) ?_
      exact e_X1_span_51 hA hz hrec18 h

theorem e_X1_span_18 {σ : zS} {A : cA} {N : Nat → Nat} (hA : cOKN σ A N) (hz : 1 ≤ zc σ ∧ 6 ≤ zz σ) {Rt : (Int32 ⊕ Nat) × cU} {v1 : Int32} {v2 : Int32} {v3 : Int32} {v4 : Int32} {U : cU} (h : h_X1_span_18 N v1 v2 v3 v4 U = some Rt) : f_X1_span_18 (aad A 0) v1 v2 v3 v4 (pU σ A N U) = some (Rt.1, (pU (zbx Rt.1 σ) A N Rt.2)) := by
  unfold h_X1_span_18 at h
  unfold f_X1_span_18
  generalize NN = n9 at h ⊢
  exact zlp2_rel (F := f_X1_span_18_b (aad A 0) v1 v2) (G := h_X1_span_18_b N v1 v2) (R := Rt) (R' := (Rt.1, (pU (zbx Rt.1 σ) A N Rt.2))) (fun v => v) (fun v => v) (pU σ A N) (fun rf rg hr v3 v4 t h => e_X1_span_18_b hA hz (frec18 := rf) hr h) n9 v3 v4 U h
def h_X1_span (N : Nat → Nat) (p1 : Int32) (p2 : Int32) (U : cU) : Option ((Int32 ⊕ Nat) × cU) :=
  zbt (h_X1_houseAt N p1 U) (fun k9 U9 => some (.inr k9, U9)) fun _ U2 =>
  zb2 (h_X1_sifts N U2) fun _ U4 =>
  zb2 (h_X1_known N p1 U4) fun x5 U6 =>
  h_X1_span_18 N p1 p2 x5 0 U6

set_option maxHeartbeats 4000000 in
theorem e_X1_span {σ : zS} {A : cA} {N : Nat → Nat} (hA : cOKN σ A N) (hz : 1 ≤ zc σ ∧ 6 ≤ zz σ) {p1 : Int32} {p2 : Int32} {U : cU} {Rt : (Int32 ⊕ Nat) × cU} (h : h_X1_span N p1 p2 U = some Rt) : f_X1_span (aad A 0) p1 p2 (pU σ A N U) = some (Rt.1, (pU (zbx Rt.1 σ) A N Rt.2)) := by
  unfold h_X1_span at h
  unfold f_X1_span
  refine z_zifq (ccl hA (r := 0) (ci := 0) (V := (U.1, U.2, N)) rfl rfl) ?_
  rcases z_bt3 h with ⟨u1, U2, e9, h⟩ | ⟨k9, U9, e9, h⟩
  · refine z_bt1 (e_X1_houseAt hA hz e9) ?_
    refine z_zifq (ccl hA (r := 0) (ci := 0) (V := (U2.1, U2.2, N)) rfl rfl) ?_
    obtain ⟨u3, U4, e9, h⟩ := z_bd2 h
    refine z_b2q (e_X1_sifts hA e9) ?_
    refine z_zifq (ccl hA (r := 0) (ci := 0) (V := (U4.1, U4.2, N)) rfl rfl) ?_
    obtain ⟨x5, U6, e9, h⟩ := z_bd2 h
    refine z_b2q (e_X1_known hA e9) ?_
    exact e_X1_span_18 hA hz h
  · refine z_bt2 (e_X1_houseAt hA hz e9) ?_
    obtain rfl := Option.some.inj h
    rfl

def h_X1_proof_140 (N : Nat → Nat) (rec35 : Int32 → Int32 → Int32 → cU → Option ((Int32 ⊕ Nat) × cU)) (v3 : Int32) (v4 : Int64) (v6 : Int32) (v7 : Int32) (v8 : Int32) (U : cU) : Option ((Int32 ⊕ Nat) × cU) :=
  zl (v8 + 1) fun x12 =>
  rec35 v6 v7 x12 U

set_option maxHeartbeats 4000000 in
theorem e_X1_proof_140 {σ : zS} {A : cA} {N : Nat → Nat} (hA : cOKN σ A N) (hz : 1 ≤ zc σ ∧ 6 ≤ zz σ) {Rt : (Int32 ⊕ Nat) × cU} {v3 : Int32} {v4 : Int64} {v6 : Int32} {v7 : Int32} {v8 : Int32} {rec35 : Int32 → Int32 → Int32 → cU → Option ((Int32 ⊕ Nat) × cU)} {frec35 : Int32 → Int32 → Int32 → zS → Option ((Int32 ⊕ Nat) × zS)} (hrec35 : ∀ (v6 : Int32) (v7 : Int32) (v8 : Int32) (U : cU), rec35 v6 v7 v8 U = some Rt → frec35 v6 v7 v8 (pU σ A N U) = some (Rt.1, (pU (zbx Rt.1 σ) A N Rt.2))) {U : cU} (h : h_X1_proof_140 N rec35 v3 v4 v6 v7 v8 U = some Rt) : f_X1_proof_140 (aad A 0) frec35 v3 v4 v6 v7 v8 (pU σ A N U) = some (Rt.1, (pU (zbx Rt.1 σ) A N Rt.2)) := by
  unfold h_X1_proof_140 at h
  unfold f_X1_proof_140
  refine z_zlq h (fun x12 h => ?_)
  exact hrec35 _ _ _ _ h

def h_X1_proof_138 (N : Nat → Nat) (rec35 : Int32 → Int32 → Int32 → cU → Option ((Int32 ⊕ Nat) × cU)) (v3 : Int32) (v4 : Int64) (v6 : Int32) (v8 : Int32) (t0 : Int32) (U : cU) : Option ((Int32 ⊕ Nat) × cU) :=
  h_X1_proof_140 N rec35 v3 v4 v6 t0 v8 U

set_option maxHeartbeats 4000000 in
theorem e_X1_proof_138 {σ : zS} {A : cA} {N : Nat → Nat} (hA : cOKN σ A N) (hz : 1 ≤ zc σ ∧ 6 ≤ zz σ) {Rt : (Int32 ⊕ Nat) × cU} {v3 : Int32} {v4 : Int64} {v6 : Int32} {v8 : Int32} {t0 : Int32} {rec35 : Int32 → Int32 → Int32 → cU → Option ((Int32 ⊕ Nat) × cU)} {frec35 : Int32 → Int32 → Int32 → zS → Option ((Int32 ⊕ Nat) × zS)} (hrec35 : ∀ (v6 : Int32) (v7 : Int32) (v8 : Int32) (U : cU), rec35 v6 v7 v8 U = some Rt → frec35 v6 v7 v8 (pU σ A N U) = some (Rt.1, (pU (zbx Rt.1 σ) A N Rt.2))) {U : cU} (h : h_X1_proof_138 N rec35 v3 v4 v6 v8 t0 U = some Rt) : f_X1_proof_138 (aad A 0) frec35 v3 v4 v6 v8 t0 (pU σ A N U) = some (Rt.1, (pU (zbx Rt.1 σ) A N Rt.2)) := by
  unfold h_X1_proof_138 at h
  unfold f_X1_proof_138
  exact e_X1_proof_140 hA hz hrec35 h

def h_X1_proof_137 (N : Nat → Nat) (rec35 : Int32 → Int32 → Int32 → cU → Option ((Int32 ⊕ Nat) × cU)) (v3 : Int32) (v4 : Int64) (v6 : Int32) (v8 : Int32) (U : cU) : Option ((Int32 ⊕ Nat) × cU) :=
  h_X1_proof_138 N rec35 v3 v4 v6 v8 0 U

set_option maxHeartbeats 4000000 in
theorem e_X1_proof_137 {σ : zS} {A : cA} {N : Nat → Nat} (hA : cOKN σ A N) (hz : 1 ≤ zc σ ∧ 6 ≤ zz σ) {Rt : (Int32 ⊕ Nat) × cU} {v3 : Int32} {v4 : Int64} {v6 : Int32} {v8 : Int32} {rec35 : Int32 → Int32 → Int32 → cU → Option ((Int32 ⊕ Nat) × cU)} {frec35 : Int32 → Int32 → Int32 → zS → Option ((Int32 ⊕ Nat) × zS)} (hrec35 : ∀ (v6 : Int32) (v7 : Int32) (v8 : Int32) (U : cU), rec35 v6 v7 v8 U = some Rt → frec35 v6 v7 v8 (pU σ A N U) = some (Rt.1, (pU (zbx Rt.1 σ) A N Rt.2))) {U : cU} (h : h_X1_proof_137 N rec35 v3 v4 v6 v8 U = some Rt) : f_X1_proof_137 (aad A 0) frec35 v3 v4 v6 v8 (pU σ A N U) = some (Rt.1, (pU (zbx Rt.1 σ) A N Rt.2)) := by
  unfold h_X1_proof_137 at h
  unfold f_X1_proof_137
  exact e_X1_proof_138 hA hz hrec35 h

def h_X1_proof_118 (N : Nat → Nat) (rec35 : Int32 → Int32 → Int32 → cU → Option ((Int32 ⊕ Nat) × cU)) (v3 : Int32) (v4 : Int64) (v7 : Int32) (v8 : Int32) (v9 : Int64) (t0 : Int32) (U : cU) : Option ((Int32 ⊕ Nat) × cU) :=
  if v7 = 0 then
    h_X1_proof_137 N rec35 v3 v4 t0 v8 U
  else
    if ¬ (lg_cmp v9 v4) = 0 then
      h_X1_proof_137 N rec35 v3 v4 t0 v8 U
    else
      h_X1_proof_138 N rec35 v3 v4 t0 v8 1 U

set_option maxHeartbeats 4000000 in
theorem e_X1_proof_118 {σ : zS} {A : cA} {N : Nat → Nat} (hA : cOKN σ A N) (hz : 1 ≤ zc σ ∧ 6 ≤ zz σ) {Rt : (Int32 ⊕ Nat) × cU} {v3 : Int32} {v4 : Int64} {v7 : Int32} {v8 : Int32} {v9 : Int64} {t0 : Int32} {rec35 : Int32 → Int32 → Int32 → cU → Option ((Int32 ⊕ Nat) × cU)} {frec35 : Int32 → Int32 → Int32 → zS → Option ((Int32 ⊕ Nat) × zS)} (hrec35 : ∀ (v6 : Int32) (v7 : Int32) (v8 : Int32) (U : cU), rec35 v6 v7 v8 U = some Rt → frec35 v6 v7 v8 (pU σ A N U) = some (Rt.1, (pU (zbx Rt.1 σ) A N Rt.2))) {U : cU} (h : h_X1_proof_118 N rec35 v3 v4 v7 v8 v9 t0 U = some Rt) : f_X1_proof_118 (aad A 0) frec35 v3 v4 v7 v8 v9 t0 (pU σ A N U) = some (Rt.1, (pU (zbx Rt.1 σ) A N Rt.2)) := by
  unfold h_X1_proof_118 at h
  unfold f_X1_proof_118
  refine z_ifq h (fun h => ?_) (fun h => ?_)
  · exact e_X1_proof_137 hA hz hrec35 h
  · refine z_ifq h (fun h => ?_) (fun h => ?_)
    · exact e_X1_proof_137 hA hz hrec35 h
    · exact e_X1_proof_138 hA hz hrec35 h

def h_X1_proof_113 (N : Nat → Nat) (rec35 : Int32 → Int32 → Int32 → cU → Option ((Int32 ⊕ Nat) × cU)) (v3 : Int32) (v4 : Int64) (v7 : Int32) (v8 : Int32) (v9 : Int64) (U : cU) : Option ((Int32 ⊕ Nat) × cU) :=
  h_X1_proof_118 N rec35 v3 v4 v7 v8 v9 1 U

set_option maxHeartbeats 4000000 in
theorem e_X1_proof_113 {σ : zS} {A : cA} {N : Nat → Nat} (hA : cOKN σ A N) (hz : 1 ≤ zc σ ∧ 6 ≤ zz σ) {Rt : (Int32 ⊕ Nat) × cU} {v3 : Int32} {v4 : Int64} {v7 : Int32} {v8 : Int32} {v9 : Int64} {rec35 : Int32 → Int32 → Int32 → cU → Option ((Int32 ⊕ Nat) × cU)} {frec35 : Int32 → Int32 → Int32 → zS → Option ((Int32 ⊕ Nat) × zS)} (hrec35 : ∀ (v6 : Int32) (v7 : Int32) (v8 : Int32) (U : cU), rec35 v6 v7 v8 U = some Rt → frec35 v6 v7 v8 (pU σ A N U) = some (Rt.1, (pU (zbx Rt.1 σ) A N Rt.2))) {U : cU} (h : h_X1_proof_113 N rec35 v3 v4 v7 v8 v9 U = some Rt) : f_X1_proof_113 (aad A 0) frec35 v3 v4 v7 v8 v9 (pU σ A N U) = some (Rt.1, (pU (zbx Rt.1 σ) A N Rt.2)) := by
  unfold h_X1_proof_113 at h
  unfold f_X1_proof_113
  exact e_X1_proof_118 hA hz hrec35 h

def h_X1_proof_64_b (N : Nat → Nat) (rec35 : Int32 → Int32 → Int32 → cU → Option ((Int32 ⊕ Nat) × cU)) (v3 : Int32) (v4 : Int64) (v6 : Int32) (v7 : Int32) (v8 : Int32) (rec64 : Int64 → Int32 → cU → Option ((Int32 ⊕ Nat) × cU)) (v9 : Int64) (v11 : Int32) (U : cU) : Option ((Int32 ⊕ Nat) × cU) :=
  if (U.1 7) ≤ v11 then
    if ¬ v6 = 0 then
      h_X1_proof_113 N rec35 v3 v4 v7 v8 v9 U
    else
      if ¬ (lg_cmp v9 v4) = 0 then
        h_X1_proof_118 N rec35 v3 v4 v7 v8 v9 0 U
      else
        h_X1_proof_113 N rec35 v3 v4 v7 v8 v9 U
  else
    (uL U 5 16 v11).bind fun x13 =>
    zl (v9 + ((((v8 >>> (v11 &&& 31)) &&& 1) * x13).toInt64)) fun x14 =>
    zl (v11 + 1) fun x15 =>
    rec64 x14 x15 U

def h_X1_proof_64 (N : Nat → Nat) (rec35 : Int32 → Int32 → Int32 → cU → Option ((Int32 ⊕ Nat) × cU)) (v3 : Int32) (v4 : Int64) (v6 : Int32) (v7 : Int32) (v8 : Int32) : Int64 → Int32 → cU → Option ((Int32 ⊕ Nat) × cU) := zlp2 (h_X1_proof_64_b N rec35 v3 v4 v6 v7 v8) NN
set_option maxHeartbeats 4000000 in
theorem e_X1_proof_64_b {σ : zS} {A : cA} {N : Nat → Nat} (hA : cOKN σ A N) (hz : 1 ≤ zc σ ∧ 6 ≤ zz σ) {Rt : (Int32 ⊕ Nat) × cU} {v3 : Int32} {v4 : Int64} {v6 : Int32} {v7 : Int32} {v8 : Int32} {rec35 : Int32 → Int32 → Int32 → cU → Option ((Int32 ⊕ Nat) × cU)} {frec35 : Int32 → Int32 → Int32 → zS → Option ((Int32 ⊕ Nat) × zS)} (hrec35 : ∀ (v6 : Int32) (v7 : Int32) (v8 : Int32) (U : cU), rec35 v6 v7 v8 U = some Rt → frec35 v6 v7 v8 (pU σ A N U) = some (Rt.1, (pU (zbx Rt.1 σ) A N Rt.2))) {rec64 : Int64 → Int32 → cU → Option ((Int32 ⊕ Nat) × cU)} {frec64 : Int64 → Int32 → zS → Option ((Int32 ⊕ Nat) × zS)} (hrec64 : ∀ (v9 : Int64) (v11 : Int32) (U : cU), rec64 v9 v11 U = some Rt → frec64 v9 v11 (pU σ A N U) = some (Rt.1, (pU (zbx Rt.1 σ) A N Rt.2))) {v9 : Int64} {v11 : Int32} {U : cU} (h : h_X1_proof_64_b N rec35 v3 v4 v6 v7 v8 rec64 v9 v11 U = some Rt) : f_X1_proof_64_b (aad A 0) frec35 v3 v4 v6 v7 v8 frec64 v9 v11 (pU σ A N U) = some (Rt.1, (pU (zbx Rt.1 σ) A N Rt.2)) := by
  unfold h_X1_proof_64_b at h
  unfold f_X1_proof_64_b
  refine z_bq (cgI hA (r := 0) (ci := 0) (V := (U.1, U.2, N)) rfl rfl rfl) ?_
  refine z_ifq h (fun h => ?_) (fun h => ?_)
  · refine z_ifq h (fun h => ?_) (fun h => ?_)
    · exact e_X1_proof_113 hA hz hrec35 h
    · refine z_ifq h (fun h => ?_) (fun h => ?_)
      · exact e_X1_proof_118 hA hz hrec35 h
      · exact e_X1_proof_113 hA hz hrec35 h
  · refine z_bq (cgR hA (r := 0) (ci := 0) (V := (U.1, U.2, N)) (q := some (aad A 6)) rfl rfl rfl) ?_
    refine z_bq rfl ?_
    obtain ⟨x13, e9, h⟩ := z_bd h
    refine z_bq (clI hA (r := 6) (t := 5) (n := 16) (V := (U.1, U.2, N)) rfl rfl e9) ?_
    refine z_zlq h (fun x14 h => ?_)
    refine z_zlq h (fun x15 h => ?_)
    exact hrec64 _ _ _ h

theorem e_X1_proof_64 {σ : zS} {A : cA} {N : Nat → Nat} (hA : cOKN σ A N) (hz : 1 ≤ zc σ ∧ 6 ≤ zz σ) {Rt : (Int32 ⊕ Nat) × cU} {v3 : Int32} {v4 : Int64} {v6 : Int32} {v7 : Int32} {v8 : Int32} {rec35 : Int32 → Int32 → Int32 → cU → Option ((Int32 ⊕ Nat) × cU)} {frec35 : Int32 → Int32 → Int32 → zS → Option ((Int32 ⊕ Nat) × zS)} (hrec35 : ∀ (v6 : Int32) (v7 : Int32) (v8 : Int32) (U : cU), rec35 v6 v7 v8 U = some Rt → frec35 v6 v7 v8 (pU σ A N U) = some (Rt.1, (pU (zbx Rt.1 σ) A N Rt.2))) {v9 : Int64} {v11 : Int32} {U : cU} (h : h_X1_proof_64 N rec35 v3 v4 v6 v7 v8 v9 v11 U = some Rt) : f_X1_proof_64 (aad A 0) frec35 v3 v4 v6 v7 v8 v9 v11 (pU σ A N U) = some (Rt.1, (pU (zbx Rt.1 σ) A N Rt.2)) := by
  unfold h_X1_proof_64 at h
  unfold f_X1_proof_64
  generalize NN = n9 at h ⊢
  exact zlp2_rel (F := f_X1_proof_64_b (aad A 0) frec35 v3 v4 v6 v7 v8) (G := h_X1_proof_64_b N rec35 v3 v4 v6 v7 v8) (R := Rt) (R' := (Rt.1, (pU (zbx Rt.1 σ) A N Rt.2))) (fun v => v) (fun v => v) (pU σ A N) (fun rf rg hr v9 v11 t h => e_X1_proof_64_b hA hz hrec35 (frec64 := rf) hr h) n9 v9 v11 U h
def h_X1_proof_35_b (N : Nat → Nat) (v3 : Int32) (v4 : Int64) (rec35 : Int32 → Int32 → Int32 → cU → Option ((Int32 ⊕ Nat) × cU)) (v6 : Int32) (v7 : Int32) (v8 : Int32) (U : cU) : Option ((Int32 ⊕ Nat) × cU) :=
  if (1 <<< ((U.1 7) &&& 31)) ≤ v8 then
    if v7 = 0 then
      if v6 = 0 then
        some (.inl (0 : Int32), U)
      else
        some (.inl (1 : Int32), U)
    else
      some (.inl (2 : Int32), U)
  else
    zb2 (h_J17_bitCount N v8 U) fun x10 U11 =>
    if x10 = v3 then
      h_X1_proof_64 N rec35 v3 v4 v6 v7 v8 0 0 U11
    else
      h_X1_proof_140 N rec35 v3 v4 v6 v7 v8 U11

def h_X1_proof_35 (N : Nat → Nat) (v3 : Int32) (v4 : Int64) : Int32 → Int32 → Int32 → cU → Option ((Int32 ⊕ Nat) × cU) := zlp3 (h_X1_proof_35_b N v3 v4) NN
set_option maxHeartbeats 4000000 in
theorem e_X1_proof_35_b {σ : zS} {A : cA} {N : Nat → Nat} (hA : cOKN σ A N) (hz : 1 ≤ zc σ ∧ 6 ≤ zz σ) {Rt : (Int32 ⊕ Nat) × cU} {v3 : Int32} {v4 : Int64} {rec35 : Int32 → Int32 → Int32 → cU → Option ((Int32 ⊕ Nat) × cU)} {frec35 : Int32 → Int32 → Int32 → zS → Option ((Int32 ⊕ Nat) × zS)} (hrec35 : ∀ (v6 : Int32) (v7 : Int32) (v8 : Int32) (U : cU), rec35 v6 v7 v8 U = some Rt → frec35 v6 v7 v8 (pU σ A N U) = some (Rt.1, (pU (zbx Rt.1 σ) A N Rt.2))) {v6 : Int32} {v7 : Int32} {v8 : Int32} {U : cU} (h : h_X1_proof_35_b N v3 v4 rec35 v6 v7 v8 U = some Rt) : f_X1_proof_35_b (aad A 0) v3 v4 frec35 v6 v7 v8 (pU σ A N U) = some (Rt.1, (pU (zbx Rt.1 σ) A N Rt.2)) := by
  unfold h_X1_proof_35_b at h
  unfold f_X1_proof_35_b
  refine z_bq (cgI hA (r := 0) (ci := 0) (V := (U.1, U.2, N)) rfl rfl rfl) ?_
  refine z_ifq h (fun h => ?_) (fun h => ?_)
  · refine z_ifq h (fun h => ?_) (fun h => ?_)
    · refine z_ifq h (fun h => ?_) (fun h => ?_)
      · obtain rfl := Option.some.inj h
        rfl
      · obtain rfl := Option.some.inj h
        rfl
    · obtain rfl := Option.some.inj h
      rfl
  · obtain ⟨x10, U11, e9, h⟩ := z_bd2 h
    refine z_b2q (e_J17_bitCount hA e9) ?_
    refine z_ifq h (fun h => ?_) (fun h => ?_)
    · exact e_X1_proof_64 hA hz hrec35 h
    · exact e_X1_proof_140 hA hz hrec35 h

theorem e_X1_proof_35 {σ : zS} {A : cA} {N : Nat → Nat} (hA : cOKN σ A N) (hz : 1 ≤ zc σ ∧ 6 ≤ zz σ) {Rt : (Int32 ⊕ Nat) × cU} {v3 : Int32} {v4 : Int64} {v6 : Int32} {v7 : Int32} {v8 : Int32} {U : cU} (h : h_X1_proof_35 N v3 v4 v6 v7 v8 U = some Rt) : f_X1_proof_35 (aad A 0) v3 v4 v6 v7 v8 (pU σ A N U) = some (Rt.1, (pU (zbx Rt.1 σ) A N Rt.2)) := by
  unfold h_X1_proof_35 at h
  unfold f_X1_proof_35
  generalize NN = n9 at h ⊢
  exact zlp3_rel (F := f_X1_proof_35_b (aad A 0) v3 v4) (G := h_X1_proof_35_b N v3 v4) (R := Rt) (R' := (Rt.1, (pU (zbx Rt.1 σ) A N Rt.2))) (fun v => v) (fun v => v) (fun v => v) (pU σ A N) (fun rf rg hr v6 v7 v8 t h => e_X1_proof_35_b hA hz (frec35 := rf) hr h) n9 v6 v7 v8 U h
def h_X1_proof (N : Nat → Nat) (p1 : Int32) (p2 : Int32) (U : cU) : Option ((Int32 ⊕ Nat) × cU) :=
  zbt (h_X1_houseAt N p1 U) (fun k9 U9 => some (.inr k9, U9)) fun _ U2 =>
  zb2 (h_X1_sifts N U2) fun _ U4 =>
  zb2 (h_X1_lost N p1 U4) fun x5 U6 =>
  zb2 (h_X1_known N p1 U6) fun x7 U8 =>
  zl (p2.toInt64 - x7.toInt64) fun x9 =>
  h_X1_proof_35 N x5 x9 0 1 0 U8

set_option maxHeartbeats 4000000 in
theorem e_X1_proof {σ : zS} {A : cA} {N : Nat → Nat} (hA : cOKN σ A N) (hz : 1 ≤ zc σ ∧ 6 ≤ zz σ) {p1 : Int32} {p2 : Int32} {U : cU} {Rt : (Int32 ⊕ Nat) × cU} (h : h_X1_proof N p1 p2 U = some Rt) : f_X1_proof (aad A 0) p1 p2 (pU σ A N U) = some (Rt.1, (pU (zbx Rt.1 σ) A N Rt.2)) := by
  unfold h_X1_proof at h
  unfold f_X1_proof
  refine z_zifq (ccl hA (r := 0) (ci := 0) (V := (U.1, U.2, N)) rfl rfl) ?_
  rcases z_bt3 h with ⟨u1, U2, e9, h⟩ | ⟨k9, U9, e9, h⟩
  · refine z_bt1 (e_X1_houseAt hA hz e9) ?_
    refine z_zifq (ccl hA (r := 0) (ci := 0) (V := (U2.1, U2.2, N)) rfl rfl) ?_
    obtain ⟨u3, U4, e9, h⟩ := z_bd2 h
    refine z_b2q (e_X1_sifts hA e9) ?_
    refine z_zifq (ccl hA (r := 0) (ci := 0) (V := (U4.1, U4.2, N)) rfl rfl) ?_
    obtain ⟨x5, U6, e9, h⟩ := z_bd2 h
    refine z_b2q (e_X1_lost hA e9) ?_
    refine z_zifq (ccl hA (r := 0) (ci := 0) (V := (U6.1, U6.2, N)) rfl rfl) ?_
    obtain ⟨x7, U8, e9, h⟩ := z_bd2 h
    refine z_b2q (e_X1_known hA e9) ?_
    refine z_zlq h (fun x9 h => ?_)
    exact e_X1_proof_35 hA hz h
  · refine z_bt2 (e_X1_houseAt hA hz e9) ?_
    obtain rfl := Option.some.inj h
    rfl

def h_X1_ways_22_b (N : Nat → Nat) (rec7 : Int64 → Int32 → Int32 → cU → Option (Int64 × cU)) (v4 : Int32) (rec22 : Int64 → Int32 → Int32 → cU → Option (Int64 × cU)) (v1 : Int64) (v3 : Int32) (v5 : Int32) (U : cU) : Option (Int64 × cU) :=
  zb2 (h_X1_lost N v4 U) fun x1 U2 =>
  if x1 < v5 then
    zl (v4 + 1) fun x3 =>
    rec7 v1 v3 x3 U2
  else
    zl (v3 + 1) fun x4 =>
    (zdivJ (v1 * x4.toInt64) v5.toInt64).bind fun x5 =>
    zl (v5 + 1) fun x6 =>
    rec22 x5 x4 x6 U2

def h_X1_ways_22 (N : Nat → Nat) (rec7 : Int64 → Int32 → Int32 → cU → Option (Int64 × cU)) (v4 : Int32) : Int64 → Int32 → Int32 → cU → Option (Int64 × cU) := zlp3 (h_X1_ways_22_b N rec7 v4) NN
set_option maxHeartbeats 4000000 in
theorem e_X1_ways_22_b {σ : zS} {A : cA} {N : Nat → Nat} (hA : cOKN σ A N) {Rt : Int64 × cU} {v4 : Int32} {rec7 : Int64 → Int32 → Int32 → cU → Option (Int64 × cU)} {frec7 : Int64 → Int32 → Int32 → zS → Option (Int64 × zS)} (hrec7 : ∀ (v1 : Int64) (v3 : Int32) (v4 : Int32) (U : cU), rec7 v1 v3 v4 U = some Rt → frec7 v1 v3 v4 (pU σ A N U) = some (Rt.1, (pU σ A N Rt.2))) {rec22 : Int64 → Int32 → Int32 → cU → Option (Int64 × cU)} {frec22 : Int64 → Int32 → Int32 → zS → Option (Int64 × zS)} (hrec22 : ∀ (v1 : Int64) (v3 : Int32) (v5 : Int32) (U : cU), rec22 v1 v3 v5 U = some Rt → frec22 v1 v3 v5 (pU σ A N U) = some (Rt.1, (pU σ A N Rt.2))) {v1 : Int64} {v3 : Int32} {v5 : Int32} {U : cU} (h : h_X1_ways_22_b N rec7 v4 rec22 v1 v3 v5 U = some Rt) : f_X1_ways_22_b (aad A 0) frec7 v4 frec22 v1 v3 v5 (pU σ A N U) = some (Rt.1, (pU σ A N Rt.2)) := by
  unfold h_X1_ways_22_b at h
  unfold f_X1_ways_22_b
  refine z_zifq (ccl hA (r := 0) (ci := 0) (V := (U.1, U.2, N)) rfl rfl) ?_
  obtain ⟨x1, U2, e9, h⟩ := z_bd2 h
  refine z_b2q (e_X1_lost hA e9) ?_
  refine z_ifq h (fun h => ?_) (fun h => ?_)
  · refine z_zlq h (fun x3 h => ?_)
    exact hrec7 _ _ _ _ h
  · refine z_zlq h (fun x4 h => ?_)
    obtain ⟨x5, e9, h⟩ := z_bd h
    refine z_bq e9 ?_
    refine z_zlq h (fun x6 h => ?_)
    exact hrec22 _ _ _ _ h

theorem e_X1_ways_22 {σ : zS} {A : cA} {N : Nat → Nat} (hA : cOKN σ A N) {Rt : Int64 × cU} {v4 : Int32} {rec7 : Int64 → Int32 → Int32 → cU → Option (Int64 × cU)} {frec7 : Int64 → Int32 → Int32 → zS → Option (Int64 × zS)} (hrec7 : ∀ (v1 : Int64) (v3 : Int32) (v4 : Int32) (U : cU), rec7 v1 v3 v4 U = some Rt → frec7 v1 v3 v4 (pU σ A N U) = some (Rt.1, (pU σ A N Rt.2))) {v1 : Int64} {v3 : Int32} {v5 : Int32} {U : cU} (h : h_X1_ways_22 N rec7 v4 v1 v3 v5 U = some Rt) : f_X1_ways_22 (aad A 0) frec7 v4 v1 v3 v5 (pU σ A N U) = some (Rt.1, (pU σ A N Rt.2)) := by
  unfold h_X1_ways_22 at h
  unfold f_X1_ways_22
  generalize NN = n9 at h ⊢
  exact zlp3_rel (F := f_X1_ways_22_b (aad A 0) frec7 v4) (G := h_X1_ways_22_b N rec7 v4) (R := Rt) (R' := (Rt.1, (pU σ A N Rt.2))) (fun v => v) (fun v => v) (fun v => v) (pU σ A N) (fun rf rg hr v1 v3 v5 t h => e_X1_ways_22_b hA hrec7 (frec22 := rf) hr h) n9 v1 v3 v5 U h
def h_X1_ways_7_b (N : Nat → Nat) (rec7 : Int64 → Int32 → Int32 → cU → Option (Int64 × cU)) (v1 : Int64) (v3 : Int32) (v4 : Int32) (U : cU) : Option (Int64 × cU) :=
  if (U.1 1) ≤ v4 then
    some (v1, U)
  else
    h_X1_ways_22 N rec7 v4 v1 v3 1 U

def h_X1_ways_7 (N : Nat → Nat) : Int64 → Int32 → Int32 → cU → Option (Int64 × cU) := zlp3 (h_X1_ways_7_b N) NN
set_option maxHeartbeats 4000000 in
theorem e_X1_ways_7_b {σ : zS} {A : cA} {N : Nat → Nat} (hA : cOKN σ A N) {Rt : Int64 × cU} {rec7 : Int64 → Int32 → Int32 → cU → Option (Int64 × cU)} {frec7 : Int64 → Int32 → Int32 → zS → Option (Int64 × zS)} (hrec7 : ∀ (v1 : Int64) (v3 : Int32) (v4 : Int32) (U : cU), rec7 v1 v3 v4 U = some Rt → frec7 v1 v3 v4 (pU σ A N U) = some (Rt.1, (pU σ A N Rt.2))) {v1 : Int64} {v3 : Int32} {v4 : Int32} {U : cU} (h : h_X1_ways_7_b N rec7 v1 v3 v4 U = some Rt) : f_X1_ways_7_b (aad A 0) frec7 v1 v3 v4 (pU σ A N U) = some (Rt.1, (pU σ A N Rt.2)) := by
  unfold h_X1_ways_7_b at h
  unfold f_X1_ways_7_b
  refine z_bq (cgR hA (r := 0) (ci := 0) (V := (U.1, U.2, N)) (q := some (aad A 1)) rfl rfl rfl) ?_
  refine z_bq rfl ?_
  refine z_bq (cgI hA (r := 1) (ci := 1) (V := (U.1, U.2, N)) rfl rfl rfl) ?_
  refine z_ifq h (fun h => ?_) (fun h => ?_)
  · obtain rfl := Option.some.inj h
    rfl
  · exact e_X1_ways_22 hA hrec7 h

theorem e_X1_ways_7 {σ : zS} {A : cA} {N : Nat → Nat} (hA : cOKN σ A N) {Rt : Int64 × cU} {v1 : Int64} {v3 : Int32} {v4 : Int32} {U : cU} (h : h_X1_ways_7 N v1 v3 v4 U = some Rt) : f_X1_ways_7 (aad A 0) v1 v3 v4 (pU σ A N U) = some (Rt.1, (pU σ A N Rt.2)) := by
  unfold h_X1_ways_7 at h
  unfold f_X1_ways_7
  generalize NN = n9 at h ⊢
  exact zlp3_rel (F := f_X1_ways_7_b (aad A 0)) (G := h_X1_ways_7_b N) (R := Rt) (R' := (Rt.1, (pU σ A N Rt.2))) (fun v => v) (fun v => v) (fun v => v) (pU σ A N) (fun rf rg hr v1 v3 v4 t h => e_X1_ways_7_b hA (frec7 := rf) hr h) n9 v1 v3 v4 U h
def h_X1_ways (N : Nat → Nat) (U : cU) : Option (Int64 × cU) :=
  h_X1_ways_7 N 1 0 0 U

set_option maxHeartbeats 4000000 in
theorem e_X1_ways {σ : zS} {A : cA} {N : Nat → Nat} (hA : cOKN σ A N) {U : cU} {Rt : Int64 × cU} (h : h_X1_ways N U = some Rt) : f_X1_ways (aad A 0) (pU σ A N U) = some (Rt.1, (pU σ A N Rt.2)) := by
  unfold h_X1_ways at h
  unfold f_X1_ways
  exact e_X1_ways_7 hA h

def h_X1_fault (N : Nat → Nat) (U : cU) : Option (Int32 × cU) :=
  some (U.1 12, U)

set_option maxHeartbeats 4000000 in
theorem e_X1_fault {σ : zS} {A : cA} {N : Nat → Nat} (hA : cOKN σ A N) {U : cU} {Rt : Int32 × cU} (h : h_X1_fault N U = some Rt) : f_X1_fault (aad A 0) (pU σ A N U) = some (Rt.1, (pU σ A N Rt.2)) := by
  unfold h_X1_fault at h
  unfold f_X1_fault
  refine z_bq (cgR hA (r := 0) (ci := 0) (V := (U.1, U.2, N)) (q := some (aad A 2)) rfl rfl rfl) ?_
  refine z_bq rfl ?_
  refine z_bq (cgI hA (r := 2) (ci := 2) (V := (U.1, U.2, N)) rfl rfl rfl) ?_
  obtain rfl := Option.some.inj h
  rfl

def h_X5_states_4_b (N : Nat → Nat) (rec4 : Int32 → Int32 → cU → Option (Int32 × cU)) (v1 : Int32) (v2 : Int32) (U : cU) : Option (Int32 × cU) :=
  if (U.1 21) ≤ v2 then
    some (v1, U)
  else
    zl (v1 * (U.1 22)) fun x1 =>
    zl (v2 + 1) fun x2 =>
    rec4 x1 x2 U

def h_X5_states_4 (N : Nat → Nat) : Int32 → Int32 → cU → Option (Int32 × cU) := zlp2 (h_X5_states_4_b N) NN
set_option maxHeartbeats 4000000 in
theorem e_X5_states_4_b {σ : zS} {A : cA} {N : Nat → Nat} (hA : cOKN σ A N) {Rt : Int32 × cU} {rec4 : Int32 → Int32 → cU → Option (Int32 × cU)} {frec4 : Int32 → Int32 → zS → Option (Int32 × zS)} (hrec4 : ∀ (v1 : Int32) (v2 : Int32) (U : cU), rec4 v1 v2 U = some Rt → frec4 v1 v2 (pU σ A N U) = some (Rt.1, (pU σ A N Rt.2))) {v1 : Int32} {v2 : Int32} {U : cU} (h : h_X5_states_4_b N rec4 v1 v2 U = some Rt) : f_X5_states_4_b (aad A 4) frec4 v1 v2 (pU σ A N U) = some (Rt.1, (pU σ A N Rt.2)) := by
  unfold h_X5_states_4_b at h
  unfold f_X5_states_4_b
  refine z_bq (cgI hA (r := 4) (ci := 4) (V := (U.1, U.2, N)) rfl rfl rfl) ?_
  refine z_ifq h (fun h => ?_) (fun h => ?_)
  · obtain rfl := Option.some.inj h
    rfl
  · refine z_bq (cgI hA (r := 4) (ci := 4) (V := (U.1, U.2, N)) rfl rfl rfl) ?_
    refine z_zlq h (fun x1 h => ?_)
    refine z_zlq h (fun x2 h => ?_)
    exact hrec4 _ _ _ h

theorem e_X5_states_4 {σ : zS} {A : cA} {N : Nat → Nat} (hA : cOKN σ A N) {Rt : Int32 × cU} {v1 : Int32} {v2 : Int32} {U : cU} (h : h_X5_states_4 N v1 v2 U = some Rt) : f_X5_states_4 (aad A 4) v1 v2 (pU σ A N U) = some (Rt.1, (pU σ A N Rt.2)) := by
  unfold h_X5_states_4 at h
  unfold f_X5_states_4
  generalize NN = n9 at h ⊢
  exact zlp2_rel (F := f_X5_states_4_b (aad A 4)) (G := h_X5_states_4_b N) (R := Rt) (R' := (Rt.1, (pU σ A N Rt.2))) (fun v => v) (fun v => v) (pU σ A N) (fun rf rg hr v1 v2 t h => e_X5_states_4_b hA (frec4 := rf) hr h) n9 v1 v2 U h
def h_X5_states (N : Nat → Nat) (U : cU) : Option (Int32 × cU) :=
  h_X5_states_4 N 1 0 U

set_option maxHeartbeats 4000000 in
theorem e_X5_states {σ : zS} {A : cA} {N : Nat → Nat} (hA : cOKN σ A N) {U : cU} {Rt : Int32 × cU} (h : h_X5_states N U = some Rt) : f_X5_states (aad A 4) (pU σ A N U) = some (Rt.1, (pU σ A N Rt.2)) := by
  unfold h_X5_states at h
  unfold f_X5_states
  exact e_X5_states_4 hA h

def h_X5_rested_34 (N : Nat → Nat) (rec7 : Int32 → Int32 → Int32 → cU → Option (Int32 × cU)) (v3 : Int32) (v4 : Int32) (t0 : Int32) (t1 : Int32) (U : cU) : Option (Int32 × cU) :=
  zl (t0 ||| t1) fun x2 =>
  (zdiv v3 (U.1 22)).bind fun x3 =>
  zl (v4 + 1) fun x4 =>
  rec7 x2 x3 x4 U

set_option maxHeartbeats 4000000 in
theorem e_X5_rested_34 {σ : zS} {A : cA} {N : Nat → Nat} (hA : cOKN σ A N) {Rt : Int32 × cU} {v3 : Int32} {v4 : Int32} {t0 : Int32} {t1 : Int32} {rec7 : Int32 → Int32 → Int32 → cU → Option (Int32 × cU)} {frec7 : Int32 → Int32 → Int32 → zS → Option (Int32 × zS)} (hrec7 : ∀ (v2 : Int32) (v3 : Int32) (v4 : Int32) (U : cU), rec7 v2 v3 v4 U = some Rt → frec7 v2 v3 v4 (pU σ A N U) = some (Rt.1, (pU σ A N Rt.2))) {U : cU} (h : h_X5_rested_34 N rec7 v3 v4 t0 t1 U = some Rt) : f_X5_rested_34 (aad A 4) frec7 v3 v4 t0 t1 (pU σ A N U) = some (Rt.1, (pU σ A N Rt.2)) := by
  unfold h_X5_rested_34 at h
  unfold f_X5_rested_34
  refine z_zlq h (fun x2 h => ?_)
  refine z_bq (cgI hA (r := 4) (ci := 4) (V := (U.1, U.2, N)) rfl rfl rfl) ?_
  obtain ⟨x3, e9, h⟩ := z_bd h
  refine z_bq e9 ?_
  refine z_zlq h (fun x4 h => ?_)
  exact hrec7 _ _ _ _ h

def h_X5_rested_7_b (N : Nat → Nat) (rec7 : Int32 → Int32 → Int32 → cU → Option (Int32 × cU)) (v2 : Int32) (v3 : Int32) (v4 : Int32) (U : cU) : Option (Int32 × cU) :=
  if (U.1 21) ≤ v4 then
    some (v2, U)
  else
    (zrem v3 (U.1 22)).bind fun x1 =>
    if ¬ x1 = 0 then
      h_X5_rested_34 N rec7 v3 v4 v2 0 U
    else
      h_X5_rested_34 N rec7 v3 v4 v2 (1 <<< (v4 &&& 31)) U

def h_X5_rested_7 (N : Nat → Nat) : Int32 → Int32 → Int32 → cU → Option (Int32 × cU) := zlp3 (h_X5_rested_7_b N) NN
set_option maxHeartbeats 4000000 in
theorem e_X5_rested_7_b {σ : zS} {A : cA} {N : Nat → Nat} (hA : cOKN σ A N) {Rt : Int32 × cU} {rec7 : Int32 → Int32 → Int32 → cU → Option (Int32 × cU)} {frec7 : Int32 → Int32 → Int32 → zS → Option (Int32 × zS)} (hrec7 : ∀ (v2 : Int32) (v3 : Int32) (v4 : Int32) (U : cU), rec7 v2 v3 v4 U = some Rt → frec7 v2 v3 v4 (pU σ A N U) = some (Rt.1, (pU σ A N Rt.2))) {v2 : Int32} {v3 : Int32} {v4 : Int32} {U : cU} (h : h_X5_rested_7_b N rec7 v2 v3 v4 U = some Rt) : f_X5_rested_7_b (aad A 4) frec7 v2 v3 v4 (pU σ A N U) = some (Rt.1, (pU σ A N Rt.2)) := by
  unfold h_X5_rested_7_b at h
  unfold f_X5_rested_7_b
  refine z_bq (cgI hA (r := 4) (ci := 4) (V := (U.1, U.2, N)) rfl rfl rfl) ?_
  refine z_ifq h (fun h => ?_) (fun h => ?_)
  · obtain rfl := Option.some.inj h
    rfl
  · refine z_bq (cgI hA (r := 4) (ci := 4) (V := (U.1, U.2, N)) rfl rfl rfl) ?_
    obtain ⟨x1, e9, h⟩ := z_bd h
    refine z_bq e9 ?_
    refine z_ifq h (fun h => ?_) (fun h => ?_)
    · exact e_X5_rested_34 hA hrec7 h
    · exact e_X5_rested_34 hA hrec7 h

theorem e_X5_rested_7 {σ : zS} {A : cA} {N : Nat → Nat} (hA : cOKN σ A N) {Rt : Int32 × cU} {v2 : Int32} {v3 : Int32} {v4 : Int32} {U : cU} (h : h_X5_rested_7 N v2 v3 v4 U = some Rt) : f_X5_rested_7 (aad A 4) v2 v3 v4 (pU σ A N U) = some (Rt.1, (pU σ A N Rt.2)) := by
  unfold h_X5_rested_7 at h
  unfold f_X5_rested_7
  generalize NN = n9 at h ⊢
  exact zlp3_rel (F := f_X5_rested_7_b (aad A 4)) (G := h_X5_rested_7_b N) (R := Rt) (R' := (Rt.1, (pU σ A N Rt.2))) (fun v => v) (fun v => v) (fun v => v) (pU σ A N) (fun rf rg hr v2 v3 v4 t h => e_X5_rested_7_b hA (frec7 := rf) hr h) n9 v2 v3 v4 U h
def h_X5_rested (N : Nat → Nat) (p1 : Int32) (U : cU) : Option (Int32 × cU) :=
  h_X5_rested_7 N 0 p1 0 U

set_option maxHeartbeats 4000000 in
theorem e_X5_rested {σ : zS} {A : cA} {N : Nat → Nat} (hA : cOKN σ A N) {p1 : Int32} {U : cU} {Rt : Int32 × cU} (h : h_X5_rested N p1 U = some Rt) : f_X5_rested (aad A 4) p1 (pU σ A N U) = some (Rt.1, (pU σ A N Rt.2)) := by
  unfold h_X5_rested at h
  unfold f_X5_rested
  exact e_X5_rested_7 hA h

def h_X5_behind_55 (N : Nat → Nat) (rec11 : Int32 → Int32 → Int32 → Int32 → cU → Option (Int32 × cU)) (v2 : Int32) (v4 : Int32) (v5 : Int32) (v6 : Int32) (t0 : Int32) (t1 : Int32) (t2 : Int32) (U : cU) : Option (Int32 × cU) :=
  zl (t0 + (t1 * t2)) fun x2 =>
  (zdiv v5 (U.1 22)).bind fun x3 =>
  zl (v4 * (U.1 22)) fun x4 =>
  zl (v6 + 1) fun x5 =>
  rec11 x2 x4 x3 x5 U

set_option maxHeartbeats 4000000 in
theorem e_X5_behind_55 {σ : zS} {A : cA} {N : Nat → Nat} (hA : cOKN σ A N) {Rt : Int32 × cU} {v2 : Int32} {v4 : Int32} {v5 : Int32} {v6 : Int32} {t0 : Int32} {t1 : Int32} {t2 : Int32} {rec11 : Int32 → Int32 → Int32 → Int32 → cU → Option (Int32 × cU)} {frec11 : Int32 → Int32 → Int32 → Int32 → zS → Option (Int32 × zS)} (hrec11 : ∀ (v3 : Int32) (v4 : Int32) (v5 : Int32) (v6 : Int32) (U : cU), rec11 v3 v4 v5 v6 U = some Rt → frec11 v3 v4 v5 v6 (pU σ A N U) = some (Rt.1, (pU σ A N Rt.2))) {U : cU} (h : h_X5_behind_55 N rec11 v2 v4 v5 v6 t0 t1 t2 U = some Rt) : f_X5_behind_55 (aad A 4) frec11 v2 v4 v5 v6 t0 t1 t2 (pU σ A N U) = some (Rt.1, (pU σ A N Rt.2)) := by
  unfold h_X5_behind_55 at h
  unfold f_X5_behind_55
  refine z_zlq h (fun x2 h => ?_)
  refine z_bq (cgI hA (r := 4) (ci := 4) (V := (U.1, U.2, N)) rfl rfl rfl) ?_
  obtain ⟨x3, e9, h⟩ := z_bd h
  refine z_bq e9 ?_
  refine z_bq (cgI hA (r := 4) (ci := 4) (V := (U.1, U.2, N)) rfl rfl rfl) ?_
  refine z_zlq h (fun x4 h => ?_)
  refine z_zlq h (fun x5 h => ?_)
  exact hrec11 _ _ _ _ _ h

def h_X5_behind_11_b (N : Nat → Nat) (v2 : Int32) (rec11 : Int32 → Int32 → Int32 → Int32 → cU → Option (Int32 × cU)) (v3 : Int32) (v4 : Int32) (v5 : Int32) (v6 : Int32) (U : cU) : Option (Int32 × cU) :=
  if (U.1 21) ≤ v6 then
    some (v3, U)
  else
    if ¬ ((v2 >>> (v6 &&& 31)) &&& 1) = 1 then
      (zrem v5 (U.1 22)).bind fun x1 =>
      h_X5_behind_55 N rec11 v2 v4 v5 v6 v3 v4 (zmax 0 (x1 - 1)) U
    else
      h_X5_behind_55 N rec11 v2 v4 v5 v6 v3 v4 ((U.1 22) - 1) U

def h_X5_behind_11 (N : Nat → Nat) (v2 : Int32) : Int32 → Int32 → Int32 → Int32 → cU → Option (Int32 × cU) := zlp4 (h_X5_behind_11_b N v2) NN
set_option maxHeartbeats 4000000 in
theorem e_X5_behind_11_b {σ : zS} {A : cA} {N : Nat → Nat} (hA : cOKN σ A N) {Rt : Int32 × cU} {v2 : Int32} {rec11 : Int32 → Int32 → Int32 → Int32 → cU → Option (Int32 × cU)} {frec11 : Int32 → Int32 → Int32 → Int32 → zS → Option (Int32 × zS)} (hrec11 : ∀ (v3 : Int32) (v4 : Int32) (v5 : Int32) (v6 : Int32) (U : cU), rec11 v3 v4 v5 v6 U = some Rt → frec11 v3 v4 v5 v6 (pU σ A N U) = some (Rt.1, (pU σ A N Rt.2))) {v3 : Int32} {v4 : Int32} {v5 : Int32} {v6 : Int32} {U : cU} (h : h_X5_behind_11_b N v2 rec11 v3 v4 v5 v6 U = some Rt) : f_X5_behind_11_b (aad A 4) v2 frec11 v3 v4 v5 v6 (pU σ A N U) = some (Rt.1, (pU σ A N Rt.2)) := by
  unfold h_X5_behind_11_b at h
  unfold f_X5_behind_11_b
  refine z_bq (cgI hA (r := 4) (ci := 4) (V := (U.1, U.2, N)) rfl rfl rfl) ?_
  refine z_ifq h (fun h => ?_) (fun h => ?_)
  · obtain rfl := Option.some.inj h
    rfl
  · refine z_ifq h (fun h => ?_) (fun h => ?_)
    · refine z_bq (cgI hA (r := 4) (ci := 4) (V := (U.1, U.2, N)) rfl rfl rfl) ?_
      obtain ⟨x1, e9, h⟩ := z_bd h
      refine z_bq e9 ?_
      exact e_X5_behind_55 hA hrec11 h
    · refine z_bq (cgI hA (r := 4) (ci := 4) (V := (U.1, U.2, N)) rfl rfl rfl) ?_
      exact e_X5_behind_55 hA hrec11 h

theorem e_X5_behind_11 {σ : zS} {A : cA} {N : Nat → Nat} (hA : cOKN σ A N) {Rt : Int32 × cU} {v2 : Int32} {v3 : Int32} {v4 : Int32} {v5 : Int32} {v6 : Int32} {U : cU} (h : h_X5_behind_11 N v2 v3 v4 v5 v6 U = some Rt) : f_X5_behind_11 (aad A 4) v2 v3 v4 v5 v6 (pU σ A N U) = some (Rt.1, (pU σ A N Rt.2)) := by
  unfold h_X5_behind_11 at h
  unfold f_X5_behind_11
  generalize NN = n9 at h ⊢
  exact zlp4_rel (F := f_X5_behind_11_b (aad A 4) v2) (G := h_X5_behind_11_b N v2) (R := Rt) (R' := (Rt.1, (pU σ A N Rt.2))) (fun v => v) (fun v => v) (fun v => v) (fun v => v) (pU σ A N) (fun rf rg hr v3 v4 v5 v6 t h => e_X5_behind_11_b hA (frec11 := rf) hr h) n9 v3 v4 v5 v6 U h
def h_X5_behind (N : Nat → Nat) (p1 : Int32) (p2 : Int32) (U : cU) : Option (Int32 × cU) :=
  h_X5_behind_11 N p2 0 1 p1 0 U

set_option maxHeartbeats 4000000 in
theorem e_X5_behind {σ : zS} {A : cA} {N : Nat → Nat} (hA : cOKN σ A N) {p1 : Int32} {p2 : Int32} {U : cU} {Rt : Int32 × cU} (h : h_X5_behind N p1 p2 U = some Rt) : f_X5_behind (aad A 4) p1 p2 (pU σ A N U) = some (Rt.1, (pU σ A N Rt.2)) := by
  unfold h_X5_behind at h
  unfold f_X5_behind
  exact e_X5_behind_11 hA h

def h_X5_most_48 (N : Nat → Nat) (rec11 : Int32 → Int32 → cU → Option (Int32 × cU)) (v1 : Int32) (v2 : Int32) (v3 : Int32) (v4 : Int32) (U : cU) : Option (Int32 × cU) :=
  if ¬ v4 = 0 then
    zl ((v4 - 1) &&& v2) fun x5 =>
    rec11 v3 x5 U
  else
    some (v3, U)

set_option maxHeartbeats 4000000 in
theorem e_X5_most_48 {σ : zS} {A : cA} {N : Nat → Nat} (hA : cOKN σ A N) {Rt : Int32 × cU} {v1 : Int32} {v2 : Int32} {v3 : Int32} {v4 : Int32} {rec11 : Int32 → Int32 → cU → Option (Int32 × cU)} {frec11 : Int32 → Int32 → zS → Option (Int32 × zS)} (hrec11 : ∀ (v3 : Int32) (v4 : Int32) (U : cU), rec11 v3 v4 U = some Rt → frec11 v3 v4 (pU σ A N U) = some (Rt.1, (pU σ A N Rt.2))) {U : cU} (h : h_X5_most_48 N rec11 v1 v2 v3 v4 U = some Rt) : f_X5_most_48 (aad A 4) frec11 v1 v2 v3 v4 (pU σ A N U) = some (Rt.1, (pU σ A N Rt.2)) := by
  unfold h_X5_most_48 at h
  unfold f_X5_most_48
  refine z_ifq h (fun h => ?_) (fun h => ?_)
  · refine z_zlq h (fun x5 h => ?_)
    exact hrec11 _ _ _ h
  · obtain rfl := Option.some.inj h
    rfl

def h_X5_most_11_b (N : Nat → Nat) (v1 : Int32) (v2 : Int32) (rec11 : Int32 → Int32 → cU → Option (Int32 × cU)) (v3 : Int32) (v4 : Int32) (U : cU) : Option (Int32 × cU) :=
  zb2 (h_J17_bitCount N v4 U) fun x3 U4 =>
  if (U4.1 23) < x3 then
    h_X5_most_48 N rec11 v1 v2 v3 v4 U4
  else
    (uL U4 7 64 v4).bind fun x6 =>
    zb2 (h_X5_behind N v1 v4 U4) fun x7 U8 =>
    (uL U8 (9 - uw U4) 4096 x7).bind fun x9 =>
    zl (zmax v3 (x6 + x9)) fun x10 =>
    h_X5_most_48 N rec11 v1 v2 x10 v4 U8

def h_X5_most_11 (N : Nat → Nat) (v1 : Int32) (v2 : Int32) : Int32 → Int32 → cU → Option (Int32 × cU) := zlp2 (h_X5_most_11_b N v1 v2) NN
set_option maxHeartbeats 4000000 in
theorem e_X5_most_11_b {σ : zS} {A : cA} {N : Nat → Nat} (hA : cOKN σ A N) {Rt : Int32 × cU} {v1 : Int32} {v2 : Int32} {rec11 : Int32 → Int32 → cU → Option (Int32 × cU)} {frec11 : Int32 → Int32 → zS → Option (Int32 × zS)} (hrec11 : ∀ (v3 : Int32) (v4 : Int32) (U : cU), rec11 v3 v4 U = some Rt → frec11 v3 v4 (pU σ A N U) = some (Rt.1, (pU σ A N Rt.2))) {v3 : Int32} {v4 : Int32} {U : cU} (h : h_X5_most_11_b N v1 v2 rec11 v3 v4 U = some Rt) : f_X5_most_11_b (aad A 4) v1 v2 frec11 v3 v4 (pU σ A N U) = some (Rt.1, (pU σ A N Rt.2)) := by
  unfold h_X5_most_11_b at h
  unfold f_X5_most_11_b
  obtain ⟨x3, U4, e9, h⟩ := z_bd2 h
  refine z_b2q (e_J17_bitCount hA e9) ?_
  refine z_bq (cgI hA (r := 4) (ci := 4) (V := (U4.1, U4.2, N)) rfl rfl rfl) ?_
  refine z_ifq h (fun h => ?_) (fun h => ?_)
  · exact e_X5_most_48 hA hrec11 h
  · refine z_bq (cgR hA (r := 4) (ci := 4) (V := (U4.1, U4.2, N)) (q := some (aad A 8)) rfl rfl rfl) ?_
    refine z_bq rfl ?_
    obtain ⟨x6, e9, h⟩ := z_bd h
    refine z_bq (clI hA (r := 8) (t := 7) (n := 64) (V := (U4.1, U4.2, N)) rfl rfl e9) ?_
    refine z_bq (cgR hA (r := 4) (ci := 4) (V := (U4.1, U4.2, N)) (q := some (aad A (10 - uw U4))) rfl rfl rfl) ?_
    refine z_zifq (ccl hA (r := 4) (ci := 4) (V := (U4.1, U4.2, N)) rfl rfl) ?_
    obtain ⟨x7, U8, e9, h⟩ := z_bd2 h
    refine z_b2q (e_X5_behind hA e9) ?_
    refine z_bq rfl ?_
    obtain ⟨x9, e9, h⟩ := z_bd h
    refine z_bq (clI hA (r := (10 - uw U4)) (t := (9 - uw U4)) (n := 4096) (V := (U8.1, U8.2, N)) cnext rfl e9) ?_
    refine z_zlq h (fun x10 h => ?_)
    exact e_X5_most_48 hA hrec11 h

theorem e_X5_most_11 {σ : zS} {A : cA} {N : Nat → Nat} (hA : cOKN σ A N) {Rt : Int32 × cU} {v1 : Int32} {v2 : Int32} {v3 : Int32} {v4 : Int32} {U : cU} (h : h_X5_most_11 N v1 v2 v3 v4 U = some Rt) : f_X5_most_11 (aad A 4) v1 v2 v3 v4 (pU σ A N U) = some (Rt.1, (pU σ A N Rt.2)) := by
  unfold h_X5_most_11 at h
  unfold f_X5_most_11
  generalize NN = n9 at h ⊢
  exact zlp2_rel (F := f_X5_most_11_b (aad A 4) v1 v2) (G := h_X5_most_11_b N v1 v2) (R := Rt) (R' := (Rt.1, (pU σ A N Rt.2))) (fun v => v) (fun v => v) (pU σ A N) (fun rf rg hr v3 v4 t h => e_X5_most_11_b hA (frec11 := rf) hr h) n9 v3 v4 U h
def h_X5_most (N : Nat → Nat) (p1 : Int32) (U : cU) : Option (Int32 × cU) :=
  zb2 (h_X5_rested N p1 U) fun x1 U2 =>
  h_X5_most_11 N p1 x1 0 x1 U2

set_option maxHeartbeats 4000000 in
theorem e_X5_most {σ : zS} {A : cA} {N : Nat → Nat} (hA : cOKN σ A N) {p1 : Int32} {U : cU} {Rt : Int32 × cU} (h : h_X5_most N p1 U = some Rt) : f_X5_most (aad A 4) p1 (pU σ A N U) = some (Rt.1, (pU σ A N Rt.2)) := by
  unfold h_X5_most at h
  unfold f_X5_most
  refine z_zifq (ccl hA (r := 4) (ci := 4) (V := (U.1, U.2, N)) rfl rfl) ?_
  obtain ⟨x1, U2, e9, h⟩ := z_bd2 h
  refine z_b2q (e_X5_rested hA e9) ?_
  exact e_X5_most_11 hA h

def h_X5_first_35 (N : Nat → Nat) (rec2 : Int32 → cU → Option (Int32 × cU)) (v1 : Int32) (v2 : Int32) (U : cU) : Option (Int32 × cU) :=
  zl (v2 + 1) fun x3 =>
  rec2 x3 U

set_option maxHeartbeats 4000000 in
theorem e_X5_first_35 {σ : zS} {A : cA} {N : Nat → Nat} (hA : cOKN σ A N) {Rt : Int32 × cU} {v1 : Int32} {v2 : Int32} {rec2 : Int32 → cU → Option (Int32 × cU)} {frec2 : Int32 → zS → Option (Int32 × zS)} (hrec2 : ∀ (v2 : Int32) (U : cU), rec2 v2 U = some Rt → frec2 v2 (pU σ A N U) = some (Rt.1, (pU σ A N Rt.2))) {U : cU} (h : h_X5_first_35 N rec2 v1 v2 U = some Rt) : f_X5_first_35 (aad A 4) frec2 v1 v2 (pU σ A N U) = some (Rt.1, (pU σ A N Rt.2)) := by
  unfold h_X5_first_35 at h
  unfold f_X5_first_35
  refine z_zlq h (fun x3 h => ?_)
  exact hrec2 _ _ h

def h_X5_first_2_b (N : Nat → Nat) (v1 : Int32) (rec2 : Int32 → cU → Option (Int32 × cU)) (v2 : Int32) (U : cU) : Option (Int32 × cU) :=
  zb2 (h_J17_bitCount N v2 U) fun x1 U2 =>
  if (U2.1 23) < x1 then
    h_X5_first_35 N rec2 v1 v2 U2
  else
    (uL U2 7 64 v2).bind fun x4 =>
    zb2 (h_X5_behind N 0 v2 U2) fun x5 U6 =>
    (uL U6 (9 - uw U2) 4096 x5).bind fun x7 =>
    if v1 ≤ (x4 + x7) then
      some (v2, U6)
    else
      h_X5_first_35 N rec2 v1 v2 U6

def h_X5_first_2 (N : Nat → Nat) (v1 : Int32) : Int32 → cU → Option (Int32 × cU) := zlp1 (h_X5_first_2_b N v1) NN
set_option maxHeartbeats 4000000 in
theorem e_X5_first_2_b {σ : zS} {A : cA} {N : Nat → Nat} (hA : cOKN σ A N) {Rt : Int32 × cU} {v1 : Int32} {rec2 : Int32 → cU → Option (Int32 × cU)} {frec2 : Int32 → zS → Option (Int32 × zS)} (hrec2 : ∀ (v2 : Int32) (U : cU), rec2 v2 U = some Rt → frec2 v2 (pU σ A N U) = some (Rt.1, (pU σ A N Rt.2))) {v2 : Int32} {U : cU} (h : h_X5_first_2_b N v1 rec2 v2 U = some Rt) : f_X5_first_2_b (aad A 4) v1 frec2 v2 (pU σ A N U) = some (Rt.1, (pU σ A N Rt.2)) := by
  unfold h_X5_first_2_b at h
  unfold f_X5_first_2_b
  obtain ⟨x1, U2, e9, h⟩ := z_bd2 h
  refine z_b2q (e_J17_bitCount hA e9) ?_
  refine z_bq (cgI hA (r := 4) (ci := 4) (V := (U2.1, U2.2, N)) rfl rfl rfl) ?_
  refine z_ifq h (fun h => ?_) (fun h => ?_)
  · exact e_X5_first_35 hA hrec2 h
  · refine z_bq (cgR hA (r := 4) (ci := 4) (V := (U2.1, U2.2, N)) (q := some (aad A 8)) rfl rfl rfl) ?_
    refine z_bq rfl ?_
    obtain ⟨x4, e9, h⟩ := z_bd h
    refine z_bq (clI hA (r := 8) (t := 7) (n := 64) (V := (U2.1, U2.2, N)) rfl rfl e9) ?_
    refine z_bq (cgR hA (r := 4) (ci := 4) (V := (U2.1, U2.2, N)) (q := some (aad A (10 - uw U2))) rfl rfl rfl) ?_
    refine z_zifq (ccl hA (r := 4) (ci := 4) (V := (U2.1, U2.2, N)) rfl rfl) ?_
    obtain ⟨x5, U6, e9, h⟩ := z_bd2 h
    refine z_b2q (e_X5_behind hA e9) ?_
    refine z_bq rfl ?_
    obtain ⟨x7, e9, h⟩ := z_bd h
    refine z_bq (clI hA (r := (10 - uw U2)) (t := (9 - uw U2)) (n := 4096) (V := (U6.1, U6.2, N)) cnext rfl e9) ?_
    refine z_ifq h (fun h => ?_) (fun h => ?_)
    · obtain rfl := Option.some.inj h
      rfl
    · exact e_X5_first_35 hA hrec2 h

theorem e_X5_first_2 {σ : zS} {A : cA} {N : Nat → Nat} (hA : cOKN σ A N) {Rt : Int32 × cU} {v1 : Int32} {v2 : Int32} {U : cU} (h : h_X5_first_2 N v1 v2 U = some Rt) : f_X5_first_2 (aad A 4) v1 v2 (pU σ A N U) = some (Rt.1, (pU σ A N Rt.2)) := by
  unfold h_X5_first_2 at h
  unfold f_X5_first_2
  generalize NN = n9 at h ⊢
  exact zlp1_rel (F := f_X5_first_2_b (aad A 4) v1) (G := h_X5_first_2_b N v1) (R := Rt) (R' := (Rt.1, (pU σ A N Rt.2))) (fun v => v) (pU σ A N) (fun rf rg hr v2 t h => e_X5_first_2_b hA (frec2 := rf) hr h) n9 v2 U h
def h_X5_first (N : Nat → Nat) (p1 : Int32) (U : cU) : Option (Int32 × cU) :=
  h_X5_first_2 N p1 0 U

set_option maxHeartbeats 4000000 in
theorem e_X5_first {σ : zS} {A : cA} {N : Nat → Nat} (hA : cOKN σ A N) {p1 : Int32} {U : cU} {Rt : Int32 × cU} (h : h_X5_first N p1 U = some Rt) : f_X5_first (aad A 4) p1 (pU σ A N U) = some (Rt.1, (pU σ A N Rt.2)) := by
  unfold h_X5_first at h
  unfold f_X5_first
  exact e_X5_first_2 hA h

def h_X5_begins_151_b (N : Nat → Nat) (lw : Bool) (nb : cU → Option Int32) (rec131 : Int32 → cU → Option (Unit × cU)) (v3 : Int32) (rec151 : Int32 → cU → Option (Unit × cU)) (v4 : Int32) (U : cU) : Option (Unit × cU) :=
  if (U.1 21) ≤ v4 then
    zl (v3 + 1) fun x5 =>
    rec131 x5 U
  else
    (uL U 7 64 v3).bind fun x6 =>
    (uL U 6 6 v4).bind fun x7 =>
    (uSt U 7 64 v3 (x6 + (((v3 >>> (v4 &&& 31)) &&& 1) * x7))).bind fun U8 =>
    zl (v4 + 1) fun x9 =>
    rec151 x9 U8

def h_X5_begins_151 (N : Nat → Nat) (lw : Bool) (nb : cU → Option Int32) (rec131 : Int32 → cU → Option (Unit × cU)) (v3 : Int32) : Int32 → cU → Option (Unit × cU) := zlp1 (h_X5_begins_151_b N lw nb rec131 v3) NN
set_option maxHeartbeats 4000000 in
theorem e_X5_begins_151_b {σ : zS} {A : cA} {N : Nat → Nat} (hA : cOKN σ A N) {lw : Bool} {nb : cU → Option Int32} (hlw : (arf A 1).isSome = lw) (hnb : ∀ a U n, arf A 1 = some a → nb U = some n → f_X12_number a (some (aad A 3)) (pU σ A N U) = some (n, pU σ A N U)) (hlc : ∀ a U, arf A 1 = some a → zcl (pU σ A N U) a = 11) {Rt : Unit × cU} {v3 : Int32} {rec131 : Int32 → cU → Option (Unit × cU)} {frec131 : Int32 → zS → Option (Unit × zS)} (hrec131 : ∀ (v3 : Int32) (U : cU), rec131 v3 U = some Rt → frec131 v3 (pU σ A N U) = some (Rt.1, (pU σ A N Rt.2))) {rec151 : Int32 → cU → Option (Unit × cU)} {frec151 : Int32 → zS → Option (Unit × zS)} (hrec151 : ∀ (v4 : Int32) (U : cU), rec151 v4 U = some Rt → frec151 v4 (pU σ A N U) = some (Rt.1, (pU σ A N Rt.2))) {v4 : Int32} {U : cU} (h : h_X5_begins_151_b N lw nb rec131 v3 rec151 v4 U = some Rt) : f_X5_begins_151_b (aad A 4) frec131 v3 frec151 v4 (pU σ A N U) = some (Rt.1, (pU σ A N Rt.2)) := by
  unfold h_X5_begins_151_b at h
  unfold f_X5_begins_151_b
  refine z_bq (cgI hA (r := 4) (ci := 4) (V := (U.1, U.2, N)) rfl rfl rfl) ?_
  refine z_ifq h (fun h => ?_) (fun h => ?_)
  · refine z_zlq h (fun x5 h => ?_)
    exact hrec131 _ _ h
  · refine z_bq (cgR hA (r := 4) (ci := 4) (V := (U.1, U.2, N)) (q := some (aad A 8)) rfl rfl rfl) ?_
    refine z_bq rfl ?_
    obtain ⟨x6, e9, h⟩ := z_bd h
    refine z_bq (clI hA (r := 8) (t := 7) (n := 64) (V := (U.1, U.2, N)) rfl rfl e9) ?_
    refine z_bq (cgR hA (r := 4) (ci := 4) (V := (U.1, U.2, N)) (q := some (aad A 7)) rfl rfl rfl) ?_
    refine z_bq rfl ?_
    obtain ⟨x7, e9, h⟩ := z_bd h
    refine z_bq (clI hA (r := 7) (t := 6) (n := 6) (V := (U.1, U.2, N)) rfl rfl e9) ?_
    obtain ⟨U8, e9, h⟩ := z_bd h
    refine z_bq (csU7 hA e9) ?_
    refine z_zlq h (fun x9 h => ?_)
    exact hrec151 _ _ h

theorem e_X5_begins_151 {σ : zS} {A : cA} {N : Nat → Nat} (hA : cOKN σ A N) {lw : Bool} {nb : cU → Option Int32} (hlw : (arf A 1).isSome = lw) (hnb : ∀ a U n, arf A 1 = some a → nb U = some n → f_X12_number a (some (aad A 3)) (pU σ A N U) = some (n, pU σ A N U)) (hlc : ∀ a U, arf A 1 = some a → zcl (pU σ A N U) a = 11) {Rt : Unit × cU} {v3 : Int32} {rec131 : Int32 → cU → Option (Unit × cU)} {frec131 : Int32 → zS → Option (Unit × zS)} (hrec131 : ∀ (v3 : Int32) (U : cU), rec131 v3 U = some Rt → frec131 v3 (pU σ A N U) = some (Rt.1, (pU σ A N Rt.2))) {v4 : Int32} {U : cU} (h : h_X5_begins_151 N lw nb rec131 v3 v4 U = some Rt) : f_X5_begins_151 (aad A 4) frec131 v3 v4 (pU σ A N U) = some (Rt.1, (pU σ A N Rt.2)) := by
  unfold h_X5_begins_151 at h
  unfold f_X5_begins_151
  generalize NN = n9 at h ⊢
  exact zlp1_rel (F := f_X5_begins_151_b (aad A 4) frec131 v3) (G := h_X5_begins_151_b N lw nb rec131 v3) (R := Rt) (R' := (Rt.1, (pU σ A N Rt.2))) (fun v => v) (pU σ A N) (fun rf rg hr v4 t h => e_X5_begins_151_b hA hlw hnb hlc hrec131 (frec151 := rf) hr h) n9 v4 U h
def h_X5_begins_131_b (N : Nat → Nat) (lw : Bool) (nb : cU → Option Int32) (rec131 : Int32 → cU → Option (Unit × cU)) (v3 : Int32) (U : cU) : Option (Unit × cU) :=
  if (1 <<< ((U.1 21) &&& 31)) ≤ v3 then
    some ((), U)
  else
    (uSt U 7 64 v3 0).bind fun U4 =>
    h_X5_begins_151 N lw nb rec131 v3 0 U4

def h_X5_begins_131 (N : Nat → Nat) (lw : Bool) (nb : cU → Option Int32) : Int32 → cU → Option (Unit × cU) := zlp1 (h_X5_begins_131_b N lw nb) NN
set_option maxHeartbeats 4000000 in
theorem e_X5_begins_131_b {σ : zS} {A : cA} {N : Nat → Nat} (hA : cOKN σ A N) {lw : Bool} {nb : cU → Option Int32} (hlw : (arf A 1).isSome = lw) (hnb : ∀ a U n, arf A 1 = some a → nb U = some n → f_X12_number a (some (aad A 3)) (pU σ A N U) = some (n, pU σ A N U)) (hlc : ∀ a U, arf A 1 = some a → zcl (pU σ A N U) a = 11) {Rt : Unit × cU} {rec131 : Int32 → cU → Option (Unit × cU)} {frec131 : Int32 → zS → Option (Unit × zS)} (hrec131 : ∀ (v3 : Int32) (U : cU), rec131 v3 U = some Rt → frec131 v3 (pU σ A N U) = some (Rt.1, (pU σ A N Rt.2))) {v3 : Int32} {U : cU} (h : h_X5_begins_131_b N lw nb rec131 v3 U = some Rt) : f_X5_begins_131_b (aad A 4) frec131 v3 (pU σ A N U) = some (Rt.1, (pU σ A N Rt.2)) := by
  unfold h_X5_begins_131_b at h
  unfold f_X5_begins_131_b
  refine z_bq (cgI hA (r := 4) (ci := 4) (V := (U.1, U.2, N)) rfl rfl rfl) ?_
  refine z_ifq h (fun h => ?_) (fun h => ?_)
  · obtain rfl := Option.some.inj h
    rfl
  · refine z_bq (cgR hA (r := 4) (ci := 4) (V := (U.1, U.2, N)) (q := some (aad A 8)) rfl rfl rfl) ?_
    refine z_bq rfl ?_
    obtain ⟨U4, e9, h⟩ := z_bd h
    refine z_bq (csU7 hA e9) ?_
    exact e_X5_begins_151 hA hlw hnb hlc hrec131 h

theorem e_X5_begins_131 {σ : zS} {A : cA} {N : Nat → Nat} (hA : cOKN σ A N) {lw : Bool} {nb : cU → Option Int32} (hlw : (arf A 1).isSome = lw) (hnb : ∀ a U n, arf A 1 = some a → nb U = some n → f_X12_number a (some (aad A 3)) (pU σ A N U) = some (n, pU σ A N U)) (hlc : ∀ a U, arf A 1 = some a → zcl (pU σ A N U) a = 11) {Rt : Unit × cU} {v3 : Int32} {U : cU} (h : h_X5_begins_131 N lw nb v3 U = some Rt) : f_X5_begins_131 (aad A 4) v3 (pU σ A N U) = some (Rt.1, (pU σ A N Rt.2)) := by
  unfold h_X5_begins_131 at h
  unfold f_X5_begins_131
  generalize NN = n9 at h ⊢
  exact zlp1_rel (F := f_X5_begins_131_b (aad A 4)) (G := h_X5_begins_131_b N lw nb) (R := Rt) (R' := (Rt.1, (pU σ A N Rt.2))) (fun v => v) (pU σ A N) (fun rf rg hr v3 t h => e_X5_begins_131_b hA hlw hnb hlc (frec131 := rf) hr h) n9 v3 U h
def h_X5_begins_129 (N : Nat → Nat) (lw : Bool) (nb : cU → Option Int32) (U : cU) : Option (Unit × cU) :=
  h_X5_begins_131 N lw nb 0 U

set_option maxHeartbeats 4000000 in
theorem e_X5_begins_129 {σ : zS} {A : cA} {N : Nat → Nat} (hA : cOKN σ A N) {lw : Bool} {nb : cU → Option Int32} (hlw : (arf A 1).isSome = lw) (hnb : ∀ a U n, arf A 1 = some a → nb U = some n → f_X12_number a (some (aad A 3)) (pU σ A N U) = some (n, pU σ A N U)) (hlc : ∀ a U, arf A 1 = some a → zcl (pU σ A N U) a = 11) {Rt : Unit × cU} {U : cU} (h : h_X5_begins_129 N lw nb U = some Rt) : f_X5_begins_129 (aad A 4) (pU σ A N U) = some (Rt.1, (pU σ A N Rt.2)) := by
  unfold h_X5_begins_129 at h
  unfold f_X5_begins_129
  exact e_X5_begins_131 hA hlw hnb hlc h

def h_X5_begins_123 (N : Nat → Nat) (lw : Bool) (nb : cU → Option Int32) (rec28 : Int32 → cU → Option (Unit × cU)) (v1 : Int32) (v3 : Int32) (U : cU) : Option (Unit × cU) :=
  zl (v3 + 1) fun x15 =>
  rec28 x15 U

set_option maxHeartbeats 4000000 in
theorem e_X5_begins_123 {σ : zS} {A : cA} {N : Nat → Nat} (hA : cOKN σ A N) {lw : Bool} {nb : cU → Option Int32} (hlw : (arf A 1).isSome = lw) (hnb : ∀ a U n, arf A 1 = some a → nb U = some n → f_X12_number a (some (aad A 3)) (pU σ A N U) = some (n, pU σ A N U)) (hlc : ∀ a U, arf A 1 = some a → zcl (pU σ A N U) a = 11) {Rt : Unit × cU} {v1 : Int32} {v3 : Int32} {rec28 : Int32 → cU → Option (Unit × cU)} {frec28 : Int32 → zS → Option (Unit × zS)} (hrec28 : ∀ (v3 : Int32) (U : cU), rec28 v3 U = some Rt → frec28 v3 (pU σ A N U) = some (Rt.1, (pU σ A N Rt.2))) {U : cU} (h : h_X5_begins_123 N lw nb rec28 v1 v3 U = some Rt) : f_X5_begins_123 (aad A 4) frec28 v1 v3 (pU σ A N U) = some (Rt.1, (pU σ A N Rt.2)) := by
  unfold h_X5_begins_123 at h
  unfold f_X5_begins_123
  refine z_zlq h (fun x15 h => ?_)
  exact hrec28 _ _ h

def h_X5_begins_28_b (N : Nat → Nat) (lw : Bool) (nb : cU → Option Int32) (v1 : Int32) (rec28 : Int32 → cU → Option (Unit × cU)) (v3 : Int32) (U : cU) : Option (Unit × cU) :=
  if (Int32.ofNat (N 1)) ≤ v3 then
    h_X5_begins_129 N lw nb U
  else
    if 6 ≤ (U.1 21) then
      h_X5_begins_129 N lw nb U
    else
      (vix (N 1) v3).bind fun i10 =>
      if (U.2 1 (4 * i10 + 3)) = v1 then
        zb2 (h_X1_counted N lw nb v3 v1 (Int32.ofNat (N 2)) 0 U) fun x11 U12 =>
        (uSt U12 6 6 (U.1 21) x11).bind fun U13 =>
        zl (uset U13 21 ((U13.1 21) + 1)) fun U14 =>
        h_X5_begins_123 N lw nb rec28 v1 v3 U14
      else
        h_X5_begins_123 N lw nb rec28 v1 v3 U

def h_X5_begins_28 (N : Nat → Nat) (lw : Bool) (nb : cU → Option Int32) (v1 : Int32) : Int32 → cU → Option (Unit × cU) := zlp1 (h_X5_begins_28_b N lw nb v1) NN
set_option maxHeartbeats 4000000 in
theorem e_X5_begins_28_b {σ : zS} {A : cA} {N : Nat → Nat} (hA : cOKN σ A N) {lw : Bool} {nb : cU → Option Int32} (hlw : (arf A 1).isSome = lw) (hnb : ∀ a U n, arf A 1 = some a → nb U = some n → f_X12_number a (some (aad A 3)) (pU σ A N U) = some (n, pU σ A N U)) (hlc : ∀ a U, arf A 1 = some a → zcl (pU σ A N U) a = 11) {Rt : Unit × cU} {v1 : Int32} {rec28 : Int32 → cU → Option (Unit × cU)} {frec28 : Int32 → zS → Option (Unit × zS)} (hrec28 : ∀ (v3 : Int32) (U : cU), rec28 v3 U = some Rt → frec28 v3 (pU σ A N U) = some (Rt.1, (pU σ A N Rt.2))) {v3 : Int32} {U : cU} (h : h_X5_begins_28_b N lw nb v1 rec28 v3 U = some Rt) : f_X5_begins_28_b (aad A 4) v1 frec28 v3 (pU σ A N U) = some (Rt.1, (pU σ A N Rt.2)) := by
  unfold h_X5_begins_28_b at h
  unfold f_X5_begins_28_b
  refine z_bq (cgR hA (r := 4) (ci := 4) (V := (U.1, U.2, N)) (q := some (aad A 0)) rfl rfl rfl) ?_
  refine z_bq rfl ?_
  refine z_bq (cgR hA (r := 0) (ci := 0) (V := (U.1, U.2, N)) (q := some (aad A 1)) rfl rfl rfl) ?_
  refine z_bq rfl ?_
  refine z_bq (cgR hA (r := 1) (ci := 1) (V := (U.1, U.2, N)) (q := some (aad A 12)) rfl rfl rfl) ?_
  refine z_bq rfl ?_
  refine z_zifq (ccl hA (r := 12) (ci := 19) (V := (U.1, U.2, N)) rfl rfl) ?_
  refine z_b2q (csize hA (j := 1) (V := (U.1, U.2, N)) (by decide) (by decide)) ?_
  refine z_ifq h (fun h => ?_) (fun h => ?_)
  · exact e_X5_begins_129 hA hlw hnb hlc h
  · refine z_bq (cgI hA (r := 4) (ci := 4) (V := (U.1, U.2, N)) rfl rfl rfl) ?_
    refine z_ifq h (fun h => ?_) (fun h => ?_)
    · exact e_X5_begins_129 hA hlw hnb hlc h
    · refine z_bq (cgR hA (r := 4) (ci := 4) (V := (U.1, U.2, N)) (q := some (aad A 0)) rfl rfl rfl) ?_
      refine z_bq rfl ?_
      refine z_bq (cgR hA (r := 0) (ci := 0) (V := (U.1, U.2, N)) (q := some (aad A 1)) rfl rfl rfl) ?_
      refine z_bq rfl ?_
      refine z_bq (cgR hA (r := 1) (ci := 1) (V := (U.1, U.2, N)) (q := some (aad A 12)) rfl rfl rfl) ?_
      refine z_bq rfl ?_
      refine z_zifq (ccl hA (r := 12) (ci := 19) (V := (U.1, U.2, N)) rfl rfl) ?_
      obtain ⟨i10, q_i10, h⟩ := z_bd h
      have hi_i10 := (vix_inv q_i10).2.1
      refine z_b2q (cget hA (j := 1) (V := (U.1, U.2, N)) (by decide) (by decide) q_i10) ?_
      refine z_zifq (cckC hA (r := (100 * 1 + i10)) (ci := 6) (V := (U.1, U.2, N)) (cE1_ hA hi_i10) rfl) ?_
      refine z_bq rfl ?_
      refine z_bq (cgI hA (r := (100 * 1 + i10)) (ci := 6) (V := (U.1, U.2, N)) (cE1_ hA hi_i10) rfl rfl) ?_
      refine z_ifq h (fun h => ?_) (fun h => ?_)
      · refine z_bq (cgR hA (r := 4) (ci := 4) (V := (U.1, U.2, N)) (q := some (aad A 7)) rfl rfl rfl) ?_
        refine z_bq (cgI hA (r := 4) (ci := 4) (V := (U.1, U.2, N)) rfl rfl rfl) ?_
        refine z_bq (cgR hA (r := 4) (ci := 4) (V := (U.1, U.2, N)) (q := some (aad A 0)) rfl rfl rfl) ?_
        refine z_bq (cgR hA (r := 4) (ci := 4) (V := (U.1, U.2, N)) (q := some (aad A 0)) rfl rfl rfl) ?_
        refine z_bq rfl ?_
        refine z_bq (cgR hA (r := 0) (ci := 0) (V := (U.1, U.2, N)) (q := some (aad A 1)) rfl rfl rfl) ?_
        refine z_bq rfl ?_
        refine z_bq (cgR hA (r := 1) (ci := 1) (V := (U.1, U.2, N)) (q := some (aad A 13)) rfl rfl rfl) ?_
        refine z_bq rfl ?_
        refine z_zifq (ccl hA (r := 13) (ci := 19) (V := (U.1, U.2, N)) rfl rfl) ?_
        refine z_b2q (csize hA (j := 2) (V := (U.1, U.2, N)) (by decide) (by decide)) ?_
        refine z_bq rfl ?_
        refine z_zifq (ccl hA (r := 0) (ci := 0) (V := (U.1, U.2, N)) rfl rfl) ?_
        obtain ⟨x11, U12, e9, h⟩ := z_bd2 h
        refine z_b2q (e_X1_counted hA hlw hnb hlc e9) ?_
        refine z_bq rfl ?_
        obtain ⟨U13, e9, h⟩ := z_bd h
        refine z_bq (csU6 hA e9) ?_
        refine z_bq (cgI hA (r := 4) (ci := 4) (V := (U13.1, U13.2, N)) rfl rfl rfl) ?_
        refine z_putq (cpF hA (r := 4) (ci := 4) (V := (U13.1, U13.2, N)) (V' := ((uset U13 21 ((U13.1 21) + 1)).1, (uset U13 21 ((U13.1 21) + 1)).2, N)) rfl (Nat.le_of_ble_eq_true rfl) rfl (vso_21 (V := (U13.1, U13.2, N)) (x := (U13.1 21) + 1))) h (fun U14 h => ?_)
        exact e_X5_begins_123 hA hlw hnb hlc hrec28 h
      · exact e_X5_begins_123 hA hlw hnb hlc hrec28 h

theorem e_X5_begins_28 {σ : zS} {A : cA} {N : Nat → Nat} (hA : cOKN σ A N) {lw : Bool} {nb : cU → Option Int32} (hlw : (arf A 1).isSome = lw) (hnb : ∀ a U n, arf A 1 = some a → nb U = some n → f_X12_number a (some (aad A 3)) (pU σ A N U) = some (n, pU σ A N U)) (hlc : ∀ a U, arf A 1 = some a → zcl (pU σ A N U) a = 11) {Rt : Unit × cU} {v1 : Int32} {v3 : Int32} {U : cU} (h : h_X5_begins_28 N lw nb v1 v3 U = some Rt) : f_X5_begins_28 (aad A 4) v1 v3 (pU σ A N U) = some (Rt.1, (pU σ A N Rt.2)) := by
  unfold h_X5_begins_28 at h
  unfold f_X5_begins_28
  generalize NN = n9 at h ⊢
  exact zlp1_rel (F := f_X5_begins_28_b (aad A 4) v1) (G := h_X5_begins_28_b N lw nb v1) (R := Rt) (R' := (Rt.1, (pU σ A N Rt.2))) (fun v => v) (pU σ A N) (fun rf rg hr v3 t h => e_X5_begins_28_b hA hlw hnb hlc (frec28 := rf) hr h) n9 v3 U h
def h_X5_begins (N : Nat → Nat) (lw : Bool) (nb : cU → Option Int32) (p1 : Int32) (p2 : Int32) (U : cU) : Option (Unit × cU) :=
  zl (uset U 21 0) fun U1 =>
  zl (uset U1 22 ((U1.1 3) + 1)) fun U2 =>
  zl (uset U2 23 p2) fun U3 =>
  h_X5_begins_28 N lw nb p1 0 U3

set_option maxHeartbeats 4000000 in
theorem e_X5_begins {σ : zS} {A : cA} {N : Nat → Nat} (hA : cOKN σ A N) {lw : Bool} {nb : cU → Option Int32} (hlw : (arf A 1).isSome = lw) (hnb : ∀ a U n, arf A 1 = some a → nb U = some n → f_X12_number a (some (aad A 3)) (pU σ A N U) = some (n, pU σ A N U)) (hlc : ∀ a U, arf A 1 = some a → zcl (pU σ A N U) a = 11) {p1 : Int32} {p2 : Int32} {U : cU} {Rt : Unit × cU} (h : h_X5_begins N lw nb p1 p2 U = some Rt) : f_X5_begins (aad A 4) p1 p2 (pU σ A N U) = some (Rt.1, (pU σ A N Rt.2)) := by
  unfold h_X5_begins at h
  unfold f_X5_begins
  refine z_putq (cpF hA (r := 4) (ci := 4) (V := (U.1, U.2, N)) (V' := ((uset U 21 0).1, (uset U 21 0).2, N)) rfl (Nat.le_of_ble_eq_true rfl) rfl (vso_21 (V := (U.1, U.2, N)) (x := 0))) h (fun U1 h => ?_)
  refine z_bq (cgR hA (r := 4) (ci := 4) (V := (U1.1, U1.2, N)) (q := some (aad A 0)) rfl rfl rfl) ?_
  refine z_bq rfl ?_
  refine z_bq (cgR hA (r := 0) (ci := 0) (V := (U1.1, U1.2, N)) (q := some (aad A 1)) rfl rfl rfl) ?_
  refine z_bq rfl ?_
  refine z_bq (cgI hA (r := 1) (ci := 1) (V := (U1.1, U1.2, N)) rfl rfl rfl) ?_
  refine z_putq (cpF hA (r := 4) (ci := 4) (V := (U1.1, U1.2, N)) (V' := ((uset U1 22 ((U1.1 3) + 1)).1, (uset U1 22 ((U1.1 3) + 1)).2, N)) rfl (Nat.le_of_ble_eq_true rfl) rfl (vso_22 (V := (U1.1, U1.2, N)) (x := (U1.1 3) + 1))) h (fun U2 h => ?_)
  refine z_putq (cpF hA (r := 4) (ci := 4) (V := (U2.1, U2.2, N)) (V' := ((uset U2 23 p2).1, (uset U2 23 p2).2, N)) rfl (Nat.le_of_ble_eq_true rfl) rfl (vso_23 (V := (U2.1, U2.2, N)) (x := p2))) h (fun U3 h => ?_)
  exact e_X5_begins_28 hA hlw hnb hlc h

def h_X3_cut (N : Nat → Nat) (p1 : Int32) (U : cU) : Option (Int32 × cU) :=
  if p1 < 0 then
    some ((0 : Int32), U)
  else
    if p1 ≤ (U.1 8) then
      zl (uset U 8 p1) fun U1 =>
      some ((1 : Int32), U1)
    else
      some ((0 : Int32), U)

set_option maxHeartbeats 4000000 in
theorem e_X3_cut {σ : zS} {A : cA} {N : Nat → Nat} (hA : cOKN σ A N) {p1 : Int32} {U : cU} {Rt : Int32 × cU} (h : h_X3_cut N p1 U = some Rt) : f_X3_cut (aad A 2) p1 (pU σ A N U) = some (Rt.1, (pU σ A N Rt.2)) := by
  unfold h_X3_cut at h
  unfold f_X3_cut
  refine z_ifq h (fun h => ?_) (fun h => ?_)
  · obtain rfl := Option.some.inj h
    rfl
  · refine z_bq (cgI hA (r := 2) (ci := 2) (V := (U.1, U.2, N)) rfl rfl rfl) ?_
    refine z_ifq h (fun h => ?_) (fun h => ?_)
    · refine z_putq (cpF hA (r := 2) (ci := 2) (V := (U.1, U.2, N)) (V' := ((uset U 8 p1).1, (uset U 8 p1).2, N)) rfl (Nat.le_of_ble_eq_true rfl) rfl (vso_8 (V := (U.1, U.2, N)) (x := p1))) h (fun U1 h => ?_)
      obtain rfl := Option.some.inj h
      rfl
    · obtain rfl := Option.some.inj h
      rfl

def h_X3_begins (N : Nat → Nat) (U : cU) : Option (Unit × cU) :=
  zl (uset U 9 (U.1 8)) fun U1 =>
  zl (uset U1 8 0) fun U2 =>
  zl (uset U2 10 0) fun U3 =>
  zl (uset U3 13 0) fun U4 =>
  some ((), U4)

set_option maxHeartbeats 4000000 in
theorem e_X3_begins {σ : zS} {A : cA} {N : Nat → Nat} (hA : cOKN σ A N) {U : cU} {Rt : Unit × cU} (h : h_X3_begins N U = some Rt) : f_X3_begins (aad A 2) (pU σ A N U) = some (Rt.1, (pU σ A N Rt.2)) := by
  unfold h_X3_begins at h
  unfold f_X3_begins
  refine z_bq (cgI hA (r := 2) (ci := 2) (V := (U.1, U.2, N)) rfl rfl rfl) ?_
  refine z_putq (cpF hA (r := 2) (ci := 2) (V := (U.1, U.2, N)) (V' := ((uset U 9 (U.1 8)).1, (uset U 9 (U.1 8)).2, N)) rfl (Nat.le_of_ble_eq_true rfl) rfl (vso_9 (V := (U.1, U.2, N)) (x := U.1 8))) h (fun U1 h => ?_)
  refine z_putq (cpF hA (r := 2) (ci := 2) (V := (U1.1, U1.2, N)) (V' := ((uset U1 8 0).1, (uset U1 8 0).2, N)) rfl (Nat.le_of_ble_eq_true rfl) rfl (vso_8 (V := (U1.1, U1.2, N)) (x := 0))) h (fun U2 h => ?_)
  refine z_putq (cpF hA (r := 2) (ci := 2) (V := (U2.1, U2.2, N)) (V' := ((uset U2 10 0).1, (uset U2 10 0).2, N)) rfl (Nat.le_of_ble_eq_true rfl) rfl (vso_10 (V := (U2.1, U2.2, N)) (x := 0))) h (fun U3 h => ?_)
  refine z_putq (cpF hA (r := 2) (ci := 2) (V := (U3.1, U3.2, N)) (V' := ((uset U3 13 0).1, (uset U3 13 0).2, N)) rfl (Nat.le_of_ble_eq_true rfl) rfl (vso_13 (V := (U3.1, U3.2, N)) (x := 0))) h (fun U4 h => ?_)
  obtain rfl := Option.some.inj h
  rfl

def h_X3_byteAt (N : Nat → Nat) (p1 : Int32) (U : cU) : Option (Int32 × cU) :=
  if (U.1 9) ≤ p1 then
    some (((-1) : Int32), U)
  else
    (uL U 10 400 p1).bind fun x1 =>
    some (x1, U)

set_option maxHeartbeats 4000000 in
theorem e_X3_byteAt {σ : zS} {A : cA} {N : Nat → Nat} (hA : cOKN σ A N) {p1 : Int32} {U : cU} {Rt : Int32 × cU} (h : h_X3_byteAt N p1 U = some Rt) : f_X3_byteAt (aad A 2) p1 (pU σ A N U) = some (Rt.1, (pU σ A N Rt.2)) := by
  unfold h_X3_byteAt at h
  unfold f_X3_byteAt
  refine z_bq (cgI hA (r := 2) (ci := 2) (V := (U.1, U.2, N)) rfl rfl rfl) ?_
  refine z_ifq h (fun h => ?_) (fun h => ?_)
  · obtain rfl := Option.some.inj h
    rfl
  · refine z_bq (cgR hA (r := 2) (ci := 2) (V := (U.1, U.2, N)) (q := some (aad A 11)) rfl rfl rfl) ?_
    refine z_bq rfl ?_
    obtain ⟨x1, e9, h⟩ := z_bd h
    refine z_bq (clI hA (r := 11) (t := 10) (n := 400) (V := (U.1, U.2, N)) rfl rfl e9) ?_
    obtain rfl := Option.some.inj h
    rfl

def h_X3_blanks_0_b (N : Nat → Nat) (rec0 : cU → Option (Unit × cU)) (U : cU) : Option (Unit × cU) :=
  zb2 (h_X3_byteAt N (U.1 10) U) fun x1 U2 =>
  if ¬ x1 = 32 then
    zl (uset U2 11 (U2.1 10)) fun U3 =>
    some ((), U3)
  else
    zl (uset U2 10 ((U2.1 10) + 1)) fun U4 =>
    rec0 U4

def h_X3_blanks_0 (N : Nat → Nat) : cU → Option (Unit × cU) := zlp0 (h_X3_blanks_0_b N) NN
set_option maxHeartbeats 4000000 in
theorem e_X3_blanks_0_b {σ : zS} {A : cA} {N : Nat → Nat} (hA : cOKN σ A N) {Rt : Unit × cU} {rec0 : cU → Option (Unit × cU)} {frec0 : zS → Option (Unit × zS)} (hrec0 : ∀ (U : cU), rec0 U = some Rt → frec0 (pU σ A N U) = some (Rt.1, (pU σ A N Rt.2))) {U : cU} (h : h_X3_blanks_0_b N rec0 U = some Rt) : f_X3_blanks_0_b (aad A 2) frec0 (pU σ A N U) = some (Rt.1, (pU σ A N Rt.2)) := by
  unfold h_X3_blanks_0_b at h
  unfold f_X3_blanks_0_b
  refine z_bq (cgI hA (r := 2) (ci := 2) (V := (U.1, U.2, N)) rfl rfl rfl) ?_
  refine z_zifq (ccl hA (r := 2) (ci := 2) (V := (U.1, U.2, N)) rfl rfl) ?_
  obtain ⟨x1, U2, e9, h⟩ := z_bd2 h
  refine z_b2q (e_X3_byteAt hA e9) ?_
  refine z_ifq h (fun h => ?_) (fun h => ?_)
  · refine z_bq (cgI hA (r := 2) (ci := 2) (V := (U2.1, U2.2, N)) rfl rfl rfl) ?_
    refine z_putq (cpF hA (r := 2) (ci := 2) (V := (U2.1, U2.2, N)) (V' := ((uset U2 11 (U2.1 10)).1, (uset U2 11 (U2.1 10)).2, N)) rfl (Nat.le_of_ble_eq_true rfl) rfl (vso_11 (V := (U2.1, U2.2, N)) (x := U2.1 10))) h (fun U3 h => ?_)
    obtain rfl := Option.some.inj h
    rfl
  · refine z_bq (cgI hA (r := 2) (ci := 2) (V := (U2.1, U2.2, N)) rfl rfl rfl) ?_
    refine z_putq (cpF hA (r := 2) (ci := 2) (V := (U2.1, U2.2, N)) (V' := ((uset U2 10 ((U2.1 10) + 1)).1, (uset U2 10 ((U2.1 10) + 1)).2, N)) rfl (Nat.le_of_ble_eq_true rfl) rfl (vso_10 (V := (U2.1, U2.2, N)) (x := (U2.1 10) + 1))) h (fun U4 h => ?_)
    exact hrec0 _ h

theorem e_X3_blanks_0 {σ : zS} {A : cA} {N : Nat → Nat} (hA : cOKN σ A N) {Rt : Unit × cU} {U : cU} (h : h_X3_blanks_0 N U = some Rt) : f_X3_blanks_0 (aad A 2) (pU σ A N U) = some (Rt.1, (pU σ A N Rt.2)) := by
  unfold h_X3_blanks_0 at h
  unfold f_X3_blanks_0
  generalize NN = n9 at h ⊢
  exact zlp0_rel (F := f_X3_blanks_0_b (aad A 2)) (G := h_X3_blanks_0_b N) (R := Rt) (R' := (Rt.1, (pU σ A N Rt.2))) (pU σ A N) (fun rf rg hr t h => e_X3_blanks_0_b hA (frec0 := rf) hr h) n9 U h
def h_X3_blanks (N : Nat → Nat) (U : cU) : Option (Unit × cU) :=
  h_X3_blanks_0 N U

set_option maxHeartbeats 4000000 in
theorem e_X3_blanks {σ : zS} {A : cA} {N : Nat → Nat} (hA : cOKN σ A N) {U : cU} {Rt : Unit × cU} (h : h_X3_blanks N U = some Rt) : f_X3_blanks (aad A 2) (pU σ A N U) = some (Rt.1, (pU σ A N Rt.2)) := by
  unfold h_X3_blanks at h
  unfold f_X3_blanks
  exact e_X3_blanks_0 hA h

def h_X3_isOver (N : Nat → Nat) (U : cU) : Option (Int32 × cU) :=
  zb2 (h_X3_blanks N U) fun _ U2 =>
  if ¬ (U2.1 10) = (U2.1 9) then
    some ((0 : Int32), U2)
  else
    some ((1 : Int32), U2)

set_option maxHeartbeats 4000000 in
theorem e_X3_isOver {σ : zS} {A : cA} {N : Nat → Nat} (hA : cOKN σ A N) {U : cU} {Rt : Int32 × cU} (h : h_X3_isOver N U = some Rt) : f_X3_isOver (aad A 2) (pU σ A N U) = some (Rt.1, (pU σ A N Rt.2)) := by
  unfold h_X3_isOver at h
  unfold f_X3_isOver
  refine z_zifq (ccl hA (r := 2) (ci := 2) (V := (U.1, U.2, N)) rfl rfl) ?_
  obtain ⟨u1, U2, e9, h⟩ := z_bd2 h
  refine z_b2q (e_X3_blanks hA e9) ?_
  refine z_bq (cgI hA (r := 2) (ci := 2) (V := (U2.1, U2.2, N)) rfl rfl rfl) ?_
  refine z_bq (cgI hA (r := 2) (ci := 2) (V := (U2.1, U2.2, N)) rfl rfl rfl) ?_
  refine z_ifq h (fun h => ?_) (fun h => ?_)
  · obtain rfl := Option.some.inj h
    rfl
  · obtain rfl := Option.some.inj h
    rfl

def h_X3_sign (N : Nat → Nat) (p1 : Int32) (U : cU) : Option (Int32 × cU) :=
  zb2 (h_X3_blanks N U) fun _ U2 =>
  zb2 (h_X3_byteAt N (U2.1 10) U2) fun x3 U4 =>
  if x3 = p1 then
    zl (uset U4 10 ((U4.1 10) + 1)) fun U5 =>
    some ((1 : Int32), U5)
  else
    some ((0 : Int32), U4)

set_option maxHeartbeats 4000000 in
theorem e_X3_sign {σ : zS} {A : cA} {N : Nat → Nat} (hA : cOKN σ A N) {p1 : Int32} {U : cU} {Rt : Int32 × cU} (h : h_X3_sign N p1 U = some Rt) : f_X3_sign (aad A 2) p1 (pU σ A N U) = some (Rt.1, (pU σ A N Rt.2)) := by
  unfold h_X3_sign at h
  unfold f_X3_sign
  refine z_zifq (ccl hA (r := 2) (ci := 2) (V := (U.1, U.2, N)) rfl rfl) ?_
  obtain ⟨u1, U2, e9, h⟩ := z_bd2 h
  refine z_b2q (e_X3_blanks hA e9) ?_
  refine z_bq (cgI hA (r := 2) (ci := 2) (V := (U2.1, U2.2, N)) rfl rfl rfl) ?_
  refine z_zifq (ccl hA (r := 2) (ci := 2) (V := (U2.1, U2.2, N)) rfl rfl) ?_
  obtain ⟨x3, U4, e9, h⟩ := z_bd2 h
  refine z_b2q (e_X3_byteAt hA e9) ?_
  refine z_ifq h (fun h => ?_) (fun h => ?_)
  · refine z_bq (cgI hA (r := 2) (ci := 2) (V := (U4.1, U4.2, N)) rfl rfl rfl) ?_
    refine z_putq (cpF hA (r := 2) (ci := 2) (V := (U4.1, U4.2, N)) (V' := ((uset U4 10 ((U4.1 10) + 1)).1, (uset U4 10 ((U4.1 10) + 1)).2, N)) rfl (Nat.le_of_ble_eq_true rfl) rfl (vso_10 (V := (U4.1, U4.2, N)) (x := (U4.1 10) + 1))) h (fun U5 h => ?_)
    obtain rfl := Option.some.inj h
    rfl
  · obtain rfl := Option.some.inj h
    rfl

def h_X3_isFigure (N : Nat → Nat) (U : cU) : Option (Int32 × cU) :=
  zb2 (h_X3_blanks N U) fun _ U2 =>
  zb2 (h_X3_byteAt N (U2.1 10) U2) fun x3 U4 =>
  zb2 (h_X1_in N x3 48 57 U4) fun x5 U6 =>
  zbo x5 (some (x5, U6))

set_option maxHeartbeats 4000000 in
theorem e_X3_isFigure {σ : zS} {A : cA} {N : Nat → Nat} (hA : cOKN σ A N) {U : cU} {Rt : Int32 × cU} (h : h_X3_isFigure N U = some Rt) : f_X3_isFigure (aad A 2) (pU σ A N U) = some (Rt.1, (pU σ A N Rt.2)) := by
  unfold h_X3_isFigure at h
  unfold f_X3_isFigure
  refine z_zifq (ccl hA (r := 2) (ci := 2) (V := (U.1, U.2, N)) rfl rfl) ?_
  obtain ⟨u1, U2, e9, h⟩ := z_bd2 h
  refine z_b2q (e_X3_blanks hA e9) ?_
  refine z_bq (cgI hA (r := 2) (ci := 2) (V := (U2.1, U2.2, N)) rfl rfl rfl) ?_
  refine z_zifq (ccl hA (r := 2) (ci := 2) (V := (U2.1, U2.2, N)) rfl rfl) ?_
  obtain ⟨x3, U4, e9, h⟩ := z_bd2 h
  refine z_b2q (e_X3_byteAt hA e9) ?_
  obtain ⟨x5, U6, e9, h⟩ := z_bd2 h
  refine z_b2q (e_X1_in hA e9) ?_
  refine z_zboq h (fun h => ?_)
  obtain rfl := Option.some.inj h
  rfl

def h_X3_comesUp (N : Nat → Nat) (U : cU) : Option (Unit × cU) :=
  zl (uset U 13 ((U.1 13) - 1)) fun U1 =>
  some ((), U1)

set_option maxHeartbeats 4000000 in
theorem e_X3_comesUp {σ : zS} {A : cA} {N : Nat → Nat} (hA : cOKN σ A N) {U : cU} {Rt : Unit × cU} (h : h_X3_comesUp N U = some Rt) : f_X3_comesUp (aad A 2) (pU σ A N U) = some (Rt.1, (pU σ A N Rt.2)) := by
  unfold h_X3_comesUp at h
  unfold f_X3_comesUp
  refine z_bq (cgI hA (r := 2) (ci := 2) (V := (U.1, U.2, N)) rfl rfl rfl) ?_
  refine z_putq (cpF hA (r := 2) (ci := 2) (V := (U.1, U.2, N)) (V' := ((uset U 13 ((U.1 13) - 1)).1, (uset U 13 ((U.1 13) - 1)).2, N)) rfl (Nat.le_of_ble_eq_true rfl) rfl (vso_13 (V := (U.1, U.2, N)) (x := (U.1 13) - 1))) h (fun U1 h => ?_)
  obtain rfl := Option.some.inj h
  rfl

def h_X1_end (N : Nat → Nat) (p1 : Int32) (U : cU) : Option (Int32 × cU) :=
  zb2 (h_X3_cut N p1 U) fun x1 U2 =>
  zbo x1 (some (x1, U2))

set_option maxHeartbeats 4000000 in
theorem e_X1_end {σ : zS} {A : cA} {N : Nat → Nat} (hA : cOKN σ A N) {p1 : Int32} {U : cU} {Rt : Int32 × cU} (h : h_X1_end N p1 U = some Rt) : f_X1_end (aad A 0) p1 (pU σ A N U) = some (Rt.1, (pU σ A N Rt.2)) := by
  unfold h_X1_end at h
  unfold f_X1_end
  refine z_bq (cgR hA (r := 0) (ci := 0) (V := (U.1, U.2, N)) (q := some (aad A 2)) rfl rfl rfl) ?_
  refine z_bq rfl ?_
  refine z_zifq (ccl hA (r := 2) (ci := 2) (V := (U.1, U.2, N)) rfl rfl) ?_
  obtain ⟨x1, U2, e9, h⟩ := z_bd2 h
  refine z_b2q (e_X3_cut hA e9) ?_
  refine z_zboq h (fun h => ?_)
  obtain rfl := Option.some.inj h
  rfl

