/-! pure land: C3 C4 (see wip/D-94657w/pl) -/
/-! every operation, from one invariant to the next -/
def Pa (cd : Nat → Int32) (Sc : Nat → Prop) (r : Int32 ⊕ Nat) (v t : Int32) : Prop := yans cd r v t ∧ ∀ k, r = .inr k → Sc k
section ZC3
variable {σ σ' τ : zS} {A A' B : cA} {N N' : Nat → Nat} {U U' : cU} {S D : Nat → Prop} {c L k o ot xa : Nat} {M M' M1 M2 : mS} {cd : Nat → Int32} {Sc : Nat → Prop}
theorem SD_eq (h : ∀ q, D q → S q) : (fun q => S q ∨ D q) = S := funext fun q => propext ⟨fun z => z.elim id (h q), Or.inl⟩
theorem Lp_up {lw : Bool} {nb : cU → Option Int32} (H : yLp σ A D lw nb) (h : ∀ q, D q → S q) : yLp σ A S lw nb := by
  obtain ⟨l1, T, l2, l3⟩ := H
  exact ⟨l1, T, fun q hq => ⟨h q (l2 q hq).1, (l2 q hq).2⟩, l3⟩
theorem Iv_mono {c' : Nat} (H : Iv c L σ A N U S D M) (h : c ≤ c') : Iv c' L σ A N U S D M := by
  obtain ⟨h1, h2, h3, h4, h5, h6, h7, h8, h9, h10, h11⟩ := H
  exact ⟨h1, h2, h3, h4, h5, RI_mono h h6, h7, h8, h9, Im_mono h10 h, h11⟩
theorem OpR_Fo {c' a b : Nat} {fo : Option ((Int32 ⊕ Nat) × zS)} {go : Option (Int32 × mS)} (H : Iv c L σ A N U S D M) (hxa : aad A 0 = xa) (hF : Fo c' U S σ A M cd a b fo go) (hc : c' ≤ c + 200) (hcc : c ≤ c') (ha : a ≤ 18000) (hb : b ≤ 80000) (hB : Bq go) (hE : Ek Sc fo) : OpR c L σ S D xa (Pa cd Sc) fo go := by
  obtain ⟨r, v, σ', A', N', U', M', h1, h2, h3, h4, h5, h6, h7, h8, h9, h10, h11⟩ := hF
  have I1 := Iv_mono (Iv_op H h4 h5 hcc h6 h7 h8 h9 h11 (hB v M' h2)) hc
  refine ⟨r, v, σ', A', N', U', D, L, M', a, b, h1, h2, ⟨h3, fun k hk => hE k σ' (by rw [h1, hk])⟩, by rw [SD_eq H.2.1]; exact I1, fun q hq => Or.inl hq, h5, by omega, by omega, (h10 0 (by omega)).trans hxa⟩
/-- an operation that leaves all cells alone -/
theorem OpR_h {c' : Nat} {ho : Option ((Int32 ⊕ Nat) × cU)} {fo : Option ((Int32 ⊕ Nat) × zS)} {go : Option (Int32 × mS)} (H : Iv c L σ A N U S D M) (hxa : aad A 0 = xa) (hz : 1 ≤ zc σ ∧ 6 ≤ zz σ) (h : OKo c' N cd U M ho go) (he : ∀ Rt, ho = some Rt → fo = some (Rt.1, pU (zbx Rt.1 σ) A N Rt.2)) (hc : c' ≤ c + 200) (hcc : c ≤ c') (hB : Bq go) (hE : Ek Sc fo) : OpR c L σ S D xa (Pa cd Sc) fo go :=
  OpR_Fo H hxa (Fo_of H.1 hz h he) hc hcc (by omega) (by omega) hB hE
def S23 (k : Nat) : Prop := k = 2 ∨ k = 3
def S20 (k : Nat) : Prop := k = 2 ∨ k = 0
def S204 (k : Nat) : Prop := k = 2 ∨ k = 0 ∨ k = 4
def S2 (k : Nat) : Prop := k = 2
def S0 (k : Nat) : Prop := k = 0
def S01 (k : Nat) : Prop := k = 0 ∨ k = 1
theorem O_house (H : Iv c L σ A N U S D M) (hxa : aad A 0 = xa) (hz : 1 ≤ zc σ ∧ 6 ≤ zz σ) (p q : Int32) : OpR c L σ S D xa (Pa cdA S23) (f_X1_house xa p q σ) (g_X6_house p q M) := by
  have hid := Cs_id H.1
  subst hxa
  exact OpR_h H rfl hz (OKo_ro H.2.2.2.2.2.1 H.2.2.2.2.2.2.1 (op_house H.2.2.2.2.2.1 H.2.2.2.2.2.2.1 p q)) (fun Rt h => by have := e_X1_house H.1.1.1 hz h; rw [hid] at this; exact this) (by omega) (by omega) (b_X6_house H.2.2.2.2.2.2.2.2.2.2) (x_X1_house (Or.inl rfl) (Or.inr rfl))
theorem O_walker (H : Iv c L σ A N U S D M) (hxa : aad A 0 = xa) (hz : 1 ≤ zc σ ∧ 6 ≤ zz σ) (p q : Int32) : OpR c L σ S D xa (Pa cdA S23) (f_X1_walker xa p q σ) (g_X6_walker p q M) := by
  have hid := Cs_id H.1
  subst hxa
  exact OpR_h H rfl hz (OKo_ro H.2.2.2.2.2.1 H.2.2.2.2.2.2.1 (op_walker H.2.2.2.2.2.1 H.2.2.2.2.2.2.1 p q)) (fun Rt h => by have := e_X1_walker H.1.1.1 hz h; rw [hid] at this; exact this) (by omega) (by omega) (b_X6_walker H.2.2.2.2.2.2.2.2.2.2) (x_X1_walker (Or.inl rfl) (Or.inr rfl))
theorem O_turn (H : Iv c L σ A N U S D M) (hxa : aad A 0 = xa) (hz : 1 ≤ zc σ ∧ 6 ≤ zz σ) (p q : Int32) : OpR c L σ S D xa (Pa cdA S23) (f_X1_turn xa p q σ) (g_X6_turn p q M) := by
  have hid := Cs_id H.1
  subst hxa
  exact OpR_h H rfl hz (OKo_ro H.2.2.2.2.2.1 H.2.2.2.2.2.2.1 (op_turn H.2.2.2.2.2.1 H.2.2.2.2.2.2.1 p q)) (fun Rt h => by have := e_X1_turn H.1.1.1 hz h; rw [hid] at this; exact this) (by omega) (by omega) (b_X6_turn H.2.2.2.2.2.2.2.2.2.2) (x_X1_turn (Or.inl rfl) (Or.inr rfl))
theorem O_entry (H : Iv c L σ A N U S D M) (hxa : aad A 0 = xa) (hz : 1 ≤ zc σ ∧ 6 ≤ zz σ) (p q : Int32) : OpR c L σ S D xa (Pa cdA S23) (f_X1_entry xa p q σ) (g_X6_entry p q M) := by
  have hid := Cs_id H.1
  subst hxa
  exact OpR_h H rfl hz (OKo_ro H.2.2.2.2.2.1 H.2.2.2.2.2.2.1 (op_entry H.2.2.2.2.2.1 H.2.2.2.2.2.2.1 p q)) (fun Rt h => by have := e_X1_entry H.1.1.1 hz h; rw [hid] at this; exact this) (by omega) (by omega) (b_X6_entry H.2.2.2.2.2.2.2.2.2.2) (x_X1_entry (Or.inl rfl) (Or.inr rfl))
theorem O_counts (H : Iv c L σ A N U S D M) (hxa : aad A 0 = xa) (hz : 1 ≤ zc σ ∧ 6 ≤ zz σ) (p q r : Int32) {nt : Int32} (hnt : nt = 0 ∨ nt = 1) : OpR c L σ S D xa (Pa cdA S20) (f_X1_counts xa p q r nt σ) (g_X6_counts p q r nt M) := by
  have hid := Cs_id H.1
  obtain ⟨lw, nb, h1, h2⟩ := H.2.2.2.2.2.2.2.1.1
  obtain ⟨l1, l2, l3⟩ := Lp_e (Lp_up h1 H.2.1) H.1
  subst hxa
  exact OpR_h H rfl hz (op_counts H.2.2.2.2.2.1 H.2.2.2.2.2.2.1 h2 p q r hnt) (fun Rt h => by have := e_X1_counts H.1.1.1 hz l1 l2 l3 h; rw [hid] at this; exact this) (by omega) (by omega) (b_X6_counts H.2.2.2.2.2.2.2.2.2.2) (x_X1_counts (Or.inr rfl) (Or.inl rfl))
theorem O_walk (H : Iv c L σ A N U S D M) (hc : c < 800000) (hxa : aad A 0 = xa) (hz : 3 ≤ zc σ ∧ 130 ≤ zz σ) (p q r : Int32) {nt : Int32} (hnt : nt = 0 ∨ nt = 1) : OpR c L σ S D xa (Pa ycdB S204) (f_X1_walk xa p q r nt σ) (g_X6_walk p q r nt M) := by
  obtain ⟨lw, nb, h1, h2⟩ := H.2.2.2.2.2.2.2.1.1
  subst hxa
  exact OpR_Fo H rfl (F_walk H.1 H.2.2.1 H.2.2.2.2.2.1 H.2.2.2.2.2.2.1 (by omega) h2 (Lp_up h1 H.2.1) hz p q r hnt) (by omega) (by omega) (by omega) (by omega) (b_X6_walk H.2.2.2.2.2.2.2.2.2.2) (x_X1_walk (Or.inr (Or.inl rfl)) (Or.inl rfl) (Or.inr (Or.inr rfl)))
theorem O_days (H : Iv c L σ A N U S D M) (hc : c < 800000) (hxa : aad A 0 = xa) (hz : 1 ≤ zc σ ∧ 6 ≤ zz σ) (p : Int32) : OpR c L σ S D xa (Pa cdC S0) (f_X1_days xa p σ) (g_X6_days p M) := by
  have hid := Cs_id H.1
  subst hxa
  exact OpR_h H rfl hz (op_days H.2.2.2.2.2.1 H.2.2.2.2.2.2.1 (by omega) p) (fun Rt h => by have := e_X1_days H.1.1.1 hz h; rw [hid] at this; exact this) (by omega) (by omega) (b_X6_days H.2.2.2.2.2.2.2.2.2.2) (x_X1_days rfl)
theorem O_pass (H : Iv c L σ A N U S D M) (hc : c < 800000) (hxa : aad A 0 = xa) (hz : 1 ≤ zc σ ∧ 6 ≤ zz σ) (p q r : Int32) : OpR c L σ S D xa (Pa ycdB S204) (f_X1_pass xa p q r σ) (g_X6_pass p q r M) := by
  have hid := Cs_id H.1
  subst hxa
  exact OpR_h H rfl hz (op_pass H.2.2.2.2.2.1 H.2.2.2.2.2.2.1 (by omega) p q r) (fun Rt h => by have := e_X1_pass H.1.1.1 hz h; rw [hid] at this; exact this) (by omega) (by omega) (b_X6_pass H.2.2.2.2.2.2.2.2.2.2) (x_X1_pass (Or.inr (Or.inl rfl)) (Or.inl rfl) (Or.inr (Or.inr rfl)))
theorem O_marry (H : Iv c L σ A N U S D M) (hc : c < 800000) (hxa : aad A 0 = xa) (hz : 1 ≤ zc σ ∧ 6 ≤ zz σ) (p q : Int32) : OpR c L σ S D xa (Pa ycdB S204) (f_X1_marry xa p q σ) (g_X6_marry p q M) := by
  have hid := Cs_id H.1
  subst hxa
  exact OpR_h H rfl hz (op_marry H.2.2.2.2.2.1 H.2.2.2.2.2.2.1 (by omega) p q) (fun Rt h => by have := e_X1_marry H.1.1.1 hz h; rw [hid] at this; exact this) (by omega) (by omega) (b_X6_marry H.2.2.2.2.2.2.2.2.2.2) (x_X1_marry (Or.inr (Or.inl rfl)) (Or.inl rfl) (Or.inr (Or.inr rfl)))
theorem O_mend (H : Iv c L σ A N U S D M) (hxa : aad A 0 = xa) (hz : 1 ≤ zc σ ∧ 6 ≤ zz σ) (p : Int32) : OpR c L σ S D xa (Pa cdC S2) (f_X1_mend xa p σ) (g_X6_mend p M) := by
  have hid := Cs_id H.1
  subst hxa
  exact OpR_h H rfl hz (op_mend H.2.2.2.2.2.1 H.2.2.2.2.2.2.1 p) (fun Rt h => by have := e_X1_mend H.1.1.1 hz h; rw [hid] at this; exact this) (by omega) (by omega) (b_X6_mend H.2.2.2.2.2.2.2.2.2.2) (x_X1_mend rfl)
theorem O_worn (H : Iv c L σ A N U S D M) (hxa : aad A 0 = xa) (hz : 1 ≤ zc σ ∧ 6 ≤ zz σ) (p q : Int32) : OpR c L σ S D xa (Pa cdA S20) (f_X1_worn xa p q σ) (g_X6_worn p q M) := by
  have hid := Cs_id H.1
  subst hxa
  exact OpR_h H rfl hz (op_worn H.2.2.2.2.2.1 H.2.2.2.2.2.2.1 p q) (fun Rt h => by have := e_X1_worn H.1.1.1 hz h; rw [hid] at this; exact this) (by omega) (by omega) (b_X6_worn H.2.2.2.2.2.2.2.2.2.2) (x_X1_worn (Or.inr rfl) (Or.inl rfl))
theorem O_deal (H : Iv c L σ A N U S D M) (hxa : aad A 0 = xa) (hz : 1 ≤ zc σ ∧ 6 ≤ zz σ) (p q : Int32) : OpR c L σ S D xa (Pa cdC S2) (f_X1_deal xa p q σ) (g_X6_deal p q M) := by
  have hid := Cs_id H.1
  subst hxa
  exact OpR_h H rfl hz (op_deal H.2.2.2.2.2.1 H.2.2.2.2.2.2.1 p q) (fun Rt h => by have := e_X1_deal H.1.1.1 hz h; rw [hid] at this; exact this) (by omega) (by omega) (b_X6_deal H.2.2.2.2.2.2.2.2.2.2) (x_X1_deal rfl)
theorem O_plan (H : Iv c L σ A N U S D M) (hc : c < 800000) (hxa : aad A 0 = xa) (hz : 1 ≤ zc σ ∧ 6 ≤ zz σ) (p q r : Int32) : OpR c L σ S D xa (Pa cdA S20) (f_X1_plan xa p q r σ) (g_X6_plan p q r M) := by
  obtain ⟨lw, nb, h1, h2⟩ := H.2.2.2.2.2.2.2.1.1
  subst hxa
  exact OpR_Fo H rfl (F_plan H.1 H.2.2.2.2.2.1 H.2.2.2.2.2.2.1 (by omega) h2 (Lp_up h1 H.2.1) hz p q r) (by omega) (by omega) (by omega) (by omega) (b_X6_plan H.2.2.2.2.2.2.2.2.2.2) (x_X1_plan (Or.inr rfl) (Or.inl rfl))
theorem O_burn (H : Iv c L σ A N U S D M) (hc : c < 800000) (hxa : aad A 0 = xa) (hz : 1 ≤ zc σ ∧ 6 ≤ zz σ) (p q : Int32) : OpR c L σ S D xa (Pa ycdB S204) (f_X1_burn xa p q σ) (g_X6_burn p q M) := by
  have hid := Cs_id H.1
  subst hxa
  exact OpR_h H rfl hz (op_burn H.2.2.2.2.2.1 H.2.2.2.2.2.2.1 (by omega) p q) (fun Rt h => by have := e_X1_burn H.1.1.1 hz h; rw [hid] at this; exact this) (by omega) (by omega) (b_X6_burn H.2.2.2.2.2.2.2.2.2.2) (x_X1_burn (Or.inr (Or.inl rfl)) (Or.inl rfl) (Or.inr (Or.inr rfl)))
theorem O_span (H : Iv c L σ A N U S D M) (hxa : aad A 0 = xa) (hz : 1 ≤ zc σ ∧ 6 ≤ zz σ) (p q : Int32) : OpR c L σ S D xa (Pa cdC S2) (f_X1_span xa p q σ) (g_X6_span p q M) := by
  have hid := Cs_id H.1
  subst hxa
  exact OpR_h H rfl hz (op_span H.2.2.2.2.2.1 H.2.2.2.2.2.2.1 p q) (fun Rt h => by have := e_X1_span H.1.1.1 hz h; rw [hid] at this; exact this) (by omega) (by omega) (b_X6_span H.2.2.2.2.2.2.2.2.2.2) (x_X1_span rfl)
theorem O_proof (H : Iv c L σ A N U S D M) (hxa : aad A 0 = xa) (hz : 1 ≤ zc σ ∧ 6 ≤ zz σ) (p q : Int32) : OpR c L σ S D xa (Pa cdC S2) (f_X1_proof xa p q σ) (g_X6_proof p q M) := by
  have hid := Cs_id H.1
  subst hxa
  exact OpR_h H rfl hz (op_proof H.2.2.2.2.2.1 H.2.2.2.2.2.2.1 p q) (fun Rt h => by have := e_X1_proof H.1.1.1 hz h; rw [hid] at this; exact this) (by omega) (by omega) (b_X6_proof H.2.2.2.2.2.2.2.2.2.2) (x_X1_proof rfl)
theorem O_live (H : Iv c L σ A N U S D M) (hc : c < 800000) (hxa : aad A 0 = xa) (hz : 130 ≤ zc σ ∧ 6100 ≤ zz σ) (p : Int32) : OpR c L σ S D xa (Pa cdC S0) (f_X1_live xa p σ) (g_X6_live p M) := by
  obtain ⟨lw, nb, h1, h2⟩ := H.2.2.2.2.2.2.2.1.1
  subst hxa
  exact OpR_Fo H rfl (F_live H.1 H.2.2.1 H.2.2.2.2.2.1 H.2.2.2.2.2.2.1 (by omega) h2 (Lp_up h1 H.2.1) hz p) (by omega) (by omega) (by omega) (by omega) (b_X6_live H.2.2.2.2.2.2.2.2.2.2) (x_X1_live rfl)
end ZC3
section ZC4
variable {σ σ' τ : zS} {A A' B : cA} {N N' : Nat → Nat} {U U' : cU} {S D : Nat → Prop} {c L k o ot xa : Nat} {M M' M1 M2 : mS} {cd : Nat → Int32} {Sc : Nat → Prop}
def Pe {α : Type} (r v : α) (_ : Int32) : Prop := r = v
/-- an operation without exceptions -/
theorem OpR_s {c' L' a b : Nat} {ρ : Type} {fo : Option (ρ × zS)} {go : Option (ρ × mS)} {v : ρ} {σ' : zS} (H : Iv c L σ A N U S D M) (h1 : fo = some (v, σ')) (h2 : go = some (v, M')) (I' : Iv c' L' σ' A' N' U' S D M') (hc : c' ≤ c + 200) (T : ySt σ σ' S a b) (ha : a + 60 * L' ≤ 60 * L + 18000) (hb : b + 600 * L' ≤ 600 * L + 80000) (hx : aad A' 0 = xa) : OpR c L σ S D xa Pe fo go :=
  ⟨v, v, σ', A', N', U', D, L', M', a, b, h1, h2, rfl, by rw [SD_eq H.2.1]; exact Iv_mono I' hc, fun q hq => Or.inl hq, T, by omega, by omega, hx⟩
theorem O_feed (H : Iv c L σ A N U S D M) (hxa : aad A 0 = xa) (hz : 1 ≤ zc σ ∧ 5 ≤ zz σ) (p1 p2 p3 p4 p5 : Int32) : OpR c L σ S D xa Pe (f_X1_feed xa p1 p2 p3 p4 p5 σ) (g_X6_feed p1 p2 p3 p4 p5 M) := by
  subst hxa
  obtain ⟨v, σ', A', U', M', L', h1, h2, h3, h4, h5, h6⟩ := F_feed (p1 := p1) (p2 := p2) (p3 := p3) (p4 := p4) (p5 := p5) H hz
  exact OpR_s H h1 h2 h3 (by omega) h5 (by omega) (by omega) (h6 0 (by omega))
theorem O_end (H : Iv c L σ A N U S D M) (hxa : aad A 0 = xa) (p : Int32) : OpR c L σ S D xa Pe (f_X1_end xa p σ) (g_X6_end p M) := by
  subst hxa
  obtain ⟨v, σ', A', U', M', L', h1, h2, h3, h4, h5, h6⟩ := F_end H p
  exact OpR_s H h1 h2 h3 (by omega) h5 (by omega) (by omega) (h6 0 (by omega))
theorem O_fault (H : Iv c L σ A N U S D M) (hxa : aad A 0 = xa) : OpR c L σ S D xa Pe (f_X1_fault xa σ) (g_X6_fault M) := by
  subst hxa
  obtain ⟨v, h1, h2, h3⟩ := F_fault H
  exact OpR_s H h1 h2 h3 (by omega) St_r (by omega) (by omega) rfl
theorem O_count (H : Iv c L σ A N U S D M) (hxa : aad A 0 = xa) (p : Int32) : OpR c L σ S D xa Pe (f_X1_count xa p σ) (g_X6_count p M) := by
  subst hxa
  obtain ⟨v, h1, h2, h3⟩ := F_count H p
  exact OpR_s H h1 h2 h3 (by omega) St_r (by omega) (by omega) rfl
theorem O_missed (H : Iv c L σ A N U S D M) (hxa : aad A 0 = xa) : OpR c L σ S D xa Pe (f_X1_missed xa σ) (g_X6_missed M) := by
  subst hxa
  obtain ⟨v, h1, h2⟩ := op_missed H.2.2.2.2.2.1 H.2.2.2.2.2.2.1
  have he := e_X1_missed H.1.1.1 h1
  rw [Cs_id H.1] at he
  exact OpR_s H he h2 (Iv_op H H.1 (St_r (S := S)) (Nat.le_refl c) H.2.2.2.2.2.1 H.2.2.2.2.2.2.1 KU_r KM_set rfl H.2.2.2.2.2.2.2.2.2.2) (by omega) St_r (by omega) (by omega) rfl
theorem O_ways (H : Iv c L σ A N U S D M) (hxa : aad A 0 = xa) : OpR c L σ S D xa Pe (f_X1_ways xa σ) (g_X6_ways M) := by
  subst hxa
  obtain ⟨v, M', h1, h2, h3, h4, h5⟩ := op_ways H.2.2.2.2.2.1 H.2.2.2.2.2.2.1
  have he := e_X1_ways H.1.1.1 h1
  rw [Cs_id H.1] at he
  exact OpR_s H he h2 (Iv_op H H.1 (St_r (S := S)) (Nat.le_refl c) H.2.2.2.2.2.1 h4 KU_r h5 rfl (b_X6_ways H.2.2.2.2.2.2.2.2.2.2 v M' h2)) (by omega) St_r (by omega) (by omega) rfl
theorem O_seed (H : Iv c L σ A N U S D M) (hxa : aad A 0 = xa) (p : Int32) : OpR c L σ S D xa Pe (f_X1_seed xa p σ) (g_X6_seed p M) := by
  subst hxa
  obtain ⟨v, U', M', h1, h2, h3, h4, h5, h6⟩ := op_seed H.2.2.2.2.2.1 H.2.2.2.2.2.2.1 p
  have he := e_X1_seed H.1.1.1 h1
  rw [Cs_id H.1] at he
  obtain ⟨c1, c2⟩ := Cs_pU (U' := U') H.1 h5.2.2
  exact OpR_s H he h2 (Iv_op H c1 c2 (Nat.le_refl c) h3 h4 h5 h6 rfl (b_X6_seed H.2.2.2.2.2.2.2.2.2.2 v M' h2)) (by omega) c2 (by omega) (by omega) rfl
theorem O_undo (H : Iv c L σ A N U S D M) (hc : c < 800000) (hxa : aad A 0 = xa) : OpR c L σ S D xa Pe (f_X1_undo xa σ) (g_X6_undo M) := by
  subst hxa
  obtain ⟨v, σ', A', N', U', M', h1, h2, h3, h4, h5, h6, h7, h8, h9, h10⟩ := F_undo H.1 H.2.2.2.2.2.1 H.2.2.2.2.2.2.1 (by omega)
  exact OpR_s H h1 h2 (Iv_op H h3 h4 (Nat.le_add_right c 100) h5 h6 h7 h8 h10 (b_X6_undo H.2.2.2.2.2.2.2.2.2.2 v M' h2)) (by omega) h4 (by omega) (by omega) (h9 0 (by omega))
theorem O_law (H : Iv c L σ A N U S D M) (hxa : aad A 0 = xa) (hz : 60 * L + 5000 ≤ zc σ ∧ 600 * L + 40000 ≤ zz σ) : OpR c L σ S D xa (Pa cdC S0) (f_X1_law xa σ) (g_X6_law M) := by
  subst hxa
  obtain ⟨r, v, σ', A', U', D', M', h1, h2, h3, h4, h5, h6, h7, h8, h9⟩ := F_law H hz
  refine ⟨r, v, σ', A', N, U', D', 0, M', _, _, h1, h2, ⟨h3, h4⟩, Iv_mono h5 (by omega), fun q hq => ?_, h8, by omega, by omega, h9 0 (by omega)⟩
  rcases h7 q hq with w | w
  · exact Or.inl w
  · exact Or.inr (Or.inl (fun z => by have := (H.1.2.1 q z).1; omega))
theorem O_people (H : Iv c L σ A N U S D M) (hc : c < 800000) (hxa : aad A 0 = xa) (hz : 60 * L + 5000 ≤ zc σ ∧ 600 * L + 40000 ≤ zz σ) : OpR c L σ S D xa (Pa cdP S01) (f_X1_people xa σ) (g_X6_people M) := by
  subst hxa
  obtain ⟨r, v, σ', A', N', U', M', h1, h2, h3, h4, h5, h6, h7⟩ := F_people H (by omega) hz
  exact ⟨r, v, σ', A', N', U', D, 0, M', _, _, h1, h2, ⟨h3, h4⟩, by rw [SD_eq H.2.1]; exact Iv_mono h5 (by omega), fun q hq => Or.inl hq, h6, by omega, by omega, h7⟩
theorem Lw_arf {m m' : Nat → Int32} (H : Lw σ A D m) (hA : arf A' 1 = arf A 1) (hm : ∀ j, (j = 10 ∨ j = 11 ∨ (542 ≤ j ∧ j < 942)) → m' j = m j) : Lw σ A' D m' := Lw_St H (St_r (S := D)) hA (fun _ h => h) hm
theorem F_image2 {d : Nat} (C : Cs σ A N U S) (E : yEv σ) (I : RI c N U) (hd : zk σ 1 = some d) (hc : 400 ≤ zc σ ∧ 20000 ≤ zz σ) :
    ∃ σ' A' D, f_X1_image (aad A 0) σ = some ((), σ') ∧ Cs σ' A' N U (fun q => S q ∨ In D N q) ∧ ySt σ σ' S 400 20000 ∧ yWd σ' D N (cpU U) ∧ (∀ r, r < 16 → aad A' r = aad A r) ∧ arf A' 0 = some (aad D 1) ∧ arf A' 1 = arf A 1 ∧ arf D 1 = arf A 1 ∧ ∀ r, wrl r → zal N (zow D) r → zn σ ≤ aad D r ∨ (300 ≤ r ∧ r < 400) := by
  have W0 := Cs_Wd C E (RI_60 I)
  have hbz := C.1.2.2.2.1
  obtain ⟨σ1, D, a1, a2, a3, a4, a5, a6, a7, a8, a9, a10, a11⟩ := X2_copy_spec E hbz C.1.2.2.1 W0 hd (RI_zb I) hc
  have hin : ∀ q, In D N q → q < zn σ1 ∧ ∀ r, zal N (zow A) r → aad A r = q → 300 ≤ r ∧ r < 400 := by
    rintro q ⟨r, h1, h2, rfl⟩
    refine ⟨(a2.1 r h1 h2).2.1, fun r' hr' e => ?_⟩
    rcases a3 r h1 h2 with h | ⟨h3, h4, h5⟩
    · have := Cs_lt C hr'; omega
    · rw [h5] at e
      rw [Cs_inj C e]; exact ⟨h3, h4⟩
  obtain ⟨A1, b1, b2, b3, b4, b5, b6⟩ := Cs_new (S' := fun q => S q ∨ In D N q) C a4 a5 a6 a7 a8 (fun q hq => hq.elim (fun h => ⟨Nat.lt_of_lt_of_le (C.2.1 q h).1 a7, fun r _ e => (C.2.1 q h).2 r e⟩) (hin q))
  have hal : ∀ r, r < 16 → aad A1 r = aad A r := fun r h => b2 r (zal_some (A := A) (N := N) (U := U) (Or.inl h))
  have C2 := Cs_arf0 (some (aad D 1)) b1
  have row0 : σ1.1 (aad A 0) = some (.inr (0, [.ref (aad A 1), va_rf (arf A 0), .ref (aad A 2), .ref (aad A 3), .ref (aad A 4), .ref (aad A 6), .int (U.1 7)])) := (a4 _ (Cs_lt C (Or.inl (by omega)))).trans (C.1.2.1 0)
  have z0 : zal N (zow A) 0 := Or.inl (by omega)
  have hne : ∀ q, S q ∨ q < zbs σ → q ≠ aad A 0 := by
    intro q hq e
    rcases hq with h | h
    · have := (C.2.1 q h).2 0 e.symm; omega
    · have := C.1.1.2.1 0; omega
  refine ⟨_, _, D, ?_, C2, ⟨a5, a6, a7, fun q hq => ?_, a9, a10⟩, ?_, hal, rfl, ?_, a11, fun r h1 h2 => (a3 r h1 h2).imp (fun z => z.1) (fun z => ⟨z.1, z.2.1⟩)⟩
  · unfold f_X1_image
    have w1 := Wd_1 W0
    have pr : pR σ1 (aad A 0) 0 1 (some (aad D 1)) = some (zset σ1 (aad A 0) (.inr (0, [.ref (aad A 1), va_rf (some (aad D 1)), .ref (aad A 2), .ref (aad A 3), .ref (aad A 4), .ref (aad A 6), .int (U.1 7)]))) := pF_of row0 (Nat.le_of_ble_eq_true rfl) (by rw [a6]; exact C.1.1.2.1 0)
    rw [ybind_eq (gR_of (C.1.2.1 0) (k := 0) (q := some (aad A 1)) rfl rfl), bd_at, zif_t (cl_of w1 rfl), zb2_eq a1, ybind_eq pr, hal 0 (by omega), hal 1 (by omega), hal 2 (by omega), hal 3 (by omega), hal 4 (by omega), hal 6 (by omega)]
  · show (if q = aad A1 0 then _ else σ1.1 q) = _
    rw [hal 0 (by omega), if_neg (hne q hq)]
    refine a4 q ?_
    rcases hq with h | h
    · exact (C.2.1 q h).1
    · omega
  · refine Wd_keep a2 (fun r h1 h2 => ?_) rfl rfl (Nat.le_refl _)
    show (if aad D r = aad A1 0 then _ else σ1.1 (aad D r)) = _
    rw [hal 0 (by omega), if_neg]
    intro e
    have := (hin (aad D r) ⟨r, h1, h2, rfl⟩).2 0 z0 e.symm
    omega
  · show arf A1 1 = _
    rw [b6]
theorem O_image (H : Iv c L σ A N U S D M) (hxa : aad A 0 = xa) (hz : 400 ≤ zc σ ∧ 20000 ≤ zz σ) : OpR c L σ S D xa Pe (f_X1_image xa σ) (g_X6_image M) := by
  subst hxa
  obtain ⟨C, hDS, E, K, ⟨d, hd⟩, I, R, LW, RD, IM, BZ⟩ := H
  obtain ⟨σ', A', B, h1, h2, h3, h4, h5, h6, h7, h8, h9⟩ := F_image2 C E I hd hz
  obtain ⟨M', g1, g2, g3, g4⟩ := g_image (M := M)
  have hD := St_D h3 hDS
  have m1 : ∀ k, k ≠ 0 → k ≠ 3 → M'.1 k = M.1 k := fun k k0 k3 => by
    rw [g2]
    show (if k = 3 then 1 else if k = 0 then 0 else M.1 k) = M.1 k
    rw [if_neg k3, if_neg k0]
  let D' : Nat → Prop := fun q => D q ∨ In B N q
  have eS : (fun q => S q ∨ In B N q) = (fun q => S q ∨ D' q) := funext fun q => propext ⟨fun z => z.elim Or.inl (fun w => Or.inr (Or.inr w)), fun z => z.elim Or.inl (fun w => w.elim (fun v => Or.inl (hDS q v)) Or.inr)⟩
  rw [eS] at h2
  have Dd : ∀ q, D q → D' q := fun q h => Or.inl h
  have R1 : yRM N U (M'.2 0) := by rw [g3 0 (by omega)]; exact R
  have RB : yRM N (cpU U) (M'.2 1) := RM_cp (RM_congr I R (fun k hk => by rw [g4 k (by omega)]))
  have LW1 : Lw σ' A' D' (M'.2 0) := Lw_St LW hD h7 Dd (fun j _ => by rw [g3 0 (by omega)])
  have LWB : Lw σ' B D' (M'.2 1) := Lw_St LW hD h8 Dd (fun j hj => g4 j (by omega))
  obtain ⟨r1, r2, r3, r4, T, r5, r6⟩ := RD
  refine ⟨(), (), σ', A', N, U, D', L, M', _, _, h1, g1, rfl, Iv_mono ⟨h2, fun q h => Or.inr h, Ev_St E h3, zLk_St K h3, ⟨d, by show zsv σ' 1 = _; rw [h3.1]; exact hd⟩, I, R1, LW1, ⟨r1, by rw [m1 6 (by omega) (by omega)]; exact r2, r3, by rw [m1 10 (by omega) (by omega)]; exact r4, T, r5, by rw [g3 3 (by omega)]; exact r6⟩, Or.inr ⟨B, N, cpU U, by rw [g2]; rfl, h6, h4, fun q h => Or.inr h, RI_cp I, RB, LWB⟩, ⟨by rw [m1 14 (by omega) (by omega)]; exact BZ.1, by rw [m1 15 (by omega) (by omega)]; exact BZ.2⟩⟩ (by omega), fun q hq => ?_, h3, by omega, by omega, h5 0 (by omega)⟩
  rcases hq with w | ⟨r, w1, w2, w3⟩
  · exact Or.inl w
  · by_cases z : S q
    · right; right
      -- a shared offer
      have z1 := (h2.2.1 q (Or.inl z))
      have hc4 := (h4.1 r w1 w2).2.2
      have hq4 : q < zn σ := (C.2.1 q z).1
      have hcell : σ'.1 q = σ.1 q := h3.2.2.2.1 q (Or.inl z)
      rw [← w3, hcell] at hc4
      rcases h9 r w1 w2 with y | ⟨y1, y2⟩
      · omega
      · obtain ⟨i, rfl⟩ : ∃ i, r = 100 * 3 + i := ⟨r - 300, by omega⟩
        rw [cEl_at (by omega) (by omega)] at hc4
        unfold cEl at hc4
        have hi : i < N 3 := by
          rcases w2 with w2 | ⟨k', k1, k4, w2, -⟩ | ⟨k', i', k1, k4, k5, k6, k7⟩
          · omega
          · omega
          · have : k' = 3 := by omega
            subst this
            have : i' = i := by omega
            subst this
            exact k5
        have hc5 : σ.1 q = (if i < N 3 then some (Sum.inr (10, [Value.int ((cpU U).2 3 (2 * i)), .int ((cpU U).2 3 (2 * i + 1))])) else none) := hc4
        rw [if_pos hi] at hc5
        exact ⟨_, hc5⟩
    · exact Or.inr (Or.inl z)
theorem O_back (H : Iv c L σ A N U S D M) (hxa : aad A 0 = xa) (hz : 400 ≤ zc σ ∧ 20000 ≤ zz σ) : OpR c L σ S D xa Pe (f_X1_back xa σ) (g_X6_back M) := by
  have H0 := H
  subst hxa
  obtain ⟨C, hDS, E, K, ⟨d, hd⟩, I, R, LW, ⟨r1, r2, r3, r4, T, r5, r6⟩, IM, BZ⟩ := H
  rcases IM with ⟨i1, i2⟩ | ⟨B, N', U', i1, i2, i3, i4, i5, i6, i7⟩
  · have g0 : gR σ (aad A 0) 0 1 = some none := by
      have := gR_of (C.1.2.1 0) (k := 1) (q := arf A 0) rfl rfl
      rw [i1] at this; exact this
    have f0 : f_X1_back (aad A 0) σ = some (0, σ) := by
      unfold f_X1_back
      rw [ybind_eq g0]
      rfl
    exact OpR_s H0 f0 (g_back0 i2) (Iv_op H0 C (St_r (S := S)) (Nat.le_refl c) I R KU_r KM_set rfl BZ) (by omega) St_r (by omega) (by omega) rfl
  · obtain ⟨σ', A', h1, h2, h3, h4, h5, h6⟩ := F_back C E i5 i2 i3 (fun q hq => hDS q (i4 q hq)) hd hz
    obtain ⟨M', g1, g2, g3, g4⟩ := g_back1 (M := M) (by rw [i1]; exact kk1)
    have hD := St_D h3 hDS
    have m1 : ∀ k, k ≠ 0 → M'.1 k = M.1 k := fun k k0 => by
      rw [g2]
      show (if k = 0 then 0 else M.1 k) = M.1 k
      rw [if_neg k0]
    have R' : yRM N' (bkU U U') (M'.2 0) := RM_bk (RM_congr i5 i6 (fun k hk => g4 k (by omega)))
    have b8 : ∀ k, 7 ≤ k → (bkU U U').1 k = U.1 k := fun k hk => if_neg (by omega)
    exact OpR_s H0 h1 g1 ⟨h2, hDS, Ev_St E h3, zLk_St K h3, ⟨d, by show zsv σ' 1 = _; rw [h3.1]; exact hd⟩, RI_bk i5, R', Lw_St i7 hD h6 (fun _ h => h) (fun j hj => g4 j (by omega)), ⟨by rw [b8 8 (by omega)]; exact r1, by rw [m1 6 (by omega)]; exact r2, by rw [b8 11 (by omega)]; exact r3, by rw [b8 12 (by omega), m1 10 (by omega)]; exact r4, T, r5, by rw [g3 3 (by omega)]; exact r6⟩, Im_St (Or.inr ⟨B, N', U', i1, i2, i3, i4, i5, i6, i7⟩ : Im c σ A D M) hD h5 (fun _ h => h) (m1 3 (by omega)) (fun j _ => by rw [g3 1 (by omega)]), ⟨by rw [m1 14 (by omega)]; exact BZ.1, by rw [m1 15 (by omega)]; exact BZ.2⟩⟩ (by omega) h3 (by omega) (by omega) h4
end ZC4
