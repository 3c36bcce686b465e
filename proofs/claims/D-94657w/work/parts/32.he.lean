/-! steps of the proofs that a function over the map does what one over the numbers does -/
theorem z_bq {α β : Type} {o : Option α} {a : α} {K : α → Option β} {R : Option β} (e : o = some a) (k : K a = R) : o.bind K = R := by rw [e]; exact k
theorem z_b2q {α τ β : Type} {o : Option (α × τ)} {a : α} {s : τ} {K : α → τ → Option β} {R : Option β} (e : o = some (a, s)) (k : K a s = R) : zb2 o K = R := by rw [e]; exact k
theorem z_zifq {β : Type} {c : Prop} [inst9 : Decidable c] {K R : Option β} (hc : c) (k : K = R) : zif c K = R := by
  unfold zif
  rw [if_pos hc]
  exact k
theorem z_bd2 {α τ β : Type} {o : Option (α × τ)} {K : α → τ → Option β} {R : β} (h : zb2 o K = some R) : ∃ a s, o = some (a, s) ∧ K a s = some R := by
  cases o with
  | none => cases h
  | some q => exact ⟨q.1, q.2, rfl, h⟩
theorem z_bt3 {α τ β : Type} {o : Option ((α ⊕ Nat) × τ)} {E : Nat → τ → Option β} {K : α → τ → Option β} {R : β} (h : zbt o E K = some R) : (∃ a s, o = some (.inl a, s) ∧ K a s = some R) ∨ (∃ k s, o = some (.inr k, s) ∧ E k s = some R) := by
  cases o with
  | none => cases h
  | some q =>
    obtain ⟨q1, q2⟩ := q
    cases q1 with
    | inl a => exact Or.inl ⟨a, q2, rfl, h⟩
    | inr k => exact Or.inr ⟨k, q2, rfl, h⟩
theorem z_bt1 {α τ β : Type} {o : Option ((α ⊕ Nat) × τ)} {E : Nat → τ → Option β} {K : α → τ → Option β} {R : Option β} {a : α} {s : τ} (e : o = some (.inl a, s)) (k : K a s = R) : zbt o E K = R := by rw [e]; exact k
theorem z_bt2 {α τ β : Type} {o : Option ((α ⊕ Nat) × τ)} {E : Nat → τ → Option β} {K : α → τ → Option β} {R : Option β} {n : Nat} {s : τ} (e : o = some (.inr n, s)) (k : E n s = R) : zbt o E K = R := by rw [e]; exact k
theorem z_ifq {β γ : Type} {c : Prop} [inst9 : Decidable c] {A B : Option β} {A' B' R' : Option γ} {R : β} (h : (if c then A else B) = some R) (kt : A = some R → A' = R') (kf : B = some R → B' = R') : (if c then A' else B') = R' := by
  by_cases hc : c
  · rw [if_pos hc] at h ⊢; exact kt h
  · rw [if_neg hc] at h ⊢; exact kf h
theorem z_zlq {α β γ : Type} {x : α} {K : α → Option β} {K' : α → Option γ} {R : β} {R' : Option γ} (h : zl x K = some R) (k : ∀ y, K y = some R → K' y = R') : zl x K' = R' := k x h
abbrev cU : Type := (Nat → Int32) × (Nat → Nat → Int32)
def pU (σ : zS) (A : cA) (N : Nat → Nat) (U : cU) : zS := pC σ A (U.1, U.2, N)
def cOKN (σ : zS) (A : cA) (N : Nat → Nat) : Prop := cOK σ A ((fun _ => 0), (fun _ _ => 0), N)
def uset (U : cU) (k : Nat) (x : Int32) : cU := (fun j => if j = k then x else U.1 j, U.2)
def usetZ (U : cU) (k : Nat) (x : Int32) : Option cU := if x = 0 ∨ x = 1 then some (uset U k x) else none
def utab (U : cU) (t i : Nat) (x : Int32) : cU := (U.1, fun q => if q = t then upd (U.2 t) i x else U.2 q)
def utabZ (U : cU) (t i : Nat) (x : Int32) : Option cU := if x = 0 ∨ x = 1 then some (utab U t i x) else none
def uL (U : cU) (t n : Nat) (i : Int32) : Option Int32 := if i < 0 ∨ n ≤ i.toNatClampNeg then none else some (U.2 t i.toNatClampNeg)
def uSt (U : cU) (t n : Nat) (i x : Int32) : Option cU := if i < 0 ∨ n ≤ i.toNatClampNeg then none else some (utab U t i.toNatClampNeg x)
def uw (U : cU) : Nat := if U.1 25 = 0 then 0 else 1
theorem z_putq {σ : zS} {A : cA} {N : Nat → Nat} {β γ : Type} {o : Option zS} {U1 : cU} {K : cU → Option β} {K' : zS → Option γ} {R : β} {R' : Option γ} (e : o = some (pU σ A N U1)) (h : zl U1 K = some R) (kk : ∀ U2, K U2 = some R → K' (pU σ A N U2) = R') : o.bind K' = R' := by rw [e]; exact kk U1 h
theorem z_putZq {σ : zS} {A : cA} {N : Nat → Nat} {β γ : Type} {o : Option zS} {x : Int32} {U1 : cU} {K : cU → Option β} {K' : zS → Option γ} {R : β} {R' : Option γ} (e : (x = 0 ∨ x = 1) → o = some (pU σ A N U1)) (h : (if x = 0 ∨ x = 1 then some U1 else none : Option cU).bind K = some R) (kk : ∀ U2, K U2 = some R → K' (pU σ A N U2) = R') : o.bind K' = R' := by
  by_cases hx : x = 0 ∨ x = 1
  · rw [if_pos hx] at h; rw [e hx]; exact kk U1 h
  · rw [if_neg hx] at h; cases h
theorem z_zboq {β γ : Type} {x : Int32} {K : Option β} {K' R' : Option γ} {R : β} (h : zbo x K = some R) (k : K = some R → K' = R') : zbo x K' = R' := by
  unfold zbo at h ⊢
  by_cases hx : x = 0 ∨ x = 1
  · rw [if_pos hx] at h ⊢; exact k h
  · rw [if_neg hx] at h; cases h
/-- a thrown object more -/
def zbm (σ : zS) : zS := (σ.1, zsv σ, zbs σ, zn σ + 1, zc σ - 1, zz σ - 6)
def zbx {α : Type} (r : α ⊕ Nat) (σ : zS) : zS := match r with
  | .inl _ => σ
  | .inr _ => zbm σ
theorem zth_U {σ : zS} {A : cA} {N : Nat → Nat} {U : cU} (hz : 1 ≤ zc σ ∧ 6 ≤ zz σ) : zth (pU σ A N U) = some (pU (zbm σ) A N U) := by
  unfold zth
  rw [if_pos (show 1 ≤ zc (pU σ A N U) ∧ 6 ≤ zz (pU σ A N U) from hz)]
  rfl
def zsm {α β : Type} (f : α → β) : α ⊕ Nat → β ⊕ Nat
  | .inl a => .inl (f a)
  | .inr k => .inr k
theorem zlp0_rel {τ θ β γ : Type} {F : (τ → Option γ) → τ → Option γ} {G : (θ → Option β) → θ → Option β} {R : β} {R' : γ} (ψ : θ → τ) (hF : ∀ (rf : τ → Option γ) (rg : θ → Option β), (∀ (t : θ), rg t = some R → rf (ψ t) = some R') → ∀ (t : θ), G rg t = some R → F rf (ψ t) = some R') : ∀ (n : Nat) (t : θ), zlp0 G n t = some R → zlp0 F n (ψ t) = some R'
  | 0, _, h => nomatch h
  | n + 1, t, h => hF (zlp0 F n) (zlp0 G n) (zlp0_rel ψ hF n) t h
theorem zlp1_rel {A1 B1 τ θ β γ : Type} {F : (A1 → τ → Option γ) → A1 → τ → Option γ} {G : (B1 → θ → Option β) → B1 → θ → Option β} {R : β} {R' : γ} (φ1 : B1 → A1) (ψ : θ → τ) (hF : ∀ (rf : A1 → τ → Option γ) (rg : B1 → θ → Option β), (∀ (b1 : B1) (t : θ), rg b1 t = some R → rf (φ1 b1) (ψ t) = some R') → ∀ (b1 : B1) (t : θ), G rg b1 t = some R → F rf (φ1 b1) (ψ t) = some R') : ∀ (n : Nat) (b1 : B1) (t : θ), zlp1 G n b1 t = some R → zlp1 F n (φ1 b1) (ψ t) = some R'
  | 0, _, _, h => nomatch h
  | n + 1, b1, t, h => hF (zlp1 F n) (zlp1 G n) (zlp1_rel φ1 ψ hF n) b1 t h
theorem zlp2_rel {A1 B1 A2 B2 τ θ β γ : Type} {F : (A1 → A2 → τ → Option γ) → A1 → A2 → τ → Option γ} {G : (B1 → B2 → θ → Option β) → B1 → B2 → θ → Option β} {R : β} {R' : γ} (φ1 : B1 → A1) (φ2 : B2 → A2) (ψ : θ → τ) (hF : ∀ (rf : A1 → A2 → τ → Option γ) (rg : B1 → B2 → θ → Option β), (∀ (b1 : B1) (b2 : B2) (t : θ), rg b1 b2 t = some R → rf (φ1 b1) (φ2 b2) (ψ t) = some R') → ∀ (b1 : B1) (b2 : B2) (t : θ), G rg b1 b2 t = some R → F rf (φ1 b1) (φ2 b2) (ψ t) = some R') : ∀ (n : Nat) (b1 : B1) (b2 : B2) (t : θ), zlp2 G n b1 b2 t = some R → zlp2 F n (φ1 b1) (φ2 b2) (ψ t) = some R'
  | 0, _, _, _, h => nomatch h
  | n + 1, b1, b2, t, h => hF (zlp2 F n) (zlp2 G n) (zlp2_rel φ1 φ2 ψ hF n) b1 b2 t h
theorem zlp3_rel {A1 B1 A2 B2 A3 B3 τ θ β γ : Type} {F : (A1 → A2 → A3 → τ → Option γ) → A1 → A2 → A3 → τ → Option γ} {G : (B1 → B2 → B3 → θ → Option β) → B1 → B2 → B3 → θ → Option β} {R : β} {R' : γ} (φ1 : B1 → A1) (φ2 : B2 → A2) (φ3 : B3 → A3) (ψ : θ → τ) (hF : ∀ (rf : A1 → A2 → A3 → τ → Option γ) (rg : B1 → B2 → B3 → θ → Option β), (∀ (b1 : B1) (b2 : B2) (b3 : B3) (t : θ), rg b1 b2 b3 t = some R → rf (φ1 b1) (φ2 b2) (φ3 b3) (ψ t) = some R') → ∀ (b1 : B1) (b2 : B2) (b3 : B3) (t : θ), G rg b1 b2 b3 t = some R → F rf (φ1 b1) (φ2 b2) (φ3 b3) (ψ t) = some R') : ∀ (n : Nat) (b1 : B1) (b2 : B2) (b3 : B3) (t : θ), zlp3 G n b1 b2 b3 t = some R → zlp3 F n (φ1 b1) (φ2 b2) (φ3 b3) (ψ t) = some R'
  | 0, _, _, _, _, h => nomatch h
  | n + 1, b1, b2, b3, t, h => hF (zlp3 F n) (zlp3 G n) (zlp3_rel φ1 φ2 φ3 ψ hF n) b1 b2 b3 t h
theorem zlp4_rel {A1 B1 A2 B2 A3 B3 A4 B4 τ θ β γ : Type} {F : (A1 → A2 → A3 → A4 → τ → Option γ) → A1 → A2 → A3 → A4 → τ → Option γ} {G : (B1 → B2 → B3 → B4 → θ → Option β) → B1 → B2 → B3 → B4 → θ → Option β} {R : β} {R' : γ} (φ1 : B1 → A1) (φ2 : B2 → A2) (φ3 : B3 → A3) (φ4 : B4 → A4) (ψ : θ → τ) (hF : ∀ (rf : A1 → A2 → A3 → A4 → τ → Option γ) (rg : B1 → B2 → B3 → B4 → θ → Option β), (∀ (b1 : B1) (b2 : B2) (b3 : B3) (b4 : B4) (t : θ), rg b1 b2 b3 b4 t = some R → rf (φ1 b1) (φ2 b2) (φ3 b3) (φ4 b4) (ψ t) = some R') → ∀ (b1 : B1) (b2 : B2) (b3 : B3) (b4 : B4) (t : θ), G rg b1 b2 b3 b4 t = some R → F rf (φ1 b1) (φ2 b2) (φ3 b3) (φ4 b4) (ψ t) = some R') : ∀ (n : Nat) (b1 : B1) (b2 : B2) (b3 : B3) (b4 : B4) (t : θ), zlp4 G n b1 b2 b3 b4 t = some R → zlp4 F n (φ1 b1) (φ2 b2) (φ3 b3) (φ4 b4) (ψ t) = some R'
  | 0, _, _, _, _, _, h => nomatch h
  | n + 1, b1, b2, b3, b4, t, h => hF (zlp4 F n) (zlp4 G n) (zlp4_rel φ1 φ2 φ3 φ4 ψ hF n) b1 b2 b3 b4 t h
theorem zlp5_rel {A1 B1 A2 B2 A3 B3 A4 B4 A5 B5 τ θ β γ : Type} {F : (A1 → A2 → A3 → A4 → A5 → τ → Option γ) → A1 → A2 → A3 → A4 → A5 → τ → Option γ} {G : (B1 → B2 → B3 → B4 → B5 → θ → Option β) → B1 → B2 → B3 → B4 → B5 → θ → Option β} {R : β} {R' : γ} (φ1 : B1 → A1) (φ2 : B2 → A2) (φ3 : B3 → A3) (φ4 : B4 → A4) (φ5 : B5 → A5) (ψ : θ → τ) (hF : ∀ (rf : A1 → A2 → A3 → A4 → A5 → τ → Option γ) (rg : B1 → B2 → B3 → B4 → B5 → θ → Option β), (∀ (b1 : B1) (b2 : B2) (b3 : B3) (b4 : B4) (b5 : B5) (t : θ), rg b1 b2 b3 b4 b5 t = some R → rf (φ1 b1) (φ2 b2) (φ3 b3) (φ4 b4) (φ5 b5) (ψ t) = some R') → ∀ (b1 : B1) (b2 : B2) (b3 : B3) (b4 : B4) (b5 : B5) (t : θ), G rg b1 b2 b3 b4 b5 t = some R → F rf (φ1 b1) (φ2 b2) (φ3 b3) (φ4 b4) (φ5 b5) (ψ t) = some R') : ∀ (n : Nat) (b1 : B1) (b2 : B2) (b3 : B3) (b4 : B4) (b5 : B5) (t : θ), zlp5 G n b1 b2 b3 b4 b5 t = some R → zlp5 F n (φ1 b1) (φ2 b2) (φ3 b3) (φ4 b4) (φ5 b5) (ψ t) = some R'
  | 0, _, _, _, _, _, _, h => nomatch h
  | n + 1, b1, b2, b3, b4, b5, t, h => hF (zlp5 F n) (zlp5 G n) (zlp5_rel φ1 φ2 φ3 φ4 φ5 ψ hF n) b1 b2 b3 b4 b5 t h
theorem zlp6_rel {A1 B1 A2 B2 A3 B3 A4 B4 A5 B5 A6 B6 τ θ β γ : Type} {F : (A1 → A2 → A3 → A4 → A5 → A6 → τ → Option γ) → A1 → A2 → A3 → A4 → A5 → A6 → τ → Option γ} {G : (B1 → B2 → B3 → B4 → B5 → B6 → θ → Option β) → B1 → B2 → B3 → B4 → B5 → B6 → θ → Option β} {R : β} {R' : γ} (φ1 : B1 → A1) (φ2 : B2 → A2) (φ3 : B3 → A3) (φ4 : B4 → A4) (φ5 : B5 → A5) (φ6 : B6 → A6) (ψ : θ → τ) (hF : ∀ (rf : A1 → A2 → A3 → A4 → A5 → A6 → τ → Option γ) (rg : B1 → B2 → B3 → B4 → B5 → B6 → θ → Option β), (∀ (b1 : B1) (b2 : B2) (b3 : B3) (b4 : B4) (b5 : B5) (b6 : B6) (t : θ), rg b1 b2 b3 b4 b5 b6 t = some R → rf (φ1 b1) (φ2 b2) (φ3 b3) (φ4 b4) (φ5 b5) (φ6 b6) (ψ t) = some R') → ∀ (b1 : B1) (b2 : B2) (b3 : B3) (b4 : B4) (b5 : B5) (b6 : B6) (t : θ), G rg b1 b2 b3 b4 b5 b6 t = some R → F rf (φ1 b1) (φ2 b2) (φ3 b3) (φ4 b4) (φ5 b5) (φ6 b6) (ψ t) = some R') : ∀ (n : Nat) (b1 : B1) (b2 : B2) (b3 : B3) (b4 : B4) (b5 : B5) (b6 : B6) (t : θ), zlp6 G n b1 b2 b3 b4 b5 b6 t = some R → zlp6 F n (φ1 b1) (φ2 b2) (φ3 b3) (φ4 b4) (φ5 b5) (φ6 b6) (ψ t) = some R'
  | 0, _, _, _, _, _, _, _, h => nomatch h
  | n + 1, b1, b2, b3, b4, b5, b6, t, h => hF (zlp6 F n) (zlp6 G n) (zlp6_rel φ1 φ2 φ3 φ4 φ5 φ6 ψ hF n) b1 b2 b3 b4 b5 b6 t h
