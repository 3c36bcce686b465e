/-! pure land: C1 C2 (see wip/D-94657w/pl) -/
/-! which exceptions a method throws -/
def Ek {α : Type} (S : Nat → Prop) (o : Option ((α ⊕ Nat) × zS)) : Prop := ∀ k σ', o = some (.inr k, σ') → S k
section ZC1
variable {α β γ : Type} {S : Nat → Prop} {σ : zS}
theorem Ek_none : Ek S (none : Option ((α ⊕ Nat) × zS)) := fun a M' h => by cases h
theorem Ek_inl {a : α} : Ek S (some ((.inl a : α ⊕ Nat), σ)) := fun a' M' e => by cases e
theorem Ek_inr {k : Nat} (h : S k) : Ek S (some ((.inr k : α ⊕ Nat), σ)) := fun a' M' e => by cases e; exact h
theorem Ek_zbt {o : Option ((β ⊕ Nat) × zS)} {K : β → zS → Option ((α ⊕ Nat) × zS)} (h : Ek S o) (h2 : ∀ a σ, Ek S (K a σ)) : Ek S (zbt o (fun k9 σ9 => some (.inr k9, σ9)) K) := by
  cases o with
  | none => exact Ek_none
  | some x =>
    obtain ⟨r, σ'⟩ := x
    cases r with
    | inl a => exact h2 a σ'
    | inr k => exact Ek_inr (h k σ' rfl)
theorem Ek_zb2 {o : Option (β × zS)} {K : β → zS → Option ((α ⊕ Nat) × zS)} (h2 : ∀ a σ, Ek S (K a σ)) : Ek S (zb2 o K) := by
  cases o with
  | none => exact Ek_none
  | some x => exact h2 x.1 x.2
theorem Ek_bd {o : Option β} {K : β → Option ((α ⊕ Nat) × zS)} (h : ∀ x, Ek S (K x)) : Ek S (o.bind K) := by
  cases o with
  | none => exact Ek_none
  | some x => exact h x
theorem Ek_zl {x : β} {K : β → Option ((α ⊕ Nat) × zS)} (h : ∀ y, Ek S (K y)) : Ek S (zl x K) := h x
theorem Ek_ite {c : Prop} [inst9 : Decidable c] {x y : Option ((α ⊕ Nat) × zS)} (h1 : Ek S x) (h2 : Ek S y) : Ek S (if c then x else y) := by
  by_cases z : c
  · rw [if_pos z]; exact h1
  · rw [if_neg z]; exact h2
theorem Ek_zif {c : Prop} [inst9 : Decidable c] {K : Option ((α ⊕ Nat) × zS)} (h : Ek S K) : Ek S (zif c K) := Ek_ite h Ek_none
theorem Ek_zbo {x : Int32} {K : Option ((α ⊕ Nat) × zS)} (h : Ek S K) : Ek S (zbo x K) := Ek_ite h Ek_none
theorem Ek_zcs {r : Option Nat} {A : Option ((α ⊕ Nat) × zS)} {B : Nat → Option ((α ⊕ Nat) × zS)} (h1 : Ek S A) (h2 : ∀ a, Ek S (B a)) : Ek S (zcs r A B) := by
  cases r with
  | none => exact h1
  | some a => exact h2 a
theorem Ek_zlp0 {F : (zS → Option ((α ⊕ Nat) × zS)) → zS → Option ((α ⊕ Nat) × zS)} (hF : ∀ rec : zS → Option ((α ⊕ Nat) × zS), (∀ M, Ek S (rec M)) → ∀ M, Ek S (F rec M)) : ∀ n M, Ek S (zlp0 F n M)
  | 0, _ => Ek_none
  | n + 1, M => hF _ (Ek_zlp0 hF n) M
theorem Ek_zlp1 {A1 : Type} {F : (A1 → zS → Option ((α ⊕ Nat) × zS)) → A1 → zS → Option ((α ⊕ Nat) × zS)} (hF : ∀ rec : A1 → zS → Option ((α ⊕ Nat) × zS), (∀ a M, Ek S (rec a M)) → ∀ a M, Ek S (F rec a M)) : ∀ n a M, Ek S (zlp1 F n a M)
  | 0, _, _ => Ek_none
  | n + 1, a, M => hF _ (Ek_zlp1 hF n) a M
theorem Ek_zlp2 {A1 A2 : Type} {F : (A1 → A2 → zS → Option ((α ⊕ Nat) × zS)) → A1 → A2 → zS → Option ((α ⊕ Nat) × zS)} (hF : ∀ rec : A1 → A2 → zS → Option ((α ⊕ Nat) × zS), (∀ a b M, Ek S (rec a b M)) → ∀ a b M, Ek S (F rec a b M)) : ∀ n a b M, Ek S (zlp2 F n a b M)
  | 0, _, _, _ => Ek_none
  | n + 1, a, b, M => hF _ (Ek_zlp2 hF n) a b M
theorem Ek_zlp3 {A1 A2 A3 : Type} {F : (A1 → A2 → A3 → zS → Option ((α ⊕ Nat) × zS)) → A1 → A2 → A3 → zS → Option ((α ⊕ Nat) × zS)} (hF : ∀ rec : A1 → A2 → A3 → zS → Option ((α ⊕ Nat) × zS), (∀ a b c M, Ek S (rec a b c M)) → ∀ a b c M, Ek S (F rec a b c M)) : ∀ n a b c M, Ek S (zlp3 F n a b c M)
  | 0, _, _, _, _ => Ek_none
  | n + 1, a, b, c, M => hF _ (Ek_zlp3 hF n) a b c M
theorem Ek_zlp4 {A1 A2 A3 A4 : Type} {F : (A1 → A2 → A3 → A4 → zS → Option ((α ⊕ Nat) × zS)) → A1 → A2 → A3 → A4 → zS → Option ((α ⊕ Nat) × zS)} (hF : ∀ rec : A1 → A2 → A3 → A4 → zS → Option ((α ⊕ Nat) × zS), (∀ a b c d M, Ek S (rec a b c d M)) → ∀ a b c d M, Ek S (F rec a b c d M)) : ∀ n a b c d M, Ek S (zlp4 F n a b c d M)
  | 0, _, _, _, _, _ => Ek_none
  | n + 1, a, b, c, d, M => hF _ (Ek_zlp4 hF n) a b c d M
theorem x_X1_there {p1 : Int32} {p2 : Int32} {σ : zS} (k2 : S 2)  : Ek S (f_X1_there p1 p2 σ) := by
  unfold f_X1_there
  repeat' first | with_reducible assumption | with_reducible exact Ek_none | with_reducible exact Ek_inl | with_reducible exact Ek_inr (by assumption) | with_reducible refine Ek_ite ?_ ?_ | with_reducible refine Ek_zif ?_ | with_reducible refine Ek_zbt ?_ ?_ | with_reducible refine Ek_zb2 ?_ | with_reducible refine Ek_zcs ?_ ?_ | with_reducible refine Ek_zbo ?_ | with_reducible refine Ek_zl ?_ | with_reducible refine Ek_bd ?_ | intro _
theorem x_X1_houseAt {o : Nat} {p1 : Int32} {σ : zS} (k2 : S 2)  : Ek S (f_X1_houseAt o p1 σ) := by
  unfold f_X1_houseAt
  repeat' first | with_reducible assumption | with_reducible exact Ek_none | with_reducible exact Ek_inl | with_reducible exact Ek_inr (by assumption) | (with_reducible apply x_X1_there <;> assumption) | with_reducible refine Ek_ite ?_ ?_ | with_reducible refine Ek_zif ?_ | with_reducible refine Ek_zbt ?_ ?_ | with_reducible refine Ek_zb2 ?_ | with_reducible refine Ek_zcs ?_ ?_ | with_reducible refine Ek_zbo ?_ | with_reducible refine Ek_zl ?_ | with_reducible refine Ek_bd ?_ | intro _
theorem x_X1_asked {p1 : Int32} {p2 : Int32} {σ : zS} (k3 : S 3)  : Ek S (f_X1_asked p1 p2 σ) := by
  unfold f_X1_asked
  repeat' first | with_reducible assumption | with_reducible exact Ek_none | with_reducible exact Ek_inl | with_reducible exact Ek_inr (by assumption) | with_reducible refine Ek_ite ?_ ?_ | with_reducible refine Ek_zif ?_ | with_reducible refine Ek_zbt ?_ ?_ | with_reducible refine Ek_zb2 ?_ | with_reducible refine Ek_zcs ?_ ?_ | with_reducible refine Ek_zbo ?_ | with_reducible refine Ek_zl ?_ | with_reducible refine Ek_bd ?_ | intro _
theorem x_X1_house_86 {o : Nat} {rec43 : Int32 → Int32 → zS → Option ((Int32 ⊕ Nat) × zS)} {v1 : Int32} {v4 : Int32} {t0 : Int32} {t1 : Int32} {σ : zS}  (hrec43 : ∀ a0 a1 M9, Ek S (rec43 a0 a1 M9)) : Ek S (f_X1_house_86 o rec43 v1 v4 t0 t1 σ) := by
  unfold f_X1_house_86
  repeat' first | with_reducible assumption | with_reducible exact Ek_none | with_reducible exact Ek_inl | with_reducible exact Ek_inr (by assumption) | (with_reducible apply hrec43 <;> assumption) | with_reducible refine Ek_ite ?_ ?_ | with_reducible refine Ek_zif ?_ | with_reducible refine Ek_zbt ?_ ?_ | with_reducible refine Ek_zb2 ?_ | with_reducible refine Ek_zcs ?_ ?_ | with_reducible refine Ek_zbo ?_ | with_reducible refine Ek_zl ?_ | with_reducible refine Ek_bd ?_ | intro _
theorem x_X1_house_43_b {o : Nat} {v1 : Int32} {rec43 : Int32 → Int32 → zS → Option ((Int32 ⊕ Nat) × zS)} {v3 : Int32} {v4 : Int32} {σ : zS}  (hrec43 : ∀ a0 a1 M9, Ek S (rec43 a0 a1 M9)) : Ek S (f_X1_house_43_b o v1 rec43 v3 v4 σ) := by
  unfold f_X1_house_43_b
  repeat' first | with_reducible assumption | with_reducible exact Ek_none | with_reducible exact Ek_inl | with_reducible exact Ek_inr (by assumption) | (with_reducible apply hrec43 <;> assumption) | (with_reducible apply x_X1_house_86 <;> assumption) | with_reducible refine Ek_ite ?_ ?_ | with_reducible refine Ek_zif ?_ | with_reducible refine Ek_zbt ?_ ?_ | with_reducible refine Ek_zb2 ?_ | with_reducible refine Ek_zcs ?_ ?_ | with_reducible refine Ek_zbo ?_ | with_reducible refine Ek_zl ?_ | with_reducible refine Ek_bd ?_ | intro _
theorem x_X1_house_43 {o : Nat} {v1 : Int32}   : ∀ a0 a1 M, Ek S (f_X1_house_43 o v1 a0 a1 M) := fun a0 a1 M => Ek_zlp2 (fun rec9 hr a0 a1 M => x_X1_house_43_b  hr) NN a0 a1 M
theorem x_X1_house {o : Nat} {p1 : Int32} {p2 : Int32} {σ : zS} (k2 : S 2) (k3 : S 3)  : Ek S (f_X1_house o p1 p2 σ) := by
  unfold f_X1_house
  repeat' first | with_reducible assumption | with_reducible exact Ek_none | with_reducible exact Ek_inl | with_reducible exact Ek_inr (by assumption) | (with_reducible apply x_X1_houseAt <;> assumption) | (with_reducible apply x_X1_asked <;> assumption) | (with_reducible apply x_X1_house_43 <;> assumption) | with_reducible refine Ek_ite ?_ ?_ | with_reducible refine Ek_zif ?_ | with_reducible refine Ek_zbt ?_ ?_ | with_reducible refine Ek_zb2 ?_ | with_reducible refine Ek_zcs ?_ ?_ | with_reducible refine Ek_zbo ?_ | with_reducible refine Ek_zl ?_ | with_reducible refine Ek_bd ?_ | intro _
theorem x_X1_walker_98_b {o : Nat} {v1 : Int32} {rec98 : Int32 → zS → Option ((Int32 ⊕ Nat) × zS)} {v4 : Int32} {σ : zS}  (hrec98 : ∀ a0 M9, Ek S (rec98 a0 M9)) : Ek S (f_X1_walker_98_b o v1 rec98 v4 σ) := by
  unfold f_X1_walker_98_b
  repeat' first | with_reducible assumption | with_reducible exact Ek_none | with_reducible exact Ek_inl | with_reducible exact Ek_inr (by assumption) | (with_reducible apply hrec98 <;> assumption) | with_reducible refine Ek_ite ?_ ?_ | with_reducible refine Ek_zif ?_ | with_reducible refine Ek_zbt ?_ ?_ | with_reducible refine Ek_zb2 ?_ | with_reducible refine Ek_zcs ?_ ?_ | with_reducible refine Ek_zbo ?_ | with_reducible refine Ek_zl ?_ | with_reducible refine Ek_bd ?_ | intro _
theorem x_X1_walker_98 {o : Nat} {v1 : Int32}   : ∀ a0 M, Ek S (f_X1_walker_98 o v1 a0 M) := fun a0 M => Ek_zlp1 (fun rec9 hr a0 M => x_X1_walker_98_b  hr) NN a0 M
theorem x_X1_walker {o : Nat} {p1 : Int32} {p2 : Int32} {σ : zS} (k2 : S 2) (k3 : S 3)  : Ek S (f_X1_walker o p1 p2 σ) := by
  unfold f_X1_walker
  repeat' first | with_reducible assumption | with_reducible exact Ek_none | with_reducible exact Ek_inl | with_reducible exact Ek_inr (by assumption) | (with_reducible apply x_X1_there <;> assumption) | (with_reducible apply x_X1_asked <;> assumption) | (with_reducible apply x_X1_walker_98 <;> assumption) | with_reducible refine Ek_ite ?_ ?_ | with_reducible refine Ek_zif ?_ | with_reducible refine Ek_zbt ?_ ?_ | with_reducible refine Ek_zb2 ?_ | with_reducible refine Ek_zcs ?_ ?_ | with_reducible refine Ek_zbo ?_ | with_reducible refine Ek_zl ?_ | with_reducible refine Ek_bd ?_ | intro _
theorem x_X1_turnAt {o : Nat} {p1 : Int32} {σ : zS} (k2 : S 2)  : Ek S (f_X1_turnAt o p1 σ) := by
  unfold f_X1_turnAt
  repeat' first | with_reducible assumption | with_reducible exact Ek_none | with_reducible exact Ek_inl | with_reducible exact Ek_inr (by assumption) | (with_reducible apply x_X1_there <;> assumption) | with_reducible refine Ek_ite ?_ ?_ | with_reducible refine Ek_zif ?_ | with_reducible refine Ek_zbt ?_ ?_ | with_reducible refine Ek_zb2 ?_ | with_reducible refine Ek_zcs ?_ ?_ | with_reducible refine Ek_zbo ?_ | with_reducible refine Ek_zl ?_ | with_reducible refine Ek_bd ?_ | intro _
theorem x_X1_turn {o : Nat} {p1 : Int32} {p2 : Int32} {σ : zS} (k2 : S 2) (k3 : S 3)  : Ek S (f_X1_turn o p1 p2 σ) := by
  unfold f_X1_turn
  repeat' first | with_reducible assumption | with_reducible exact Ek_none | with_reducible exact Ek_inl | with_reducible exact Ek_inr (by assumption) | (with_reducible apply x_X1_turnAt <;> assumption) | (with_reducible apply x_X1_asked <;> assumption) | with_reducible refine Ek_ite ?_ ?_ | with_reducible refine Ek_zif ?_ | with_reducible refine Ek_zbt ?_ ?_ | with_reducible refine Ek_zb2 ?_ | with_reducible refine Ek_zcs ?_ ?_ | with_reducible refine Ek_zbo ?_ | with_reducible refine Ek_zl ?_ | with_reducible refine Ek_bd ?_ | intro _
theorem x_X1_entry {o : Nat} {p1 : Int32} {p2 : Int32} {σ : zS} (k2 : S 2) (k3 : S 3)  : Ek S (f_X1_entry o p1 p2 σ) := by
  unfold f_X1_entry
  repeat' first | with_reducible assumption | with_reducible exact Ek_none | with_reducible exact Ek_inl | with_reducible exact Ek_inr (by assumption) | (with_reducible apply x_X1_there <;> assumption) | (with_reducible apply x_X1_asked <;> assumption) | with_reducible refine Ek_ite ?_ ?_ | with_reducible refine Ek_zif ?_ | with_reducible refine Ek_zbt ?_ ?_ | with_reducible refine Ek_zb2 ?_ | with_reducible refine Ek_zcs ?_ ?_ | with_reducible refine Ek_zbo ?_ | with_reducible refine Ek_zl ?_ | with_reducible refine Ek_bd ?_ | intro _
theorem x_X1_demand {p1 : Int32} {σ : zS} (k0 : S 0)  : Ek S (f_X1_demand p1 σ) := by
  unfold f_X1_demand
  repeat' first | with_reducible assumption | with_reducible exact Ek_none | with_reducible exact Ek_inl | with_reducible exact Ek_inr (by assumption) | with_reducible refine Ek_ite ?_ ?_ | with_reducible refine Ek_zif ?_ | with_reducible refine Ek_zbt ?_ ?_ | with_reducible refine Ek_zb2 ?_ | with_reducible refine Ek_zcs ?_ ?_ | with_reducible refine Ek_zbo ?_ | with_reducible refine Ek_zl ?_ | with_reducible refine Ek_bd ?_ | intro _
theorem x_X1_aWalk {o : Nat} {p1 : Int32} {p2 : Int32} {p3 : Int32} {σ : zS} (k0 : S 0) (k2 : S 2)  : Ek S (f_X1_aWalk o p1 p2 p3 σ) := by
  unfold f_X1_aWalk
  repeat' first | with_reducible assumption | with_reducible exact Ek_none | with_reducible exact Ek_inl | with_reducible exact Ek_inr (by assumption) | (with_reducible apply x_X1_there <;> assumption) | (with_reducible apply x_X1_houseAt <;> assumption) | (with_reducible apply x_X1_demand <;> assumption) | with_reducible refine Ek_ite ?_ ?_ | with_reducible refine Ek_zif ?_ | with_reducible refine Ek_zbt ?_ ?_ | with_reducible refine Ek_zb2 ?_ | with_reducible refine Ek_zcs ?_ ?_ | with_reducible refine Ek_zbo ?_ | with_reducible refine Ek_zl ?_ | with_reducible refine Ek_bd ?_ | intro _
theorem x_X1_counts {o : Nat} {p1 : Int32} {p2 : Int32} {p3 : Int32} {p4 : Int32} {σ : zS} (k0 : S 0) (k2 : S 2)  : Ek S (f_X1_counts o p1 p2 p3 p4 σ) := by
  unfold f_X1_counts
  repeat' first | with_reducible assumption | with_reducible exact Ek_none | with_reducible exact Ek_inl | with_reducible exact Ek_inr (by assumption) | (with_reducible apply x_X1_aWalk <;> assumption) | with_reducible refine Ek_ite ?_ ?_ | with_reducible refine Ek_zif ?_ | with_reducible refine Ek_zbt ?_ ?_ | with_reducible refine Ek_zb2 ?_ | with_reducible refine Ek_zcs ?_ ?_ | with_reducible refine Ek_zbo ?_ | with_reducible refine Ek_zl ?_ | with_reducible refine Ek_bd ?_ | intro _
theorem x_X1_can {p1 : Int32} {σ : zS} (k4 : S 4)  : Ek S (f_X1_can p1 σ) := by
  unfold f_X1_can
  repeat' first | with_reducible assumption | with_reducible exact Ek_none | with_reducible exact Ek_inl | with_reducible exact Ek_inr (by assumption) | with_reducible refine Ek_ite ?_ ?_ | with_reducible refine Ek_zif ?_ | with_reducible refine Ek_zbt ?_ ?_ | with_reducible refine Ek_zb2 ?_ | with_reducible refine Ek_zcs ?_ ?_ | with_reducible refine Ek_zbo ?_ | with_reducible refine Ek_zl ?_ | with_reducible refine Ek_bd ?_ | intro _
theorem x_X1_walk {o : Nat} {p1 : Int32} {p2 : Int32} {p3 : Int32} {p4 : Int32} {σ : zS} (k0 : S 0) (k2 : S 2) (k4 : S 4)  : Ek S (f_X1_walk o p1 p2 p3 p4 σ) := by
  unfold f_X1_walk
  repeat' first | with_reducible assumption | with_reducible exact Ek_none | with_reducible exact Ek_inl | with_reducible exact Ek_inr (by assumption) | (with_reducible apply x_X1_aWalk <;> assumption) | (with_reducible apply x_X1_can <;> assumption) | with_reducible refine Ek_ite ?_ ?_ | with_reducible refine Ek_zif ?_ | with_reducible refine Ek_zbt ?_ ?_ | with_reducible refine Ek_zb2 ?_ | with_reducible refine Ek_zcs ?_ ?_ | with_reducible refine Ek_zbo ?_ | with_reducible refine Ek_zl ?_ | with_reducible refine Ek_bd ?_ | intro _
theorem x_X1_days {o : Nat} {p1 : Int32} {σ : zS} (k0 : S 0)  : Ek S (f_X1_days o p1 σ) := by
  unfold f_X1_days
  repeat' first | with_reducible assumption | with_reducible exact Ek_none | with_reducible exact Ek_inl | with_reducible exact Ek_inr (by assumption) | (with_reducible apply x_X1_demand <;> assumption) | with_reducible refine Ek_ite ?_ ?_ | with_reducible refine Ek_zif ?_ | with_reducible refine Ek_zbt ?_ ?_ | with_reducible refine Ek_zb2 ?_ | with_reducible refine Ek_zcs ?_ ?_ | with_reducible refine Ek_zbo ?_ | with_reducible refine Ek_zl ?_ | with_reducible refine Ek_bd ?_ | intro _
theorem x_X1_twoHouses_20 {o : Nat} {t0 : Int32} {σ : zS} (k0 : S 0)  : Ek S (f_X1_twoHouses_20 o t0 σ) := by
  unfold f_X1_twoHouses_20
  repeat' first | with_reducible assumption | with_reducible exact Ek_none | with_reducible exact Ek_inl | with_reducible exact Ek_inr (by assumption) | (with_reducible apply x_X1_demand <;> assumption) | with_reducible refine Ek_ite ?_ ?_ | with_reducible refine Ek_zif ?_ | with_reducible refine Ek_zbt ?_ ?_ | with_reducible refine Ek_zb2 ?_ | with_reducible refine Ek_zcs ?_ ?_ | with_reducible refine Ek_zbo ?_ | with_reducible refine Ek_zl ?_ | with_reducible refine Ek_bd ?_ | intro _
theorem x_X1_twoHouses {o : Nat} {p1 : Int32} {p2 : Int32} {σ : zS} (k0 : S 0) (k2 : S 2)  : Ek S (f_X1_twoHouses o p1 p2 σ) := by
  unfold f_X1_twoHouses
  repeat' first | with_reducible assumption | with_reducible exact Ek_none | with_reducible exact Ek_inl | with_reducible exact Ek_inr (by assumption) | (with_reducible apply x_X1_houseAt <;> assumption) | (with_reducible apply x_X1_twoHouses_20 <;> assumption) | with_reducible refine Ek_ite ?_ ?_ | with_reducible refine Ek_zif ?_ | with_reducible refine Ek_zbt ?_ ?_ | with_reducible refine Ek_zb2 ?_ | with_reducible refine Ek_zcs ?_ ?_ | with_reducible refine Ek_zbo ?_ | with_reducible refine Ek_zl ?_ | with_reducible refine Ek_bd ?_ | intro _
theorem x_X1_pass_53 {o : Nat} {v1 : Int32} {v2 : Int32} {v4 : Int32} {t0 : Int32} {σ : zS} (k4 : S 4)  : Ek S (f_X1_pass_53 o v1 v2 v4 t0 σ) := by
  unfold f_X1_pass_53
  repeat' first | with_reducible assumption | with_reducible exact Ek_none | with_reducible exact Ek_inl | with_reducible exact Ek_inr (by assumption) | (with_reducible apply x_X1_can <;> assumption) | with_reducible refine Ek_ite ?_ ?_ | with_reducible refine Ek_zif ?_ | with_reducible refine Ek_zbt ?_ ?_ | with_reducible refine Ek_zb2 ?_ | with_reducible refine Ek_zcs ?_ ?_ | with_reducible refine Ek_zbo ?_ | with_reducible refine Ek_zl ?_ | with_reducible refine Ek_bd ?_ | intro _
theorem x_X1_pass {o : Nat} {p1 : Int32} {p2 : Int32} {p3 : Int32} {σ : zS} (k0 : S 0) (k2 : S 2) (k4 : S 4)  : Ek S (f_X1_pass o p1 p2 p3 σ) := by
  unfold f_X1_pass
  repeat' first | with_reducible assumption | with_reducible exact Ek_none | with_reducible exact Ek_inl | with_reducible exact Ek_inr (by assumption) | (with_reducible apply x_X1_twoHouses <;> assumption) | (with_reducible apply x_X1_demand <;> assumption) | (with_reducible apply x_X1_pass_53 <;> assumption) | with_reducible refine Ek_ite ?_ ?_ | with_reducible refine Ek_zif ?_ | with_reducible refine Ek_zbt ?_ ?_ | with_reducible refine Ek_zb2 ?_ | with_reducible refine Ek_zcs ?_ ?_ | with_reducible refine Ek_zbo ?_ | with_reducible refine Ek_zl ?_ | with_reducible refine Ek_bd ?_ | intro _
theorem x_X1_marry_124 {o : Nat} {rec71 : Int32 → zS → Option ((Int32 ⊕ Nat) × zS)} {v1 : Int32} {v2 : Int32} {v3 : Int32} {σ : zS}  (hrec71 : ∀ a0 M9, Ek S (rec71 a0 M9)) : Ek S (f_X1_marry_124 o rec71 v1 v2 v3 σ) := by
  unfold f_X1_marry_124
  repeat' first | with_reducible assumption | with_reducible exact Ek_none | with_reducible exact Ek_inl | with_reducible exact Ek_inr (by assumption) | (with_reducible apply hrec71 <;> assumption) | with_reducible refine Ek_ite ?_ ?_ | with_reducible refine Ek_zif ?_ | with_reducible refine Ek_zbt ?_ ?_ | with_reducible refine Ek_zb2 ?_ | with_reducible refine Ek_zcs ?_ ?_ | with_reducible refine Ek_zbo ?_ | with_reducible refine Ek_zl ?_ | with_reducible refine Ek_bd ?_ | intro _
theorem x_X1_marry_71_b {o : Nat} {v1 : Int32} {v2 : Int32} {rec71 : Int32 → zS → Option ((Int32 ⊕ Nat) × zS)} {v3 : Int32} {σ : zS}  (hrec71 : ∀ a0 M9, Ek S (rec71 a0 M9)) : Ek S (f_X1_marry_71_b o v1 v2 rec71 v3 σ) := by
  unfold f_X1_marry_71_b
  repeat' first | with_reducible assumption | with_reducible exact Ek_none | with_reducible exact Ek_inl | with_reducible exact Ek_inr (by assumption) | (with_reducible apply hrec71 <;> assumption) | (with_reducible apply x_X1_marry_124 <;> assumption) | with_reducible refine Ek_ite ?_ ?_ | with_reducible refine Ek_zif ?_ | with_reducible refine Ek_zbt ?_ ?_ | with_reducible refine Ek_zb2 ?_ | with_reducible refine Ek_zcs ?_ ?_ | with_reducible refine Ek_zbo ?_ | with_reducible refine Ek_zl ?_ | with_reducible refine Ek_bd ?_ | intro _
theorem x_X1_marry_71 {o : Nat} {v1 : Int32} {v2 : Int32}   : ∀ a0 M, Ek S (f_X1_marry_71 o v1 v2 a0 M) := fun a0 M => Ek_zlp1 (fun rec9 hr a0 M => x_X1_marry_71_b  hr) NN a0 M
theorem x_X1_marry_35 {o : Nat} {v1 : Int32} {v2 : Int32} {t0 : Int32} {σ : zS} (k4 : S 4)  : Ek S (f_X1_marry_35 o v1 v2 t0 σ) := by
  unfold f_X1_marry_35
  repeat' first | with_reducible assumption | with_reducible exact Ek_none | with_reducible exact Ek_inl | with_reducible exact Ek_inr (by assumption) | (with_reducible apply x_X1_can <;> assumption) | (with_reducible apply x_X1_marry_71 <;> assumption) | with_reducible refine Ek_ite ?_ ?_ | with_reducible refine Ek_zif ?_ | with_reducible refine Ek_zbt ?_ ?_ | with_reducible refine Ek_zb2 ?_ | with_reducible refine Ek_zcs ?_ ?_ | with_reducible refine Ek_zbo ?_ | with_reducible refine Ek_zl ?_ | with_reducible refine Ek_bd ?_ | intro _
theorem x_X1_marry {o : Nat} {p1 : Int32} {p2 : Int32} {σ : zS} (k0 : S 0) (k2 : S 2) (k4 : S 4)  : Ek S (f_X1_marry o p1 p2 σ) := by
  unfold f_X1_marry
  repeat' first | with_reducible assumption | with_reducible exact Ek_none | with_reducible exact Ek_inl | with_reducible exact Ek_inr (by assumption) | (with_reducible apply x_X1_twoHouses <;> assumption) | (with_reducible apply x_X1_marry_35 <;> assumption) | with_reducible refine Ek_ite ?_ ?_ | with_reducible refine Ek_zif ?_ | with_reducible refine Ek_zbt ?_ ?_ | with_reducible refine Ek_zb2 ?_ | with_reducible refine Ek_zcs ?_ ?_ | with_reducible refine Ek_zbo ?_ | with_reducible refine Ek_zl ?_ | with_reducible refine Ek_bd ?_ | intro _
theorem x_X1_mend {o : Nat} {p1 : Int32} {σ : zS} (k2 : S 2)  : Ek S (f_X1_mend o p1 σ) := by
  unfold f_X1_mend
  repeat' first | with_reducible assumption | with_reducible exact Ek_none | with_reducible exact Ek_inl | with_reducible exact Ek_inr (by assumption) | (with_reducible apply x_X1_turnAt <;> assumption) | with_reducible refine Ek_ite ?_ ?_ | with_reducible refine Ek_zif ?_ | with_reducible refine Ek_zbt ?_ ?_ | with_reducible refine Ek_zb2 ?_ | with_reducible refine Ek_zcs ?_ ?_ | with_reducible refine Ek_zbo ?_ | with_reducible refine Ek_zl ?_ | with_reducible refine Ek_bd ?_ | intro _
theorem x_X1_worn {o : Nat} {p1 : Int32} {p2 : Int32} {σ : zS} (k0 : S 0) (k2 : S 2)  : Ek S (f_X1_worn o p1 p2 σ) := by
  unfold f_X1_worn
  repeat' first | with_reducible assumption | with_reducible exact Ek_none | with_reducible exact Ek_inl | with_reducible exact Ek_inr (by assumption) | (with_reducible apply x_X1_turnAt <;> assumption) | (with_reducible apply x_X1_demand <;> assumption) | with_reducible refine Ek_ite ?_ ?_ | with_reducible refine Ek_zif ?_ | with_reducible refine Ek_zbt ?_ ?_ | with_reducible refine Ek_zb2 ?_ | with_reducible refine Ek_zcs ?_ ?_ | with_reducible refine Ek_zbo ?_ | with_reducible refine Ek_zl ?_ | with_reducible refine Ek_bd ?_ | intro _
theorem x_X1_deal {o : Nat} {p1 : Int32} {p2 : Int32} {σ : zS} (k2 : S 2)  : Ek S (f_X1_deal o p1 p2 σ) := by
  unfold f_X1_deal
  repeat' first | with_reducible assumption | with_reducible exact Ek_none | with_reducible exact Ek_inl | with_reducible exact Ek_inr (by assumption) | (with_reducible apply x_X1_houseAt <;> assumption) | with_reducible refine Ek_ite ?_ ?_ | with_reducible refine Ek_zif ?_ | with_reducible refine Ek_zbt ?_ ?_ | with_reducible refine Ek_zb2 ?_ | with_reducible refine Ek_zcs ?_ ?_ | with_reducible refine Ek_zbo ?_ | with_reducible refine Ek_zl ?_ | with_reducible refine Ek_bd ?_ | intro _
theorem x_X1_plan {o : Nat} {p1 : Int32} {p2 : Int32} {p3 : Int32} {σ : zS} (k0 : S 0) (k2 : S 2)  : Ek S (f_X1_plan o p1 p2 p3 σ) := by
  unfold f_X1_plan
  repeat' first | with_reducible assumption | with_reducible exact Ek_none | with_reducible exact Ek_inl | with_reducible exact Ek_inr (by assumption) | (with_reducible apply x_X1_houseAt <;> assumption) | (with_reducible apply x_X1_demand <;> assumption) | with_reducible refine Ek_ite ?_ ?_ | with_reducible refine Ek_zif ?_ | with_reducible refine Ek_zbt ?_ ?_ | with_reducible refine Ek_zb2 ?_ | with_reducible refine Ek_zcs ?_ ?_ | with_reducible refine Ek_zbo ?_ | with_reducible refine Ek_zl ?_ | with_reducible refine Ek_bd ?_ | intro _
theorem x_X1_burn_110_b {o : Nat} {v2 : Int32} {v3 : Int32} {rec110 : Int32 → zS → Option ((Int32 ⊕ Nat) × zS)} {v4 : Int32} {σ : zS}  (hrec110 : ∀ a0 M9, Ek S (rec110 a0 M9)) : Ek S (f_X1_burn_110_b o v2 v3 rec110 v4 σ) := by
  unfold f_X1_burn_110_b
  repeat' first | with_reducible assumption | with_reducible exact Ek_none | with_reducible exact Ek_inl | with_reducible exact Ek_inr (by assumption) | (with_reducible apply hrec110 <;> assumption) | with_reducible refine Ek_ite ?_ ?_ | with_reducible refine Ek_zif ?_ | with_reducible refine Ek_zbt ?_ ?_ | with_reducible refine Ek_zb2 ?_ | with_reducible refine Ek_zcs ?_ ?_ | with_reducible refine Ek_zbo ?_ | with_reducible refine Ek_zl ?_ | with_reducible refine Ek_bd ?_ | intro _
theorem x_X1_burn_110 {o : Nat} {v2 : Int32} {v3 : Int32}   : ∀ a0 M, Ek S (f_X1_burn_110 o v2 v3 a0 M) := fun a0 M => Ek_zlp1 (fun rec9 hr a0 M => x_X1_burn_110_b  hr) NN a0 M
theorem x_X1_burn_104 {o : Nat} {v1 : Int32} {v2 : Int32} {v3 : Int32} {t0 : Int32} {σ : zS} (k4 : S 4)  : Ek S (f_X1_burn_104 o v1 v2 v3 t0 σ) := by
  unfold f_X1_burn_104
  repeat' first | with_reducible assumption | with_reducible exact Ek_none | with_reducible exact Ek_inl | with_reducible exact Ek_inr (by assumption) | (with_reducible apply x_X1_can <;> assumption) | (with_reducible apply x_X1_burn_110 <;> assumption) | with_reducible refine Ek_ite ?_ ?_ | with_reducible refine Ek_zif ?_ | with_reducible refine Ek_zbt ?_ ?_ | with_reducible refine Ek_zb2 ?_ | with_reducible refine Ek_zcs ?_ ?_ | with_reducible refine Ek_zbo ?_ | with_reducible refine Ek_zl ?_ | with_reducible refine Ek_bd ?_ | intro _
theorem x_X1_burn_85 {o : Nat} {rec52 : Int32 → Int32 → zS → Option ((Int32 ⊕ Nat) × zS)} {v1 : Int32} {v2 : Int32} {v4 : Int32} {t0 : Int32} {t1 : Int32} {σ : zS}  (hrec52 : ∀ a0 a1 M9, Ek S (rec52 a0 a1 M9)) : Ek S (f_X1_burn_85 o rec52 v1 v2 v4 t0 t1 σ) := by
  unfold f_X1_burn_85
  repeat' first | with_reducible assumption | with_reducible exact Ek_none | with_reducible exact Ek_inl | with_reducible exact Ek_inr (by assumption) | (with_reducible apply hrec52 <;> assumption) | with_reducible refine Ek_ite ?_ ?_ | with_reducible refine Ek_zif ?_ | with_reducible refine Ek_zbt ?_ ?_ | with_reducible refine Ek_zb2 ?_ | with_reducible refine Ek_zcs ?_ ?_ | with_reducible refine Ek_zbo ?_ | with_reducible refine Ek_zl ?_ | with_reducible refine Ek_bd ?_ | intro _
theorem x_X1_burn_52_b {o : Nat} {v1 : Int32} {v2 : Int32} {rec52 : Int32 → Int32 → zS → Option ((Int32 ⊕ Nat) × zS)} {v3 : Int32} {v4 : Int32} {σ : zS} (k4 : S 4) (hrec52 : ∀ a0 a1 M9, Ek S (rec52 a0 a1 M9)) : Ek S (f_X1_burn_52_b o v1 v2 rec52 v3 v4 σ) := by
  unfold f_X1_burn_52_b
  repeat' first | with_reducible assumption | with_reducible exact Ek_none | with_reducible exact Ek_inl | with_reducible exact Ek_inr (by assumption) | (with_reducible apply hrec52 <;> assumption) | (with_reducible apply x_X1_burn_104 <;> assumption) | (with_reducible apply x_X1_burn_85 <;> assumption) | with_reducible refine Ek_ite ?_ ?_ | with_reducible refine Ek_zif ?_ | with_reducible refine Ek_zbt ?_ ?_ | with_reducible refine Ek_zb2 ?_ | with_reducible refine Ek_zcs ?_ ?_ | with_reducible refine Ek_zbo ?_ | with_reducible refine Ek_zl ?_ | with_reducible refine Ek_bd ?_ | intro _
theorem x_X1_burn_52 {o : Nat} {v1 : Int32} {v2 : Int32} (k4 : S 4)  : ∀ a0 a1 M, Ek S (f_X1_burn_52 o v1 v2 a0 a1 M) := fun a0 a1 M => Ek_zlp2 (fun rec9 hr a0 a1 M => x_X1_burn_52_b k4 hr) NN a0 a1 M
theorem x_X1_burn_38 {o : Nat} {v1 : Int32} {v2 : Int32} {t0 : Int32} {σ : zS} (k0 : S 0) (k4 : S 4)  : Ek S (f_X1_burn_38 o v1 v2 t0 σ) := by
  unfold f_X1_burn_38
  repeat' first | with_reducible assumption | with_reducible exact Ek_none | with_reducible exact Ek_inl | with_reducible exact Ek_inr (by assumption) | (with_reducible apply x_X1_demand <;> assumption) | (with_reducible apply x_X1_burn_52 <;> assumption) | with_reducible refine Ek_ite ?_ ?_ | with_reducible refine Ek_zif ?_ | with_reducible refine Ek_zbt ?_ ?_ | with_reducible refine Ek_zb2 ?_ | with_reducible refine Ek_zcs ?_ ?_ | with_reducible refine Ek_zbo ?_ | with_reducible refine Ek_zl ?_ | with_reducible refine Ek_bd ?_ | intro _
theorem x_X1_burn {o : Nat} {p1 : Int32} {p2 : Int32} {σ : zS} (k0 : S 0) (k2 : S 2) (k4 : S 4)  : Ek S (f_X1_burn o p1 p2 σ) := by
  unfold f_X1_burn
  repeat' first | with_reducible assumption | with_reducible exact Ek_none | with_reducible exact Ek_inl | with_reducible exact Ek_inr (by assumption) | (with_reducible apply x_X1_there <;> assumption) | (with_reducible apply x_X1_burn_38 <;> assumption) | with_reducible refine Ek_ite ?_ ?_ | with_reducible refine Ek_zif ?_ | with_reducible refine Ek_zbt ?_ ?_ | with_reducible refine Ek_zb2 ?_ | with_reducible refine Ek_zcs ?_ ?_ | with_reducible refine Ek_zbo ?_ | with_reducible refine Ek_zl ?_ | with_reducible refine Ek_bd ?_ | intro _
theorem x_X1_span_51 {o : Nat} {rec18 : Int32 → Int32 → zS → Option ((Int32 ⊕ Nat) × zS)} {v1 : Int32} {v2 : Int32} {v4 : Int32} {t0 : Int32} {t1 : Option Nat} {t2 : Int32} {σ : zS}  (hrec18 : ∀ a0 a1 M9, Ek S (rec18 a0 a1 M9)) : Ek S (f_X1_span_51 o rec18 v1 v2 v4 t0 t1 t2 σ) := by
  unfold f_X1_span_51
  repeat' first | with_reducible assumption | with_reducible exact Ek_none | with_reducible exact Ek_inl | with_reducible exact Ek_inr (by assumption) | (with_reducible apply hrec18 <;> assumption) | with_reducible refine Ek_ite ?_ ?_ | with_reducible refine Ek_zif ?_ | with_reducible refine Ek_zbt ?_ ?_ | with_reducible refine Ek_zb2 ?_ | with_reducible refine Ek_zcs ?_ ?_ | with_reducible refine Ek_zbo ?_ | with_reducible refine Ek_zl ?_ | with_reducible refine Ek_bd ?_ | intro _
theorem x_X1_span_18_b {o : Nat} {v1 : Int32} {v2 : Int32} {rec18 : Int32 → Int32 → zS → Option ((Int32 ⊕ Nat) × zS)} {v3 : Int32} {v4 : Int32} {σ : zS}  (hrec18 : ∀ a0 a1 M9, Ek S (rec18 a0 a1 M9)) : Ek S (f_X1_span_18_b o v1 v2 rec18 v3 v4 σ) := by
  unfold f_X1_span_18_b
  repeat' first | with_reducible assumption | with_reducible exact Ek_none | with_reducible exact Ek_inl | with_reducible exact Ek_inr (by assumption) | (with_reducible apply hrec18 <;> assumption) | (with_reducible apply x_X1_span_51 <;> assumption) | with_reducible refine Ek_ite ?_ ?_ | with_reducible refine Ek_zif ?_ | with_reducible refine Ek_zbt ?_ ?_ | with_reducible refine Ek_zb2 ?_ | with_reducible refine Ek_zcs ?_ ?_ | with_reducible refine Ek_zbo ?_ | with_reducible refine Ek_zl ?_ | with_reducible refine Ek_bd ?_ | intro _
theorem x_X1_span_18 {o : Nat} {v1 : Int32} {v2 : Int32}   : ∀ a0 a1 M, Ek S (f_X1_span_18 o v1 v2 a0 a1 M) := fun a0 a1 M => Ek_zlp2 (fun rec9 hr a0 a1 M => x_X1_span_18_b  hr) NN a0 a1 M
theorem x_X1_span {o : Nat} {p1 : Int32} {p2 : Int32} {σ : zS} (k2 : S 2)  : Ek S (f_X1_span o p1 p2 σ) := by
  unfold f_X1_span
  repeat' first | with_reducible assumption | with_reducible exact Ek_none | with_reducible exact Ek_inl | with_reducible exact Ek_inr (by assumption) | (with_reducible apply x_X1_houseAt <;> assumption) | (with_reducible apply x_X1_span_18 <;> assumption) | with_reducible refine Ek_ite ?_ ?_ | with_reducible refine Ek_zif ?_ | with_reducible refine Ek_zbt ?_ ?_ | with_reducible refine Ek_zb2 ?_ | with_reducible refine Ek_zcs ?_ ?_ | with_reducible refine Ek_zbo ?_ | with_reducible refine Ek_zl ?_ | with_reducible refine Ek_bd ?_ | intro _
theorem x_X1_proof_140 {o : Nat} {rec35 : Int32 → Int32 → Int32 → zS → Option ((Int32 ⊕ Nat) × zS)} {v3 : Int32} {v4 : Int64} {v6 : Int32} {v7 : Int32} {v8 : Int32} {σ : zS}  (hrec35 : ∀ a0 a1 a2 M9, Ek S (rec35 a0 a1 a2 M9)) : Ek S (f_X1_proof_140 o rec35 v3 v4 v6 v7 v8 σ) := by
  unfold f_X1_proof_140
  repeat' first | with_reducible assumption | with_reducible exact Ek_none | with_reducible exact Ek_inl | with_reducible exact Ek_inr (by assumption) | (with_reducible apply hrec35 <;> assumption) | with_reducible refine Ek_ite ?_ ?_ | with_reducible refine Ek_zif ?_ | with_reducible refine Ek_zbt ?_ ?_ | with_reducible refine Ek_zb2 ?_ | with_reducible refine Ek_zcs ?_ ?_ | with_reducible refine Ek_zbo ?_ | with_reducible refine Ek_zl ?_ | with_reducible refine Ek_bd ?_ | intro _
theorem x_X1_proof_138 {o : Nat} {rec35 : Int32 → Int32 → Int32 → zS → Option ((Int32 ⊕ Nat) × zS)} {v3 : Int32} {v4 : Int64} {v6 : Int32} {v8 : Int32} {t0 : Int32} {σ : zS}  (hrec35 : ∀ a0 a1 a2 M9, Ek S (rec35 a0 a1 a2 M9)) : Ek S (f_X1_proof_138 o rec35 v3 v4 v6 v8 t0 σ) := by
  unfold f_X1_proof_138
  repeat' first | with_reducible assumption | with_reducible exact Ek_none | with_reducible exact Ek_inl | with_reducible exact Ek_inr (by assumption) | (with_reducible apply hrec35 <;> assumption) | (with_reducible apply x_X1_proof_140 <;> assumption) | with_reducible refine Ek_ite ?_ ?_ | with_reducible refine Ek_zif ?_ | with_reducible refine Ek_zbt ?_ ?_ | with_reducible refine Ek_zb2 ?_ | with_reducible refine Ek_zcs ?_ ?_ | with_reducible refine Ek_zbo ?_ | with_reducible refine Ek_zl ?_ | with_reducible refine Ek_bd ?_ | intro _
theorem x_X1_proof_137 {o : Nat} {rec35 : Int32 → Int32 → Int32 → zS → Option ((Int32 ⊕ Nat) × zS)} {v3 : Int32} {v4 : Int64} {v6 : Int32} {v8 : Int32} {σ : zS}  (hrec35 : ∀ a0 a1 a2 M9, Ek S (rec35 a0 a1 a2 M9)) : Ek S (f_X1_proof_137 o rec35 v3 v4 v6 v8 σ) := by
  unfold f_X1_proof_137
  repeat' first | with_reducible assumption | with_reducible exact Ek_none | with_reducible exact Ek_inl | with_reducible exact Ek_inr (by assumption) | (with_reducible apply hrec35 <;> assumption) | (with_reducible apply x_X1_proof_138 <;> assumption) | with_reducible refine Ek_ite ?_ ?_ | with_reducible refine Ek_zif ?_ | with_reducible refine Ek_zbt ?_ ?_ | with_reducible refine Ek_zb2 ?_ | with_reducible refine Ek_zcs ?_ ?_ | with_reducible refine Ek_zbo ?_ | with_reducible refine Ek_zl ?_ | with_reducible refine Ek_bd ?_ | intro _
theorem x_X1_proof_118 {o : Nat} {rec35 : Int32 → Int32 → Int32 → zS → Option ((Int32 ⊕ Nat) × zS)} {v3 : Int32} {v4 : Int64} {v7 : Int32} {v8 : Int32} {v9 : Int64} {t0 : Int32} {σ : zS}  (hrec35 : ∀ a0 a1 a2 M9, Ek S (rec35 a0 a1 a2 M9)) : Ek S (f_X1_proof_118 o rec35 v3 v4 v7 v8 v9 t0 σ) := by
  unfold f_X1_proof_118
  repeat' first | with_reducible assumption | with_reducible exact Ek_none | with_reducible exact Ek_inl | with_reducible exact Ek_inr (by assumption) | (with_reducible apply hrec35 <;> assumption) | (with_reducible apply x_X1_proof_137 <;> assumption) | (with_reducible apply x_X1_proof_138 <;> assumption) | with_reducible refine Ek_ite ?_ ?_ | with_reducible refine Ek_zif ?_ | with_reducible refine Ek_zbt ?_ ?_ | with_reducible refine Ek_zb2 ?_ | with_reducible refine Ek_zcs ?_ ?_ | with_reducible refine Ek_zbo ?_ | with_reducible refine Ek_zl ?_ | with_reducible refine Ek_bd ?_ | intro _
theorem x_X1_proof_113 {o : Nat} {rec35 : Int32 → Int32 → Int32 → zS → Option ((Int32 ⊕ Nat) × zS)} {v3 : Int32} {v4 : Int64} {v7 : Int32} {v8 : Int32} {v9 : Int64} {σ : zS}  (hrec35 : ∀ a0 a1 a2 M9, Ek S (rec35 a0 a1 a2 M9)) : Ek S (f_X1_proof_113 o rec35 v3 v4 v7 v8 v9 σ) := by
  unfold f_X1_proof_113
  repeat' first | with_reducible assumption | with_reducible exact Ek_none | with_reducible exact Ek_inl | with_reducible exact Ek_inr (by assumption) | (with_reducible apply hrec35 <;> assumption) | (with_reducible apply x_X1_proof_118 <;> assumption) | with_reducible refine Ek_ite ?_ ?_ | with_reducible refine Ek_zif ?_ | with_reducible refine Ek_zbt ?_ ?_ | with_reducible refine Ek_zb2 ?_ | with_reducible refine Ek_zcs ?_ ?_ | with_reducible refine Ek_zbo ?_ | with_reducible refine Ek_zl ?_ | with_reducible refine Ek_bd ?_ | intro _
theorem x_X1_proof_64_b {o : Nat} {rec35 : Int32 → Int32 → Int32 → zS → Option ((Int32 ⊕ Nat) × zS)} {v3 : Int32} {v4 : Int64} {v6 : Int32} {v7 : Int32} {v8 : Int32} {rec64 : Int64 → Int32 → zS → Option ((Int32 ⊕ Nat) × zS)} {v9 : Int64} {v11 : Int32} {σ : zS}  (hrec35 : ∀ a0 a1 a2 M9, Ek S (rec35 a0 a1 a2 M9)) (hrec64 : ∀ a0 a1 M9, Ek S (rec64 a0 a1 M9)) : Ek S (f_X1_proof_64_b o rec35 v3 v4 v6 v7 v8 rec64 v9 v11 σ) := by
  unfold f_X1_proof_64_b
  repeat' first | with_reducible assumption | with_reducible exact Ek_none | with_reducible exact Ek_inl | with_reducible exact Ek_inr (by assumption) | (with_reducible apply hrec35 <;> assumption) | (with_reducible apply hrec64 <;> assumption) | (with_reducible apply x_X1_proof_113 <;> assumption) | (with_reducible apply x_X1_proof_118 <;> assumption) | with_reducible refine Ek_ite ?_ ?_ | with_reducible refine Ek_zif ?_ | with_reducible refine Ek_zbt ?_ ?_ | with_reducible refine Ek_zb2 ?_ | with_reducible refine Ek_zcs ?_ ?_ | with_reducible refine Ek_zbo ?_ | with_reducible refine Ek_zl ?_ | with_reducible refine Ek_bd ?_ | intro _
theorem x_X1_proof_64 {o : Nat} {rec35 : Int32 → Int32 → Int32 → zS → Option ((Int32 ⊕ Nat) × zS)} {v3 : Int32} {v4 : Int64} {v6 : Int32} {v7 : Int32} {v8 : Int32}  (hrec35 : ∀ a0 a1 a2 M9, Ek S (rec35 a0 a1 a2 M9)) : ∀ a0 a1 M, Ek S (f_X1_proof_64 o rec35 v3 v4 v6 v7 v8 a0 a1 M) := fun a0 a1 M => Ek_zlp2 (fun rec9 hr a0 a1 M => x_X1_proof_64_b  hrec35 hr) NN a0 a1 M
theorem x_X1_proof_35_b {o : Nat} {v3 : Int32} {v4 : Int64} {rec35 : Int32 → Int32 → Int32 → zS → Option ((Int32 ⊕ Nat) × zS)} {v6 : Int32} {v7 : Int32} {v8 : Int32} {σ : zS}  (hrec35 : ∀ a0 a1 a2 M9, Ek S (rec35 a0 a1 a2 M9)) : Ek S (f_X1_proof_35_b o v3 v4 rec35 v6 v7 v8 σ) := by
  unfold f_X1_proof_35_b
  repeat' first | with_reducible assumption | with_reducible exact Ek_none | with_reducible exact Ek_inl | with_reducible exact Ek_inr (by assumption) | (with_reducible apply hrec35 <;> assumption) | (with_reducible apply x_X1_proof_64 <;> assumption) | (with_reducible apply x_X1_proof_140 <;> assumption) | with_reducible refine Ek_ite ?_ ?_ | with_reducible refine Ek_zif ?_ | with_reducible refine Ek_zbt ?_ ?_ | with_reducible refine Ek_zb2 ?_ | with_reducible refine Ek_zcs ?_ ?_ | with_reducible refine Ek_zbo ?_ | with_reducible refine Ek_zl ?_ | with_reducible refine Ek_bd ?_ | intro _
theorem x_X1_proof_35 {o : Nat} {v3 : Int32} {v4 : Int64}   : ∀ a0 a1 a2 M, Ek S (f_X1_proof_35 o v3 v4 a0 a1 a2 M) := fun a0 a1 a2 M => Ek_zlp3 (fun rec9 hr a0 a1 a2 M => x_X1_proof_35_b  hr) NN a0 a1 a2 M
theorem x_X1_proof {o : Nat} {p1 : Int32} {p2 : Int32} {σ : zS} (k2 : S 2)  : Ek S (f_X1_proof o p1 p2 σ) := by
  unfold f_X1_proof
  repeat' first | with_reducible assumption | with_reducible exact Ek_none | with_reducible exact Ek_inl | with_reducible exact Ek_inr (by assumption) | (with_reducible apply x_X1_houseAt <;> assumption) | (with_reducible apply x_X1_proof_35 <;> assumption) | with_reducible refine Ek_ite ?_ ?_ | with_reducible refine Ek_zif ?_ | with_reducible refine Ek_zbt ?_ ?_ | with_reducible refine Ek_zb2 ?_ | with_reducible refine Ek_zcs ?_ ?_ | with_reducible refine Ek_zbo ?_ | with_reducible refine Ek_zl ?_ | with_reducible refine Ek_bd ?_ | intro _
theorem x_X1_live_168 {o : Nat} {rec26 : Int32 → zS → Option ((Int32 ⊕ Nat) × zS)} {v1 : Int32} {v2 : Option Nat} {v3 : Int32} {v4 : Int32} {σ : zS}  (hrec26 : ∀ a0 M9, Ek S (rec26 a0 M9)) : Ek S (f_X1_live_168 o rec26 v1 v2 v3 v4 σ) := by
  unfold f_X1_live_168
  repeat' first | with_reducible assumption | with_reducible exact Ek_none | with_reducible exact Ek_inl | with_reducible exact Ek_inr (by assumption) | (with_reducible apply hrec26 <;> assumption) | with_reducible refine Ek_ite ?_ ?_ | with_reducible refine Ek_zif ?_ | with_reducible refine Ek_zbt ?_ ?_ | with_reducible refine Ek_zb2 ?_ | with_reducible refine Ek_zcs ?_ ?_ | with_reducible refine Ek_zbo ?_ | with_reducible refine Ek_zl ?_ | with_reducible refine Ek_bd ?_ | intro _
theorem x_X1_live_162 {o : Nat} {rec26 : Int32 → zS → Option ((Int32 ⊕ Nat) × zS)} {rec35 : Int32 → zS → Option ((Int32 ⊕ Nat) × zS)} {v1 : Int32} {v2 : Option Nat} {v3 : Int32} {v4 : Int32} {v5 : Int32} {σ : zS}  (hrec26 : ∀ a0 M9, Ek S (rec26 a0 M9)) (hrec35 : ∀ a0 M9, Ek S (rec35 a0 M9)) : Ek S (f_X1_live_162 o rec26 rec35 v1 v2 v3 v4 v5 σ) := by
  unfold f_X1_live_162
  repeat' first | with_reducible assumption | with_reducible exact Ek_none | with_reducible exact Ek_inl | with_reducible exact Ek_inr (by assumption) | (with_reducible apply hrec26 <;> assumption) | (with_reducible apply hrec35 <;> assumption) | with_reducible refine Ek_ite ?_ ?_ | with_reducible refine Ek_zif ?_ | with_reducible refine Ek_zbt ?_ ?_ | with_reducible refine Ek_zb2 ?_ | with_reducible refine Ek_zcs ?_ ?_ | with_reducible refine Ek_zbo ?_ | with_reducible refine Ek_zl ?_ | with_reducible refine Ek_bd ?_ | intro _
theorem x_X1_live_116 {o : Nat} {rec26 : Int32 → zS → Option ((Int32 ⊕ Nat) × zS)} {rec35 : Int32 → zS → Option ((Int32 ⊕ Nat) × zS)} {v1 : Int32} {v2 : Option Nat} {v3 : Int32} {v4 : Int32} {v5 : Int32} {v6 : Option Nat} {v7 : Int32} {t0 : Int32} {σ : zS}  (hrec26 : ∀ a0 M9, Ek S (rec26 a0 M9)) (hrec35 : ∀ a0 M9, Ek S (rec35 a0 M9)) : Ek S (f_X1_live_116 o rec26 rec35 v1 v2 v3 v4 v5 v6 v7 t0 σ) := by
  unfold f_X1_live_116
  repeat' first | with_reducible assumption | with_reducible exact Ek_none | with_reducible exact Ek_inl | with_reducible exact Ek_inr (by assumption) | (with_reducible apply hrec26 <;> assumption) | (with_reducible apply hrec35 <;> assumption) | (with_reducible apply x_X1_live_162 <;> assumption) | with_reducible refine Ek_ite ?_ ?_ | with_reducible refine Ek_zif ?_ | with_reducible refine Ek_zbt ?_ ?_ | with_reducible refine Ek_zb2 ?_ | with_reducible refine Ek_zcs ?_ ?_ | with_reducible refine Ek_zbo ?_ | with_reducible refine Ek_zl ?_ | with_reducible refine Ek_bd ?_ | intro _
theorem x_X1_live_35_b {o : Nat} {rec26 : Int32 → zS → Option ((Int32 ⊕ Nat) × zS)} {v1 : Int32} {v2 : Option Nat} {v3 : Int32} {v4 : Int32} {rec35 : Int32 → zS → Option ((Int32 ⊕ Nat) × zS)} {v5 : Int32} {σ : zS}  (hrec26 : ∀ a0 M9, Ek S (rec26 a0 M9)) (hrec35 : ∀ a0 M9, Ek S (rec35 a0 M9)) : Ek S (f_X1_live_35_b o rec26 v1 v2 v3 v4 rec35 v5 σ) := by
  unfold f_X1_live_35_b
  repeat' first | with_reducible assumption | with_reducible exact Ek_none | with_reducible exact Ek_inl | with_reducible exact Ek_inr (by assumption) | (with_reducible apply hrec26 <;> assumption) | (with_reducible apply hrec35 <;> assumption) | (with_reducible apply x_X1_live_168 <;> assumption) | (with_reducible apply x_X1_live_116 <;> assumption) | (with_reducible apply x_X1_live_162 <;> assumption) | with_reducible refine Ek_ite ?_ ?_ | with_reducible refine Ek_zif ?_ | with_reducible refine Ek_zbt ?_ ?_ | with_reducible refine Ek_zb2 ?_ | with_reducible refine Ek_zcs ?_ ?_ | with_reducible refine Ek_zbo ?_ | with_reducible refine Ek_zl ?_ | with_reducible refine Ek_bd ?_ | intro _
theorem x_X1_live_35 {o : Nat} {rec26 : Int32 → zS → Option ((Int32 ⊕ Nat) × zS)} {v1 : Int32} {v2 : Option Nat} {v3 : Int32} {v4 : Int32}  (hrec26 : ∀ a0 M9, Ek S (rec26 a0 M9)) : ∀ a0 M, Ek S (f_X1_live_35 o rec26 v1 v2 v3 v4 a0 M) := fun a0 M => Ek_zlp1 (fun rec9 hr a0 M => x_X1_live_35_b  hrec26 hr) NN a0 M
theorem x_X1_live_26_b {o : Nat} {v1 : Int32} {v2 : Option Nat} {v3 : Int32} {rec26 : Int32 → zS → Option ((Int32 ⊕ Nat) × zS)} {v4 : Int32} {σ : zS}  (hrec26 : ∀ a0 M9, Ek S (rec26 a0 M9)) : Ek S (f_X1_live_26_b o v1 v2 v3 rec26 v4 σ) := by
  unfold f_X1_live_26_b
  repeat' first | with_reducible assumption | with_reducible exact Ek_none | with_reducible exact Ek_inl | with_reducible exact Ek_inr (by assumption) | (with_reducible apply hrec26 <;> assumption) | (with_reducible apply x_X1_live_35 <;> assumption) | with_reducible refine Ek_ite ?_ ?_ | with_reducible refine Ek_zif ?_ | with_reducible refine Ek_zbt ?_ ?_ | with_reducible refine Ek_zb2 ?_ | with_reducible refine Ek_zcs ?_ ?_ | with_reducible refine Ek_zbo ?_ | with_reducible refine Ek_zl ?_ | with_reducible refine Ek_bd ?_ | intro _
theorem x_X1_live_26 {o : Nat} {v1 : Int32} {v2 : Option Nat} {v3 : Int32}   : ∀ a0 M, Ek S (f_X1_live_26 o v1 v2 v3 a0 M) := fun a0 M => Ek_zlp1 (fun rec9 hr a0 M => x_X1_live_26_b  hr) NN a0 M
theorem x_X1_live {o : Nat} {p1 : Int32} {σ : zS} (k0 : S 0)  : Ek S (f_X1_live o p1 σ) := by
  unfold f_X1_live
  repeat' first | with_reducible assumption | with_reducible exact Ek_none | with_reducible exact Ek_inl | with_reducible exact Ek_inr (by assumption) | (with_reducible apply x_X1_demand <;> assumption) | (with_reducible apply x_X1_live_26 <;> assumption) | with_reducible refine Ek_ite ?_ ?_ | with_reducible refine Ek_zif ?_ | with_reducible refine Ek_zbt ?_ ?_ | with_reducible refine Ek_zb2 ?_ | with_reducible refine Ek_zcs ?_ ?_ | with_reducible refine Ek_zbo ?_ | with_reducible refine Ek_zl ?_ | with_reducible refine Ek_bd ?_ | intro _
end ZC1
/-! the yrun of the law: component and model in one heap -/
def mcl (o ot q : Nat) : Prop := (o ≤ q ∧ q < o + 10) ∨ q = ot
def MAg (M1 M2 : mS) : Prop := (∀ k, (k = 0 ∨ k = 3 ∨ k = 6 ∨ k = 10 ∨ k = 14 ∨ k = 15) → M1.1 k = M2.1 k) ∧ ∀ j, j < 9 → M1.2 j = M2.2 j
def J9 (k c : Nat) (σ : zS) (xa o ot : Nat) : Prop := ∃ L A N U S D, Iv c L σ A N U S D (rM σ o) ∧ aad A 0 = xa ∧ pM σ o (rM σ o) = σ ∧ zbs σ ≤ o ∧ (∀ q, mcl o ot q → S q ∧ ¬ D q) ∧ (∃ f, σ.1 ot = some (.inl (2, 1, .inr (.inl f)))) ∧ zbs σ ≤ ot ∧ ¬ (o ≤ ot ∧ ot < o + 10) ∧ k * 18000 + 60 * L ≤ zc σ ∧ k * 85000 + 600 * L ≤ zz σ
def OpR {ρ ν : Type} (c L : Nat) (σ : zS) (S D : Nat → Prop) (xa : Nat) (P : ρ → ν → Int32 → Prop) (fo : Option (ρ × zS)) (go : Option (ν × mS)) : Prop := ∃ r v σ' A' N' U' D' L' M' a b, fo = some (r, σ') ∧ go = some (v, M') ∧ P r v (M'.1 0) ∧ Iv (c + 200) L' σ' A' N' U' (fun q => S q ∨ D' q) D' M' ∧ (∀ q, D' q → D q ∨ ¬ S q ∨ ∃ fs, σ.1 q = some (.inr (10, fs))) ∧ ySt σ σ' S a b ∧ a + 60 * L' ≤ 60 * L + 18000 ∧ b + 600 * L' ≤ 600 * L + 85000 ∧ aad A' 0 = xa
theorem roomK {k K z1 z2 L L' a w : Nat} (h1 : (k + 1) * K + w * L ≤ z1) (h2 : z1 ≤ z2 + a) (h3 : a + w * L' ≤ w * L + K) : k * K + w * L' ≤ z2 := by
  rw [Nat.succ_mul] at h1
  generalize k * K = t at *
  generalize w * L = u at *
  generalize w * L' = u' at *
  omega
theorem roomS {k K z1 L w : Nat} (h1 : (k + 1) * K + w * L ≤ z1) : K + w * L ≤ z1 := by
  rw [Nat.succ_mul] at h1
  generalize k * K = t at *
  generalize w * L = u at *
  omega
section ZC2
variable {σ σ' τ : zS} {A A' B : cA} {N N' : Nat → Nat} {U U' : cU} {S D : Nat → Prop} {c L k o ot xa : Nat} {M M' M1 M2 : mS} {m m' : Nat → Int32}
theorem Iv_M (H : Iv c L σ A N U S D M) (h : MAg M1 M) : Iv c L σ A N U S D M1 := by
  obtain ⟨h1, h2, h3, h4, h5, h6, h7, h8, ⟨r1, r2, r3, r4, T, r5, r6⟩, h10, h11⟩ := H
  obtain ⟨a, b⟩ := h
  have b0 := b 0 (by omega)
  have b1 := b 1 (by omega)
  have b3 := b 3 (by omega)
  refine ⟨h1, h2, h3, h4, h5, h6, by rw [b0]; exact h7, by rw [b0]; exact h8, ⟨r1, by rw [a 6 (by omega)]; exact r2, r3, by rw [a 10 (by omega)]; exact r4, T, r5, by rw [b3]; exact r6⟩, ?_, ⟨by rw [a 14 (by omega)]; exact h11.1, by rw [a 15 (by omega)]; exact h11.2⟩⟩
  rcases h10 with ⟨q1, q2⟩ | ⟨B, N', U', q1, q2, q3, q4, q5, q6, q7⟩
  · exact Or.inl ⟨q1, by rw [a 3 (by omega)]; exact q2⟩
  · exact Or.inr ⟨B, N', U', by rw [a 3 (by omega)]; exact q1, q2, q3, q4, q5, by rw [b1]; exact q6, by rw [b1]; exact q7⟩
/-- cells that are nobody's change -/
theorem Iv_out (H : Iv c L σ A N U S D M) (h : ∀ q, τ.1 q = σ.1 q ∨ (S q ∧ ¬ D q ∧ zbs σ ≤ q ∧ ∃ ob, σ.1 q = some ob ∧ ∀ fs, ob ≠ .inr (10, fs))) (h2 : τ.2 = σ.2) : Iv c L τ A N U S D M := by
  obtain ⟨h1, hD, h3, h4, ⟨d, h5⟩, h6, h7, h8, h9, h10, h11⟩ := H
  have en : zn τ = zn σ := congrArg (fun w => w.2.2.1) h2
  have eb : zbs τ = zbs σ := congrArg (fun w => w.2.1) h2
  have ev : zsv τ = zsv σ := congrArg (fun w => w.1) h2
  have ec : zc τ = zc σ := congrArg (fun w => w.2.2.2.1) h2
  have ez : zz τ = zz σ := congrArg (fun w => w.2.2.2.2) h2
  have T : ySt σ τ D 0 0 := ⟨ev, eb, by omega, fun q hq => by
    rcases h q with z | ⟨z1, z2, z3, -⟩
    · exact z
    · rcases hq with w | w
      · exact absurd w z2
      · omega, by omega, by omega⟩
  have hC : Cs τ A N U S := Cs_out h1 (fun q => by
    rcases h q with z | ⟨z1, z2, z3, ob, z4, z5⟩
    · exact Or.inl z
    · refine Or.inr ⟨fun r e => ?_, (h1.2.1 q z1).1⟩
      have hr := (h1.2.1 q z1).2 r e
      obtain ⟨i, rfl⟩ : ∃ i, r = 100 * 3 + i := ⟨r - 300, by omega⟩
      have c1 := h1.1.2.1 (100 * 3 + i)
      rw [e, z4, cEl_at (by omega) (by omega)] at c1
      unfold cEl at c1
      have c2 : some ob = (if i < N 3 then some (Sum.inr (10, [Value.int (U.2 3 (2 * i)), .int (U.2 3 (2 * i + 1))])) else none) := c1
      by_cases y : i < N 3
      · rw [if_pos y] at c2
        exact z5 _ (Option.some.inj c2)
      · rw [if_neg y] at c2; cases c2) h2
  exact ⟨hC, hD, Ev_St h3 T, zLk_St h4 T, ⟨d, by show zsv τ 1 = _; rw [ev]; exact h5⟩, h6, h7, Lw_St h8 T rfl (fun _ h => h) (fun _ _ => rfl), h9, Im_St h10 T rfl (fun _ h => h) rfl (fun _ _ => rfl), h11⟩
/-- the model's cells tell the model -/
theorem rM_1 {k : Nat} {x : Int32} (h : σ.1 o = some (.inr (5, mFs o M))) (hk : (mFs o M)[k]? = some (.int x)) : (rM σ o).1 k = x := by
  show (match σ.1 o with
    | some (.inr (_, fs)) => (match fs[k]? with
      | some (.int x) => x
      | _ => 0)
    | _ => 0) = x
  rw [h]
  show (match (mFs o M)[k]? with
    | some (.int x) => x
    | _ => 0) = x
  rw [hk]
theorem rM_2 {j n : Nat} {f : Nat → Int32} (h : σ.1 (o + (j + 1)) = some (.inl (0, n, .inl f))) : (rM σ o).2 j = f := by
  show (match σ.1 (o + (j + 1)) with
    | some (.inl (_, _, .inl f)) => f
    | _ => fun _ => 0) = f
  rw [h]
def mcO (σ : zS) (o : Nat) (M : mS) : Prop := σ.1 o = some (.inr (5, mFs o M)) ∧ ∀ j, j < 9 → σ.1 (o + (j + 1)) = some (.inl (0, mAL j, .inl (M.2 j)))
theorem mcO_pM : mcO (pM σ o M) o M := ⟨pM_o, fun j hj => pM_a hj⟩
theorem mcO_rM (h : mcO σ o M) : MAg (rM σ o) M ∧ pM σ o (rM σ o) = σ := by
  obtain ⟨h1, h2⟩ := h
  have e : mFs o (rM σ o) = mFs o M := by
    unfold mFs
    rw [rM_1 (k := 0) h1 rfl, rM_1 (k := 3) h1 rfl, rM_1 (k := 6) h1 rfl, rM_1 (k := 7) h1 rfl, rM_1 (k := 8) h1 rfl, rM_1 (k := 9) h1 rfl, rM_1 (k := 10) h1 rfl, rM_1 (k := 11) h1 rfl, rM_1 (k := 13) h1 rfl, rM_1 (k := 14) h1 rfl, rM_1 (k := 15) h1 rfl, rM_1 (k := 16) h1 rfl, rM_1 (k := 18) h1 rfl, rM_1 (k := 22) h1 rfl, rM_1 (k := 23) h1 rfl, rM_1 (k := 24) h1 rfl]
  refine ⟨⟨fun k hk => ?_, fun j hj => rM_2 (h2 j hj)⟩, ?_⟩
  · rcases hk with rfl | rfl | rfl | rfl | rfl | rfl
    · exact rM_1 (k := 0) h1 rfl
    · exact rM_1 (k := 3) h1 rfl
    · exact rM_1 (k := 6) h1 rfl
    · exact rM_1 (k := 10) h1 rfl
    · exact rM_1 (k := 14) h1 rfl
    · exact rM_1 (k := 15) h1 rfl
  · refine Prod.ext (funext fun q => ?_) rfl
    show (if q < o then σ.1 q else if q = o then some (.inr (5, mFs o (rM σ o))) else if q < o + 10 then some (.inl (0, mAL (q - o - 1), .inl ((rM σ o).2 (q - o - 1)))) else σ.1 q) = σ.1 q
    by_cases a : q < o
    · rw [if_pos a]
    · rw [if_neg a]
      by_cases b : q = o
      · rw [if_pos b, e, b, h1]
      · rw [if_neg b]
        by_cases d : q < o + 10
        · have hj : q - o - 1 < 9 := by omega
          have hq := h2 (q - o - 1) hj
          rw [if_pos d, rM_2 hq, ← hq, show o + (q - o - 1 + 1) = q by omega]
        · rw [if_neg d]
theorem mcO_of (h : pM σ o (rM σ o) = σ) : mcO σ o (rM σ o) := by
  have := mcO_pM (σ := σ) (o := o) (M := rM σ o)
  rw [h] at this
  exact this
theorem mcO_eq (h : mcO σ o M) (h1 : ∀ q, o ≤ q → q < o + 10 → τ.1 q = σ.1 q) : mcO τ o M := ⟨by rw [h1 o (by omega) (by omega)]; exact h.1, fun j hj => by rw [h1 _ (by omega) (by omega)]; exact h.2 j hj⟩
theorem gl_run {α : Type} {g : mS → Option (α × mS)} {v : α} (h : pM σ o (rM σ o) = σ) (hP : zP σ o) (hg : g (rM σ o) = some (v, M')) : gl o g σ = some (v, pM σ o M') := by
  unfold gl
  rw [@if_pos _ (Classical.propDecidable _) ⟨h, hP⟩, hg]
set_option maxRecDepth 4000 in
/-- one call on both sides -/
theorem step_op {ρ ν : Type} {P : ρ → ν → Int32 → Prop} {fo : Option (ρ × zS)} {go : mS → Option (ν × mS)} (HJ : J9 (k + 1) c σ xa o ot) (OP : ∀ L A N U S D M, Iv c L σ A N U S D M → aad A 0 = xa → 18000 + 60 * L ≤ zc σ → 85000 + 600 * L ≤ zz σ → OpR c L σ S D xa P fo (go M)) :
    ∃ r σ1, fo = some (r, σ1) ∧ (∃ f, σ1.1 ot = some (.inl (2, 1, .inr (.inl f)))) ∧ zbs σ1 ≤ ot ∧ ∀ σ2, (σ2 = σ1 ∨ ∃ f, σ2 = zset σ1 ot (.inl (2, 1, .inr (.inl f)))) → ∃ v M', P r v (M'.1 0) ∧ gl o go σ2 = some (v, pM σ2 o M') ∧ gl o g_X6_thrown (pM σ2 o M') = some (M'.1 0, pM σ2 o M') ∧ J9 k (c + 200) (pM σ2 o M') xa o ot ∧ (pM σ2 o M').1 ot = σ2.1 ot := by
  obtain ⟨L, A, N, U, S, D, H, hxa, hpm, hbo, hmc, ⟨f0, hot⟩, hbt, hno, hzc, hzz⟩ := HJ
  have mc0 := mcO_of hpm
  obtain ⟨r, v0, σ1, A1, N1, U1, D1, L1, M1, a1, b1, e1, -, -, -, -, t1, -⟩ := OP L A N U S D (rM σ o) H hxa (roomS hzc) (roomS hzz)
  have hSk : ∀ q, mcl o ot q → σ1.1 q = σ.1 q := fun q hq => t1.2.2.2.1 q (Or.inl (hmc q hq).1)
  have ot1 : σ1.1 ot = some (.inl (2, 1, .inr (.inl f0))) := (hSk ot (Or.inr rfl)).trans hot
  refine ⟨r, σ1, e1, ⟨f0, ot1⟩, by rw [t1.2.1]; exact hbt, fun σ2 h2 => ?_⟩
  have s2 : σ2.2 = σ1.2 := by rcases h2 with rfl | ⟨f, rfl⟩ <;> rfl
  have c2 : ∀ q, q ≠ ot → σ2.1 q = σ1.1 q := by
    intro q hq
    rcases h2 with rfl | ⟨f, rfl⟩
    · rfl
    · exact if_neg hq
  have ot2 : ∃ f, σ2.1 ot = some (.inl (2, 1, .inr (.inl f))) := by
    rcases h2 with rfl | ⟨f, rfl⟩
    · exact ⟨f0, ot1⟩
    · exact ⟨f, if_pos rfl⟩
  have mc2 : mcO σ2 o (rM σ o) := mcO_eq mc0 (fun q q1 q2 => (c2 q (fun e => hno (by omega))).trans (hSk q (Or.inl ⟨q1, q2⟩)))
  obtain ⟨g1, g2⟩ := mcO_rM mc2
  have H2 := Iv_M H g1
  obtain ⟨r', v, σ1', A', N', U', D', L', M', a, b, f1, f2, f3, f4, f5, f6, f7, f8, f9⟩ := OP L A N U S D (rM σ2 o) H2 hxa (roomS hzc) (roomS hzz)
  have ee := e1.symm.trans f1
  have er : r' = r := (congrArg (fun z => z.1) (Option.some.inj ee)).symm
  have es : σ1' = σ1 := (congrArg (fun z => z.2) (Option.some.inj ee)).symm
  subst er
  subst es
  have ev : zsv σ2 = zsv σ1' := congrArg (fun w => w.1) s2
  have eb : zbs σ2 = zbs σ1' := congrArg (fun w => w.2.1) s2
  have en : zn σ2 = zn σ1' := congrArg (fun w => w.2.2.1) s2
  have ec : zc σ2 = zc σ1' := congrArg (fun w => w.2.2.2.1) s2
  have ez : zz σ2 = zz σ1' := congrArg (fun w => w.2.2.2.2) s2
  -- the out array's cell is nobody's
  have hmcD : ∀ q, mcl o ot q → ¬ D' q := by
    intro q hq hd
    rcases f5 q hd with w | w | ⟨fs, w⟩
    · exact (hmc q hq).2 w
    · exact w (hmc q hq).1
    · rcases hq with ⟨q1, q2⟩ | rfl
      · by_cases z : q = o
        · rw [z, mc0.1] at w; cases w
        · have := mc0.2 (q - o - 1) (by omega)
          rw [show o + (q - o - 1 + 1) = q by omega, w] at this
          cases this
      · rw [hot] at w; cases w
  have hcell : ∀ q, mcl o ot q → ∃ ob, σ1'.1 q = some ob ∧ ∀ fs, ob ≠ .inr (10, fs) := by
    intro q hq
    rw [hSk q hq]
    rcases hq with ⟨q1, q2⟩ | rfl
    · by_cases z : q = o
      · rw [z]
        exact ⟨_, mc0.1, fun fs e => by cases e⟩
      · have := mc0.2 (q - o - 1) (by omega)
        rw [show o + (q - o - 1 + 1) = q by omega] at this
        exact ⟨_, this, fun fs e => by cases e⟩
    · exact ⟨_, hot, fun fs e => by cases e⟩
  have hb1 : zbs σ1' = zbs σ := f6.2.1
  have I3 : Iv (c + 200) L' (pM σ2 o M') A' N' U' (fun q => S q ∨ D' q) D' M' := Iv_out f4 (fun q => by
    by_cases z : mcl o ot q
    · refine Or.inr ⟨Or.inl (hmc q z).1, hmcD q z, ?_, hcell q z⟩
      rcases z with ⟨q1, q2⟩ | rfl <;> omega
    · left
      have z1 : ¬ (o ≤ q ∧ q < o + 10) := fun w => z (Or.inl w)
      have z2 : q ≠ ot := fun w => z (Or.inr w)
      show (if q < o then σ2.1 q else if q = o then _ else if q < o + 10 then _ else σ2.1 q) = σ1'.1 q
      by_cases y : q < o
      · rw [if_pos y]; exact c2 q z2
      · rw [if_neg y, if_neg (by omega), if_neg (by omega)]; exact c2 q z2) s2
  have hLit : zLit σ2 := by
    have K1 : zLk σ1' := f4.2.2.2.1
    exact (zLk_ag (P := fun _ => False) K1 ⟨fun q hq => hq.elim (fun z => z.elim) (fun hq => c2 q (by omega)), ev, eb⟩).1
  have hP2 : zP σ2 o := ⟨by omega, hLit⟩
  have run1 := gl_run g2 hP2 f2
  obtain ⟨k1, k2⟩ := mcO_rM (mcO_pM (σ := σ2) (o := o) (M := M'))
  have hP3 : zP (pM σ2 o M') o := ⟨by show zbs σ2 ≤ o; omega, I3.2.2.2.1.1⟩
  have run2 : gl o g_X6_thrown (pM σ2 o M') = some ((rM (pM σ2 o M') o).1 0, pM (pM σ2 o M') o (rM (pM σ2 o M') o)) := gl_run k2 hP3 rfl
  rw [k2, k1.1 0 (Or.inl rfl)] at run2
  have ot3 : (pM σ2 o M').1 ot = σ2.1 ot := by
    show (if ot < o then σ2.1 ot else if ot = o then _ else if ot < o + 10 then _ else σ2.1 ot) = σ2.1 ot
    by_cases y : ot < o
    · rw [if_pos y]
    · rw [if_neg y, if_neg (by omega), if_neg (by omega)]
  have z1 := f6.2.2.2.2.1
  have z2 := f6.2.2.2.2.2
  exact ⟨v, M', f3, run1, run2, ⟨L', A', N', U', _, D', Iv_M I3 k1, f9, k2, by show zbs σ2 ≤ o; omega, fun q hq => ⟨Or.inl (hmc q hq).1, hmcD q hq⟩, by rw [ot3]; exact ot2, by show zbs σ2 ≤ ot; omega, hno, roomK hzc (z2 := zc σ2) (by rw [ec]; exact z1) f7, roomK hzz (z2 := zz σ2) (by rw [ez]; exact z2) f8⟩, ot3⟩
end ZC2
