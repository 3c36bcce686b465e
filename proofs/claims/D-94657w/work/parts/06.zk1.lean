/-! ===== a heap as a map: objects and arrays by their addresses; what a method's body does to it, as a function; the walk follows the function ===== -/
abbrev zOb : Type := (Nat × vp_A) ⊕ (Nat × List Value)
abbrev zHp : Type := Nat → Option zOb
/-- the heap's map; constants; where the run began; the heap's size; cells and slots that are left -/
abbrev zS : Type := zHp × (Nat → Option Nat) × Nat × Nat × Nat × Nat
abbrev zV : Type := Option Nat ⊕ Int32 ⊕ Int64
abbrev zA (r : Option Nat) : zV := Sum.inl r
abbrev zI (x : Int32) : zV := Sum.inr (Sum.inl x)
abbrev zJ (x : Int64) : zV := Sum.inr (Sum.inr x)
def zv : zV → Value
  | .inl r => va_rf r
  | .inr (.inl x) => .int x
  | .inr (.inr x) => .long x
def zw : zV → Bool
  | .inl _ => false
  | .inr (.inl _) => false
  | .inr (.inr _) => true
theorem va_rf_cat (r : Option Nat) : (va_rf r).category = 1 := by cases r <;> rfl
theorem zv_cat {v : zV} (h : zw v = false) : (zv v).category = 1 := by
  rcases v with r | x | x
  · exact va_rf_cat r
  · rfl
  · cases h
theorem zv_cat2 {v : zV} (h : zw v = true) : (zv v).category = 2 := by
  rcases v with r | x | x
  · cases h
  · cases h
  · rfl
abbrev zsv (σ : zS) : Nat → Option Nat := σ.2.1
abbrev zbs (σ : zS) : Nat := σ.2.2.1
abbrev zn (σ : zS) : Nat := σ.2.2.2.1
abbrev zc (σ : zS) : Nat := σ.2.2.2.2.1
abbrev zz (σ : zS) : Nat := σ.2.2.2.2.2
def zup (h : zHp) (a : Nat) (o : zOb) : zHp := fun q => if q = a then some o else h q
def zset (σ : zS) (a : Nat) (o : zOb) : zS := (zup σ.1 a o, σ.2)
/-- the class of the object at a (a constant object's class stands by 100 more) -/
def zcl (σ : zS) (a : Nat) : Nat := match σ.1 a with
  | some (.inr (c, _)) => c % 100
  | _ => 99
def zfld (σ : zS) (a ci k : Nat) : Option Value := match σ.1 a with
  | some (.inr (c, fs)) => if c % 100 = ci then fs[k]? else none
  | _ => none
def gI (σ : zS) (a ci k : Nat) : Option Int32 := match zfld σ a ci k with
  | some (.int x) => some x
  | _ => none
def gR (σ : zS) (a ci k : Nat) : Option (Option Nat) := match zfld σ a ci k with
  | some (.ref q) => some (some q)
  | some .null => some none
  | _ => none
def pF (σ : zS) (a ci k : Nat) (v : Value) : Option zS := match σ.1 a with
  | some (.inr (c, fs)) => if c = ci ∧ k < fs.length ∧ zbs σ ≤ a then some (zset σ a (.inr (c, fs.set k v))) else none
  | _ => none
def pI (σ : zS) (a ci k : Nat) (x : Int32) : Option zS := pF σ a ci k (.int x)
def pZ (σ : zS) (a ci k : Nat) (x : Int32) : Option zS := if x = 0 ∨ x = 1 then pF σ a ci k (.int x) else none
def pB (σ : zS) (a ci k : Nat) (x : Int32) : Option zS := if x.toInt8.toInt32 = x then pF σ a ci k (.int x) else none
def pR (σ : zS) (a ci k : Nat) (r : Option Nat) : Option zS := pF σ a ci k (va_rf r)
/-- arrays: 0 int, 1 byte, 2 long, 3 Object, 4 Tag, 5 Fact (constant arrays by 100 more) -/
def lI (σ : zS) (a t : Nat) (i : Int32) : Option Int32 := match σ.1 a with
  | some (.inl (u, n, .inl f)) => if u % 100 = t ∧ ¬ (i < 0 ∨ n ≤ i.toNatClampNeg) then some (f i.toNatClampNeg) else none
  | _ => none
def lJ (σ : zS) (a : Nat) (i : Int32) : Option Int64 := match σ.1 a with
  | some (.inl (u, n, .inr (.inl f))) => if u = 2 ∧ ¬ (i < 0 ∨ n ≤ i.toNatClampNeg) then some (f i.toNatClampNeg) else none
  | _ => none
def lR (σ : zS) (a : Nat) (i : Int32) : Option (Option Nat) := match σ.1 a with
  | some (.inl (u, n, .inr (.inr (.inr (.inr f))))) => if (3 ≤ u ∧ u ≤ 5) ∧ ¬ (i < 0 ∨ n ≤ i.toNatClampNeg) then some (f i.toNatClampNeg) else none
  | _ => none
def sI (σ : zS) (a : Nat) (i x : Int32) : Option zS := match σ.1 a with
  | some (.inl (u, n, .inl f)) => if u = 0 ∧ ¬ (i < 0 ∨ n ≤ i.toNatClampNeg) ∧ zbs σ ≤ a then some (zset σ a (.inl (u, n, .inl (upd f i.toNatClampNeg x)))) else none
  | _ => none
def sB (σ : zS) (a : Nat) (i x : Int32) : Option zS := match σ.1 a with
  | some (.inl (u, n, .inl f)) => if u = 1 ∧ ¬ (i < 0 ∨ n ≤ i.toNatClampNeg) ∧ zbs σ ≤ a then some (zset σ a (.inl (u, n, .inl (upd f i.toNatClampNeg x.toInt8.toInt32)))) else none
  | _ => none
def sJ (σ : zS) (a : Nat) (i : Int32) (x : Int64) : Option zS := match σ.1 a with
  | some (.inl (u, n, .inr (.inl f))) => if u = 2 ∧ ¬ (i < 0 ∨ n ≤ i.toNatClampNeg) ∧ zbs σ ≤ a then some (zset σ a (.inl (u, n, .inr (.inl (vp_updL f i.toNatClampNeg x))))) else none
  | _ => none
/-- null, or an object that a class of the system's list has -/
def zob (σ : zS) (r : Option Nat) : Bool := match r with
  | none => true
  | some q => match σ.1 q with
    | some (.inr (c, _)) => Nat.blt c 22
    | _ => false
def sR (σ : zS) (a : Nat) (i : Int32) (r : Option Nat) : Option zS := match σ.1 a with
  | some (.inl (u, n, .inr (.inr (.inr (.inr f))))) => if u = 3 ∧ ¬ (i < 0 ∨ n ≤ i.toNatClampNeg) ∧ zbs σ ≤ a ∧ zob σ r = true then some (zset σ a (.inl (u, n, .inr (.inr (.inr (.inr (va_up f i.toNatClampNeg r))))))) else none
  | _ => none
def zaln (σ : zS) (a : Nat) : Option Int32 := match σ.1 a with
  | some (.inl (_, x)) => some (Int32.ofNat x.1)
  | _ => none
/-- a new cell of k slots -/
def znew (σ : zS) (o : zOb) (k : Nat) : Option (Nat × zS) :=
  if 1 ≤ zc σ ∧ k ≤ zz σ then some (zn σ, (zup σ.1 (zn σ) o, zsv σ, zbs σ, zn σ + 1, zc σ - 1, zz σ - k)) else none
def znewI (σ : zS) (n : Int32) : Option (Nat × zS) := if n < 0 ∨ 65536 < n.toNatClampNeg then none else znew σ (.inl (0, n.toNatClampNeg, .inl (fun _ => 0))) n.toNatClampNeg
def znewB (σ : zS) (n : Int32) : Option (Nat × zS) := if n < 0 ∨ 65536 < n.toNatClampNeg then none else znew σ (.inl (1, n.toNatClampNeg, .inl (fun _ => 0))) n.toNatClampNeg
def znewJ (σ : zS) (n : Int32) : Option (Nat × zS) := if n < 0 ∨ 65536 < n.toNatClampNeg then none else znew σ (.inl (2, n.toNatClampNeg, .inr (.inl (fun _ => 0)))) n.toNatClampNeg
def znewR (σ : zS) (n : Int32) : Option (Nat × zS) := if n < 0 ∨ 65536 < n.toNatClampNeg then none else znew σ (.inl (3, n.toNatClampNeg, .inr (.inr (.inr (.inr (fun _ => none)))))) n.toNatClampNeg
/-- a constant: it isn't null -/
def zk (σ : zS) (k : Nat) : Option Nat := zsv σ k
/-- a thrown object of the JDK's own classes: a cell of six slots of which nothing is said -/
def zth (σ : zS) : Option zS := if 1 ≤ zc σ ∧ 6 ≤ zz σ then some (σ.1, zsv σ, zbs σ, zn σ + 1, zc σ - 1, zz σ - 6) else none
/-- a call's answer and world -/
def zb2 {α τ β : Type} (o : Option (α × τ)) (K : α → τ → Option β) : Option β := match o with
  | some (a, s) => K a s
  | none => none
/-- a call that may throw -/
def zb3 {α τ β : Type} (o : Option ((α ⊕ Nat) × τ)) (K : α → τ → Option β) (E : Nat → τ → Option β) : Option β := match o with
  | some (.inl a, s) => K a s
  | some (.inr e, s) => E e s
  | none => none
/-- a named value -/
def zl {α β : Type} (x : α) (K : α → Option β) : Option β := K x
/-- only a boolean -/
def zbo {β : Type} (x : Int32) (K : Option β) : Option β := if x = 0 ∨ x = 1 then K else none
def zdiv (x y : Int32) : Option Int32 := if y = 0 then none else some (x / y)
def zrem (x y : Int32) : Option Int32 := if y = 0 then none else some (x - x / y * y)
def zdivJ (x y : Int64) : Option Int64 := if y = 0 then none else some (x / y)
/-- as often as any loop of the system may go round -/
def NN : Nat := 100000
def zlp0 {τ β : Type} (F : (τ → Option β) → τ → Option β) : Nat → τ → Option β
  | 0 => fun _ => none
  | n + 1 => F (zlp0 F n)
theorem zlp0_ok {τ β : Type} {F : (τ → Option β) → τ → Option β} {R : β} {P : τ → Prop} (hF : ∀ rec : τ → Option β, (∀  (s : τ), rec  s = some R → P  s) → ∀  (s : τ), F rec  s = some R → P  s) : ∀ (n : Nat)  (s : τ), zlp0 F n  s = some R → P  s
  | 0, _, h => nomatch h
  | n + 1, s, h => hF (zlp0 F n) (zlp0_ok hF n)  s h
theorem zlp0_s {τ β : Type} {F : (τ → Option β) → τ → Option β} {n : Nat} : zlp0 F (n + 1) = F (zlp0 F n) := rfl
def zlp1 {A1 τ β : Type} (F : (A1 → τ → Option β) → A1 → τ → Option β) : Nat → A1 → τ → Option β
  | 0 => fun _ _ => none
  | n + 1 => F (zlp1 F n)
theorem zlp1_ok {A1 τ β : Type} {F : (A1 → τ → Option β) → A1 → τ → Option β} {R : β} {P : A1 → τ → Prop} (hF : ∀ rec : A1 → τ → Option β, (∀ (a1 : A1) (s : τ), rec a1 s = some R → P a1 s) → ∀ (a1 : A1) (s : τ), F rec a1 s = some R → P a1 s) : ∀ (n : Nat) (a1 : A1) (s : τ), zlp1 F n a1 s = some R → P a1 s
  | 0, _, _, h => nomatch h
  | n + 1, a1, s, h => hF (zlp1 F n) (zlp1_ok hF n) a1 s h
theorem zlp1_s {A1 τ β : Type} {F : (A1 → τ → Option β) → A1 → τ → Option β} {n : Nat} : zlp1 F (n + 1) = F (zlp1 F n) := rfl
def zlp2 {A1 A2 τ β : Type} (F : (A1 → A2 → τ → Option β) → A1 → A2 → τ → Option β) : Nat → A1 → A2 → τ → Option β
  | 0 => fun _ _ _ => none
  | n + 1 => F (zlp2 F n)
theorem zlp2_ok {A1 A2 τ β : Type} {F : (A1 → A2 → τ → Option β) → A1 → A2 → τ → Option β} {R : β} {P : A1 → A2 → τ → Prop} (hF : ∀ rec : A1 → A2 → τ → Option β, (∀ (a1 : A1) (a2 : A2) (s : τ), rec a1 a2 s = some R → P a1 a2 s) → ∀ (a1 : A1) (a2 : A2) (s : τ), F rec a1 a2 s = some R → P a1 a2 s) : ∀ (n : Nat) (a1 : A1) (a2 : A2) (s : τ), zlp2 F n a1 a2 s = some R → P a1 a2 s
  | 0, _, _, _, h => nomatch h
  | n + 1, a1, a2, s, h => hF (zlp2 F n) (zlp2_ok hF n) a1 a2 s h
theorem zlp2_s {A1 A2 τ β : Type} {F : (A1 → A2 → τ → Option β) → A1 → A2 → τ → Option β} {n : Nat} : zlp2 F (n + 1) = F (zlp2 F n) := rfl
def zlp3 {A1 A2 A3 τ β : Type} (F : (A1 → A2 → A3 → τ → Option β) → A1 → A2 → A3 → τ → Option β) : Nat → A1 → A2 → A3 → τ → Option β
  | 0 => fun _ _ _ _ => none
  | n + 1 => F (zlp3 F n)
theorem zlp3_ok {A1 A2 A3 τ β : Type} {F : (A1 → A2 → A3 → τ → Option β) → A1 → A2 → A3 → τ → Option β} {R : β} {P : A1 → A2 → A3 → τ → Prop} (hF : ∀ rec : A1 → A2 → A3 → τ → Option β, (∀ (a1 : A1) (a2 : A2) (a3 : A3) (s : τ), rec a1 a2 a3 s = some R → P a1 a2 a3 s) → ∀ (a1 : A1) (a2 : A2) (a3 : A3) (s : τ), F rec a1 a2 a3 s = some R → P a1 a2 a3 s) : ∀ (n : Nat) (a1 : A1) (a2 : A2) (a3 : A3) (s : τ), zlp3 F n a1 a2 a3 s = some R → P a1 a2 a3 s
  | 0, _, _, _, _, h => nomatch h
  | n + 1, a1, a2, a3, s, h => hF (zlp3 F n) (zlp3_ok hF n) a1 a2 a3 s h
theorem zlp3_s {A1 A2 A3 τ β : Type} {F : (A1 → A2 → A3 → τ → Option β) → A1 → A2 → A3 → τ → Option β} {n : Nat} : zlp3 F (n + 1) = F (zlp3 F n) := rfl
def zlp4 {A1 A2 A3 A4 τ β : Type} (F : (A1 → A2 → A3 → A4 → τ → Option β) → A1 → A2 → A3 → A4 → τ → Option β) : Nat → A1 → A2 → A3 → A4 → τ → Option β
  | 0 => fun _ _ _ _ _ => none
  | n + 1 => F (zlp4 F n)
theorem zlp4_ok {A1 A2 A3 A4 τ β : Type} {F : (A1 → A2 → A3 → A4 → τ → Option β) → A1 → A2 → A3 → A4 → τ → Option β} {R : β} {P : A1 → A2 → A3 → A4 → τ → Prop} (hF : ∀ rec : A1 → A2 → A3 → A4 → τ → Option β, (∀ (a1 : A1) (a2 : A2) (a3 : A3) (a4 : A4) (s : τ), rec a1 a2 a3 a4 s = some R → P a1 a2 a3 a4 s) → ∀ (a1 : A1) (a2 : A2) (a3 : A3) (a4 : A4) (s : τ), F rec a1 a2 a3 a4 s = some R → P a1 a2 a3 a4 s) : ∀ (n : Nat) (a1 : A1) (a2 : A2) (a3 : A3) (a4 : A4) (s : τ), zlp4 F n a1 a2 a3 a4 s = some R → P a1 a2 a3 a4 s
  | 0, _, _, _, _, _, h => nomatch h
  | n + 1, a1, a2, a3, a4, s, h => hF (zlp4 F n) (zlp4_ok hF n) a1 a2 a3 a4 s h
theorem zlp4_s {A1 A2 A3 A4 τ β : Type} {F : (A1 → A2 → A3 → A4 → τ → Option β) → A1 → A2 → A3 → A4 → τ → Option β} {n : Nat} : zlp4 F (n + 1) = F (zlp4 F n) := rfl
def zlp5 {A1 A2 A3 A4 A5 τ β : Type} (F : (A1 → A2 → A3 → A4 → A5 → τ → Option β) → A1 → A2 → A3 → A4 → A5 → τ → Option β) : Nat → A1 → A2 → A3 → A4 → A5 → τ → Option β
  | 0 => fun _ _ _ _ _ _ => none
  | n + 1 => F (zlp5 F n)
theorem zlp5_ok {A1 A2 A3 A4 A5 τ β : Type} {F : (A1 → A2 → A3 → A4 → A5 → τ → Option β) → A1 → A2 → A3 → A4 → A5 → τ → Option β} {R : β} {P : A1 → A2 → A3 → A4 → A5 → τ → Prop} (hF : ∀ rec : A1 → A2 → A3 → A4 → A5 → τ → Option β, (∀ (a1 : A1) (a2 : A2) (a3 : A3) (a4 : A4) (a5 : A5) (s : τ), rec a1 a2 a3 a4 a5 s = some R → P a1 a2 a3 a4 a5 s) → ∀ (a1 : A1) (a2 : A2) (a3 : A3) (a4 : A4) (a5 : A5) (s : τ), F rec a1 a2 a3 a4 a5 s = some R → P a1 a2 a3 a4 a5 s) : ∀ (n : Nat) (a1 : A1) (a2 : A2) (a3 : A3) (a4 : A4) (a5 : A5) (s : τ), zlp5 F n a1 a2 a3 a4 a5 s = some R → P a1 a2 a3 a4 a5 s
  | 0, _, _, _, _, _, _, h => nomatch h
  | n + 1, a1, a2, a3, a4, a5, s, h => hF (zlp5 F n) (zlp5_ok hF n) a1 a2 a3 a4 a5 s h
theorem zlp5_s {A1 A2 A3 A4 A5 τ β : Type} {F : (A1 → A2 → A3 → A4 → A5 → τ → Option β) → A1 → A2 → A3 → A4 → A5 → τ → Option β} {n : Nat} : zlp5 F (n + 1) = F (zlp5 F n) := rfl
def zlp6 {A1 A2 A3 A4 A5 A6 τ β : Type} (F : (A1 → A2 → A3 → A4 → A5 → A6 → τ → Option β) → A1 → A2 → A3 → A4 → A5 → A6 → τ → Option β) : Nat → A1 → A2 → A3 → A4 → A5 → A6 → τ → Option β
  | 0 => fun _ _ _ _ _ _ _ => none
  | n + 1 => F (zlp6 F n)
theorem zlp6_ok {A1 A2 A3 A4 A5 A6 τ β : Type} {F : (A1 → A2 → A3 → A4 → A5 → A6 → τ → Option β) → A1 → A2 → A3 → A4 → A5 → A6 → τ → Option β} {R : β} {P : A1 → A2 → A3 → A4 → A5 → A6 → τ → Prop} (hF : ∀ rec : A1 → A2 → A3 → A4 → A5 → A6 → τ → Option β, (∀ (a1 : A1) (a2 : A2) (a3 : A3) (a4 : A4) (a5 : A5) (a6 : A6) (s : τ), rec a1 a2 a3 a4 a5 a6 s = some R → P a1 a2 a3 a4 a5 a6 s) → ∀ (a1 : A1) (a2 : A2) (a3 : A3) (a4 : A4) (a5 : A5) (a6 : A6) (s : τ), F rec a1 a2 a3 a4 a5 a6 s = some R → P a1 a2 a3 a4 a5 a6 s) : ∀ (n : Nat) (a1 : A1) (a2 : A2) (a3 : A3) (a4 : A4) (a5 : A5) (a6 : A6) (s : τ), zlp6 F n a1 a2 a3 a4 a5 a6 s = some R → P a1 a2 a3 a4 a5 a6 s
  | 0, _, _, _, _, _, _, _, h => nomatch h
  | n + 1, a1, a2, a3, a4, a5, a6, s, h => hF (zlp6 F n) (zlp6_ok hF n) a1 a2 a3 a4 a5 a6 s h
theorem zlp6_s {A1 A2 A3 A4 A5 A6 τ β : Type} {F : (A1 → A2 → A3 → A4 → A5 → A6 → τ → Option β) → A1 → A2 → A3 → A4 → A5 → A6 → τ → Option β} {n : Nat} : zlp6 F (n + 1) = F (zlp6 F n) := rfl
def zlp7 {A1 A2 A3 A4 A5 A6 A7 τ β : Type} (F : (A1 → A2 → A3 → A4 → A5 → A6 → A7 → τ → Option β) → A1 → A2 → A3 → A4 → A5 → A6 → A7 → τ → Option β) : Nat → A1 → A2 → A3 → A4 → A5 → A6 → A7 → τ → Option β
  | 0 => fun _ _ _ _ _ _ _ _ => none
  | n + 1 => F (zlp7 F n)
theorem zlp7_ok {A1 A2 A3 A4 A5 A6 A7 τ β : Type} {F : (A1 → A2 → A3 → A4 → A5 → A6 → A7 → τ → Option β) → A1 → A2 → A3 → A4 → A5 → A6 → A7 → τ → Option β} {R : β} {P : A1 → A2 → A3 → A4 → A5 → A6 → A7 → τ → Prop} (hF : ∀ rec : A1 → A2 → A3 → A4 → A5 → A6 → A7 → τ → Option β, (∀ (a1 : A1) (a2 : A2) (a3 : A3) (a4 : A4) (a5 : A5) (a6 : A6) (a7 : A7) (s : τ), rec a1 a2 a3 a4 a5 a6 a7 s = some R → P a1 a2 a3 a4 a5 a6 a7 s) → ∀ (a1 : A1) (a2 : A2) (a3 : A3) (a4 : A4) (a5 : A5) (a6 : A6) (a7 : A7) (s : τ), F rec a1 a2 a3 a4 a5 a6 a7 s = some R → P a1 a2 a3 a4 a5 a6 a7 s) : ∀ (n : Nat) (a1 : A1) (a2 : A2) (a3 : A3) (a4 : A4) (a5 : A5) (a6 : A6) (a7 : A7) (s : τ), zlp7 F n a1 a2 a3 a4 a5 a6 a7 s = some R → P a1 a2 a3 a4 a5 a6 a7 s
  | 0, _, _, _, _, _, _, _, _, h => nomatch h
  | n + 1, a1, a2, a3, a4, a5, a6, a7, s, h => hF (zlp7 F n) (zlp7_ok hF n) a1 a2 a3 a4 a5 a6 a7 s h
theorem zlp7_s {A1 A2 A3 A4 A5 A6 A7 τ β : Type} {F : (A1 → A2 → A3 → A4 → A5 → A6 → A7 → τ → Option β) → A1 → A2 → A3 → A4 → A5 → A6 → A7 → τ → Option β} {n : Nat} : zlp7 F (n + 1) = F (zlp7 F n) := rfl
def zlp8 {A1 A2 A3 A4 A5 A6 A7 A8 τ β : Type} (F : (A1 → A2 → A3 → A4 → A5 → A6 → A7 → A8 → τ → Option β) → A1 → A2 → A3 → A4 → A5 → A6 → A7 → A8 → τ → Option β) : Nat → A1 → A2 → A3 → A4 → A5 → A6 → A7 → A8 → τ → Option β
  | 0 => fun _ _ _ _ _ _ _ _ _ => none
  | n + 1 => F (zlp8 F n)
theorem zlp8_ok {A1 A2 A3 A4 A5 A6 A7 A8 τ β : Type} {F : (A1 → A2 → A3 → A4 → A5 → A6 → A7 → A8 → τ → Option β) → A1 → A2 → A3 → A4 → A5 → A6 → A7 → A8 → τ → Option β} {R : β} {P : A1 → A2 → A3 → A4 → A5 → A6 → A7 → A8 → τ → Prop} (hF : ∀ rec : A1 → A2 → A3 → A4 → A5 → A6 → A7 → A8 → τ → Option β, (∀ (a1 : A1) (a2 : A2) (a3 : A3) (a4 : A4) (a5 : A5) (a6 : A6) (a7 : A7) (a8 : A8) (s : τ), rec a1 a2 a3 a4 a5 a6 a7 a8 s = some R → P a1 a2 a3 a4 a5 a6 a7 a8 s) → ∀ (a1 : A1) (a2 : A2) (a3 : A3) (a4 : A4) (a5 : A5) (a6 : A6) (a7 : A7) (a8 : A8) (s : τ), F rec a1 a2 a3 a4 a5 a6 a7 a8 s = some R → P a1 a2 a3 a4 a5 a6 a7 a8 s) : ∀ (n : Nat) (a1 : A1) (a2 : A2) (a3 : A3) (a4 : A4) (a5 : A5) (a6 : A6) (a7 : A7) (a8 : A8) (s : τ), zlp8 F n a1 a2 a3 a4 a5 a6 a7 a8 s = some R → P a1 a2 a3 a4 a5 a6 a7 a8 s
  | 0, _, _, _, _, _, _, _, _, _, h => nomatch h
  | n + 1, a1, a2, a3, a4, a5, a6, a7, a8, s, h => hF (zlp8 F n) (zlp8_ok hF n) a1 a2 a3 a4 a5 a6 a7 a8 s h
theorem zlp8_s {A1 A2 A3 A4 A5 A6 A7 A8 τ β : Type} {F : (A1 → A2 → A3 → A4 → A5 → A6 → A7 → A8 → τ → Option β) → A1 → A2 → A3 → A4 → A5 → A6 → A7 → A8 → τ → Option β} {n : Nat} : zlp8 F (n + 1) = F (zlp8 F n) := rfl
def zlp9 {A1 A2 A3 A4 A5 A6 A7 A8 A9 τ β : Type} (F : (A1 → A2 → A3 → A4 → A5 → A6 → A7 → A8 → A9 → τ → Option β) → A1 → A2 → A3 → A4 → A5 → A6 → A7 → A8 → A9 → τ → Option β) : Nat → A1 → A2 → A3 → A4 → A5 → A6 → A7 → A8 → A9 → τ → Option β
  | 0 => fun _ _ _ _ _ _ _ _ _ _ => none
  | n + 1 => F (zlp9 F n)
theorem zlp9_ok {A1 A2 A3 A4 A5 A6 A7 A8 A9 τ β : Type} {F : (A1 → A2 → A3 → A4 → A5 → A6 → A7 → A8 → A9 → τ → Option β) → A1 → A2 → A3 → A4 → A5 → A6 → A7 → A8 → A9 → τ → Option β} {R : β} {P : A1 → A2 → A3 → A4 → A5 → A6 → A7 → A8 → A9 → τ → Prop} (hF : ∀ rec : A1 → A2 → A3 → A4 → A5 → A6 → A7 → A8 → A9 → τ → Option β, (∀ (a1 : A1) (a2 : A2) (a3 : A3) (a4 : A4) (a5 : A5) (a6 : A6) (a7 : A7) (a8 : A8) (a9 : A9) (s : τ), rec a1 a2 a3 a4 a5 a6 a7 a8 a9 s = some R → P a1 a2 a3 a4 a5 a6 a7 a8 a9 s) → ∀ (a1 : A1) (a2 : A2) (a3 : A3) (a4 : A4) (a5 : A5) (a6 : A6) (a7 : A7) (a8 : A8) (a9 : A9) (s : τ), F rec a1 a2 a3 a4 a5 a6 a7 a8 a9 s = some R → P a1 a2 a3 a4 a5 a6 a7 a8 a9 s) : ∀ (n : Nat) (a1 : A1) (a2 : A2) (a3 : A3) (a4 : A4) (a5 : A5) (a6 : A6) (a7 : A7) (a8 : A8) (a9 : A9) (s : τ), zlp9 F n a1 a2 a3 a4 a5 a6 a7 a8 a9 s = some R → P a1 a2 a3 a4 a5 a6 a7 a8 a9 s
  | 0, _, _, _, _, _, _, _, _, _, _, h => nomatch h
  | n + 1, a1, a2, a3, a4, a5, a6, a7, a8, a9, s, h => hF (zlp9 F n) (zlp9_ok hF n) a1 a2 a3 a4 a5 a6 a7 a8 a9 s h
theorem zlp9_s {A1 A2 A3 A4 A5 A6 A7 A8 A9 τ β : Type} {F : (A1 → A2 → A3 → A4 → A5 → A6 → A7 → A8 → A9 → τ → Option β) → A1 → A2 → A3 → A4 → A5 → A6 → A7 → A8 → A9 → τ → Option β} {n : Nat} : zlp9 F (n + 1) = F (zlp9 F n) := rfl
def zlp10 {A1 A2 A3 A4 A5 A6 A7 A8 A9 A10 τ β : Type} (F : (A1 → A2 → A3 → A4 → A5 → A6 → A7 → A8 → A9 → A10 → τ → Option β) → A1 → A2 → A3 → A4 → A5 → A6 → A7 → A8 → A9 → A10 → τ → Option β) : Nat → A1 → A2 → A3 → A4 → A5 → A6 → A7 → A8 → A9 → A10 → τ → Option β
  | 0 => fun _ _ _ _ _ _ _ _ _ _ _ => none
  | n + 1 => F (zlp10 F n)
theorem zlp10_ok {A1 A2 A3 A4 A5 A6 A7 A8 A9 A10 τ β : Type} {F : (A1 → A2 → A3 → A4 → A5 → A6 → A7 → A8 → A9 → A10 → τ → Option β) → A1 → A2 → A3 → A4 → A5 → A6 → A7 → A8 → A9 → A10 → τ → Option β} {R : β} {P : A1 → A2 → A3 → A4 → A5 → A6 → A7 → A8 → A9 → A10 → τ → Prop} (hF : ∀ rec : A1 → A2 → A3 → A4 → A5 → A6 → A7 → A8 → A9 → A10 → τ → Option β, (∀ (a1 : A1) (a2 : A2) (a3 : A3) (a4 : A4) (a5 : A5) (a6 : A6) (a7 : A7) (a8 : A8) (a9 : A9) (a10 : A10) (s : τ), rec a1 a2 a3 a4 a5 a6 a7 a8 a9 a10 s = some R → P a1 a2 a3 a4 a5 a6 a7 a8 a9 a10 s) → ∀ (a1 : A1) (a2 : A2) (a3 : A3) (a4 : A4) (a5 : A5) (a6 : A6) (a7 : A7) (a8 : A8) (a9 : A9) (a10 : A10) (s : τ), F rec a1 a2 a3 a4 a5 a6 a7 a8 a9 a10 s = some R → P a1 a2 a3 a4 a5 a6 a7 a8 a9 a10 s) : ∀ (n : Nat) (a1 : A1) (a2 : A2) (a3 : A3) (a4 : A4) (a5 : A5) (a6 : A6) (a7 : A7) (a8 : A8) (a9 : A9) (a10 : A10) (s : τ), zlp10 F n a1 a2 a3 a4 a5 a6 a7 a8 a9 a10 s = some R → P a1 a2 a3 a4 a5 a6 a7 a8 a9 a10 s
  | 0, _, _, _, _, _, _, _, _, _, _, _, h => nomatch h
  | n + 1, a1, a2, a3, a4, a5, a6, a7, a8, a9, a10, s, h => hF (zlp10 F n) (zlp10_ok hF n) a1 a2 a3 a4 a5 a6 a7 a8 a9 a10 s h
theorem zlp10_s {A1 A2 A3 A4 A5 A6 A7 A8 A9 A10 τ β : Type} {F : (A1 → A2 → A3 → A4 → A5 → A6 → A7 → A8 → A9 → A10 → τ → Option β) → A1 → A2 → A3 → A4 → A5 → A6 → A7 → A8 → A9 → A10 → τ → Option β} {n : Nat} : zlp10 F (n + 1) = F (zlp10 F n) := rfl
