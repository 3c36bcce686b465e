/-! the map of the start, and what holds of it -/
/-- the constant o stands at a -/
def zPc (ad : Nat → Nat × Nat) (ta fa : Nat → Nat) (vt vf da : Nat) (a : Nat) (o : zOb) : Prop :=
  (∃ i, i < 23 ∧ a = (ad i).1 ∧ o = .inr (121, [.ref (ad i).2, .int 0])) ∨
  (∃ i, i < 23 ∧ a = (ad i).2 ∧ o = .inl (101, (zTb i).length, .inl (fun j => (zTb i).getD j 0))) ∨
  (∃ i, i < 6 ∧ a = ta i ∧ o = .inr (150, [.int (Int32.ofNat i), .ref (ad (zTagX.getD i 0)).1])) ∨
  (∃ i, i < 4 ∧ a = fa i ∧ o = .inr (151, [.int (Int32.ofNat i), .ref (ad (zFactX.getD i 0)).1])) ∨
  (a = vt ∧ o = .inl (104, 6, .inr (.inr (.inr (.inr (fun j => if j < 6 then some (ta j) else none)))))) ∨
  (a = vf ∧ o = .inl (105, 4, .inr (.inr (.inr (.inr (fun j => if j < 4 then some (fa j) else none)))))) ∨
  (a = da ∧ o = .inl (103, 0, .inr (.inr (.inr (.inr (fun _ => none))))))
noncomputable def zH0 (ad : Nat → Nat × Nat) (ta fa : Nat → Nat) (vt vf da : Nat) : zHp := fun a => @dite _ (∃ o, zPc ad ta fa vt vf da a o) (Classical.propDecidable _) (fun h => some h.choose) (fun _ => none)
theorem zH0_some {ad : Nat → Nat × Nat} {ta fa : Nat → Nat} {vt vf da a : Nat} {o : zOb} (h : zH0 ad ta fa vt vf da a = some o) : zPc ad ta fa vt vf da a o := by
  unfold zH0 at h
  by_cases hc : ∃ o, zPc ad ta fa vt vf da a o
  · rw [@dif_pos _ (Classical.propDecidable _) hc] at h
    cases h
    exact hc.choose_spec
  · rw [@dif_neg _ (Classical.propDecidable _) hc] at h
    cases h
/-- what the Statement says of the constants -/
def zFc (s : State) (A : Nat → Prop) (ad : Nat → Nat × Nat) (ta fa : Nat → Nat) (vt vf da : Nat) : Prop :=
  (∀ i, i < 23 → va_O "java/lang/String" (ad i).1 A s s.heap ∧ va_OF "java/lang/String" "coder" "B" (.int 0) (ad i).1 A s s.heap ∧ va_OF "java/lang/String" "value" "[B" (.ref (ad i).2) (ad i).1 A s s.heap ∧ va_O "[B" (ad i).2 A s s.heap ∧ va_T .byte (ad i).2 (zTb i).length (fun j => .int ((zTb i).getD j 0)) A s s.heap) ∧
  (∀ i, i < 6 → va_O "StepDebts$Tag" (ta i) A s s.heap ∧ va_OF "java/lang/Enum" "ordinal" "I" (.int (Int32.ofNat i)) (ta i) A s s.heap ∧ va_OF "StepDebts$Tag" "told" "Ljava/lang/String;" (.ref (ad (zTagX.getD i 0)).1) (ta i) A s s.heap) ∧
  (∀ i, i < 4 → va_O "StepDebts$Fact" (fa i) A s s.heap ∧ va_OF "java/lang/Enum" "ordinal" "I" (.int (Int32.ofNat i)) (fa i) A s s.heap ∧ va_OF "StepDebts$Fact" "told" "Ljava/lang/String;" (.ref (ad (zFactX.getD i 0)).1) (fa i) A s s.heap) ∧
  (va_O "[LStepDebts$Tag;" vt A s s.heap ∧ va_T (.object "StepDebts$Tag") vt 6 (fun j => va_rf (if j < 6 then some (ta j) else none)) A s s.heap ∧ ∃ cell : Cell, s.heap[vt]? = some cell ∧ cell.slots.size = 6) ∧
  (va_O "[LStepDebts$Fact;" vf A s s.heap ∧ va_T (.object "StepDebts$Fact") vf 4 (fun j => va_rf (if j < 4 then some (fa j) else none)) A s s.heap ∧ ∃ cell : Cell, s.heap[vf]? = some cell ∧ cell.slots.size = 4) ∧
  (va_O "[Ljava/lang/Object;" da A s s.heap ∧ va_T (.object "java/lang/Object") da 0 (fun _ => .null) A s s.heap)
section ZSV
variable {s : State} {b : Nat} {A : Nat → Prop} {ad : Nat → Nat × Nat} {ta fa : Nat → Nat} {vt vf da : Nat}
theorem zO_inj {E E' : String} {a : Nat} (h : va_O E a A s s.heap) (h' : va_O E' a A s s.heap) : E = E' := by
  obtain ⟨c1, e1, -, e2, -⟩ := h
  obtain ⟨c2, e3, -, e4, -⟩ := h'
  cases e1.symm.trans e3
  obtain ⟨k1, g1, g2⟩ := Vm.findClass_spec e2
  obtain ⟨k2, g3, g4⟩ := Vm.findClass_spec e4
  cases g1.symm.trans g3
  exact g2.symm.trans g4
theorem zOF_inj {o n d : String} {v v' : Value} {a : Nat} (h : va_OF o n d v a A s s.heap) (h' : va_OF o n d v' a A s s.heap) : v = v' := by
  obtain ⟨cf, k, i, f, cell, e1, e2, e3, e4, e5, -⟩ := h
  obtain ⟨cf', k', i', f', cell', e1', e2', e3', e4', e5', -⟩ := h'
  cases e1.symm.trans e1'
  cases e3.symm.trans e3'
  exact Option.some.inj (e5.symm.trans e5')
def zOn (o : zOb) : String := match o with
  | .inr (c, _) => if c = 121 then "java/lang/String" else if c = 150 then "StepDebts$Tag" else "StepDebts$Fact"
  | .inl (t, _) => if t = 101 then "[B" else if t = 104 then "[LStepDebts$Tag;" else if t = 105 then "[LStepDebts$Fact;" else "[Ljava/lang/Object;"
theorem zPc_O (hF : zFc s A ad ta fa vt vf da) {a : Nat} {o : zOb} (h : zPc ad ta fa vt vf da a o) : va_O (zOn o) a A s s.heap := by
  obtain ⟨f1, f2, f3, f4, f5, f6⟩ := hF
  rcases h with ⟨i, hi, rfl, rfl⟩ | ⟨i, hi, rfl, rfl⟩ | ⟨i, hi, rfl, rfl⟩ | ⟨i, hi, rfl, rfl⟩ | ⟨rfl, rfl⟩ | ⟨rfl, rfl⟩ | ⟨rfl, rfl⟩
  · exact (f1 i hi).1
  · exact (f1 i hi).2.2.2.1
  · exact (f2 i hi).1
  · exact (f3 i hi).1
  · exact f4.1
  · exact f5.1
  · exact f6.1
theorem zT_inj {a n n' : Nat} {f f' : Nat → Int32} (hn : n < 100) (hn' : n' < 100) (h : va_T .byte a n (fun j => .int (f j)) A s s.heap) (h' : va_T .byte a n' (fun j => .int (f' j)) A s s.heap) : n = n' ∧ ∀ j, j < n → f j = f' j := by
  obtain ⟨cell, e1, -, -, e4, e5, e6, -⟩ := h
  obtain ⟨cell', e1', -, -, e4', e5', e6', -⟩ := h'
  cases e1.symm.trans e1'
  have hnn : n = n' := by
    have h1 : Int32.ofNat n = Int32.ofNat n' := e5.symm.trans e5'
    have h2 := congrArg Int32.toInt h1
    rw [Int32.toInt_ofNat_of_lt (by omega), Int32.toInt_ofNat_of_lt (by omega)] at h2
    omega
  subst hnn
  exact ⟨rfl, fun j hj => Value.int.inj (Option.some.inj ((e6 j hj).symm.trans (e6' j hj)))⟩
theorem zPc_uniq (hF : zFc s A ad ta fa vt vf da) {a : Nat} {o o' : zOb} (h : zPc ad ta fa vt vf da a o) (h' : zPc ad ta fa vt vf da a o') : o = o' := by
  have hn : zOn o = zOn o' := zO_inj (zPc_O hF h) (zPc_O hF h')
  obtain ⟨f1, f2, f3, f4, f5, f6⟩ := hF
  rcases h with ⟨i, hi, rfl, rfl⟩ | ⟨i, hi, rfl, rfl⟩ | ⟨i, hi, rfl, rfl⟩ | ⟨i, hi, rfl, rfl⟩ | ⟨rfl, rfl⟩ | ⟨rfl, rfl⟩ | ⟨rfl, rfl⟩ <;>
    rcases h' with ⟨j, hj, ha, rfl⟩ | ⟨j, hj, ha, rfl⟩ | ⟨j, hj, ha, rfl⟩ | ⟨j, hj, ha, rfl⟩ | ⟨ha, rfl⟩ | ⟨ha, rfl⟩ | ⟨ha, rfl⟩ <;>
    first
      | (exfalso; simp [zOn] at hn; done)
      | rfl
      | skip
  · have h1 := (f1 i hi).2.2.1
    have h2 := (f1 j hj).2.2.1
    rw [← ha] at h2
    have h3 := zOF_inj h1 h2
    rw [h3]
  · have h1 := (f1 i hi).2.2.2.2
    have h2 := (f1 j hj).2.2.2.2
    rw [← ha] at h2
    obtain ⟨h3, h4⟩ := zT_inj (zTb_fact i hi).1 (zTb_fact j hj).1 h1 h2
    have h5 : (fun k => (zTb i).getD k 0) = (fun k => (zTb j).getD k 0) := by
      funext k
      by_cases hk : k < (zTb i).length
      · exact h4 k hk
      · rw [List.getD_eq_getElem?_getD, List.getD_eq_getElem?_getD, List.getElem?_eq_none (by omega), List.getElem?_eq_none (by omega)]
    rw [h3, h5]
  · have h1 := (f2 i hi).2
    have h2 := (f2 j hj).2
    rw [← ha] at h2
    have h3 := zOF_inj h1.1 h2.1
    have h4 := zOF_inj h1.2 h2.2
    rw [h3, h4]
  · have h1 := (f3 i hi).2
    have h2 := (f3 j hj).2
    rw [← ha] at h2
    have h3 := zOF_inj h1.1 h2.1
    have h4 := zOF_inj h1.2 h2.2
    rw [h3, h4]
theorem zH0_at (hF : zFc s A ad ta fa vt vf da) {a : Nat} {o : zOb} (h : zPc ad ta fa vt vf da a o) : zH0 ad ta fa vt vf da a = some o := by
  have hc : ∃ o, zPc ad ta fa vt vf da a o := ⟨o, h⟩
  unfold zH0
  rw [@dif_pos _ (Classical.propDecidable _) hc]
  exact congrArg some (zPc_uniq hF hc.choose_spec h)
theorem zPc_at {D : va_G} {tys : zTy} {B : Nat} (hF : zFc s (fun q => B ≤ q) ad ta fa vt vf da) {a : Nat} {o : zOb} (h : zPc ad ta fa vt vf da a o) : zat s D tys B a o s.heap := by
  obtain ⟨f1, f2, f3, f4, f5, f6⟩ := hF
  rcases h with ⟨i, hi, rfl, rfl⟩ | ⟨i, hi, rfl, rfl⟩ | ⟨i, hi, rfl, rfl⟩ | ⟨i, hi, rfl, rfl⟩ | ⟨rfl, rfl⟩ | ⟨rfl, rfl⟩ | ⟨rfl, rfl⟩
  · refine Or.inr ⟨by decide, _, rfl, (f1 i hi).1, fun k v hv => ?_⟩
    match k, hv with
    | 0, hv => cases hv; exact (f1 i hi).2.2.1
    | 1, hv => cases hv; exact (f1 i hi).2.1
    | k + 2, hv => cases hv
  · refine Or.inr ⟨by decide, _, rfl, (f1 i hi).2.2.2.1, fun h => absurd h (by decide), Or.inl ⟨_, _, rfl, (f1 i hi).2.2.2.2⟩⟩
  · refine Or.inr ⟨by decide, _, rfl, (f2 i hi).1, fun k v hv => ?_⟩
    match k, hv with
    | 0, hv => cases hv; exact (f2 i hi).2.1
    | 1, hv => cases hv; exact (f2 i hi).2.2
    | k + 2, hv => cases hv
  · refine Or.inr ⟨by decide, _, rfl, (f3 i hi).1, fun k v hv => ?_⟩
    match k, hv with
    | 0, hv => cases hv; exact (f3 i hi).2.1
    | 1, hv => cases hv; exact (f3 i hi).2.2
    | k + 2, hv => cases hv
  · exact Or.inr ⟨by decide, _, rfl, f4.1, fun _ => f4.2.2, Or.inr ⟨_, _, rfl, f4.2.1⟩⟩
  · exact Or.inr ⟨by decide, _, rfl, f5.1, fun _ => f5.2.2, Or.inr ⟨_, _, rfl, f5.2.1⟩⟩
  · exact Or.inr ⟨by decide, _, rfl, f6.1, fun h => absurd h (by decide), Or.inr ⟨_, _, rfl, f6.2⟩⟩
/-- an array class of primitives, of objects -/
theorem zRA1 {ty : FieldType} {args : Array Value} (hty : ∀ C, ty ≠ .object C) (h : (Cond.arrayClass ty).before args s = true) : ∃ cA : ClassId, ArrOfT s cA ty ∧ va_RA s cA ty := by
  obtain ⟨c, k, comp, h1, h2, h3⟩ := Cond.arrayClass_spec (args := args) (first := s) (o := none) (s := s) (idx := []) h
  refine ⟨c, fun n z => ⟨fun k h => (by cases h), k, h2, comp, h3⟩, ?_⟩
  cases ty with
  | object C => exact absurd rfl (hty C)
  | _ => exact h1
theorem zRA2 {C : String} {args : Array Value} (h : (Cond.arrayOver (.object C)).before args s = true) : ∃ cA : ClassId, ArrOfT s cA (.object C) ∧ va_RA s cA (.object C) := by
  obtain ⟨comp, c, k, h1, -, h3, h4, h5⟩ := Cond.arrayOver_spec (args := args) (first := s) (o := none) (s := s) (idx := []) h
  exact ⟨c, fun n z => ⟨fun k h => (by cases h), k, h3, comp, h4⟩, k, comp, h3, h4, h1, h5⟩
/-- a private method of a class above C's is selected -/
theorem zsel_priv {args : Array Value} {C : String} {x y : MethodName} (hs : (Cond.selects C x x).before args s = true) (hi : (Cond.instanceMethod y).before args s = true) (hp : (Cond.privateMethod y).before args s = true) (hy : y.cls = x.cls) (hm : y.cls ≠ "java/lang/invoke/MethodHandle" ∧ y.cls ≠ "java/lang/invoke/VarHandle") (args' : Array Value) : (Cond.selects C y y).before args' s = true := by
  obtain ⟨c, r, m, h1, h2, h3, h4, k, h5, h6⟩ := Cond.selects_spec hs
  obtain ⟨mk, methM, hnamed, hmethM, -, -⟩ := Cond.instanceMethod_spec hi
  have hfound : s.methodFound? y.cls y.name y.desc = some mk := State.methodFound?_of_named hnamed hm
  have hcls : mk.cls = m.cls := by
    have e1 := findClass_of_methodNamed hnamed
    have e2 := findClass_of_methodNamed h3
    rw [hy] at e1
    exact Option.some.inj (e1.symm.trans e2)
  have hsel : selectMethod {} s.vm c mk = .method mk := selectMethod_private hmethM (Cond.privateMethod_at hp mk methM hnamed hmethM)
  simp only [Cond.before, Cond.holds, Cond.value, h1, hfound, hnamed, hsel, hcls, h5]
  simp [h6]
end ZSV
