/-! the constants of the start -/
section ZSU
variable {s : State} {b : Nat}
theorem zS_of (hg : ∀ c ∈ zFL, c.before #[Value.ref b] s = true) {A : Nat → Prop} (hA : ∀ a : Nat, a < s.heap.size → ¬ A a) : ∃ ad : Nat → Nat × Nat, ∀ i, i < 23 → (zTm i).eval #[Value.ref b] s none [] s = some (.ref (ad i).1) ∧ va_O "java/lang/String" (ad i).1 A s s.heap ∧ va_OF "java/lang/String" "coder" "B" (.int 0) (ad i).1 A s s.heap ∧ va_OF "java/lang/String" "value" "[B" (.ref (ad i).2) (ad i).1 A s s.heap ∧ va_O "[B" (ad i).2 A s s.heap ∧ va_T .byte (ad i).2 (zTb i).length (fun j => .int ((zTb i).getD j 0)) A s s.heap := by
  have h0 : ∀ i : Nat, ∃ q : Nat × Nat, i < 23 → (zTm i).eval #[Value.ref b] s none [] s = some (.ref q.1) ∧ va_O "java/lang/String" q.1 A s s.heap ∧ va_OF "java/lang/String" "coder" "B" (.int 0) q.1 A s s.heap ∧ va_OF "java/lang/String" "value" "[B" (.ref q.2) q.1 A s s.heap ∧ va_O "[B" q.2 A s s.heap ∧ va_T .byte q.2 (zTb i).length (fun j => .int ((zTb i).getD j 0)) A s s.heap := by
    intro i
    by_cases hi : i < 23
    · obtain ⟨a, c, cA, kA, q1, q2, q3, q4, q5, q6, -⟩ := Cond.exactly_spec (args := #[Value.ref b]) (first := s) (o := none) (s := s) (idx := []) (t := zTm i) (cls := "java/lang/String") (zg_all (P := fun i => zP1.getD i 0) hg zC1 i hi)
      obtain ⟨a2, c2, cA2, kA2, r1, r2, r3, r4, r5, r6, -⟩ := Cond.exactly_spec (args := #[Value.ref b]) (first := s) (o := none) (s := s) (idx := []) (t := .field (zTm i) "java/lang/String" "value" "[B") (cls := "[B") (zg_all (f := fun i => Cond.exactly (.field (zTm i) "java/lang/String" "value" "[B") "[B") (P := fun i => zP6.getD i 0) hg zC6 i hi)
      have hn := (zTb_fact i hi).1
      obtain ⟨t, ht, hT⟩ := va_Tof (tm := .field (zTm i) "java/lang/String" "value" "[B") (ty := .byte) (N := (zTb i).length) (f := fun j => .int ((zTb i).getD j 0)) (A := A) (by omega) (zg_all (f := fun i => Cond.arrayOf (.field (zTm i) "java/lang/String" "value" "[B") .byte) (P := fun i => zP1.getD i 0 + 2) hg zC3 i hi) (va_eqt (zg_all (f := fun i => Cond.eq (.length (.field (zTm i) "java/lang/String" "value" "[B")) (.int (Int32.ofNat (zTb i).length))) (P := fun i => zP1.getD i 0 + 3) hg zC4 i hi)) (fun j hj => va_eqt (zg_all2 (f := fun i j => Cond.eq (.elem (.field (zTm i) "java/lang/String" "value" "[B") (.int (Int32.ofNat j))) (.int ((zTb i).getD j 0))) (P := fun i j => zP1.getD i 0 + 4 + j) hg zC5 i hi j hj)) hA
      cases r1.symm.trans ht
      exact ⟨(a, a2), fun _ => ⟨q1, ⟨cA, q3, q5, by rw [q6]; exact q2, hA a (Array.getElem?_eq_some_iff.mp q3).1⟩, vk_OFof q1 (va_eqt (zg_all (f := fun i => Cond.eq (.field (zTm i) "java/lang/String" "coder" "B") (.int 0)) (P := fun i => zP1.getD i 0 + 1) hg zC2 i hi)) hA, vk_OFof q1 r1 hA, ⟨cA2, r3, r5, by rw [r6]; exact r2, hA a2 (Array.getElem?_eq_some_iff.mp r3).1⟩, hT⟩⟩
    · exact ⟨(0, 0), fun h => absurd h hi⟩
  obtain ⟨ad, had⟩ := Classical.axiomOfChoice h0
  exact ⟨ad, fun i hi => had i hi⟩
/-- each entry of a pool that is one of the texts has that constant -/
theorem zStr_ev (hg : ∀ c ∈ zFL, c.before #[Value.ref b] s = true) {ad : Nat → Nat × Nat} (had : ∀ i, i < 23 → (zTm i).eval #[Value.ref b] s none [] s = some (.ref (ad i).1)) : ∀ q ∈ zStr, 100 ≤ q.2.2.2 ∧ q.2.2.2 < 123 ∧ (Term.string q.1 q.2.1).eval #[Value.ref b] s none [] s = some (.ref (ad (q.2.2.2 - 100)).1) := by
  intro q hq
  have h1 := List.all_eq_true.mp zC7 q hq
  simp only [Bool.and_eq_true] at h1
  obtain ⟨h1, h2, h3⟩ := h1
  have h2 : 100 ≤ q.2.2.2 := Nat.le_of_ble_eq_true h2
  have h3 : q.2.2.2 < 123 := by simpa [Nat.blt_eq] using h3
  refine ⟨h2, h3, ?_⟩
  have h4 := had (q.2.2.2 - 100) (by omega)
  rcases Bool.or_eq_true_iff.mp h1 with h5 | h5
  · simp only [Bool.and_eq_true, beq_iff_eq] at h5
    unfold zTm at h4
    rw [h5.1, h5.2] at h4
    exact h4
  · cases e : zEqL.lookup (q.1, q.2.1) with
    | none => rw [e] at h5; cases h5
    | some p =>
      rw [e] at h5
      have h6 : zFL[p]? = some (Cond.eq (zTm (q.2.2.2 - 100)) (.string q.1 q.2.1)) := of_decide_eq_true h5
      exact va_eqR (zg_at p hg h6) h4
theorem zStr_word {q : String × Nat × String × Nat} (hq : q ∈ zStr) : Cond.stringRef q.1 q.2.1 q.2.2.1 ∈ lw_tbl := by
  obtain ⟨w, hw, e⟩ := List.mem_filterMap.mp hq
  split at e
  · next c k t =>
    cases e2 : zTx.idxOf? t with
    | none => rw [e2] at e; cases e
    | some i => rw [e2] at e; cases e; exact hw
  · cases e
theorem zTag_of (hg : ∀ c ∈ zFL, c.before #[Value.ref b] s = true) {A : Nat → Prop} (hA : ∀ a : Nat, a < s.heap.size → ¬ A a) {ad : Nat → Nat × Nat} (had : ∀ i, i < 23 → (zTm i).eval #[Value.ref b] s none [] s = some (.ref (ad i).1)) : ∃ ta : Nat → Nat, ∀ i, i < 6 → (zTagT i).eval #[Value.ref b] s none [] s = some (.ref (ta i)) ∧ va_O "StepDebts$Tag" (ta i) A s s.heap ∧ va_OF "java/lang/Enum" "ordinal" "I" (.int (Int32.ofNat i)) (ta i) A s s.heap ∧ va_OF "StepDebts$Tag" "told" "Ljava/lang/String;" (.ref (ad (zTagX.getD i 0)).1) (ta i) A s s.heap := by
  have h0 : ∀ i : Nat, ∃ q : Nat, i < 6 → (zTagT i).eval #[Value.ref b] s none [] s = some (.ref q) ∧ va_O "StepDebts$Tag" q A s s.heap ∧ va_OF "java/lang/Enum" "ordinal" "I" (.int (Int32.ofNat i)) q A s s.heap ∧ va_OF "StepDebts$Tag" "told" "Ljava/lang/String;" (.ref (ad (zTagX.getD i 0)).1) q A s s.heap := by
    intro i
    by_cases hi : i < 6
    · obtain ⟨a, c, cA, kA, q1, q2, q3, q4, q5, q6, -⟩ := Cond.exactly_spec (args := #[Value.ref b]) (first := s) (o := none) (s := s) (idx := []) (t := zTagT i) (cls := "StepDebts$Tag") (zg_all (f := fun i => Cond.exactly (zTagT i) "StepDebts$Tag") (P := fun i => zTagP.getD i 0) hg zCTag1 i hi)
      have h5 := List.any_eq_true.mp (List.all_eq_true.mp zCTag4 i (List.mem_range.mpr hi))
      obtain ⟨q, hq, h6⟩ := h5
      simp only [Bool.and_eq_true, beq_iff_eq] at h6
      have h7 := (zStr_ev hg had q hq).2.2
      rw [h6.1, h6.2.1, h6.2.2, Nat.add_sub_cancel_left] at h7
      have h8 := va_eqv (zg_all (f := fun i => Cond.eq (.field (zTagT i) "StepDebts$Tag" "told" "Ljava/lang/String;") (.string (zTagL.getD i ("", 0)).1 (zTagL.getD i ("", 0)).2)) (P := fun i => zTagP.getD i 0 + 2) hg zCTag3 i hi) h7
      exact ⟨a, fun _ => ⟨q1, ⟨cA, q3, q5, by rw [q6]; exact q2, hA a (Array.getElem?_eq_some_iff.mp q3).1⟩, vk_OFof q1 (va_eqt (zg_all (f := fun i => Cond.eq (.field (zTagT i) "java/lang/Enum" "ordinal" "I") (.int (Int32.ofNat i))) (P := fun i => zTagP.getD i 0 + 1) hg zCTag2 i hi)) hA, vk_OFof q1 h8 hA⟩⟩
    · exact ⟨0, fun h => absurd h hi⟩
  obtain ⟨ta, hta⟩ := Classical.axiomOfChoice h0
  exact ⟨ta, fun i hi => hta i hi⟩
theorem zFact_of (hg : ∀ c ∈ zFL, c.before #[Value.ref b] s = true) {A : Nat → Prop} (hA : ∀ a : Nat, a < s.heap.size → ¬ A a) {ad : Nat → Nat × Nat} (had : ∀ i, i < 23 → (zTm i).eval #[Value.ref b] s none [] s = some (.ref (ad i).1)) : ∃ fa : Nat → Nat, ∀ i, i < 4 → (zFactT i).eval #[Value.ref b] s none [] s = some (.ref (fa i)) ∧ va_O "StepDebts$Fact" (fa i) A s s.heap ∧ va_OF "java/lang/Enum" "ordinal" "I" (.int (Int32.ofNat i)) (fa i) A s s.heap ∧ va_OF "StepDebts$Fact" "told" "Ljava/lang/String;" (.ref (ad (zFactX.getD i 0)).1) (fa i) A s s.heap := by
  have h0 : ∀ i : Nat, ∃ q : Nat, i < 4 → (zFactT i).eval #[Value.ref b] s none [] s = some (.ref q) ∧ va_O "StepDebts$Fact" q A s s.heap ∧ va_OF "java/lang/Enum" "ordinal" "I" (.int (Int32.ofNat i)) q A s s.heap ∧ va_OF "StepDebts$Fact" "told" "Ljava/lang/String;" (.ref (ad (zFactX.getD i 0)).1) q A s s.heap := by
    intro i
    by_cases hi : i < 4
    · obtain ⟨a, c, cA, kA, q1, q2, q3, q4, q5, q6, -⟩ := Cond.exactly_spec (args := #[Value.ref b]) (first := s) (o := none) (s := s) (idx := []) (t := zFactT i) (cls := "StepDebts$Fact") (zg_all (f := fun i => Cond.exactly (zFactT i) "StepDebts$Fact") (P := fun i => zFactP.getD i 0) hg zCFact1 i hi)
      have h5 := List.any_eq_true.mp (List.all_eq_true.mp zCFact4 i (List.mem_range.mpr hi))
      obtain ⟨q, hq, h6⟩ := h5
      simp only [Bool.and_eq_true, beq_iff_eq] at h6
      have h7 := (zStr_ev hg had q hq).2.2
      rw [h6.1, h6.2.1, h6.2.2, Nat.add_sub_cancel_left] at h7
      have h8 := va_eqv (zg_all (f := fun i => Cond.eq (.field (zFactT i) "StepDebts$Fact" "told" "Ljava/lang/String;") (.string (zFactL.getD i ("", 0)).1 (zFactL.getD i ("", 0)).2)) (P := fun i => zFactP.getD i 0 + 2) hg zCFact3 i hi) h7
      exact ⟨a, fun _ => ⟨q1, ⟨cA, q3, q5, by rw [q6]; exact q2, hA a (Array.getElem?_eq_some_iff.mp q3).1⟩, vk_OFof q1 (va_eqt (zg_all (f := fun i => Cond.eq (.field (zFactT i) "java/lang/Enum" "ordinal" "I") (.int (Int32.ofNat i))) (P := fun i => zFactP.getD i 0 + 1) hg zCFact2 i hi)) hA, vk_OFof q1 h8 hA⟩⟩
    · exact ⟨0, fun h => absurd h hi⟩
  obtain ⟨ta, hta⟩ := Classical.axiomOfChoice h0
  exact ⟨ta, fun i hi => hta i hi⟩
/-- an enum's array of constants -/
theorem zVal_of {A : Nat → Prop} (hA : ∀ a : Nat, a < s.heap.size → ¬ A a) {V : Term} {E ad : String} {N : Nat} {el : Nat → Term} {ta : Nat → Nat} (hN : N < 100) (h1 : (Cond.exactly V ad).before #[Value.ref b] s = true) (h2 : (Cond.arrayOf V (.object E)).before #[Value.ref b] s = true) (h3 : (Cond.eq (.length V) (.int (Int32.ofNat N))).before #[Value.ref b] s = true) (h4 : (Cond.all V (.le (.index 0) (.int (Int32.ofNat N - 1)))).before #[Value.ref b] s = true) (h5 : ∀ i, i < N → (Cond.eq (.elem V (.int (Int32.ofNat i))) (el i)).before #[Value.ref b] s = true) (h6 : ∀ i, i < N → (el i).eval #[Value.ref b] s none [] s = some (.ref (ta i))) : ∃ t : Nat, V.eval #[Value.ref b] s none [] s = some (.ref t) ∧ va_O ad t A s s.heap ∧ va_T (.object E) t N (fun j => va_rf (if j < N then some (ta j) else none)) A s s.heap ∧ ∃ cell : Cell, s.heap[t]? = some cell ∧ cell.slots.size = N := by
  obtain ⟨a, c, cA, kA, q1, q2, q3, q4, q5, q6, -⟩ := Cond.exactly_spec (args := #[Value.ref b]) (first := s) (o := none) (s := s) (idx := []) (t := V) (cls := ad) h1
  obtain ⟨t, ht, hT⟩ := va_Tof (tm := V) (ty := .object E) (N := N) (f := fun j => va_rf (if j < N then some (ta j) else none)) (A := A) (by omega) h2 (va_eqt h3) (fun j hj => by rw [if_pos hj]; exact va_eqv (h5 j hj) (h6 j hj)) hA
  cases q1.symm.trans ht
  obtain ⟨t2, cell, ht2, hat, hv⟩ := Term.length_spec (va_eqt h3)
  cases q1.symm.trans ht2
  refine ⟨a, q1, ⟨cA, q3, q5, by rw [q6]; exact q2, hA a (Array.getElem?_eq_some_iff.mp q3).1⟩, hT, cA, q3, ?_⟩
  have hc : cell = cA := by
    have := (State.arrayAt?_spec hat).1
    exact Option.some.inj (this.symm.trans q3)
  subst hc
  obtain ⟨cell', e1, -, -, e4, -⟩ := hT
  cases e1.symm.trans q3
  refine Nat.le_antisymm (Nat.not_lt.mp fun hlt => ?_) e4
  have h7 := Cond.all_elim q1 hat (by simpa [Cond.before, Cond.holds] using h4) N hlt
  simp only [Cond.value, Term.eval] at h7
  have h8 : ¬ Int32.ofNat N ≤ Int32.ofNat N - 1 := by
    intro h
    rw [Int32.le_iff_toInt_le, Int32.toInt_sub, Int32.toInt_ofNat_of_lt (by omega)] at h
    have : ((N : Int) - (1 : Int32).toInt).bmod (2 ^ 32) = (N : Int) - 1 := by
      rw [show (1 : Int32).toInt = 1 from rfl]
      exact Int.bmod_eq_of_le (by omega) (by omega)
    rw [this] at h
    omega
  simp [h8] at h7
end ZSU
