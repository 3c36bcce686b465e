/-! rows of arrays, new, constants -/
section ZA
variable {X : zX} {own : String} {cc : ByteArray} {nL f w : Nat} {rt : Option FieldType} {nm : String} {et : List ExceptionTableEntry} {Q : State → Prop} {pc : Nat} {L : List (Nat × zV)} {st : List zV} {σ : zS}
theorem zreg {X : zX} {σ : zS} {H : Heap} {locs : List Loc} (hI : zIn X σ H locs) {a t : Nat} {v : vp_A} (h : σ.1 a = some (.inl (t, v))) (ht : t < 100) : ∃ q : ClassId × FieldType, (xt X)[t]? = some q ∧ H[a]? = some (vp_cell q.1 v) ∧ (t = 1 → ∀ (n : Nat) (f : Nat → Int32), v = (n, .inl f) → ∀ j, fits .byte (.int (f j)) = true) := by
  rcases hI.1 a _ h with ⟨-, q, h1, h2, h3⟩ | ⟨h1, -⟩
  · exact ⟨q, h1, h2, h3⟩
  · omega
theorem lI_inv {a t : Nat} {i x : Int32} (h : lI σ a t i = some x) : ∃ (u n : Nat) (f : Nat → Int32), σ.1 a = some (.inl (u, n, .inl f)) ∧ u % 100 = t ∧ ¬ (i < 0 ∨ n ≤ i.toNatClampNeg) ∧ x = f i.toNatClampNeg := by
  unfold lI at h
  split at h
  · next u n f e =>
    split at h
    · next hc => exact ⟨u, n, f, e, hc.1, hc.2, (Option.some.inj h).symm⟩
    · cases h
  · cases h
theorem z_iald (hX : zOk X own cc nL f w rt nm et) {a : Nat} {i : Int32} {β : Type} {K : Int32 → Option β} {R : β} (h : (lI σ a 0 i).bind K = some R) (d : decode cc pc = .ok (.iaload, 1)) (kk : ∀ x, K x = some R → zG X Q nL (pc + 1) L (zI x :: st) σ) : zG X Q nL pc L (zI i :: zA (some a) :: st) σ := by
  intro ls H locs hl hI
  cases e : lI σ a 0 i with
  | none => rw [e] at h; cases h
  | some x =>
    rw [e] at h
    obtain ⟨u, n, g, h1, h2, h3, rfl⟩ := lI_inv e
    have hlt : i.toNatClampNeg < n := Nat.not_le.mp fun q => h3 (Or.inr q)
    rcases hI.1 a _ h1 with ⟨hu, q, g1, g2, -⟩ | ⟨hu, ty, g1, -⟩
    · have hu0 : u = 0 := by omega
      subst hu0
      have hq := zty hX g1 (ty := .int) rfl
      have hA := (hX.K.2.1.2 0 q g1).1
      rw [hq] at hA
      exact W.iald (v := .int (g i.toNatClampNeg)) hX.1 hX.2.1 g2 (hA n (fun j => .int (g j))) (fun q => by cases q) (by show ¬ (i < 0 ∨ (arrV _ _ _).slots.size ≤ _); rw [arrV_size]; exact h3) (by show (arrV _ _ _).slots[_]? = _; rw [arrV_read _ _ hlt]) rfl rfl d (kk _ h ls H locs hl hI)
    · exfalso
      unfold zKt at g1
      repeat' split at g1
      all_goals first | omega | cases g1
theorem z_bald (hX : zOk X own cc nL f w rt nm et) {a : Nat} {i : Int32} {β : Type} {K : Int32 → Option β} {R : β} (h : (lI σ a 1 i).bind K = some R) (d : decode cc pc = .ok (.baload, 1)) (kk : ∀ x, K x = some R → zG X Q nL (pc + 1) L (zI x :: st) σ) : zG X Q nL pc L (zI i :: zA (some a) :: st) σ := by
  intro ls H locs hl hI
  cases e : lI σ a 1 i with
  | none => rw [e] at h; cases h
  | some x =>
    rw [e] at h
    obtain ⟨u, n, g, h1, h2, h3, rfl⟩ := lI_inv e
    have hlt : i.toNatClampNeg < n := Nat.not_le.mp fun q => h3 (Or.inr q)
    rcases hI.1 a _ h1 with ⟨hu, q, g1, g2, -⟩ | ⟨hu, ty, g1, -, -, g2⟩
    · have hu0 : u = 1 := by omega
      subst hu0
      have hq := zty hX g1 (ty := .byte) rfl
      have hA := (hX.K.2.1.2 1 q g1).1
      rw [hq] at hA
      exact W.bald (v := .int (g i.toNatClampNeg)) hX.1 hX.2.1 g2 (hA n (fun j => .int (g j))) (fun q => by cases q) (by show ¬ (i < 0 ∨ (arrV _ _ _).slots.size ≤ _); rw [arrV_size]; exact h3) (by show (arrV _ _ _).slots[_]? = _; rw [arrV_read _ _ hlt]) rfl rfl d (kk _ h ls H locs hl hI)
    · have hu1 : ty = .byte := by
        unfold zKt at g1
        repeat' split at g1
        all_goals first | omega | cases g1 <;> rfl
      subst hu1
      rcases g2 with ⟨n', g', ev, cell, k1, k2, k3, k4, k5, k6, -⟩ | ⟨n', g', ev, -⟩
      · cases ev
        exact W.bald (v := .int (g i.toNatClampNeg)) hX.1 hX.2.1 k1 k2 k3 (fun q => h3 (q.elim Or.inl (fun q => Or.inr (Nat.le_trans k4 q)))) (k6 _ hlt) rfl rfl d (kk _ h ls H locs hl hI)
      · cases ev
theorem z_lald (hX : zOk X own cc nL f w rt nm et) {a : Nat} {i : Int32} {β : Type} {K : Int64 → Option β} {R : β} (h : (lJ σ a i).bind K = some R) (d : decode cc pc = .ok (.laload, 1)) (kk : ∀ x, K x = some R → zG X Q nL (pc + 1) L (zJ x :: st) σ) : zG X Q nL pc L (zI i :: zA (some a) :: st) σ := by
  intro ls H locs hl hI
  unfold lJ at h
  split at h
  · next u n g h1 =>
    split at h
    · next hc =>
      obtain ⟨rfl, h3⟩ := hc
      have hlt : i.toNatClampNeg < n := Nat.not_le.mp fun q => h3 (Or.inr q)
      obtain ⟨q, g1, g2, -⟩ := zreg hI h1 (by decide)
      have hq := zty hX g1 (ty := .long) rfl
      have hA := (hX.K.2.1.2 2 q g1).1
      rw [hq] at hA
      exact W.lald (v := .long (g i.toNatClampNeg)) hX.1 hX.2.1 g2 (hA n (fun j => .long (g j))) (fun q => by cases q) (by show ¬ (i < 0 ∨ (arrV _ _ _).slots.size ≤ _); rw [arrV_size]; exact h3) (by show (arrV _ _ _).slots[_]? = _; rw [arrV_read _ _ hlt]) rfl rfl d (kk _ h ls H locs hl hI)
    · cases h
  · cases h
theorem z_aald (hX : zOk X own cc nL f w rt nm et) {a : Nat} {i : Int32} {β : Type} {K : Option Nat → Option β} {R : β} (h : (lR σ a i).bind K = some R) (d : decode cc pc = .ok (.aaload, 1)) (kk : ∀ x, K x = some R → zG X Q nL (pc + 1) L (zA x :: st) σ) : zG X Q nL pc L (zI i :: zA (some a) :: st) σ := by
  intro ls H locs hl hI
  unfold lR at h
  split at h
  · next u n g h1 =>
    split at h
    · next hc =>
      obtain ⟨⟨u1, u2⟩, h3⟩ := hc
      have hlt : i.toNatClampNeg < n := Nat.not_le.mp fun q => h3 (Or.inr q)
      obtain ⟨q, g1, g2, -⟩ := zreg hI h1 (by omega)
      have hty : ∃ C, zTl[u]? = some (.object C) := by
        have : u = 3 ∨ u = 4 ∨ u = 5 := by omega
        rcases this with rfl | rfl | rfl <;> exact ⟨_, rfl⟩
      obtain ⟨C, hC⟩ := hty
      have hq := zty hX g1 hC
      have hA := (hX.K.2.1.2 u q g1).1
      rw [hq] at hA
      exact W.aald (v := va_rf (g i.toNatClampNeg)) (ty := .object C) hX.1 hX.2.1 g2 (hA n (fun j => va_rf (g j))) rfl (fun q => by cases q) (by show ¬ (i < 0 ∨ (arrV _ _ _).slots.size ≤ _); rw [arrV_size]; exact h3) (by show (arrV _ _ _).slots[_]? = _; rw [arrV_read _ _ hlt]) rfl rfl d (kk _ h ls H locs hl hI)
    · cases h
  · cases h
theorem z_alen (hX : zOk X own cc nL f w rt nm et) {a : Nat} {β : Type} {K : Int32 → Option β} {R : β} (h : (zaln σ a).bind K = some R) (d : decode cc pc = .ok (.arraylength, 1)) (kk : ∀ x, K x = some R → zG X Q nL (pc + 1) L (zI x :: st) σ) : zG X Q nL pc L (zA (some a) :: st) σ := by
  intro ls H locs hl hI
  unfold zaln at h
  split at h
  · next u v h1 =>
    rcases hI.1 a _ h1 with ⟨hu, q, g1, g2, -⟩ | ⟨hu, ty, g1, -, -, g2⟩
    · have hA := (hX.K.2.1.2 u q g1).1
      obtain ⟨n, g | g | g | g | g⟩ := v
      · exact W.alen (n := Int32.ofNat n) hX.1 hX.2.1 g2 (hA n (fun j => .int (g j))) (by rw [vp_cell_i, arrV_size] <;> rfl) rfl rfl d (kk _ h ls H locs hl hI)
      · exact W.alen (n := Int32.ofNat n) hX.1 hX.2.1 g2 (hA n (fun j => .long (g j))) (by rw [vp_cell_l, arrV_size] <;> rfl) rfl rfl d (kk _ h ls H locs hl hI)
      · exact W.alen (n := Int32.ofNat n) hX.1 hX.2.1 g2 (hA n (fun j => .float (g j))) (by rw [vp_cell_f, arrV_size] <;> rfl) rfl rfl d (kk _ h ls H locs hl hI)
      · exact W.alen (n := Int32.ofNat n) hX.1 hX.2.1 g2 (hA n (fun j => .double (g j))) (by rw [vp_cell_d, arrV_size] <;> rfl) rfl rfl d (kk _ h ls H locs hl hI)
      · exact W.alen (n := Int32.ofNat n) hX.1 hX.2.1 g2 (hA n (fun j => va_rf (g j))) (by rw [vp_cell_q, arrV_size] <;> rfl) rfl rfl d (kk _ h ls H locs hl hI)
    · rcases g2 with ⟨n', g', rfl, cell, k1, k2, k3, k4, k5, -⟩ | ⟨n', g', rfl, cell, k1, k2, k3, k4, k5, -⟩
      · exact W.alen (n := Int32.ofNat n') hX.1 hX.2.1 k1 k2 k5 rfl rfl d (kk _ h ls H locs hl hI)
      · exact W.alen (n := Int32.ofNat n') hX.1 hX.2.1 k1 k2 k5 rfl rfl d (kk _ h ls H locs hl hI)
  · cases h
theorem z_iast (hX : zOk X own cc nL f w rt nm et) {a : Nat} {i x : Int32} {β : Type} {K : zS → Option β} {R : β} (h : (sI σ a i x).bind K = some R) (d : decode cc pc = .ok (.iastore, 1)) (kk : ∀ σ', K σ' = some R → zG X Q nL (pc + 1) L st σ') : zG X Q nL pc L (zI x :: zI i :: zA (some a) :: st) σ := by
  intro ls H locs hl hI
  unfold sI at h
  split at h
  · next u n g h1 =>
    split at h
    · next hc =>
      obtain ⟨rfl, h3, hb⟩ := hc
      obtain ⟨q, g1, g2, -⟩ := zreg hI h1 (by decide)
      have hq := zty hX g1 (ty := .int) rfl
      have hA := (hX.K.2.1.2 0 q g1).1
      rw [hq] at hA
      refine W.iast hX.1 hX.2.1 g2 (hA n (fun j => .int (g j))) (fun q => by cases q) (by show ¬ (i < 0 ∨ (arrV _ _ _).slots.size ≤ _); rw [arrV_size]; exact h3) rfl rfl d fun H1 e z oq => ?_
      refine kk _ h ls H1 _ hl (zIn_set hI g2 e (by simp [Cell.setSlot]) z oq (Or.inl ⟨by decide, q, g1, ?_, fun t1 => by cases t1⟩) hb)
      rw [e, vp_cell_i, vp_cell_i, arrV_store]
      congr 2
      funext j
      by_cases hj : j = i.toNatClampNeg
      · subst hj; simp [updV, upd]
      · simp [updV, upd, hj]
    · cases h
  · cases h
theorem z_bast (hX : zOk X own cc nL f w rt nm et) {a : Nat} {i x : Int32} {β : Type} {K : zS → Option β} {R : β} (h : (sB σ a i x).bind K = some R) (d : decode cc pc = .ok (.bastore, 1)) (kk : ∀ σ', K σ' = some R → zG X Q nL (pc + 1) L st σ') : zG X Q nL pc L (zI x :: zI i :: zA (some a) :: st) σ := by
  intro ls H locs hl hI
  unfold sB at h
  split at h
  · next u n g h1 =>
    split at h
    · next hc =>
      obtain ⟨rfl, h3, hb⟩ := hc
      obtain ⟨q, g1, g2, gf⟩ := zreg hI h1 (by decide)
      have hq := zty hX g1 (ty := .byte) rfl
      have hA := (hX.K.2.1.2 1 q g1).1
      rw [hq] at hA
      refine W.bast hX.1 hX.2.1 g2 (hA n (fun j => .int (g j))) (fun q => by cases q) (by show ¬ (i < 0 ∨ (arrV _ _ _).slots.size ≤ _); rw [arrV_size]; exact h3) rfl rfl d fun H1 e z oq => ?_
      refine kk _ h ls H1 _ hl (zIn_set hI g2 e (by simp [Cell.setSlot]) z oq (Or.inl ⟨by decide, q, g1, ?_, fun _ n' g' ev j => ?_⟩) hb)
      · rw [e, vp_cell_i, vp_cell_i, arrV_store]
        congr 2
        funext j
        by_cases hj : j = i.toNatClampNeg
        · subst hj; simp [updV, upd, narrow]
        · simp [updV, upd, hj]
      · cases ev
        show fits .byte (.int (upd g i.toNatClampNeg x.toInt8.toInt32 j)) = true
        unfold upd
        split
        · exact pk_fb x
        · exact gf rfl n g rfl j
    · cases h
  · cases h
theorem z_last (hX : zOk X own cc nL f w rt nm et) {a : Nat} {i : Int32} {x : Int64} {β : Type} {K : zS → Option β} {R : β} (h : (sJ σ a i x).bind K = some R) (d : decode cc pc = .ok (.lastore, 1)) (kk : ∀ σ', K σ' = some R → zG X Q nL (pc + 1) L st σ') : zG X Q nL pc L (zJ x :: zI i :: zA (some a) :: st) σ := by
  intro ls H locs hl hI
  unfold sJ at h
  split at h
  · next u n g h1 =>
    split at h
    · next hc =>
      obtain ⟨rfl, h3, hb⟩ := hc
      obtain ⟨q, g1, g2, -⟩ := zreg hI h1 (by decide)
      have hq := zty hX g1 (ty := .long) rfl
      have hA := (hX.K.2.1.2 2 q g1).1
      rw [hq] at hA
      refine W.last hX.1 hX.2.1 g2 (hA n (fun j => .long (g j))) (fun q => by cases q) (by show ¬ (i < 0 ∨ (arrV _ _ _).slots.size ≤ _); rw [arrV_size]; exact h3) rfl rfl d fun H1 e z oq => ?_
      refine kk _ h ls H1 _ hl (zIn_set hI g2 e (by simp [Cell.setSlot]) z oq (Or.inl ⟨by decide, q, g1, ?_, fun t1 => by cases t1⟩) hb)
      rw [e, vp_cell_l, vp_cell_l, arrV_store]
      congr 2
      funext j
      by_cases hj : j = i.toNatClampNeg
      · subst hj; simp [updV, vp_updL]
      · simp [updV, vp_updL, hj]
    · cases h
  · cases h
/-- each class of the list is castable to Object -/
def zToO : Prop := ∀ (c : Nat) (r : vw_C), vwCl[c]? = some r → Cond.castable r.1 "java/lang/Object" ∈ zNw
theorem z_aast (hX : zOk X own cc nL f w rt nm et) (hto : zToO) {a : Nat} {i : Int32} {r : Option Nat} {β : Type} {K : zS → Option β} {R : β} (h : (sR σ a i r).bind K = some R) (d : decode cc pc = .ok (.aastore, 1)) (kk : ∀ σ', K σ' = some R → zG X Q nL (pc + 1) L st σ') : zG X Q nL pc L (zA r :: zI i :: zA (some a) :: st) σ := by
  intro ls H locs hl hI
  unfold sR at h
  split at h
  · next u n g h1 =>
    split at h
    · next hc =>
      obtain ⟨rfl, h3, hb, ho⟩ := hc
      have hlt : i.toNatClampNeg < n := Nat.not_le.mp fun q => h3 (Or.inr q)
      have h0 : ¬ i < 0 := fun q => h3 (Or.inl q)
      obtain ⟨q, g1, g2, -⟩ := zreg hI h1 (by decide)
      have hq := zty hX g1 (ty := .object "java/lang/Object") rfl
      have hA := hX.K.2.1.2 3 q g1
      rw [hq] at hA
      have hcell : ∀ H1 : Heap, H1[a]? = some ((vp_cell q.1 (n, .inr (.inr (.inr (.inr g))))).setSlot i.toNatClampNeg (va_rf r)) → H1[a]? = some (vp_cell q.1 (n, .inr (.inr (.inr (.inr (va_up g i.toNatClampNeg r)))))) := by
        intro H1 e
        rw [e, vp_cell_q, vp_cell_q, arrV_store]
        congr 2
        funext j
        by_cases hj : j = i.toNatClampNeg
        · subst hj; simp [updV, va_up]
        · simp [updV, va_up, hj]
      cases r with
      | none =>
        refine va_WaastN hX.1 hX.2.1 (C := "java/lang/Object") g2 (hA.1 n (fun j => va_rf (g j))) (fun q => by cases q) (by show ¬ (i < 0 ∨ (arrV _ _ _).slots.size ≤ _); rw [arrV_size]; exact h3) rfl rfl d fun H1 e z oq => ?_
        exact kk _ h ls H1 _ hl (zIn_set hI g2 e (by simp [Cell.setSlot]) z oq (Or.inl ⟨by decide, q, g1, hcell H1 e, fun t1 => by cases t1⟩) hb)
      | some v =>
        unfold zob at ho
        split at ho
        · next ev => cases ev
        · next v' ev =>
          cases ev
          split at ho
          · next c fs hv =>
            have hc22 : c < 22 := by simpa [Nat.blt_eq] using ho
            rcases hI.1 v _ hv with ⟨hc9, rr, hr, cellV, y1, y2, y3, -⟩ | ⟨hc9, -⟩
            · obtain ⟨kA, comp, k1, k2, k3, -⟩ := hA.2
              obtain ⟨kE, hkE, -⟩ := Vm.findClass_spec k3
              have hcls := (hX.K.2.1.1 c rr hr).2
              obtain ⟨c0, t1, f1, f2, f3⟩ := Cond.castable_spec (va_Nw.use (A := xa X) rfl (hX.Nw (hto c rr hr)))
              cases hcls.1.symm.trans f1
              cases k3.symm.trans f2
              obtain ⟨kC, hkC, -⟩ := hcls.2
              refine W.aast hX.1 hX.2.1 g2 (fun q h => by cases h) (fun h => by cases h) k1 k2 rfl hkE ⟨h0, by show _ < (arrV _ _ _).slots.size; rw [arrV_size]; exact hlt⟩ y1 (fun q h => by rw [y3] at h; cases h) (by rw [y2]; exact hkC) (by rw [y2]; exact f3) rfl rfl d fun H1 e z oq => ?_
              exact kk _ h ls H1 _ hl (zIn_set hI g2 e (by simp [Cell.setSlot]) z oq (Or.inl ⟨by decide, q, g1, hcell H1 e, fun t1 => by cases t1⟩) hb)
            · omega
          · cases ho
    · cases h
  · cases h
end ZA
