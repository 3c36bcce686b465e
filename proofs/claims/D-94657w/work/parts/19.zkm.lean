/-! the model's object and its arrays as numbers: the state, the map that bears it, rows -/
abbrev mS : Type := (Nat → Int32) × (Nat → Nat → Int32)
def mAL : Nat → Nat := fun k => match k with
  | 0 => 942
  | 1 => 942
  | 2 => 542
  | 3 => 400
  | 4 => 4
  | 5 => 6
  | 6 => 4096
  | 7 => 4096
  | 8 => 60
  | _ => 0
/-- its 25 fields: the numbers, and the nine arrays behind it -/
def mFs (o : Nat) (M : mS) : List Value := [.int (M.1 0), .ref (o + 1), .ref (o + 2), .int (M.1 3), .ref (o + 3), .ref (o + 4), .int (M.1 6), .int (M.1 7), .int (M.1 8), .int (M.1 9), .int (M.1 10), .int (M.1 11), .ref (o + 5), .int (M.1 13), .int (M.1 14), .int (M.1 15), .int (M.1 16), .ref (o + 6), .int (M.1 18), .ref (o + 7), .ref (o + 8), .ref (o + 9), .int (M.1 22), .int (M.1 23), .int (M.1 24)]
def mset (M : mS) (k : Nat) (x : Int32) : mS := (fun j => if j = k then x else M.1 j, M.2)
def mPZ (M : mS) (k : Nat) (x : Int32) : Option mS := if x = 0 ∨ x = 1 then some (mset M k x) else none
def mL (M : mS) (j : Nat) (i : Int32) : Option Int32 := if i < 0 ∨ mAL j ≤ i.toNatClampNeg then none else some (M.2 j i.toNatClampNeg)
def mSt (M : mS) (j : Nat) (i x : Int32) : Option mS := if i < 0 ∨ mAL j ≤ i.toNatClampNeg then none else some (M.1, fun q => if q = j then upd (M.2 j) i.toNatClampNeg x else M.2 q)
def pM (σ : zS) (o : Nat) (M : mS) : zS := (fun q => if q < o then σ.1 q else if q = o then some (.inr (5, mFs o M)) else if q < o + 10 then some (.inl (0, mAL (q - o - 1), .inl (M.2 (q - o - 1)))) else σ.1 q, σ.2)
theorem pM_o {σ : zS} {o : Nat} {M : mS} : (pM σ o M).1 o = some (.inr (5, mFs o M)) := by
  show (if o < o then σ.1 o else if o = o then _ else _) = _
  rw [if_neg (Nat.lt_irrefl o), if_pos rfl]
theorem pM_a {σ : zS} {o : Nat} {M : mS} {j : Nat} (hj : j < 9) : (pM σ o M).1 (o + (j + 1)) = some (.inl (0, mAL j, .inl (M.2 j))) := by
  show (if o + (j + 1) < o then σ.1 _ else if o + (j + 1) = o then _ else if o + (j + 1) < o + 10 then _ else _) = _
  rw [if_neg (by omega), if_neg (by omega), if_pos (by omega), show o + (j + 1) - o - 1 = j by omega]
theorem pM_cl {σ : zS} {o : Nat} {M : mS} : zcl (pM σ o M) o = 5 := by
  unfold zcl
  rw [pM_o]
theorem pM_lt {σ : zS} {o q : Nat} {M : mS} (h : q < o) : (pM σ o M).1 q = σ.1 q := if_pos h
theorem pM_seto {σ : zS} {o : Nat} {M M' : mS} (h : M'.2 = M.2) : zset (pM σ o M) o (.inr (5, mFs o M')) = pM σ o M' := by
  unfold zset
  refine Prod.ext (funext fun q => ?_) rfl
  show (if q = o then _ else (pM σ o M).1 q) = (pM σ o M').1 q
  by_cases e : q = o
  · subst e
    rw [if_pos rfl, pM_o]
  · rw [if_neg e]
    show (if q < o then _ else if q = o then _ else if q < o + 10 then _ else _) = (if q < o then _ else if q = o then _ else if q < o + 10 then _ else _)
    rw [if_neg e, if_neg e, h]
theorem pM_seta {σ : zS} {o : Nat} {M : mS} {j : Nat} {f : Nat → Int32} (hj : j < 9) : zset (pM σ o M) (o + (j + 1)) (.inl (0, mAL j, .inl f)) = pM σ o (M.1, fun q => if q = j then f else M.2 q) := by
  unfold zset
  refine Prod.ext (funext fun q => ?_) rfl
  show (if q = o + (j + 1) then _ else (pM σ o M).1 q) = (pM σ o (M.1, fun q => if q = j then f else M.2 q)).1 q
  by_cases e : q = o + (j + 1)
  · subst e
    rw [if_pos rfl, pM_a hj]
    show some (Sum.inl (0, mAL j, Sum.inl f)) = some (Sum.inl (0, mAL j, Sum.inl (if j = j then f else M.2 j)))
    rw [if_pos rfl]
  · rw [if_neg e]
    show (if q < o then _ else if q = o then _ else if q < o + 10 then _ else _) = (if q < o then _ else if q = o then _ else if q < o + 10 then _ else _)
    by_cases h1 : q < o
    · rw [if_pos h1, if_pos h1]
    rw [if_neg h1, if_neg h1]
    by_cases h2 : q = o
    · rw [if_pos h2, if_pos h2]; rfl
    rw [if_neg h2, if_neg h2]
    by_cases h3 : q < o + 10
    · rw [if_pos h3, if_pos h3]
      show _ = some (Sum.inl (0, mAL (q - o - 1), Sum.inl (if q - o - 1 = j then f else M.2 (q - o - 1))))
      rw [if_neg (by omega)]
    · rw [if_neg h3, if_neg h3]
/-- the texts of the String constants -/
def zTb (i : Nat) : List Int32 := (zTx.getD i "").toList.map (fun c => Int32.ofNat c.toNat)
def zlt (i : Nat) : Int32 := Int32.ofNat (zTb i).length
def zch9 (i : Nat) (k : Int32) : Option Int32 := if k < 0 ∨ (zTb i).length ≤ k.toNatClampNeg then none else some ((zTb i).getD k.toNatClampNeg 0)
def zLit (σ : zS) : Prop := ∀ i, i < 23 → ∃ (a v : Nat) (f : Nat → Int32), zsv σ (100 + i) = some a ∧ a < zbs σ ∧ v < zbs σ ∧ σ.1 a = some (.inr (121, [.ref v, .int 0])) ∧ σ.1 v = some (.inl (101, (zTb i).length, .inl f)) ∧ ∀ k, k < (zTb i).length → f k = (zTb i).getD k 0
/-- where the model stands: behind the start, the constants before it -/
def zP (σ : zS) (o : Nat) : Prop := zbs σ ≤ o ∧ zLit σ
/-- the constant i stands at a -/
def zLa (σ : zS) (i a : Nat) : Prop := i < 23 ∧ zk σ (100 + i) = some a
theorem zTb_fact : ∀ i, i < 23 → (zTb i).length < 100 ∧ ∀ x ∈ zTb i, ((x &&& 255).toUInt32 % 65536).toInt32 = x ∧ (x.toUInt32 % 65536).toInt32 = x := by decide +kernel
def mSc (k : Nat) : Prop := (∀ (o : Nat) (M : mS), (mFs o M)[k]? = some (.int (M.1 k))) ∧ (∀ (o : Nat) (M : mS) (x : Int32), (mFs o M).set k (.int x) = mFs o (mset M k x)) ∧ k < 25
def mAr (k j : Nat) : Prop := ∀ (o : Nat) (M : mS), (mFs o M)[k]? = some (.ref (o + (j + 1)))
theorem mSc_0 : mSc 0 := ⟨fun _ _ => rfl, fun _ _ _ => rfl, by decide⟩
theorem mAr_1 : mAr 1 0 := fun _ _ => rfl
theorem mAr_2 : mAr 2 1 := fun _ _ => rfl
theorem mSc_3 : mSc 3 := ⟨fun _ _ => rfl, fun _ _ _ => rfl, by decide⟩
theorem mAr_4 : mAr 4 2 := fun _ _ => rfl
theorem mAr_5 : mAr 5 3 := fun _ _ => rfl
theorem mSc_6 : mSc 6 := ⟨fun _ _ => rfl, fun _ _ _ => rfl, by decide⟩
theorem mSc_7 : mSc 7 := ⟨fun _ _ => rfl, fun _ _ _ => rfl, by decide⟩
theorem mSc_8 : mSc 8 := ⟨fun _ _ => rfl, fun _ _ _ => rfl, by decide⟩
theorem mSc_9 : mSc 9 := ⟨fun _ _ => rfl, fun _ _ _ => rfl, by decide⟩
theorem mSc_10 : mSc 10 := ⟨fun _ _ => rfl, fun _ _ _ => rfl, by decide⟩
theorem mSc_11 : mSc 11 := ⟨fun _ _ => rfl, fun _ _ _ => rfl, by decide⟩
theorem mAr_12 : mAr 12 4 := fun _ _ => rfl
theorem mSc_13 : mSc 13 := ⟨fun _ _ => rfl, fun _ _ _ => rfl, by decide⟩
theorem mSc_14 : mSc 14 := ⟨fun _ _ => rfl, fun _ _ _ => rfl, by decide⟩
theorem mSc_15 : mSc 15 := ⟨fun _ _ => rfl, fun _ _ _ => rfl, by decide⟩
theorem mSc_16 : mSc 16 := ⟨fun _ _ => rfl, fun _ _ _ => rfl, by decide⟩
theorem mAr_17 : mAr 17 5 := fun _ _ => rfl
theorem mSc_18 : mSc 18 := ⟨fun _ _ => rfl, fun _ _ _ => rfl, by decide⟩
theorem mAr_19 : mAr 19 6 := fun _ _ => rfl
theorem mAr_20 : mAr 20 7 := fun _ _ => rfl
theorem mAr_21 : mAr 21 8 := fun _ _ => rfl
theorem mSc_22 : mSc 22 := ⟨fun _ _ => rfl, fun _ _ _ => rfl, by decide⟩
theorem mSc_23 : mSc 23 := ⟨fun _ _ => rfl, fun _ _ _ => rfl, by decide⟩
theorem mSc_24 : mSc 24 := ⟨fun _ _ => rfl, fun _ _ _ => rfl, by decide⟩
section ZMM
variable {X : zX} {own : String} {cc : ByteArray} {nL f w : Nat} {rt : Option FieldType} {nm : String} {et : List ExceptionTableEntry} {Q : State → Prop} {pc : Nat} {L : List (Nat × zV)} {st : List zV} {σ : zS} {o : Nat} {M : mS}
theorem m_getI (hX : zOk X own cc nL f w rt nm et) {idx k : Nat} (fl : zFl own idx 5 k) (sc : mSc k) (d : decode cc pc = .ok (.getfield idx, 3)) (kk : zG X Q nL (pc + 3) L (zI (M.1 k) :: st) (pM σ o M)) : zG X Q nL pc L (zA (some o) :: st) (pM σ o M) :=
  z_getV hX fl (v := .int (M.1 k)) (by unfold zfld; rw [pM_o]; exact sc.1 o M) d kk
theorem m_getA (hX : zOk X own cc nL f w rt nm et) {idx k j : Nat} (fl : zFl own idx 5 k) (ar : mAr k j) (d : decode cc pc = .ok (.getfield idx, 3)) (kk : zG X Q nL (pc + 3) L (zA (some (o + (j + 1))) :: st) (pM σ o M)) : zG X Q nL pc L (zA (some o) :: st) (pM σ o M) :=
  z_getV hX fl (v := .ref (o + (j + 1))) (by unfold zfld; rw [pM_o]; exact ar o M) d kk
theorem m_pF (hP : zP σ o) {k : Nat} (sc : mSc k) {x : Int32} : pF (pM σ o M) o 5 k (.int x) = some (pM σ o (mset M k x)) := by
  unfold pF
  rw [pM_o]
  show (if _ then some (zset (pM σ o M) o (.inr (5, (mFs o M).set k (.int x)))) else none) = _
  rw [if_pos ⟨rfl, sc.2.2, hP.1⟩, sc.2.1, pM_seto (M := M) (M' := mset M k x) rfl]
theorem m_putI (hX : zOk X own cc nL f w rt nm et) (hP : zP σ o) {idx k : Nat} {fin : Bool} (fl : zFp own idx 5 k .int fin) (sc : mSc k) {x : Int32} {β : Type} {K : mS → Option β} {R : β} (h : zl (mset M k x) K = some R) (d : decode cc pc = .ok (.putfield idx, 3)) (kk : ∀ M', K M' = some R → zG X Q nL (pc + 3) L st (pM σ o M')) (hfn : fin = true → nm = "<init>" := by exact fun h => nomatch h) : zG X Q nL pc L (zI x :: zA (some o) :: st) (pM σ o M) :=
  z_putV hX fl hfn (v := zI x) (m_pF hP sc) rfl rfl d (kk _ h)
theorem m_putZ (hX : zOk X own cc nL f w rt nm et) (hP : zP σ o) {idx k : Nat} {fin : Bool} (fl : zFp own idx 5 k .boolean fin) (sc : mSc k) {x : Int32} {β : Type} {K : mS → Option β} {R : β} (h : (mPZ M k x).bind K = some R) (d : decode cc pc = .ok (.putfield idx, 3)) (kk : ∀ M', K M' = some R → zG X Q nL (pc + 3) L st (pM σ o M')) (hfn : fin = true → nm = "<init>" := by exact fun h => nomatch h) : zG X Q nL pc L (zI x :: zA (some o) :: st) (pM σ o M) := by
  unfold mPZ at h
  by_cases hx : x = 0 ∨ x = 1
  · rw [if_pos hx] at h
    refine z_putV hX fl hfn (v := zI x) (m_pF hP sc) ?_ ?_ d (kk _ h)
    · rcases hx with rfl | rfl <;> decide
    · rcases hx with rfl | rfl <;> decide
  · rw [if_neg hx] at h; cases h
theorem m_iald (hX : zOk X own cc nL f w rt nm et) {j : Nat} (hj : j < 9) {i : Int32} {β : Type} {K : Int32 → Option β} {R : β} (h : (mL M j i).bind K = some R) (d : decode cc pc = .ok (.iaload, 1)) (kk : ∀ x, K x = some R → zG X Q nL (pc + 1) L (zI x :: st) (pM σ o M)) : zG X Q nL pc L (zI i :: zA (some (o + (j + 1))) :: st) (pM σ o M) := by
  refine z_iald hX (K := K) (R := R) ?_ d kk
  unfold lI
  rw [pM_a hj]
  unfold mL at h
  by_cases hc : i < 0 ∨ mAL j ≤ i.toNatClampNeg
  · rw [if_pos hc] at h; cases h
  · rw [if_neg hc] at h
    show (if _ then some (M.2 j i.toNatClampNeg) else none).bind K = some R
    rw [if_pos ⟨rfl, hc⟩]
    exact h
theorem m_iast (hX : zOk X own cc nL f w rt nm et) (hP : zP σ o) {j : Nat} (hj : j < 9) {i x : Int32} {β : Type} {K : mS → Option β} {R : β} (h : (mSt M j i x).bind K = some R) (d : decode cc pc = .ok (.iastore, 1)) (kk : ∀ M', K M' = some R → zG X Q nL (pc + 1) L st (pM σ o M')) : zG X Q nL pc L (zI x :: zI i :: zA (some (o + (j + 1))) :: st) (pM σ o M) := by
  unfold mSt at h
  by_cases hc : i < 0 ∨ mAL j ≤ i.toNatClampNeg
  · rw [if_pos hc] at h; cases h
  · rw [if_neg hc] at h
    refine z_iast hX (K := some) (R := pM σ o (M.1, fun q => if q = j then upd (M.2 j) i.toNatClampNeg x else M.2 q)) ?_ d (fun s hs => ?_)
    · unfold sI
      rw [pM_a hj]
      show (if _ then some (zset (pM σ o M) (o + (j + 1)) (.inl (0, mAL j, .inl (upd (M.2 j) i.toNatClampNeg x)))) else none).bind some = _
      rw [if_pos ⟨rfl, hc, Nat.le_trans hP.1 (Nat.le_add_right _ _)⟩, pM_seta hj]
      rfl
    · rw [Option.some.inj hs]; exact kk _ h
theorem m_alen (hX : zOk X own cc nL f w rt nm et) {j : Nat} (hj : j < 9) (d : decode cc pc = .ok (.arraylength, 1)) (kk : zG X Q nL (pc + 1) L (zI (Int32.ofNat (mAL j)) :: st) (pM σ o M)) : zG X Q nL pc L (zA (some (o + (j + 1))) :: st) (pM σ o M) := by
  refine z_alen hX (K := fun x => if x = Int32.ofNat (mAL j) then some () else none) (R := ()) ?_ d (fun x hx => ?_)
  · unfold zaln
    rw [pM_a hj]
    exact if_pos rfl
  · split at hx
    · next e => rw [e]; exact kk
    · cases hx
theorem m_ldcS (hX : zOk X own cc nL f w rt nm et) {idx i : Nat} {tx : String} (hS : (own, idx, tx, 100 + i) ∈ zStr) (hi : i < 23) (d : decode cc pc = .ok (.ldc idx, 2)) (kk : ∀ a, zLa σ i a → zG X Q nL (pc + 2) L (zA (some a) :: st) (pM σ o M)) : zG X Q nL pc L st (pM σ o M) := by
  intro ls H locs hl hI
  obtain ⟨a, h1, h2⟩ := hX.K.2.2.2.2.2.1 _ hS
  rw [← hI.2.2.2.2.2.1] at h1
  exact va_ldcS hX.1 hX.2.1 hX.ow h2 d (kk a ⟨hi, h1⟩ ls H locs hl hI)
theorem m_ldcSw (hX : zOk X own cc nL f w rt nm et) {idx i : Nat} {tx : String} (hS : (own, idx, tx, 100 + i) ∈ zStr) (hi : i < 23) (d : decode cc pc = .ok (.ldc_w idx, 3)) (kk : ∀ a, zLa σ i a → zG X Q nL (pc + 3) L (zA (some a) :: st) (pM σ o M)) : zG X Q nL pc L st (pM σ o M) := by
  intro ls H locs hl hI
  obtain ⟨a, h1, h2⟩ := hX.K.2.2.2.2.2.1 _ hS
  rw [← hI.2.2.2.2.2.1] at h1
  intro T hT S
  obtain ⟨t, a1, b1⟩ := kk a ⟨hi, h1⟩ ls H locs hl hI T hT S
  exact ⟨t, zldcwString S hX.1 hX.ow (text := tx) (a := a) h2.1 h2.2 (g := F0 (xm X) pc ls (st.map zv)) rfl (by rw [hX.2.1]; exact d) t a1, b1⟩
theorem m_cNI (hX : zOk X own cc nL f w rt nm et) {β : Type} {fc : Option (Int32 × mS)} {K : Int32 → mS → Option β} {R : β} {st0 rest : List zV} (h : zb2 fc K = some R) (hr : ∀ r M', fc = some (r, M') → zRun X nL pc 3 L st0 rest (pM σ o M) (.inl (eI r)) (pM σ o M')) (kk : ∀ r M', K r M' = some R → zG X Q nL (pc + 3) L (zI r :: rest) (pM σ o M')) : zG X Q nL pc L st0 (pM σ o M) := by
  cases e : fc with
  | none => rw [e] at h; cases h
  | some q => obtain ⟨r, M1⟩ := q; rw [e] at h; exact z_call hX (hr r M1 e) (kk r M1 h)
theorem m_cNJ (hX : zOk X own cc nL f w rt nm et) {β : Type} {fc : Option (Int64 × mS)} {K : Int64 → mS → Option β} {R : β} {st0 rest : List zV} (h : zb2 fc K = some R) (hr : ∀ r M', fc = some (r, M') → zRun X nL pc 3 L st0 rest (pM σ o M) (.inl (eJ r)) (pM σ o M')) (kk : ∀ r M', K r M' = some R → zG X Q nL (pc + 3) L (zJ r :: rest) (pM σ o M')) : zG X Q nL pc L st0 (pM σ o M) := by
  cases e : fc with
  | none => rw [e] at h; cases h
  | some q => obtain ⟨r, M1⟩ := q; rw [e] at h; exact z_call hX (hr r M1 e) (kk r M1 h)
theorem m_cNU (hX : zOk X own cc nL f w rt nm et) {β : Type} {fc : Option (Unit × mS)} {K : Unit → mS → Option β} {R : β} {st0 rest : List zV} (h : zb2 fc K = some R) (hr : ∀ r M', fc = some (r, M') → zRun X nL pc 3 L st0 rest (pM σ o M) (.inl (eU r)) (pM σ o M')) (kk : ∀ r M', K r M' = some R → zG X Q nL (pc + 3) L rest (pM σ o M')) : zG X Q nL pc L st0 (pM σ o M) := by
  cases e : fc with
  | none => rw [e] at h; cases h
  | some q => obtain ⟨r, M1⟩ := q; rw [e] at h; exact z_call hX (hr r M1 e) (kk r M1 h)
end ZMM
theorem zLit_at {σ : zS} {o i a : Nat} (hP : zP σ o) (ha : zLa σ i a) (M : mS) : ∃ (v : Nat) (f : Nat → Int32), (pM σ o M).1 a = some (.inr (121, [.ref v, .int 0])) ∧ (pM σ o M).1 v = some (.inl (101, (zTb i).length, .inl f)) ∧ ∀ k, k < (zTb i).length → f k = (zTb i).getD k 0 := by
  obtain ⟨hi, ha⟩ := ha
  obtain ⟨a', v, f, h1, h2, h3, h4, h5, h6⟩ := hP.2 i hi
  have e : a' = a := Option.some.inj (h1.symm.trans ha)
  subst e
  exact ⟨v, f, by rw [pM_lt (Nat.lt_of_lt_of_le h2 hP.1)]; exact h4, by rw [pM_lt (Nat.lt_of_lt_of_le h3 hP.1)]; exact h5, h6⟩
theorem zgR0 {s : zS} {a v : Nat} (h : s.1 a = some (.inr (121, [.ref v, .int 0]))) : gR s a 21 0 = some (some v) := by
  unfold gR zfld
  rw [h]
  rfl
theorem zgI1 {s : zS} {a v : Nat} (h : s.1 a = some (.inr (121, [.ref v, .int 0]))) : gI s a 21 1 = some 0 := by
  unfold gI zfld
  rw [h]
  rfl
theorem zcl21 {s : zS} {a v : Nat} (h : s.1 a = some (.inr (121, [.ref v, .int 0]))) : zcl s a = 21 := by
  unfold zcl
  rw [h]
theorem zlen_eq {s : zS} {a v n : Nat} {f : Nat → Int32} (h1 : s.1 a = some (.inr (121, [.ref v, .int 0]))) (h2 : s.1 v = some (.inl (101, n, .inl f))) : f_J10_length a s = some (Int32.ofNat n, s) := by
  have e1 : f_J10_coder a s = some (0, s) := by
    unfold f_J10_coder
    rw [if_neg (by decide), zgI1 h1]
    rfl
  have e2 : zaln s v = some (Int32.ofNat n) := by
    unfold zaln
    rw [h2]
  unfold f_J10_length
  rw [zgR0 h1]
  show ((zaln s v).bind fun x3 => zif (zcl s a = 21) (zb2 (f_J10_coder a s) fun x5 σ6 => some (x3 >>> (x5 &&& 31), σ6))) = _
  rw [e2, e1]
  show zif (zcl s a = 21) (some (Int32.ofNat n >>> ((0 : Int32) &&& 31), s)) = _
  unfold zif
  rw [if_pos (zcl21 h1), sb_shr0]
theorem zlt_of {k : Int32} {n : Nat} (hn : n < 100) (h : ¬ (k < 0 ∨ n ≤ k.toNatClampNeg)) : k < Int32.ofNat n := by
  rw [Int32.lt_iff_toInt_lt, Int32.toInt_ofNat_of_lt (by omega)]
  have h1 : ¬ k < 0 := fun e => h (Or.inl e)
  have h2 : ¬ n ≤ k.toNatClampNeg := fun e => h (Or.inr e)
  have h3 : k.toNatClampNeg = k.toInt.toNat := rfl
  omega
theorem zchr_eq {s : zS} {a v n : Nat} {f : Nat → Int32} {k x : Int32} (h1 : s.1 a = some (.inr (121, [.ref v, .int 0]))) (h2 : s.1 v = some (.inl (101, n, .inl f))) (hn : n < 100) (hk : ¬ (k < 0 ∨ n ≤ k.toNatClampNeg)) (hf : f k.toNatClampNeg = x) (hx : ((x &&& 255).toUInt32 % 65536).toInt32 = x ∧ (x.toUInt32 % 65536).toInt32 = x) : f_J10_charAt a k s = some (x, s) := by
  have e1 : f_J10_isLatin1 a s = some (1, s) := by
    unfold f_J10_isLatin1
    rw [if_neg (by decide), zgI1 h1]
    rfl
  have e2 : zaln s v = some (Int32.ofNat n) := by
    unfold zaln
    rw [h2]
  have e3 : f_J10_checkIndex k (Int32.ofNat n) s = some ((), s) := by
    have e0 : f_J4_checkIndex k (Int32.ofNat n) (zk s 4) s = some (k, s) := by
      unfold f_J4_checkIndex
      rw [if_neg (fun e => hk (Or.inl e)), if_pos (zlt_of hn hk)]
    unfold f_J10_checkIndex zl
    show zb2 (f_J4_checkIndex k (Int32.ofNat n) (zk s 4) s) _ = _
    rw [e0]
    rfl
  have e4 : lI s v 1 k = some x := by
    unfold lI
    rw [h2]
    show (if _ then some (f k.toNatClampNeg) else none) = _
    rw [if_pos ⟨rfl, hk⟩, hf]
  have e5 : f_J12_charAt (some v) k s = some (x, s) := by
    unfold f_J12_charAt
    show ((zaln s v).bind fun x2 => zb2 (f_J10_checkIndex k x2 s) fun _ σ4 => (lI σ4 v 1 k).bind fun x5 => zch (((x5 &&& 255).toUInt32 % 65536).toInt32) (some (((x5 &&& 255).toUInt32 % 65536).toInt32, σ4))) = _
    rw [e2]
    show zb2 (f_J10_checkIndex k (Int32.ofNat n) s) _ = _
    rw [e3]
    show (lI s v 1 k).bind _ = _
    rw [e4]
    show zch (((x &&& 255).toUInt32 % 65536).toInt32) (some (((x &&& 255).toUInt32 % 65536).toInt32, s)) = _
    rw [hx.1]
    unfold zch
    rw [if_pos hx.2]
  unfold f_J10_charAt zif
  rw [if_pos (zcl21 h1), e1]
  show (if (1 : Int32) = 0 then (gR s a 21 0).bind fun r4 => none else (gR s a 21 0).bind fun r5 => zb2 (f_J12_charAt r5 k s) fun x6 σ7 => zch x6 (some (x6, σ7))) = _
  rw [if_neg (by decide), zgR0 h1]
  show zb2 (f_J12_charAt (some v) k s) _ = _
  rw [e5]
  show zch x (some (x, s)) = _
  unfold zch
  rw [if_pos hx.2]
section ZMN
variable {X : zX} {own : String} {cc : ByteArray} {nL f w : Nat} {rt : Option FieldType} {nm : String} {et : List ExceptionTableEntry} {Q : State → Prop} {pc : Nat} {L : List (Nat × zV)} {st : List zV} {σ : zS} {o : Nat} {M : mS}
theorem m_len (hX : zOk X own cc nL f w rt nm et) (hP : zP σ o) {i a : Nat} (ha : zLa σ i a) {idx : Nat} (lk : zLV own idx RJ10 yJ10_length (ws_ yJ10_length cJ10_length 1 (Option.some Jvm.ClassFile.FieldType.int)) 0) (hR : 2 + 1 ≤ f ∧ 8 + (1 + 11) + 60 ≤ w) (h8 : zlen st ≤ 8) (d : decode cc pc = .ok (.invokevirtual idx, 3)) (kk : zG X Q nL (pc + 3) L (zI (zlt i) :: st) (pM σ o M)) : zG X Q nL pc L (zA (some a) :: st) (pM σ o M) := by
  obtain ⟨v, g, h1, h2, h3⟩ := zLit_at hP ha M
  exact z_call hX (rest := st) (v := some (zI (zlt i))) (z_runV hX lk (c_J10_length hX.tr (zlen_eq h1 h2)) (ci := 21) zc9_21 (zcl21 h1) hR rfl h8 d rfl) kk
theorem m_charAt (hX : zOk X own cc nL f w rt nm et) (hP : zP σ o) {i a : Nat} (ha : zLa σ i a) {idx : Nat} (lk : zLV own idx RJ10 yJ10_charAt (ws_ yJ10_charAt cJ10_charAt 2 (Option.some Jvm.ClassFile.FieldType.char)) 1) (hR : 4 + 1 ≤ f ∧ 8 + (2 + 11) + 104 ≤ w) (h8 : zlen st ≤ 8) {k : Int32} {β : Type} {K : Int32 → Option β} {R : β} (h : (zch9 i k).bind K = some R) (d : decode cc pc = .ok (.invokevirtual idx, 3)) (kk : ∀ x, K x = some R → zG X Q nL (pc + 3) L (zI x :: st) (pM σ o M)) : zG X Q nL pc L (zI k :: zA (some a) :: st) (pM σ o M) := by
  obtain ⟨v, g, h1, h2, h3⟩ := zLit_at hP ha M
  unfold zch9 at h
  by_cases hk : k < 0 ∨ (zTb i).length ≤ k.toNatClampNeg
  · rw [if_pos hk] at h; cases h
  · rw [if_neg hk] at h
    have hlt : k.toNatClampNeg < (zTb i).length := Nat.not_le.mp fun q => hk (Or.inr q)
    have hf := zTb_fact i ha.1
    have hx := hf.2 ((zTb i).getD k.toNatClampNeg 0) (by rw [List.getD_eq_getElem?_getD, List.getElem?_eq_getElem hlt]; exact List.getElem_mem hlt)
    exact z_call hX (rest := st) (v := some (zI ((zTb i).getD k.toNatClampNeg 0))) (z_runV hX lk (c_J10_charAt hX.tr (zchr_eq h1 h2 hf.1 hk (h3 _ hlt) hx)) (ci := 21) zc9_21 (zcl21 h1) hR rfl h8 d rfl) (kk _ h)
end ZMN
