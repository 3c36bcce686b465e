/-! rows of new cells, constants, casts -/
/-- null, or an object of the class ci -/
def zckC (σ : zS) (r : Option Nat) (ci : Nat) : Bool := match r with
  | none => true
  | some a => Nat.beq (zcl σ a) ci
/-- null, or an object of one of these classes -/
def zckI (σ : zS) (r : Option Nat) (cs : List Nat) : Bool := match r with
  | none => true
  | some a => cs.contains (zcl σ a)
/-- null, or an array of the sort t -/
def zckA (σ : zS) (r : Option Nat) (t : Nat) : Bool := match r with
  | none => true
  | some a => match σ.1 a with
    | some (.inl (u, _)) => Nat.beq u t
    | _ => false
def zdef (ty : FieldType) : Value := defaultValue ty
/-- a new object -/
def znewO (σ : zS) (ci : Nat) (fs : List Value) : Option (Nat × zS) := znew σ (.inr (ci, fs)) fs.length
theorem znew_inv {σ σ' : zS} {o : zOb} {k a : Nat} (h : znew σ o k = some (a, σ')) : 1 ≤ zc σ ∧ k ≤ zz σ ∧ a = zn σ ∧ σ' = (zup σ.1 (zn σ) o, zsv σ, zbs σ, zn σ + 1, zc σ - 1, zz σ - k) := by
  unfold znew at h
  split at h
  · next hc => cases h; exact ⟨hc.1, hc.2, rfl, rfl⟩
  · cases h
section ZN
variable {X : zX} {own : String} {cc : ByteArray} {nL f w : Nat} {rt : Option FieldType} {nm : String} {et : List ExceptionTableEntry} {Q : State → Prop} {pc : Nat} {L : List (Nat × zV)} {st : List zV} {σ : zS}
theorem zIn_new2 (hX : zOk X own cc nL f w rt nm et) {H H1 : Heap} {locs : List Loc} {k : Nat} {o : zOb} {cell : Cell} {L' : List (Nat × zV)} {st' : List zV} {pc' : Nat} {ls : Array Slot} (hI : zIn X σ H locs) (hc : 1 ≤ zc σ) (hz : k ≤ zz σ) (h1 : H1[H.size]? = some cell) (he : cell.slots.size = k) (z : H1.size = H.size + 1) (oq : ∀ q : Nat, q < H.size → H1[q]? = H[q]?) (hat : zat (xs X) (xD X) (xt X) (zbs (x0 X)) H.size o H1) (hl : lv_has ls nL (zLv L'))
    (kk : zG X Q nL pc' L' st' (zup σ.1 (zn σ) o, zsv σ, zbs σ, zn σ + 1, zc σ - 1, zz σ - k)) : xW X H1 locs (zn σ - zn (x0 X) + 1) (zz (x0 X) - zz σ + k) Q (F0 (xm X) pc' ls (st'.map zv)) := by
  obtain ⟨e1, e2, e3⟩ := zIn_size hX hI
  have h9 := kk ls H1 locs hl (zIn_new hI hc hz h1 he z oq hat)
  have e4 : zn σ - zn (x0 X) + 1 = zn (zup σ.1 (zn σ) o, zsv σ, zbs σ, zn σ + 1, zc σ - 1, zz σ - k) - zn (x0 X) := by show _ = zn σ + 1 - zn (x0 X); omega
  have e5 : zz (x0 X) - zz σ + k = zz (x0 X) - zz (zup σ.1 (zn σ) o, zsv σ, zbs σ, zn σ + 1, zc σ - 1, zz σ - k) := by show _ = zz (x0 X) - (zz σ - k); omega
  rw [e4, e5]
  exact h9
theorem zroom (hX : zOk X own cc nL f w rt nm et) {H : Heap} {locs : List Loc} (hI : zIn X σ H locs) {k : Nat} (hc : 1 ≤ zc σ) (hz : k ≤ zz σ) : zn σ - zn (x0 X) + 1 ≤ (xR X).cells ∧ zz (x0 X) - zz σ + k ≤ (xR X).slots := by
  obtain ⟨e1, e2, e3⟩ := zIn_size hX hI
  have e4 := hI.2.2.1
  rw [hX.R]
  exact ⟨by show _ ≤ zc (x0 X); omega, by show _ ≤ zz (x0 X); omega⟩
/-- the class ci, as the entry idx of own's pool names it, may be made -/
def zNe (own : String) (idx ci : Nat) (fs : List Value) : Prop := ∃ (C : String) (T : u_T) (N : Nat) (tyf : Nat → FieldType), vwCl[ci]? = some (C, T, N) ∧ (∀ w ∈ u_ws C T N, w ∈ lw_all) ∧ (∀ j, j < N → parseFieldDescriptor (T j).2.2.1 = some (tyf j)) ∧ Cond.classLink own idx C ∈ lw_all ∧ Cond.instantiable C N ∈ lw_all ∧ Cond.initialized C ∈ lw_all ∧ fs.length = N ∧ ∀ j, j < N → defaultValue (tyf j) = vp_V fs j
theorem z_new (hX : zOk X own cc nL f w rt nm et) {idx ci : Nat} {fs : List Value} (ne : zNe own idx ci fs) {β : Type} {K : Nat → zS → Option β} {R : β} (h : zb2 (znewO σ ci fs) K = some R) (d : decode cc pc = .ok (.new idx, 3)) (kk : ∀ a σ', K a σ' = some R → zG X Q nL (pc + 3) L (zA (some a) :: st) σ') : zG X Q nL pc L st σ := by
  intro ls H locs hl hI
  unfold znewO at h
  cases e : znew σ (.inr (ci, fs)) fs.length with
  | none => rw [e] at h; cases h
  | some q =>
    obtain ⟨a, σ'⟩ := q
    rw [e] at h
    obtain ⟨hc, hz, rfl, rfl⟩ := znew_inv e
    obtain ⟨C, T, N, tyf, hcl, hin, hty, hlk, hins, hini, hN, hfs⟩ := ne
    obtain ⟨r1, r2⟩ := zroom hX hI hc hz
    have hKn := hX.K.2.1.1 ci _ hcl
    have hci := vwCl_lt hcl
    refine W.newc hX.1 hX.2.1 hX.ow (hX.hts _ hlk) (hX.hts _ hins) (hX.hts _ hini) rfl d r1 (by rw [← hN]; exact r2) fun cC kC f1 f2 f3 f4 => ?_
    cases hKn.2.1.symm.trans f1
    generalize hH1 : H.push ({ cls := xD X |>.1 ci, slots := kC.instanceTypes.map defaultValue, vm := .none } : Cell) = H1
    have z1 : H1.size = H.size + 1 := by rw [← hH1, Array.size_push]
    have e1 : H1[H.size]? = some (blank ((xD X).1 ci) kC) := by rw [← hH1, Array.getElem?_push_size]; rfl
    have o1 : ∀ q : Nat, q < H.size → H1[q]? = H[q]? := fun q hq => by rw [← hH1, Array.getElem?_push, if_neg (Nat.ne_of_lt hq)]
    have hsz : (blank ((xD X).1 ci) kC).slots.size = fs.length := by rw [hN, ← f4]; simp [blank]
    have k9 := kk _ _ h
    rw [← hI.2.1] at k9
    rw [← hN]
    exact zIn_new2 hX (ls := ls) (L' := L) (st' := zA (some H.size) :: st) (pc' := pc + 3) hI hc hz e1 hsz z1 o1 (o := .inr (ci, fs)) (Or.inl ⟨by omega, _, hcl, (u_born tyf hX.hts hin hKn f2 e1 hty).to hfs⟩) hl (Q := Q) (by rw [← hI.2.1]; exact k9)
theorem zRA (hX : zOk X own cc nL f w rt nm et) {t : Nat} {c : ClassId} {ty : FieldType} (h : (xt X)[t]? = some (c, ty)) : ArrOfT (xs X) c ty ∧ (xs X).vm.findClass ("[" ++ ty.toString) = some c := by
  have h1 := hX.K.2.1.2 t _ h
  refine ⟨h1.1, ?_⟩
  cases ty <;> first | exact h1.2 | (obtain ⟨_, _, _, _, _, h4⟩ := h1.2; exact h4)
theorem z_newA (hX : zOk X own cc nL f w rt nm et) {atype : ArrayType} {ty : FieldType} {t : Nat} {v0 : Nat → vp_A} (harr : Cond.arrayClass ty ∈ lw_all) (hty : newarray.typeOf atype = ty) (ht : zTl[t]? = some ty) (hb : componentBytes ty ≤ 8) (hv0 : ∀ (cA : ClassId) (N : Nat), vp_cell cA (v0 N) = arrV cA N (fun _ => defaultValue ty)) (hfit : t = 1 → ∀ (N n : Nat) (g : Nat → Int32), v0 N = (n, .inl g) → ∀ j, fits .byte (.int (g j)) = true)
    {n : Int32} {β : Type} {K : Nat → zS → Option β} {R : β} (h : zb2 (if n < 0 ∨ 65536 < n.toNatClampNeg then none else znew σ (.inl (t, v0 n.toNatClampNeg)) n.toNatClampNeg) K = some R) (d : decode cc pc = .ok (.newarray atype, 2)) (kk : ∀ a σ', K a σ' = some R → zG X Q nL (pc + 2) L (zA (some a) :: st) σ') : zG X Q nL pc L (zI n :: st) σ := by
  intro ls H locs hl hI
  split at h
  · cases h
  · next hn =>
    cases e : znew σ (.inl (t, v0 n.toNatClampNeg)) n.toNatClampNeg with
    | none => rw [e] at h; cases h
    | some q =>
      obtain ⟨a, σ'⟩ := q
      rw [e] at h
      obtain ⟨hc, hz, rfl, rfl⟩ := znew_inv e
      obtain ⟨r1, r2⟩ := zroom hX hI hc hz
      obtain ⟨cT, hT⟩ := zty_ex hX ht
      have ht100 : t < 100 := by
        have := (List.getElem?_eq_some_iff.mp ht).1
        have h6 : zTl.length = 6 := rfl
        omega
      subst hty
      refine va_newaK hX.1 hX.2.1 (hX.hts _ harr) rfl d rfl (fun q => hn (Or.inl q)) rfl ?_ r1 r2 rfl fun H1 cA e1 z1 o1 hAr hNm => ?_
      · have h1 : n.toNatClampNeg ≤ 65536 := Nat.le_of_not_lt (fun q => hn (Or.inr q))
        exact Nat.le_trans (Nat.mul_le_mul h1 hb) (Nat.le_of_ble_eq_true rfl)
      · have hcA : cA = cT := by
          have := (zRA hX hT).2
          rw [hNm] at this
          exact Option.some.inj this
        subst hcA
        have k9 := kk _ _ h
        rw [← hI.2.1] at k9
        have := zIn_new2 hX (ls := ls) (L' := L) (st' := zA (some H.size) :: st) (pc' := pc + 2) hI hc hz e1 (by rw [arrV_size]) z1 o1 (o := .inl (t, v0 n.toNatClampNeg)) (Or.inl ⟨ht100, _, hT, by rw [hv0]; exact e1, fun t1 n' g' ev j => hfit t1 _ _ _ ev j⟩) hl (Q := Q) (by rw [← hI.2.1]; exact k9)
        exact this
theorem z_newI (hX : zOk X own cc nL f w rt nm et) {n : Int32} {β : Type} {K : Nat → zS → Option β} {R : β} (h : zb2 (znewI σ n) K = some R) (d : decode cc pc = .ok (.newarray .int, 2)) (kk : ∀ a σ', K a σ' = some R → zG X Q nL (pc + 2) L (zA (some a) :: st) σ') : zG X Q nL pc L (zI n :: st) σ :=
  z_newA hX (atype := .int) (t := 0) (v0 := fun N => (N, .inl (fun _ => 0))) q163 rfl rfl (by decide) (fun _ _ => rfl) (fun h => by cases h) h d kk
theorem z_newB (hX : zOk X own cc nL f w rt nm et) {n : Int32} {β : Type} {K : Nat → zS → Option β} {R : β} (h : zb2 (znewB σ n) K = some R) (d : decode cc pc = .ok (.newarray .byte, 2)) (kk : ∀ a σ', K a σ' = some R → zG X Q nL (pc + 2) L (zA (some a) :: st) σ') : zG X Q nL pc L (zI n :: st) σ :=
  z_newA hX (atype := .byte) (t := 1) (v0 := fun N => (N, .inl (fun _ => 0))) q250 rfl rfl (by decide) (fun _ _ => rfl) (fun _ N n g ev j => by cases ev; rfl) h d kk
theorem z_newJ (hX : zOk X own cc nL f w rt nm et) {n : Int32} {β : Type} {K : Nat → zS → Option β} {R : β} (h : zb2 (znewJ σ n) K = some R) (d : decode cc pc = .ok (.newarray .long, 2)) (kk : ∀ a σ', K a σ' = some R → zG X Q nL (pc + 2) L (zA (some a) :: st) σ') : zG X Q nL pc L (zI n :: st) σ :=
  z_newA hX (atype := .long) (t := 2) (v0 := fun N => (N, .inr (.inl (fun _ => 0)))) q2159 rfl rfl (by decide) (fun _ _ => rfl) (fun h => by cases h) h d kk
theorem z_newR (hX : zOk X own cc nL f w rt nm et) {idx : Nat} (lk : Cond.classLink own idx "java/lang/Object" ∈ lw_all) {n : Int32} {β : Type} {K : Nat → zS → Option β} {R : β} (h : zb2 (znewR σ n) K = some R) (d : decode cc pc = .ok (.anewarray idx, 3)) (kk : ∀ a σ', K a σ' = some R → zG X Q nL (pc + 3) L (zA (some a) :: st) σ') : zG X Q nL pc L (zI n :: st) σ := by
  intro ls H locs hl hI
  unfold znewR at h
  split at h
  · cases h
  · next hn =>
    cases e : znew σ (.inl (3, n.toNatClampNeg, .inr (.inr (.inr (.inr (fun _ => none)))))) n.toNatClampNeg with
    | none => rw [e] at h; cases h
    | some q =>
      obtain ⟨a, σ'⟩ := q
      rw [e] at h
      obtain ⟨hc, hz, rfl, rfl⟩ := znew_inv e
      obtain ⟨r1, r2⟩ := zroom hX hI hc hz
      obtain ⟨cT, hT⟩ := zty_ex hX (t := 3) (ty := .object "java/lang/Object") rfl
      refine W.anew hX.1 hX.2.1 hX.ow (hX.hts _ lk) (va_AO.use hX.K.2.2.2.2.2.2.2.1) rfl d rfl (fun q => hn (Or.inl q)) ?_ r1 r2 fun cA kA comp f1 f2 f3 f4 => ?_
      · have h1 : n.toNatClampNeg ≤ 65536 := Nat.le_of_not_lt (fun q => hn (Or.inr q))
        exact Nat.le_trans (Nat.mul_le_mul_right 4 h1) (Nat.le_of_ble_eq_true rfl)
      · have hcA : cA = cT := by
          have := (zRA hX hT).2
          rw [f1] at this
          exact Option.some.inj this
        subst hcA
        generalize hH1 : H.push ({ cls := cA, slots := Array.replicate n.toNatClampNeg .null, vm := .none } : Cell) = H1
        have z1 : H1.size = H.size + 1 := by rw [← hH1, Array.size_push]
        have e1 : H1[H.size]? = some (arrV cA n.toNatClampNeg (fun _ => .null)) := by rw [← hH1, Array.getElem?_push_size, ← arrV_new]
        have o1 : ∀ q : Nat, q < H.size → H1[q]? = H[q]? := fun q hq => by rw [← hH1, Array.getElem?_push, if_neg (Nat.ne_of_lt hq)]
        have k9 := kk _ _ h
        rw [← hI.2.1] at k9
        exact zIn_new2 hX (ls := ls) (L' := L) (st' := zA (some H.size) :: st) (pc' := pc + 3) hI hc hz e1 (by rw [arrV_size]) z1 o1 (o := .inl (3, n.toNatClampNeg, .inr (.inr (.inr (.inr (fun _ => none)))))) (Or.inl ⟨by decide, _, hT, e1, fun t1 => by cases t1⟩) hl (Q := Q) (by rw [← hI.2.1]; exact k9)
/-- a static that holds a constant -/
theorem z_gets (hX : zOk X own cc nL f w rt nm et) {idx k : Nat} {C n dsc : String} (hS : (C, n, dsc, k) ∈ zSt) (lk : Cond.fieldLink own idx C n dsc ∈ lw_all) {β : Type} {K : Option Nat → Option β} {R : β} (h : zl (zk σ k) K = some R) (d : decode cc pc = .ok (.getstatic idx, 3)) (kk : ∀ r, r = zk σ k → K r = some R → zG X Q nL (pc + 3) L (zA r :: st) σ) : zG X Q nL pc L st σ := by
  intro ls H locs hl hI
  have h1 := hX.K.2.2.2.1 _ hS
  rw [← hI.2.2.2.2.2.1] at h1
  exact va_gets hX.1 hX.2.1 h1 hI.2.2.2.2.1 hX.ow (hX.hts _ lk) (fun _ h => h) d (kk _ rfl h ls H locs hl hI)
theorem z_getsI (hX : zOk X own cc nL f w rt nm et) {idx : Nat} {C n dsc : String} {v : Int32} (hS : (C, n, dsc, v) ∈ zStI) (lk : Cond.fieldLink own idx C n dsc ∈ lw_all) (d : decode cc pc = .ok (.getstatic idx, 3)) (kk : zG X Q nL (pc + 3) L (zI v :: st) σ) : zG X Q nL pc L st σ := by
  intro ls H locs hl hI
  exact va_gets hX.1 hX.2.1 (hX.K.2.2.2.2.1 _ hS) hI.2.2.2.2.1 hX.ow (hX.hts _ lk) (fun _ h => h) d (kk ls H locs hl hI)
/-- a String constant -/
theorem z_ldcS (hX : zOk X own cc nL f w rt nm et) {idx k : Nat} {tx : String} (hS : (own, idx, tx, k) ∈ zStr) {β : Type} {K : Nat → Option β} {R : β} (h : (zk σ k).bind K = some R) (d : decode cc pc = .ok (.ldc idx, 2)) (kk : ∀ a, zk σ k = some a → K a = some R → zG X Q nL (pc + 2) L (zA (some a) :: st) σ) : zG X Q nL pc L st σ := by
  intro ls H locs hl hI
  obtain ⟨a, h1, h2⟩ := hX.K.2.2.2.2.2.1 _ hS
  rw [← hI.2.2.2.2.2.1] at h1
  have h3 : zk σ k = some a := h1
  rw [h3] at h
  exact va_ldcS hX.1 hX.2.1 hX.ow h2 d (kk a h3 h ls H locs hl hI)
/-- the Class object of Object[] -/
theorem z_ldcM (hX : zOk X own cc nL f w rt nm et) {idx : Nat} (lk : Cond.classLink own idx "[Ljava/lang/Object;" ∈ lw_all) {β : Type} {K : Nat → Option β} {R : β} (h : (zk σ 0).bind K = some R) (d : decode cc pc = .ok (.ldc idx, 2)) (kk : ∀ a, zk σ 0 = some a → K a = some R → zG X Q nL (pc + 2) L (zA (some a) :: st) σ) : zG X Q nL pc L st σ := by
  intro ls H locs hl hI
  obtain ⟨a, h1, h2⟩ := hX.K.2.2.2.2.2.2.1
  rw [← hI.2.2.2.2.2.1] at h1
  have h3 : zk σ 0 = some a := h1
  rw [h3] at h
  exact va_ldcM hX.1 hX.2.1 hX.ow (hX.hts _ lk) h2 d (kk a h3 h ls H locs hl hI)
/-- an object's real cell, by its class in the map -/
theorem zrecv (hX : zOk X own cc nL f w rt nm et) {H : Heap} {locs : List Loc} (hI : zIn X σ H locs) {a ci : Nat} (h : zcl σ a = ci) {C : String} {T : u_T} {N : Nat} (hc : zCl ci = some (C, T, N)) : ∃ cell : Cell, H[a]? = some cell ∧ cell.vm.isStatics = false ∧ (xs X).vm.findClass C = some cell.cls := by
  unfold zcl at h
  split at h
  · next c fs e =>
    rcases hI.1 a _ e with ⟨hc9, r, hr, cell, y1, y2, y3, -⟩ | ⟨hc9, r, hk, ⟨cell, y1, y2, y3, -⟩, -⟩
    · have e9 : c = ci := by rw [← h]; exact (Nat.mod_eq_of_lt hc9).symm
      subst e9
      have er : r = (C, T, N) := Option.some.inj ((zCl_reg hr).symm.trans hc)
      subst er
      exact ⟨cell, y1, by rw [y3]; rfl, by rw [y2]; exact (hX.K.2.1.1 c _ hr).2.1⟩
    · have er : r = (C, T, N) := by
        have := zCl_con hk
        rw [h] at this
        exact Option.some.inj (this.symm.trans hc)
      subst er
      exact ⟨cell, y1, y2, y3⟩
  · subst h
    exact absurd hc (by rw [zCl]; simp [vwCl])
theorem z_castC (hX : zOk X own cc nL f w rt nm et) {idx ci : Nat} {C : String} {T : u_T} {N : Nat} (hc : zCl ci = some (C, T, N)) (lk : Cond.classLink own idx C ∈ lw_all) {r : Option Nat} {β : Type} {A : Option β} {R : β} (h : (if zckC σ r ci = true then A else none) = some R) (d : decode cc pc = .ok (.checkcast idx, 3)) (kk : A = some R → zG X Q nL (pc + 3) L (zA r :: st) σ) : zG X Q nL pc L (zA r :: st) σ := by
  intro ls H locs hl hI
  split at h
  · next hr =>
    cases r with
    | none => exact lv_castN hX.1 hX.2.1 d (kk h ls H locs hl hI)
    | some a => exact va_castE hX.1 hX.2.1 hX.ow (hX.hts _ lk) (zrecv hX hI (Nat.eq_of_beq_eq_true hr) hc) d (kk h ls H locs hl hI)
  · cases h
theorem z_castI (hX : zOk X own cc nL f w rt nm et) {idx : Nat} {cs : List Nat} {I : String} (hc : ∀ ci ∈ cs, ∃ (C : String) (T : u_T) (N : Nat), zCl ci = some (C, T, N) ∧ Cond.castable C I ∈ zNw) (lk : Cond.classLink own idx I ∈ lw_all) {r : Option Nat} {β : Type} {A : Option β} {R : β} (h : (if zckI σ r cs = true then A else none) = some R) (d : decode cc pc = .ok (.checkcast idx, 3)) (kk : A = some R → zG X Q nL (pc + 3) L (zA r :: st) σ) : zG X Q nL pc L (zA r :: st) σ := by
  intro ls H locs hl hI
  split at h
  · next hr =>
    cases r with
    | none => exact lv_castN hX.1 hX.2.1 d (kk h ls H locs hl hI)
    | some a =>
      obtain ⟨C, T, N, h1, h2⟩ := hc _ (List.contains_iff_mem.mp hr)
      exact va_castY hX.1 hX.2.1 hX.ow (hX.hts _ lk) (hX.Nw h2) (zrecv hX hI rfl h1) d (kk h ls H locs hl hI)
  · cases h
theorem z_castA (hX : zOk X own cc nL f w rt nm et) {idx t : Nat} {ty : FieldType} {nmA : String} (ht : zTl[t]? = some ty) (hnm : nmA = "[" ++ ty.toString) (lk : Cond.classLink own idx nmA ∈ lw_all) {r : Option Nat} {β : Type} {A : Option β} {R : β} (h : (if zckA σ r t = true then A else none) = some R) (d : decode cc pc = .ok (.checkcast idx, 3)) (kk : A = some R → zG X Q nL (pc + 3) L (zA r :: st) σ) : zG X Q nL pc L (zA r :: st) σ := by
  intro ls H locs hl hI
  split at h
  · next hr =>
    cases r with
    | none => exact lv_castN hX.1 hX.2.1 d (kk h ls H locs hl hI)
    | some a =>
      unfold zckA at hr
      simp only at hr
      split at hr
      · next u v e =>
        have hu : u = t := Nat.eq_of_beq_eq_true hr
        subst hu
        have ht100 : u < 100 := by
          have := (List.getElem?_eq_some_iff.mp ht).1
          have h6 : zTl.length = 6 := rfl
          omega
        obtain ⟨q, g1, g2, -⟩ := zreg hI e ht100
        have hq := zty hX g1 ht
        have hP : va_P (xD X) vwCl [(a, .inl (q.1, v))] H := by
          intro j y hy
          have hz : j < 1 := (List.getElem?_eq_some_iff.mp hy).1
          rw [show j = 0 by omega] at hy
          cases hy
          exact g2
        rw [hq] at g1
        exact va_castA hX.1 hX.2.1 hX.ow (hX.hts _ lk) hP 0 rfl (by rw [hnm]; exact (zRA hX g1).2) d (kk h ls H locs hl hI)
      · cases hr
  · cases h
theorem z_instC (hX : zOk X own cc nL f w rt nm et) {idx ci : Nat} {C : String} {T : u_T} {N : Nat} (hc : zCl ci = some (C, T, N)) (lk : Cond.classLink own idx C ∈ lw_all) {a : Nat} {β : Type} {A : Option β} {R : β} (h : (if zcl σ a = ci then A else none) = some R) (d : decode cc pc = .ok (.instanceof idx, 3)) (kk : A = some R → zG X Q nL (pc + 3) L (zI 1 :: st) σ) : zG X Q nL pc L (zA (some a) :: st) σ := by
  intro ls H locs hl hI
  split at h
  · next hr => exact va_instE hX.1 hX.2.1 hX.ow (hX.hts _ lk) (zrecv hX hI hr hc) d (kk h ls H locs hl hI)
  · cases h
end ZN
