/-! rows of the rarer calls, of arraycopy and clone, of throws and handlers -/
def zcpy (σ : zS) (a0 : Nat) (sp : Int32) (a : Nat) (dp n : Int32) : Option zS :=
  match σ.1 a0, σ.1 a with
  | some (.inl (u0, n0, .inl g0)), some (.inl (u1, n1, .inl g1)) => if u0 = u1 ∧ u1 < 2 ∧ ¬ sp < 0 ∧ ¬ dp < 0 ∧ ¬ n < 0 ∧ sp.toNatClampNeg + n.toNatClampNeg ≤ n0 ∧ dp.toNatClampNeg + n.toNatClampNeg ≤ n1 ∧ zbs σ ≤ a then some (zset σ a (.inl (u1, n1, .inl (va_cpy g0 g1 sp.toNatClampNeg dp.toNatClampNeg n.toNatClampNeg)))) else none
  | some (.inl (u0, n0, .inr (.inr (.inr (.inr g0))))), some (.inl (u1, n1, .inr (.inr (.inr (.inr g1))))) => if u0 % 100 = 3 ∧ u1 = 3 ∧ ¬ sp < 0 ∧ ¬ dp < 0 ∧ ¬ n < 0 ∧ sp.toNatClampNeg + n.toNatClampNeg ≤ n0 ∧ dp.toNatClampNeg + n.toNatClampNeg ≤ n1 ∧ zbs σ ≤ a ∧ ((List.range n.toNatClampNeg).all fun i => zob σ (g0 (sp.toNatClampNeg + i))) = true then some (zset σ a (.inl (u1, n1, .inr (.inr (.inr (.inr (va_cpy g0 g1 sp.toNatClampNeg dp.toNatClampNeg n.toNatClampNeg))))))) else none
  | _, _ => none
/-- a byte array's clone; a clone of an enum's array of constants -/
def zcloB (σ : zS) (a : Nat) : Option (Nat × zS) := match σ.1 a with
  | some (.inl (u, n, .inl g)) => if u = 1 then znew σ (.inl (1, n, .inl g)) n else none
  | _ => none
def zcloE (σ : zS) (a t : Nat) : Option (Nat × zS) := match σ.1 a with
  | some (.inl (u, n, .inr (.inr (.inr (.inr g))))) => if u = 100 + t then znew σ (.inl (t, n, .inr (.inr (.inr (.inr g))))) n else none
  | _ => none
section ZT
variable {X : zX} {own : String} {cc : ByteArray} {nL f w : Nat} {rt : Option FieldType} {nm : String} {et : List ExceptionTableEntry} {Q : State → Prop} {pc : Nat} {L : List (Nat × zV)} {st : List zV} {σ σ' : zS}
def zLU (own : String) (idx : Nat) (C owner : String) (x y : MethodName) (ws : List Cond) (n : Nat) : Prop := GoodIn lw_all (va_wsU own idx C owner x y ws) ∧ y = ⟨owner, x.name, x.desc⟩ ∧ owner ≠ "java/lang/invoke/MethodHandle" ∧ owner ≠ "java/lang/invoke/VarHandle" ∧ (parseMethodDescriptor x.desc).map (fun d => d.parameters.length) = some n
def zLSU (own : String) (idx : Nat) (y : MethodName) (ws : List Cond) (n : Nat) : Prop := GoodIn lw_all (va_wsSU own idx y ws) ∧ y.name ≠ "<init>" ∧ (parseMethodDescriptor y.desc).map (fun d => d.parameters.length) = some n
def zLF (own : String) (idx : Nat) (C : String) (x y : MethodName) (ws : List Cond) (n : Nat) : Prop := GoodIn lw_all (va_wsF own idx C x y ws) ∧ x.cls ≠ "java/lang/invoke/MethodHandle" ∧ x.cls ≠ "java/lang/invoke/VarHandle" ∧ (parseMethodDescriptor x.desc).map (fun d => d.parameters.length) = some n
theorem z_runU (hX : zOk X own cc nL f w rt nm et) {idx : Nat} {C owner : String} {x y : MethodName} {b : ByteArray} {maxL n : Nat} {ret : Option FieldType} (lk : zLU own idx C owner x y (ws_ y b maxL ret) n) {f' w' a : Nat} {As rest : List zV} {o : zO} (hM : zM (xl X) (xD X) (xt X) y (ws_ y b maxL ret) f' w' (zA (some a) :: As) σ o σ') {ci : Nat} {T : u_T} {N : Nat} (hc : zCl ci = some (C, T, N)) (hcl : zcl σ a = ci) (hR : f' + 1 ≤ f ∧ 8 + (maxL + 11) + w' ≤ w) (hn : As.length = n) (h8 : zlen rest ≤ 8) (d : decode cc pc = .ok (.invokevirtual idx, 3)) {st0 : List zV} (hs : st0 = As.reverse ++ zA (some a) :: rest) : zRun X nL pc 3 L st0 rest σ o σ' := by
  refine zrun_of hX (a9 := (Value.ref a :: As.map zv).toArray) fun ls H locs hl hI => ?_
  subst hs
  obtain ⟨k1, k2, k3⟩ := lk
  exact vx_runU (As := As.map zv) (zcf hX) hM (va_cwU n hX.hts k1 rfl rfl rfl k2 k3 (zrm hX hR)) ⟨zPre_blind _ _ _ _, zrecv hX hI hcl hc, fun U hU hW => ⟨rfl, zPre_of hX hI hU hW⟩⟩ rfl (by rw [List.length_map]; exact hn) hl.1 (by simp [zv, va_rf]) (zcat8 h8 rfl) d (zfit hX hI)
theorem z_runSU (hX : zOk X own cc nL f w rt nm et) {idx : Nat} {C : String} {y : MethodName} {b : ByteArray} {maxL n : Nat} {ret : Option FieldType} (lk : zLSU own idx y (ws_ y b maxL ret) n) {f' w' a : Nat} {As rest : List zV} {o : zO} (hM : zM (xl X) (xD X) (xt X) y (ws_ y b maxL ret) f' w' (zA (some a) :: As) σ o σ') {ci : Nat} {T : u_T} {N : Nat} (hc : vwCl[ci]? = some (C, T, N)) (hcl : zcl σ a = ci) (hR : f' + 1 ≤ f ∧ 8 + (maxL + 11) + w' ≤ w) (hn : As.length = n) (h8 : zlen rest ≤ 8) (d : decode cc pc = .ok (.invokespecial idx, 3)) {st0 : List zV} (hs : st0 = As.reverse ++ zA (some a) :: rest) : zRun X nL pc 3 L st0 rest σ o σ' := by
  refine zrun_of hX (a9 := (Value.ref a :: As.map zv).toArray) fun ls H locs hl hI => ?_
  subst hs
  obtain ⟨k1, k2⟩ := lk
  exact vx_runSU (As := As.map zv) (hX.K.2.1.1 ci _ hc).2 (zcf hX) hM (va_cwSU n hX.hts k1 rfl rfl rfl k2 (zrm hX hR)) ⟨zPre_blind _ _ _ _, zrecv hX hI hcl (zCl_reg hc), fun U hU hW => ⟨rfl, zPre_of hX hI hU hW⟩⟩ rfl (by rw [List.length_map]; exact hn) hl.1 (by simp [zv, va_rf]) (zcat8 h8 rfl) d (zfit hX hI)
theorem z_runF (hX : zOk X own cc nL f w rt nm et) {idx cnt : Nat} {C : String} {x y : MethodName} {b : ByteArray} {maxL n : Nat} {ret : Option FieldType} (lk : zLF own idx C x y (ws_ y b maxL ret) n) (hF : va_Fw C x y (xs X)) {f' w' a : Nat} {As rest : List zV} {o : zO} (hM : zM (xl X) (xD X) (xt X) y (ws_ y b maxL ret) f' w' (zA (some a) :: As) σ o σ') {ci : Nat} {T : u_T} {N : Nat} (hc : vwCl[ci]? = some (C, T, N)) (hcl : zcl σ a = ci) (hR : f' + 1 ≤ f ∧ 8 + (maxL + 11) + w' ≤ w) (hn : As.length = n) (h8 : zlen rest ≤ 8) (d : decode cc pc = .ok (.invokeinterface idx cnt, 5)) {st0 : List zV} (hs : st0 = As.reverse ++ zA (some a) :: rest) : zRun X nL pc 5 L st0 rest σ o σ' := by
  refine zrun_of5 hX (a9 := (Value.ref a :: As.map zv).toArray) fun ls H locs hl hI => ?_
  subst hs
  obtain ⟨k1, k2⟩ := lk
  exact vx_runF (As := As.map zv) (hX.K.2.1.1 ci _ hc).2 (zcf hX) hM (va_cwF n hX.hts k1 rfl rfl rfl hF k2 (zrm hX hR)) ⟨zPre_blind _ _ _ _, zrecv hX hI hcl (zCl_reg hc), fun U hU hW => ⟨rfl, zPre_of hX hI hU hW⟩⟩ rfl (by rw [List.length_map]; exact hn) hl.1 (by simp [zv, va_rf]) (zcat8 h8 rfl) d (zfit hX hI)
/-- an array's real cell, of a sort that the list of array classes has -/
theorem zacell (hX : zOk X own cc nL f w rt nm et) {H : Heap} {locs : List Loc} (hI : zIn X σ H locs) {a t : Nat} {ty : FieldType} (ht : zTl[t]? = some ty) {u : Nat} {v : vp_A} (e : σ.1 a = some (.inl (u, v))) (hu : u % 100 = t) : ∃ cell : Cell, H[a]? = some cell ∧ cell.vm.isStatics = false ∧ (xs X).vm.findClass ("[" ++ ty.toString) = some cell.cls ∧ cell.vm ≠ .unknown ∧ v.1 ≤ cell.slots.size := by
  have ht6 : t < 6 := (List.getElem?_eq_some_iff.mp ht).1
  rcases hI.1 a _ e with ⟨hu9, q, g1, g2, -⟩ | ⟨hu9, ty', g1, ⟨cell, g2, g3, g4, -⟩, -, g5⟩
  · have hut : u = t := by omega
    subst hut
    have hq := zty hX g1 ht
    rw [hq] at g1
    refine ⟨_, g2, ?_, ?_, ?_, ?_⟩
    · obtain ⟨n, g | g | g | g | g⟩ := v <;> rfl
    · rw [(zRA hX g1).2]
      obtain ⟨n, g | g | g | g | g⟩ := v <;> rfl
    · obtain ⟨n, g | g | g | g | g⟩ := v <;> exact fun h => by cases h
    · obtain ⟨n, g | g | g | g | g⟩ := v <;> exact Nat.le_of_eq (arrV_size _ _ _).symm
  · have hty : ty' = ty := by
      unfold zKt at g1
      have : t = 0 ∨ t = 1 ∨ t = 2 ∨ t = 3 ∨ t = 4 ∨ t = 5 := by omega
      repeat' split at g1
      · next e1 => subst e1; cases g1; subst hu; cases ht; rfl
      · next e1 => subst e1; cases g1; subst hu; cases ht; rfl
      · next e1 => subst e1; cases g1; subst hu; cases ht; rfl
      · next e1 => subst e1; cases g1; subst hu; cases ht; rfl
      · cases g1
    subst hty
    refine ⟨cell, g2, g3, g4, ?_, ?_⟩
    · rcases g5 with ⟨n', g', rfl, cell', k1, k2, k3, k4, -⟩ | ⟨n', g', rfl, cell', k1, k2, k3, k4, -⟩
      · cases g2.symm.trans k1; exact k3
      · cases g2.symm.trans k1; exact k3
    · rcases g5 with ⟨n', g', rfl, cell', k1, k2, k3, k4, -⟩ | ⟨n', g', rfl, cell', k1, k2, k3, k4, -⟩
      · cases g2.symm.trans k1; exact k4
      · cases g2.symm.trans k1; exact k4
theorem z_getC (hX : zOk X own cc nL f w rt nm et) {idx a : Nat} (lk : Cond.methodLink own idx ⟨"java/lang/Object", "getClass", "()Ljava/lang/Class;"⟩ ∈ lw_all) (hf : 1 ≤ f) (hw : 22 ≤ w) (h8 : zlen st ≤ 8) {β : Type} {K : Nat → Option β} {R : β} (h : (if zckA σ (some a) 3 = true ∨ zckA σ (some a) 103 = true then zk σ 0 else none).bind K = some R) (d : decode cc pc = .ok (.invokevirtual idx, 3)) (kk : ∀ q, zk σ 0 = some q → K q = some R → zG X Q nL (pc + 3) L (zA (some q) :: st) σ) : zG X Q nL pc L (zA (some a) :: st) σ := by
  intro ls H locs hl hI
  split at h
  · next hc =>
    have hu : ∃ u v, σ.1 a = some (.inl (u, v)) ∧ u % 100 = 3 := by
      unfold zckA at hc
      simp only at hc
      split at hc
      · next u v e =>
        rcases hc with hc | hc
        · exact ⟨u, v, e, by rw [Nat.eq_of_beq_eq_true hc]⟩
        · exact ⟨u, v, e, by rw [Nat.eq_of_beq_eq_true hc]⟩
      · rcases hc with hc | hc <;> cases hc
    obtain ⟨u, v, e, hu⟩ := hu
    obtain ⟨cell, c1, c2, c3, -⟩ := zacell hX hI (t := 3) (ty := .object "java/lang/Object") rfl e hu
    obtain ⟨mi, h1, h2⟩ := hX.K.2.2.2.2.2.2.1
    rw [← hI.2.2.2.2.2.1] at h1
    have h3 : zk σ 0 = some mi := h1
    rw [h3] at h
    have h9 := zcat8 h8 (g := F0 (xm X) pc ls (st.map zv)) rfl
    refine va_getC hX.1 hX.2.1 (by rw [hX.ml]; exact hl.1.symm) (C := "[Ljava/lang/Object;") hX.ow (hX.hts _ lk) (va_Nw.use rfl (hX.Nw (zNw_of q2206 rfl))) (hX.hts _ q2205) (hX.hts _ q493) (hX.hts _ q526) h2 ⟨cell, c1, c2, c3⟩ (by rw [hX.R]; exact hf) (by rw [hX.R]; refine Nat.le_trans (Nat.add_le_add_right (?_ : _ ≤ 8) 14) hw; simpa using h9) d (kk mi h3 h ls H locs hl hI)
  · cases h
theorem z_cloneC (hX : zOk X own cc nL f w rt nm et) {H : Heap} {locs : List Loc} {ls : Array Slot} (hl : lv_has ls nL (zLv L)) (hI : zIn X σ H locs) {idx a t : Nat} {ty : FieldType} {ad : String} (ht : zTl[t]? = some ty) (had : ad = "[" ++ ty.toString) (lk : Cond.methodLink own idx ⟨ad, "clone", "()Ljava/lang/Object;"⟩ ∈ lw_all) (hsame : Cond.sameMethod ad "java/lang/Object" "clone" "()Ljava/lang/Object;" ∈ lw_all) (hsel : Cond.selects ad ⟨ad, "clone", "()Ljava/lang/Object;"⟩ ⟨"java/lang/Object", "clone", "()Ljava/lang/Object;"⟩ ∈ lw_all) (hcl : Cond.castable ad "java/lang/Cloneable" ∈ zNw) (hf : 1 ≤ f) (hw : 22 ≤ w) (h8 : zlen st ≤ 8)
    {cT : ClassId} (hT : (xt X)[t]? = some (cT, ty)) {v : vp_A} {cell : Cell} (c1 : H[a]? = some cell) (c2 : cell.vm.isStatics = false) (c4 : cell.vm ≠ .unknown) (c6 : cell.cls = cT) (hex : ({ cls := cell.cls, slots := cell.slots } : Cell) = vp_cell cT v) (hsz : cell.slots.size = v.1) (hfits : ∀ (i : Nat) (x : Value), cell.slots[i]? = some x → fits ty x = true) (hby : t = 1 → ∀ (n : Nat) (g : Nat → Int32), v = (n, .inl g) → ∀ j, fits .byte (.int (g j)) = true)
    {β : Type} {K : Nat → zS → Option β} {R : β} (h : zb2 (znew σ (.inl (t, v)) v.1) K = some R) (d : decode cc pc = .ok (.invokevirtual idx, 3)) (kk : ∀ q σ', K q σ' = some R → zG X Q nL (pc + 3) L (zA (some q) :: st) σ') : xW X H locs (zn σ - zn (x0 X)) (zz (x0 X) - zz σ) Q (F0 (xm X) pc ls ((zA (some a) :: st).map zv)) := by
  have ht6 : t < 6 := (List.getElem?_eq_some_iff.mp ht).1
  cases e2 : znew σ (.inl (t, v)) v.1 with
  | none => rw [e2] at h; cases h
  | some q9 =>
    obtain ⟨a', σ1⟩ := q9
    rw [e2] at h
    obtain ⟨hc1, hz1, rfl, rfl⟩ := znew_inv e2
    obtain ⟨r1, r2⟩ := zroom hX hI hc1 hz1
    have hnm : (xs X).vm.findClass ad = some cell.cls := by rw [had, c6]; exact (zRA hX hT).2
    obtain ⟨c0, t0', f1, f2, f3⟩ := Cond.castable_spec (va_Nw.use (A := xa X) rfl (hX.Nw hcl))
    cases hnm.symm.trans f1
    obtain ⟨-, kS, hkS, compS, hkindS⟩ := (zRA hX hT).1 0 (fun _ => .null)
    have h9 := zcat8 h8 (g := F0 (xm X) pc ls (st.map zv)) rfl
    intro T hT2 S
    obtain ⟨-, kA, hkA, comp, hkind⟩ := State.isArrayOf_alike S.warmed.alike ((zRA hX hT).1 0 (fun _ => .null))
    obtain ⟨vm', S', go⟩ := S.cloneArray hX.1 hX.ow (hX.hts _ lk) (hX.hts _ hsame) (hX.hts _ q738) (hX.hts _ q739) (hX.hts _ hsel) (a := a) (cell := cell) (by rw [hT2]; exact c1) (fun k hk => by rw [hk] at c2; cases c2) c4 hnm f2 f3
      (fun i x hx => by
        have hk' : T.vm.classes[cell.cls]? = some kA := by rw [c6]; exact hkA
        simpa [State.fitsSlot, State.slotType?, hk', hkind] using hfits i x hx)
      (g := F0 (xm X) pc ls ((zA (some a) :: st).map zv)) rfl (by rw [hX.ml]; exact hl.1) (rest := st.map zv) rfl (by rw [hX.2.1]; exact d) (by rw [hX.R]; exact hf) (by rw [hX.R]; exact Nat.le_trans (Nat.add_le_add_right h9 14) hw) r1 (by rw [hsz]; exact r2) (hloader := by rw [c6]; exact Vm.clonesLoader_of_array hkS hkindS)
    rw [hex, hsz] at S'
    generalize hH1 : H.push (vp_cell cT v) = H1
    have z1 : H1.size = H.size + 1 := by rw [← hH1, Array.size_push]
    have e1 : H1[H.size]? = some (vp_cell cT v) := by rw [← hH1, Array.getElem?_push_size]
    have o1 : ∀ q : Nat, q < H.size → H1[q]? = H[q]? := fun q hq => by rw [← hH1, Array.getElem?_push, if_neg (Nat.ne_of_lt hq)]
    have hsz2 : (vp_cell cT v).slots.size = v.1 := by rw [← hex]; exact hsz
    have k9 := kk _ _ h
    rw [← hI.2.1] at k9
    have k10 := zIn_new2 hX (ls := ls) (L' := L) (st' := zA (some H.size) :: st) (pc' := pc + 3) hI hc1 hz1 e1 hsz2 z1 o1 (o := .inl (t, v)) (Or.inl ⟨by omega, _, hT, e1, hby⟩) hl (Q := Q) (by rw [← hI.2.1]; exact k9)
    obtain ⟨t2, b1, b2⟩ := k10 ((T.setVm vm').pushCell (vp_cell cT v)) (by rw [← hH1, ← hT2]; rfl) S'
    refine ⟨t2, go t2 ?_, b2⟩
    rw [hex, hT2]
    exact b1
theorem z_cloneB (hX : zOk X own cc nL f w rt nm et) {idx a : Nat} (lk : Cond.methodLink own idx ⟨"[B", "clone", "()Ljava/lang/Object;"⟩ ∈ lw_all) (hf : 1 ≤ f) (hw : 22 ≤ w) (h8 : zlen st ≤ 8)
    {β : Type} {K : Nat → zS → Option β} {R : β} (h : zb2 (zcloB σ a) K = some R) (d : decode cc pc = .ok (.invokevirtual idx, 3)) (kk : ∀ q σ', K q σ' = some R → zG X Q nL (pc + 3) L (zA (some q) :: st) σ') : zG X Q nL pc L (zA (some a) :: st) σ := by
  intro ls H locs hl hI
  unfold zcloB at h
  split at h
  · next u n g e =>
    split at h
    · next hu =>
      subst hu
      obtain ⟨q, g1, g2, g3⟩ := zreg hI e (by decide)
      have hq := zty hX g1 (ty := .byte) rfl
      rw [hq] at g1
      refine z_cloneC hX hl hI (t := 1) (ty := .byte) (ad := "[B") rfl rfl lk q737 q740 (zNw_of q741 rfl) hf hw h8 g1 (v := (n, .inl g)) g2 rfl (fun h => by cases h) rfl rfl (arrV_size _ _ _) (fun i x hx => ?_) g3 h d kk
      by_cases hi : i < n
      · rw [show (vp_cell q.1 (n, .inl g)).slots[i]? = some (.int (g i)) from arrV_read _ _ hi] at hx
        cases hx
        exact g3 rfl n g rfl i
      · rw [Array.getElem?_eq_none (by rw [show (vp_cell q.1 (n, .inl g)).slots.size = n from arrV_size _ _ _]; omega)] at hx
        cases hx
    · cases h
  · cases h
theorem z_cloneE (hX : zOk X own cc nL f w rt nm et) {idx a t : Nat} {E ad : String} (ht : zTl[t]? = some (.object E)) (ht4 : 4 ≤ t) (had : ad = "[" ++ (FieldType.object E).toString) (lk : Cond.methodLink own idx ⟨ad, "clone", "()Ljava/lang/Object;"⟩ ∈ lw_all) (hsame : Cond.sameMethod ad "java/lang/Object" "clone" "()Ljava/lang/Object;" ∈ lw_all) (hsel : Cond.selects ad ⟨ad, "clone", "()Ljava/lang/Object;"⟩ ⟨"java/lang/Object", "clone", "()Ljava/lang/Object;"⟩ ∈ lw_all) (hcl : Cond.castable ad "java/lang/Cloneable" ∈ zNw) (hf : 1 ≤ f) (hw : 22 ≤ w) (h8 : zlen st ≤ 8)
    {β : Type} {K : Nat → zS → Option β} {R : β} (h : zb2 (zcloE σ a t) K = some R) (d : decode cc pc = .ok (.invokevirtual idx, 3)) (kk : ∀ q σ', K q σ' = some R → zG X Q nL (pc + 3) L (zA (some q) :: st) σ') : zG X Q nL pc L (zA (some a) :: st) σ := by
  intro ls H locs hl hI
  have ht6 : t < 6 := (List.getElem?_eq_some_iff.mp ht).1
  unfold zcloE at h
  split at h
  · next u n g e =>
    split at h
    · next hu =>
      subst hu
      obtain ⟨cell, c1, c2, c3, c4, c5⟩ := zacell hX hI ht e (by omega)
      obtain ⟨cT, hT⟩ := zty_ex hX ht
      have hcA : cell.cls = cT := by
        have := (zRA hX hT).2
        rw [c3] at this
        exact Option.some.inj this
      rcases hI.1 a _ e with ⟨hu9, -⟩ | ⟨hu9, ty', g1, -, g3, g5⟩
      · omega
      · obtain ⟨cell', k1, k2⟩ := g3 (by omega)
        cases c1.symm.trans k1
        rcases g5 with ⟨n', g', ev, -⟩ | ⟨n', g', ev, cell', k1, -, -, -, -, k6, -⟩
        · cases ev
        · cases ev
          cases c1.symm.trans k1
          have hsl : cell.slots = Array.ofFn (n := n) fun j => va_rf (g j.val) := by
            apply Array.ext
            · simpa using k2
            · intro i h1 h2
              have h3 := k6 i (by rw [← show cell.slots.size = n from k2]; exact h1)
              rw [Array.getElem?_eq_getElem h1] at h3
              rw [Option.some.inj h3]
              simp
          refine z_cloneC hX hl hI ht had lk hsame hsel hcl hf hw h8 hT (v := (n, .inr (.inr (.inr (.inr g))))) c1 c2 c4 hcA (by rw [hcA, hsl]; rfl) k2 (fun i x hx => ?_) (fun h => by omega) h d kk
          by_cases hi : i < n
          · rw [k6 i hi] at hx
            cases hx
            show fits (.object E) (va_rf (g i)) = true
            cases g i <;> rfl
          · rw [Array.getElem?_eq_none (by rw [show cell.slots.size = n from k2]; omega)] at hx
            cases hx
    · cases h
  · cases h
theorem znn (z : Int32) (hz : ¬ z < 0) : z.toInt = (z.toNatClampNeg : Int) := by
  have hz0 : (0 : Int) ≤ z.toInt := by
    have := Int32.not_lt.mp hz
    simpa using Int32.le_iff_toInt_le.mp this
  show z.toInt = ((z.toInt.toNat : Nat) : Int)
  omega
/-- the end of an arraycopy -/
theorem z_cpyEnd (hX : zOk X own cc nL f w rt nm et) {H : Heap} {locs L2 : List Loc} {ls : Array Slot} (hl : lv_has ls nL (zLv L)) (hI : zIn X σ H locs) {a : Nat} {o : zOb} {cell cell1 : Cell} {T : State} {vm' : Vm} (hT2 : T.heap = H) (c1 : H[a]? = some cell) (he : cell1.slots.size = cell.slots.size) (hat : ∀ H1 : Heap, H1[a]? = some cell1 → zat (xs X) (xD X) (xt X) (zbs (x0 X)) a o H1) (hb : zbs σ ≤ a) (hL2 : ∀ q ∈ L2, q.base = a)
    (S' : Stand (xp X) (xl X) (xe X) (xR X) (xs X) (xm X) (xa X) (xb X) (xme X) (xc X) ((T.setVm vm').setCell a cell1) (locs ++ L2) (zn σ - zn (x0 X)) (zz (x0 X) - zz σ)) {pc' : Nat} {st' : List zV} (kk : zG X Q nL pc' L st' (zset σ a o)) : ∃ t, Steps (xp X).tables (xe X) (xb X) (((T.setVm vm').setCell a cell1).setTop (F0 (xm X) pc' ls (st'.map zv))) t ∧ Q t := by
  have hheap : ((T.setVm vm').setCell a cell1).heap = H.setIfInBounds a cell1 := by rw [← hT2]; rfl
  have hla : a < H.size := (Array.getElem?_eq_some_iff.mp c1).1
  have e1 : (H.setIfInBounds a cell1)[a]? = some cell1 := by simp [Array.getElem?_setIfInBounds, hla]
  have oq : ∀ q : Nat, q ≠ a → (H.setIfInBounds a cell1)[q]? = H[q]? := fun q hq => by simp [Array.getElem?_setIfInBounds, Ne.symm hq]
  obtain ⟨i1, i2, i3, ⟨l, i4, i5⟩, i6, i7, i8⟩ := hI
  have hI' : zIn X (zset σ a o) (H.setIfInBounds a cell1) (locs ++ L2) :=
    ⟨zR_set i1 (hat _ e1) oq, (Array.size_setIfInBounds ..).trans i2, i3, ⟨l, (zsz_set (Array.size_setIfInBounds ..) c1 e1 he oq).trans i4, i5⟩, ⟨by rw [Array.size_setIfInBounds]; exact i6.1, fun q h1 h2 => by
      rw [oq q (fun e => h2 (by rw [e]; show zbs (x0 X) ≤ a; rw [← i8]; exact hb))]
      exact i6.2.1 q h1 h2, fun q hq => by
      rcases List.mem_append.mp hq with h | h
      · exact i6.2.2 q h
      · rw [hL2 q h]; show zbs (x0 X) ≤ a; rw [← i8]; exact hb⟩, i7, i8⟩
  exact kk ls _ _ hl hI' _ hheap S'
theorem z_cpy (hX : zOk X own cc nL f w rt nm et) (hto : zToO) {idx : Nat} (lk : Cond.methodLink own idx arraycopyName ∈ lw_all) (hf : 1 ≤ f) (hw : 40 ≤ w) (h8 : zlen st ≤ 8) {a0 a : Nat} {sp dp n : Int32} {β : Type} {K : zS → Option β} {R : β} (h : (zcpy σ a0 sp a dp n).bind K = some R) (d : decode cc pc = .ok (.invokestatic idx, 3)) (kk : ∀ σ', K σ' = some R → zG X Q nL (pc + 3) L st σ') : zG X Q nL pc L (zI n :: zI dp :: zA (some a) :: zI sp :: zA (some a0) :: st) σ := by
  intro ls H locs hl hI
  have h9 := zcat8 h8 (g := F0 (xm X) pc ls (st.map zv)) rfl
  have hw9 : 2 * (F0 (xm X) pc ls ((zI n :: zI dp :: zA (some a) :: zI sp :: zA (some a0) :: st).map zv)).monitorRoom + ((st.map zv).map fun v => v.category).sum + (nativeFrameWords "java/lang/System" "arraycopy" 5 + 11) ≤ (xR X).locals := by
    rw [hX.R]
    have e5 : nativeFrameWords "java/lang/System" "arraycopy" 5 ≤ 20 := by decide
    have e6 : (F0 (xm X) pc ls ((zI n :: zI dp :: zA (some a) :: zI sp :: zA (some a0) :: st).map zv)).monitorRoom = 0 := rfl
    have e7 : (F0 (xm X) pc ls (st.map zv)).monitorRoom = 0 := rfl
    rw [e7] at h9
    rw [e6]
    show _ ≤ w
    omega
  unfold zcpy at h
  split at h
  · next u0 n0 g0 u1 n1 g1 k0 k1 =>
    split at h
    · next hc =>
      obtain ⟨rfl, hu, h1, h2, h3, h4, h5, hb⟩ := hc
      obtain ⟨q0, p1, p2, p3⟩ := zreg hI k0 (by omega)
      obtain ⟨q1, r1, r2, r3⟩ := zreg hI k1 (by omega)
      cases p1.symm.trans r1
      have hty : ∃ ty, zTl[u0]? = some ty ∧ refKind ty = false ∧ ∀ j, fits ty (.int (g0 j)) = true := by
        have : u0 = 0 ∨ u0 = 1 := by omega
        rcases this with rfl | rfl
        · exact ⟨.int, rfl, rfl, fun j => rfl⟩
        · exact ⟨.byte, rfl, rfl, fun j => p3 rfl _ _ rfl j⟩
      obtain ⟨ty, hT, hrk, hft⟩ := hty
      have hq := zty hX p1 hT
      have hA := (hX.K.2.1.2 u0 q0 p1).1
      rw [hq] at hA
      obtain ⟨-, c0, hc0, cm0, hcc0⟩ := hA n0 (fun j => .int (g0 j))
      obtain ⟨-, c1, hc1, cm1, hcc1⟩ := hA n1 (fun j => .int (g1 j))
      intro T hT2 S
      obtain ⟨vm', S', go⟩ := S.arraycopy hX.1 hX.ow (hX.hts _ lk) (hX.hts _ q396) (hX.hts _ q395) (hX.hts _ q85) (src := a0) (dst := a) (cs := vp_cell q0.1 (n0, .inl g0)) (cd := vp_cell q0.1 (n1, .inl g1)) (srcPos := sp) (destPos := dp) (n := n) (by rw [hT2]; exact p2) (by rw [hT2]; exact r2)
        (fun _ h => by cases h) (fun _ h => by cases h) (fun h => by cases h) (fun h => by cases h) hc0 hc1 hcc0 hcc1 (by simp [hrk]) h1 h2 h3
        (by rw [znn sp h1, znn n h3]; show ¬ _ > ((arrV q0.1 n0 (fun j => .int (g0 j))).slots.size : Int); rw [arrV_size]; omega)
        (by rw [znn dp h2, znn n h3]; show ¬ _ > ((arrV q0.1 n1 (fun j => .int (g1 j))).slots.size : Int); rw [arrV_size]; omega)
        (fun vm₁ _ i hi => by
          have e : (vp_cell q0.1 (n0, .inl g0)).slots.getD (sp.toNatClampNeg + i) .null = .int (g0 (sp.toNatClampNeg + i)) := by
            show (arrV q0.1 n0 (fun j => .int (g0 j))).slots.getD _ _ = _
            rw [Array.getD_eq_getD_getElem?, arrV_read _ _ (by omega)]
            rfl
          refine ⟨?_, ?_⟩
          · rw [e]; exact hft _
          · rw [e]; exact trivial)
        (g := F0 (xm X) pc ls ((zI n :: zI dp :: zA (some a) :: zI sp :: zA (some a0) :: st).map zv)) rfl (by rw [hX.ml]; exact hl.1) (rest := st.map zv) rfl (by rw [hX.2.1]; exact d) (by rw [hX.R]; exact hf) hw9
      have e1 : copied (vp_cell q0.1 (n0, .inl g0)) (vp_cell q0.1 (n1, .inl g1)) sp dp n = vp_cell q0.1 (n1, .inl (va_cpy g0 g1 sp.toNatClampNeg dp.toNatClampNeg n.toNatClampNeg)) := va_copied (fun z => .int z) q0.1 q0.1 g0 g1 h4
      rw [e1] at S' go
      have hL9 : ∀ q ∈ (((vp_cell q0.1 (n0, .inl g0)).stretch sp.toNatClampNeg n.toNatClampNeg).zipIdx.map fun q => (⟨a, dp.toNatClampNeg + q.2⟩ : Loc)), q.base = a := fun q hq => by obtain ⟨z, -, hz⟩ := List.mem_map.mp hq; rw [← hz]
      obtain ⟨t, a1, b1⟩ := z_cpyEnd hX hl hI (cell1 := vp_cell q0.1 (n1, .inl (va_cpy g0 g1 sp.toNatClampNeg dp.toNatClampNeg n.toNatClampNeg))) (o := .inl (u0, n1, .inl (va_cpy g0 g1 sp.toNatClampNeg dp.toNatClampNeg n.toNatClampNeg))) hT2 r2 ((arrV_size _ _ _).trans (arrV_size _ _ _).symm) (fun H1 hH1 => Or.inl ⟨by omega, q0, p1, hH1, fun t1 n' g' ev j => by
        cases ev
        unfold va_cpy
        split
        · exact p3 t1 _ _ rfl _
        · exact r3 t1 _ _ rfl _⟩) hb hL9 S' (pc' := pc + 3) (st' := st) (kk _ h)
      exact ⟨t, go t a1, b1⟩
    · cases h
  · next u0 n0 g0 u1 n1 g1 k0 k1 =>
    split at h
    · next hc =>
      obtain ⟨hu0, rfl, h1, h2, h3, h4, h5, hb, hall⟩ := hc
      obtain ⟨cell0, x1, x2, x3, x4, x5⟩ := zacell hX hI (t := 3) (ty := .object "java/lang/Object") rfl k0 hu0
      obtain ⟨q1, r1, r2, r3⟩ := zreg hI k1 (by decide)
      have hq := zty hX r1 (ty := .object "java/lang/Object") rfl
      have hA := hX.K.2.1.2 3 q1 r1
      rw [hq] at hA r1
      have hcl0 : cell0.cls = q1.1 := by
        have := (zRA hX r1).2
        rw [x3] at this
        exact Option.some.inj this
      have hread : ∀ j, j < n0 → cell0.slots[j]? = some (va_rf (g0 j)) := by
        intro j hj
        rcases hI.1 a0 _ k0 with ⟨hu9, q, g1', g2, -⟩ | ⟨hu9, ty', -, -, -, g5⟩
        · cases x1.symm.trans g2
          exact arrV_read _ _ hj
        · rcases g5 with ⟨n', g', ev, -⟩ | ⟨n', g', ev, cell', y1, -, -, -, -, y6, -⟩
          · cases ev
          · cases ev
            cases x1.symm.trans y1
            exact y6 j hj
      obtain ⟨-, c1, hc1, cm1, hcc1⟩ := hA.1 n1 (fun j => va_rf (g1 j))
      intro T hT2 S
      obtain ⟨vm', S', go⟩ := S.arraycopy hX.1 hX.ow (hX.hts _ lk) (hX.hts _ q396) (hX.hts _ q395) (hX.hts _ q85) (src := a0) (dst := a) (cs := cell0) (cd := vp_cell q1.1 (n1, .inr (.inr (.inr (.inr g1))))) (srcPos := sp) (destPos := dp) (n := n) (by rw [hT2]; exact x1) (by rw [hT2]; exact r2)
        (fun k hk => by rw [hk] at x2; cases x2) (fun _ h => by cases h) x4 (fun h => by cases h) (by rw [hcl0]; exact hc1) hc1 hcc1 hcc1 rfl h1 h2 h3
        (by rw [znn sp h1, znn n h3]; omega)
        (by rw [znn dp h2, znn n h3]; show ¬ _ > ((arrV q1.1 n1 (fun j => va_rf (g1 j))).slots.size : Int); rw [arrV_size]; omega)
        (fun vm₁ hal i hi => by
          have e : cell0.slots.getD (sp.toNatClampNeg + i) .null = va_rf (g0 (sp.toNatClampNeg + i)) := by
            rw [Array.getD_eq_getD_getElem?, hread _ (by omega)]
            rfl
          rw [e]
          have ho := List.all_eq_true.mp hall i (List.mem_range.mpr hi)
          cases hy : g0 (sp.toNatClampNeg + i) with
          | none => exact ⟨rfl, trivial⟩
          | some y =>
            rw [hy] at ho
            unfold zob at ho
            simp only at ho
            split at ho
            · next c fs hv =>
              have hc22 : c < 22 := by simpa [Nat.blt_eq] using ho
              rcases hI.1 y _ hv with ⟨hc9, rr, hr, cellV, y1, y2, y3, -⟩ | ⟨hc9, -⟩
              · obtain ⟨kA, comp, z1, z2, z3, -⟩ := hA.2
                cases hc1.symm.trans z1
                cases hcc1.symm.trans z2
                have hcls := (hX.K.2.1.1 c rr hr).2
                obtain ⟨c0', t1, f1, f2, f3⟩ := Cond.castable_spec (va_Nw.use (A := xa X) rfl (hX.Nw (hto c rr hr)))
                cases hcls.1.symm.trans f1
                cases z3.symm.trans f2
                obtain ⟨kC, hkC, -⟩ := hcls.2
                obtain ⟨kE, hkE, -⟩ := Vm.findClass_spec z3
                obtain ⟨kC', hkC', -⟩ := hal.2.2 _ _ hkC
                obtain ⟨kE', hkE', -⟩ := hal.2.2 _ _ hkE
                refine ⟨rfl, cellV, (show T.heap[y]? = some cellV by rw [hT2]; exact y1), (fun q h => by rw [y3] at h; cases h), ⟨kC', by rw [y2]; exact hkC'⟩, ⟨kE', hkE'⟩, ?_⟩
                show vm₁.assignable _ _ = true
                rw [hal.assignable, y2]
                exact f3
              · omega
            · cases ho)
        (g := F0 (xm X) pc ls ((zI n :: zI dp :: zA (some a) :: zI sp :: zA (some a0) :: st).map zv)) rfl (by rw [hX.ml]; exact hl.1) (rest := st.map zv) rfl (by rw [hX.2.1]; exact d) (by rw [hX.R]; exact hf) hw9
      have e0 : ∀ k, k < n.toNatClampNeg → cell0.slots[sp.toNatClampNeg + k]? = some (va_rf (g0 (sp.toNatClampNeg + k))) := fun k hk => hread _ (by omega)
      have e1 : copied cell0 (vp_cell q1.1 (n1, .inr (.inr (.inr (.inr g1))))) sp dp n = vp_cell q1.1 (n1, .inr (.inr (.inr (.inr (va_cpy g0 g1 sp.toNatClampNeg dp.toNatClampNeg n.toNatClampNeg))))) := by
        rw [vp_cell_q, vp_cell_q, ← va_copied (fun z => va_rf z) q1.1 q1.1 g0 g1 h4]
        show Cell.storeRun _ _ (cell0.stretch _ _) = Cell.storeRun _ _ (Cell.stretch _ _ _)
        have e2 : cell0.stretch sp.toNatClampNeg n.toNatClampNeg = (arrV q1.1 n0 (fun j => va_rf (g0 j))).stretch sp.toNatClampNeg n.toNatClampNeg := by
          unfold Cell.stretch
          apply List.map_congr_left
          intro k hk
          have hk2 := List.mem_range.mp hk
          rw [Array.getD_eq_getD_getElem?, Array.getD_eq_getD_getElem?, e0 k hk2, arrV_read _ _ (by omega)]
        rw [e2]
      rw [e1] at S' go
      have hL9 : ∀ q ∈ ((cell0.stretch sp.toNatClampNeg n.toNatClampNeg).zipIdx.map fun q => (⟨a, dp.toNatClampNeg + q.2⟩ : Loc)), q.base = a := fun q hq => by obtain ⟨z, -, hz⟩ := List.mem_map.mp hq; rw [← hz]
      obtain ⟨t, a1, b1⟩ := z_cpyEnd hX hl hI (cell1 := vp_cell q1.1 (n1, .inr (.inr (.inr (.inr (va_cpy g0 g1 sp.toNatClampNeg dp.toNatClampNeg n.toNatClampNeg)))))) (o := .inl (3, n1, .inr (.inr (.inr (.inr (va_cpy g0 g1 sp.toNatClampNeg dp.toNatClampNeg n.toNatClampNeg)))))) hT2 r2 ((arrV_size _ _ _).trans (arrV_size _ _ _).symm) (fun H1 hH1 => Or.inl ⟨by decide, _, r1, hH1, fun t1 => by cases t1⟩) hb hL9 S' (pc' := pc + 3) (st' := st) (kk _ h)
      exact ⟨t, go t a1, b1⟩
    · cases h
  · cases h
end ZT
