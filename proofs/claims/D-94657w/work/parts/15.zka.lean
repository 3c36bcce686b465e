section ZX
variable {X : zX} {own : String} {cc : ByteArray} {nL f w : Nat} {rt : Option FieldType} {nm : String} {et : List ExceptionTableEntry} {Q : State → Prop} {pc : Nat} {L : List (Nat × zV)} {st : List zV} {σ σ' : zS}
theorem z_athrow (hX : zOk X own cc nL f w rt nm et) {a ci k : Nat} {T : u_T} {N : Nat} (hc : vwCl[ci]? = some (zEx k, T, N)) {β : Type} {A : Option β} {R : β} (h : (if zcl σ a = ci then A else none) = some R) (d : decode cc pc = .ok (.athrow, 1)) (kx : A = some R → zGX X Q nL pc L st σ k) : zG X Q nL pc L (zA (some a) :: st) σ := by
  intro ls H locs hl hI
  split at h
  · next hcl =>
    have hci := vwCl_lt hc
    have e : ∃ c fs, σ.1 a = some (.inr (c, fs)) ∧ c % 100 = ci := by
      unfold zcl at hcl
      split at hcl
      · next c fs e => exact ⟨c, fs, e, hcl⟩
      · omega
    obtain ⟨c, fs, e, hm⟩ := e
    rcases hI.1 a _ e with ⟨hc9, r, hr, cell, y1, y2, y3, -⟩ | ⟨hc9, r, hk, -⟩
    · have e9 : c = ci := by rw [← hm]; exact (Nat.mod_eq_of_lt hc9).symm
      subst e9
      cases hr.symm.trans hc
      exact vx_athrow hX.1 hX.2.1 d (kx h ls H locs a cell hl hI y1 y3 (by rw [y2]; exact (hX.K.2.1.1 c _ hr).2.1))
    · exfalso
      have e1 := zCl_con hk
      rw [hm, zCl_reg hc] at e1
      cases e1
      unfold zKc at hk
      have hz : zEx k ≠ RJ10 ∧ zEx k ≠ "StepDebts$Tag" ∧ zEx k ≠ "StepDebts$Fact" := by
        unfold zEx
        split <;> decide
      repeat' split at hk
      · exact hz.1 (congrArg (·.1) (Option.some.inj hk)).symm
      · exact hz.2.1 (congrArg (·.1) (Option.some.inj hk)).symm
      · exact hz.2.2 (congrArg (·.1) (Option.some.inj hk)).symm
      · cases hk
  · cases h
/-- 'throw new E()' of a class of the JDK's -/
theorem z_throw0 (hX : zOk X own cc nL f w rt nm et) {k ik ic : Nat} {names : List String} (hcls : Bundle.fit (zEx k) = true) (hnames : ∀ n ∈ names, Bundle.fit n = true) (lk : Cond.classLink own ik (zEx k) ∈ lw_all) (hini : Cond.initialized (zEx k) ∈ lw_all)
    (hatg : ∀ w ∈ (vx_at0 own ic (zEx k) names).filter goodWord, w ∈ lw_all) (hatn : ∀ w ∈ (vx_at0 own ic (zEx k) names).filter (fun w => !goodWord w), w ∈ zNw)
    (hgood : ∀ w ∈ Cond.classLink own ik (zEx k) :: Cond.initialized (zEx k) :: vx_at0 own ic (zEx k) names, vx_ot w = true)
    (hf : names.length + 3 < f) (hw : 8 + (13 * (names.length + 1) + 42) ≤ w) (h8 : zlen st ≤ 8) (hout : ∀ x ∈ et, covers x (pc + 7) = false)
    (d0 : decode cc pc = .ok (.new ik, 3)) (d3 : decode cc (pc + 3) = .ok (.dup, 1)) (d4 : decode cc (pc + 4) = .ok (.invokespecial ic, 3)) (d7 : decode cc (pc + 7) = .ok (.athrow, 1)) (h : zth σ = some σ') : zG X (zQ X (.inr k) σ') nL pc L st σ := by
  intro ls H locs hl hI T hT S
  unfold zth at h
  split at h
  · next hcz =>
    cases h
    obtain ⟨r1, r2⟩ := zroom hX hI (k := 6) hcz.1 hcz.2
    have h9 := zcat8 h8 (g := F0 (xm X) pc ls (st.map zv)) rfl
    have e8 : (F0 (xm X) pc ls (st.map zv)).monitorRoom = 0 := rfl
    rw [e8] at h9
    have hXR := hX.R
    have htr : (xe X).platform.stackTraces = false := (show (xe X).platform.stackTraces = (xl X).stackTraces by rw [S.admits.platform]).trans hX.tr
    have Y := vx_rebase S (R' := { frames := (xR X).frames, locals := (xR X).locals, cells := 1, slots := 6 }) (Nat.le_refl _) (Nat.le_refl _) r1 r2
    obtain ⟨s', hA⟩ : ∃ z, z = (T.setVm (xs X).vm).setFrames (.invoking (xm X) (xa X) :: (xb X)) := ⟨_, rfl⟩
    rw [← hA] at Y
    have hvm : s'.vm = (xs X).vm := by rw [hA]; rfl
    have hhp : s'.heap = H := by rw [hA]; exact hT
    have hW0 : (xs X).WarmedH s'.vm := by rw [hvm]; exact State.WarmedH.refl _
    have hat : ∀ w ∈ vx_at0 own ic (zEx k) names, w.before (xa X) (xs X) = true := by
      intro w hw9
      cases hg : goodWord w with
      | true => exact hX.hts w (hatg w (List.mem_filter.mpr ⟨hw9, hg⟩))
      | false =>
        have h1 := hatn w (List.mem_filter.mpr ⟨hw9, by rw [hg]; rfl⟩)
        have h2 := (List.mem_filter.mp h1).2
        have h3 := hX.Nw h1
        cases w <;> first | exact va_Nw.use rfl h3 | cases h2
    have hat' : ∀ w ∈ vx_at0 own ic (zEx k) names, w.before (xa X) s' = true := fun w hw => vx_ot_at hW0 hvm.symm (hgood w (List.mem_cons_of_mem _ (List.mem_cons_of_mem _ hw))) (hat w hw)
    have hk' : (Cond.classLink own ik (zEx k)).before (xa X) s' = true := vx_ot_at hW0 hvm.symm (hgood _ List.mem_cons_self) (hX.hts _ lk)
    have hini' : (Cond.initialized (zEx k)).before (xa X) s' = true := vx_ot_at hW0 hvm.symm (hgood _ (List.mem_cons_of_mem _ List.mem_cons_self)) (hX.hts _ hini)
    have hZ := hX.K.2.2.2.2.2.2.2.2.2.2.1
    have hkeep : ∀ a : Nat, a < (xs X).heap.size → ¬ zbs (x0 X) ≤ a → H[a]? = (xs X).heap[a]? := fun a h1 h2 => hI.2.2.2.2.1.2.1 a h1 h2
    have hU' : vx_Zq Bundle.tN "UNASSIGNED_STACK" Bundle.steD (fun a => zbs (x0 X) ≤ a) s' s'.heap := by rw [hhp]; exact vx_Zq.moved hW0.alike ((hZ _ (by simp) _ (by simp) (Or.inl ⟨rfl, rfl⟩)).kept hkeep)
    have hN' : vx_Zq Bundle.tN "SUPPRESSED_SENTINEL" Bundle.listD (fun a => zbs (x0 X) ≤ a) s' s'.heap := by rw [hhp]; exact vx_Zq.moved hW0.alike ((hZ _ (by simp) _ (by simp) (Or.inr ⟨rfl, rfl⟩)).kept hkeep)
    have h : ∀ w ∈ Bundle.ownAtoms0 own ic (zEx k) names, w.before (xa X) s' = true := vx_own hat' (vx_isRefq hU'.1) (vx_isRefq hN'.1) hU'.2.word hN'.2.word
    have hown' : s'.vm.findClass own = some (xm X).cls := by rw [hvm]; exact hX.ow
    have hins : (Cond.instantiable (zEx k) 6).before (xa X) s' = true := h _ (by simp [Bundle.ownAtoms0])
    obtain ⟨vm₁, cX, kX, hfX, hkX, -, -, X₁, st1⟩ := Y.newCold hX.1 (own := own) (C := zEx k) (index := ik) (n := 6) hown' hk' hins hini'
      (g := F0 (xm X) pc ls (st.map zv)) rfl (by rw [hX.2.1]; exact d0) (Nat.le_refl _) (Nat.le_refl _)
    generalize hT1 : (T.setVm vm₁).pushCell { cls := cX, slots := kX.instanceTypes.map defaultValue, vm := .none } = T1 at X₁ st1
    have hcat : (Value.ref T.heap.size).category = 1 := rfl
    have hcellA : T1.heap[T.heap.size]? = some (freshCell cX kX) := by rw [← hT1]; exact State.heap_pushCell_size _ _
    have d3' : decode (xc X).code (pc + 3) = .ok (.dup, 1) := by rw [hX.2.1]; exact d3
    obtain ⟨U, hsteps, hrun, hend, hW, hsame, ce, hce, hO⟩ := X₁.ctorThrow0 hX.1 htr (own := own) (cls := zEx k) (names := names) (ic := ic) hown' hcls hnames h (fun x hx => nomatch hx) hfX hkX hcellA (by rw [hhp, hT]; exact Nat.le_refl _)
      (g := { method := xm X, pc := pc + 4, locals := ls, stack := .ref T.heap.size :: .ref T.heap.size :: st.map zv, locked := none }) rfl (hl.1.trans hX.ml.symm) rfl rfl (rest := st.map zv) rfl
      (by rw [hX.2.1]; exact d4) (by rw [hX.2.1]; exact d7) (by rw [hX.etb]; exact hout) (by rw [hXR]; exact hf) (by rw [hXR]; simp only [List.map_cons, List.sum_cons, hcat]; show 2 * 0 + _ + _ ≤ w; omega) hX.lk
    obtain ⟨f1, f2⟩ := vx_frame hsame
    rw [hhp] at f1 f2
    have f2' : ∀ q : Nat, q < H.size → U.heap[q]? = H[q]? := fun q hq => f2 q hq (fun z hz => nomatch hz)
    have hWs : (xs X).WarmedH U.vm := State.WarmedH.trans hW0 hW
    have hcl : (xs X).vm.findClass (zEx k) = some ce.cls := by
      have h9 := hO.cls
      rw [hvm] at h9
      exact h9
    have hsz1 : U.heap.size = H.size + 1 := by
      have h1 : U.heap.size ≤ s'.heap.size + (0 + 1) := hsame.2.2.1
      have h2 := (Array.getElem?_eq_some_iff.mp hce).1
      rw [hhp] at h1
      rw [hT] at h2
      omega
    have hce' : U.heap[H.size]? = some ce := by rw [← hT]; exact hce
    have hzs : zsz U.heap = zsz H ++ [ce.slots.size] := zsz_push hsz1 hce' f2'
    have hce6 : ce.slots.size ≤ 6 := by
      have h1 : ((U.heap.toList.drop s'.heap.size).map (·.slots.size)).sum ≤ 0 + 6 := hsame.2.2.2.2.1
      have h2 : (U.heap.toList.drop s'.heap.size).map (·.slots.size) = [ce.slots.size] := by
        have h3 : (zsz U.heap).drop s'.heap.size = [ce.slots.size] := by rw [hzs, hhp, List.drop_left' (zsz_len _)]
        rw [← h3, zsz, List.map_drop]
      rw [h2] at h1
      simpa using h1
    have hle1 : zn σ - zn (x0 X) + 1 ≤ zc (x0 X) := by rw [hXR] at r1; exact r1
    have hle2 : zz (x0 X) - zz σ + 6 ≤ zz (x0 X) := by rw [hXR] at r2; exact r2
    have hall : (xs X).sameButNew ({ U with vm := (xs X).vm } : State) locs (zc (x0 X)) (zz (x0 X)) := by
      subst hA
      obtain ⟨e1, e2⟩ := hsame
      rw [State.setFrames_setFrames] at e1
      have h2 : (T.setVm (xs X).vm).sameButNew ({ U with vm := (xs X).vm } : State) [] (0 + 1) (0 + 6) := ⟨e1, e2⟩
      have h3 := S.same.trans h2
      rw [List.append_nil] at h3
      exact h3.mono (by omega) (by omega)
    obtain ⟨i1, i2, i3, ⟨l, i4, i5⟩, i6, i7, i8⟩ := hI
    have hend9 : zEnd (xD X) (xt X) (x0 X) (σ.1, zsv σ, zbs σ, zn σ + 1, zc σ - 1, zz σ - 6) (xs X) U :=
      ⟨fun a o ho => zat_moved hWs.alike (zat_kept (i1 a o ho) (f2' a (zat_lt (i1 a o ho)))), by rw [hsz1, i2], by show zn σ + 1 + (zc σ - 1) = _; omega, ⟨l ++ [ce.slots.size], by rw [hzs, i4, List.append_assoc], by rw [List.sum_append, List.sum_singleton]; show _ + (zz σ - 6) ≤ _; omega⟩,
        ⟨Nat.le_trans i6.1 f1, fun q h1 h2 => (f2' q (Nat.lt_of_lt_of_le h1 i6.1)).trans (i6.2.1 q h1 h2)⟩, i7, i8⟩
    refine ⟨U, ?_, .threw T.heap.size, hrun, hend, Or.inr ⟨T.heap.size, rfl, zEx k, ce, locs, ⟨k, rfl, rfl, hend9⟩, hce, hO.vm, hcl, hWs, hall, i6.2.2⟩⟩
    refine st1 _ ?_
    show Steps (xp X).tables (xe X) (xb X) (T1.setTop { method := xm X, pc := pc + 3, locals := ls, stack := .ref T.heap.size :: st.map zv, locked := none }) _
    jvm_step X₁.here [X₁.here.top, hX.1, d3', Value.category]
    exact hsteps
  · cases h
/-- a handler takes it -/
theorem z_catch (hX : zOk X own cc nL f w rt nm et) {k : Nat} {nmC : String} (pre : List ExceptionTableEntry) (x : ExceptionTableEntry) (suf : List ExceptionTableEntry) (hsplit : et = pre ++ x :: suf)
    (hpass : ∀ z ∈ pre, covers z pc = false ∨ (z.catchType ≠ 0 ∧ ∃ n : String, Cond.classLink own z.catchType n ∈ lw_all ∧ (zEx k, n) ∈ zNc)) (hx : covers x pc = true) (h0 : x.catchType ≠ 0) (lk : Cond.classLink own x.catchType nmC ∈ lw_all) (hcast : Cond.castable (zEx k) nmC ∈ zNw)
    (kk : ∀ q, zG X Q nL x.handlerPc L [zA (some q)] σ) : zGX X Q nL pc L st σ k := by
  intro ls H locs q ce hl hI hce hv hcl
  exact vx_catch hX.ow pre x suf (by rw [hX.etb]; exact hsplit) (fun z hz => (hpass z hz).imp_right fun h => ⟨h.1, h.2.choose, hX.hts _ h.2.choose_spec.1, hX.K.2.2.2.2.2.2.2.2.2.2.2.1 _ h.2.choose_spec.2⟩) hx h0 (hX.hts _ lk) (va_Nw.use rfl (hX.Nw hcast)) hce hv hcl (kk q ls H locs hl hI)
/-- the entry of a body with handlers -/
theorem zM_inW {l : Launch} {D : va_G} {tys : zTy} {y : MethodName} {cc : ByteArray} {maxL : Nat} {ret : Option FieldType} {hh : List (Nat × Nat × Nat × Nat)} {f w : Nat} {vs : List zV} {σ0 : zS} {o : zO} {σ : zS} (hl : l.stackTraces = false) (hy : plainName y.cls = true) (hlen : zlen vs ≤ maxL)
    (body : ∀ (p : Program) (e : Env) (R : Room) (s : State) (m : MethodId) (args : Array Value) (below : List Frame) (meth : Method) (c : Code), zOk (p, l, e, R, s, m, args, below, meth, c, D, tys, σ0) y.cls cc maxL f w ret y.name (tableOf hh) →
      zG (p, l, e, R, s, m, args, below, meth, c, D, tys, σ0) (zQ (p, l, e, R, s, m, args, below, meth, c, D, tys, σ0) o σ) maxL 0 (zargs 0 vs) [] σ0) : zM l D tys y (wsW_ y cc maxL ret hh) f w vs σ0 o σ := by
  refine vx_ofWH (cc := cc) (maxL := maxL) (ret := ret) (ws' := lw_all) hy rfl ?_
  intro p e s m args below meth c s₁ B hml hv
  obtain ⟨rfl, hKK, hR, hsz, hB⟩ := hv
  have hts := atoms_spec (ws := wsW_ y cc maxL ret hh) B.pre
  have htab := vx_table (x := y) B (hts _ List.mem_cons_self)
  have hts : ∀ w ∈ lw_all, w.before (vs.map zv).toArray s = true := fun w h => hts w (List.mem_cons_of_mem _ h)
  have hX : zOk (p, l, e, (headSpec (wsW_ y cc maxL ret hh) { frames := f, cells := zc σ0, slots := zz σ0, locals := w }).room, s, m, (vs.map zv).toArray, below, meth, c, D, tys, σ0) y.cls cc maxL f w ret y.name (tableOf hh) :=
    ⟨B.exec, B.bytes, hml, findClass_of_methodNamed B.named, hts, B.notSynchronized, B.returns, (name_of_methodNamed B.named B.method).1, htab, hKK, hl, hsz, hB, rfl⟩
  have k := body p e _ s m _ below meth c hX
  rw [lg_entry_eq]
  have hlv := lv_entry (vs.map zv) (n := maxL) (by rw [zlen_map]; exact hlen)
  rw [← zargs_map] at hlv
  have hI : zIn (p, l, e, (headSpec (wsW_ y cc maxL ret hh) { frames := f, cells := zc σ0, slots := zz σ0, locals := w }).room, s, m, (vs.map zv).toArray, below, meth, c, D, tys, σ0) σ0 s.heap [] :=
    ⟨hR, hsz, rfl, ⟨[], by simp, by simp⟩, va_S.rf, rfl, rfl⟩
  have k2 := k _ s.heap [] hlv hI
  simp only [Nat.sub_self] at k2
  exact k2
theorem zto : zToO := by
  have h : ∀ r ∈ vwCl, Cond.castable r.1 "java/lang/Object" ∈ zNw := List.forall_mem_cons.mpr ⟨zNw_of q2174 rfl, List.forall_mem_cons.mpr ⟨zNw_of q2175 rfl, List.forall_mem_cons.mpr ⟨zNw_of q2177 rfl, List.forall_mem_cons.mpr ⟨zNw_of q2178 rfl, List.forall_mem_cons.mpr ⟨zNw_of q2179 rfl, List.forall_mem_cons.mpr ⟨zNw_of q2180 rfl, List.forall_mem_cons.mpr ⟨zNw_of q2181 rfl, List.forall_mem_cons.mpr ⟨zNw_of q2182 rfl, List.forall_mem_cons.mpr ⟨zNw_of q2183 rfl, List.forall_mem_cons.mpr ⟨zNw_of q2187 rfl, List.forall_mem_cons.mpr ⟨zNw_of q2189 rfl, List.forall_mem_cons.mpr ⟨zNw_of q2191 rfl, List.forall_mem_cons.mpr ⟨zNw_of q2192 rfl, List.forall_mem_cons.mpr ⟨zNw_of q2193 rfl, List.forall_mem_cons.mpr ⟨zNw_of q2194 rfl, List.forall_mem_cons.mpr ⟨zNw_of q2195 rfl, List.forall_mem_cons.mpr ⟨zNw_of q2196 rfl, List.forall_mem_cons.mpr ⟨zNw_of q2197 rfl, List.forall_mem_cons.mpr ⟨zNw_of q2198 rfl, List.forall_mem_cons.mpr ⟨zNw_of q2176 rfl, List.forall_mem_cons.mpr ⟨zNw_of q2184 rfl, List.forall_mem_cons.mpr ⟨zNw_of q2185 rfl, fun r hr => absurd hr List.not_mem_nil⟩⟩⟩⟩⟩⟩⟩⟩⟩⟩⟩⟩⟩⟩⟩⟩⟩⟩⟩⟩⟩⟩
  intro c r hr
  exact h r (List.mem_of_getElem? hr)
end ZX
