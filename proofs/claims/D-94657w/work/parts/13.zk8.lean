/-! rows of ends, calls, throws -/
section ZC
variable {X : zX} {own : String} {cc : ByteArray} {nL f w : Nat} {rt : Option FieldType} {nm : String} {et : List ExceptionTableEntry} {Q : State → Prop} {pc : Nat} {L : List (Nat × zV)} {st : List zV} {σ σ' : zS}
theorem zEnd_of {H : Heap} {locs : List Loc} (hI : zIn X σ H locs) {t : State} (ht : t.heap = H) (hW : (xs X).vm.Alike t.vm) : zEnd (xD X) (xt X) (x0 X) σ (xs X) t := by
  obtain ⟨i1, i2, i3, ⟨l, i4, i5⟩, i6, i7, i8⟩ := hI
  exact ⟨by rw [ht]; exact zR_moved hW i1, by rw [ht]; exact i2, i3, ⟨l, by rw [ht]; exact i4, i5⟩, va_S.F i6 ht, i7, i8⟩
theorem zle (hX : zOk X own cc nL f w rt nm et) {H : Heap} {locs : List Loc} (hI : zIn X σ H locs) : zn σ - zn (x0 X) ≤ zc (x0 X) ∧ zz (x0 X) - zz σ ≤ zz (x0 X) := by
  have e4 := hI.2.2.1
  exact ⟨by omega, by omega⟩
theorem z_iret (hX : zOk X own cc nL f w (some .int) nm et) {r : Int32} (d : decode cc pc = .ok (.ireturn, 1)) : zG X (zQ X (.inl (some (zI r))) σ) nL pc L [zI r] σ := by
  intro ls H locs hl hI
  refine W.widen (k := zc (x0 X)) (n := zz (x0 X)) (zle hX hI).1 (zle hX hI).2 (vx_ret ?_)
  exact W.iret (v := r) hX.1 hX.2.1 hX.rty (fun t ht hW => ⟨_, rfl, rfl, zEnd_of hI ht hW.alike⟩) hI.2.2.2.2.1.2.2 d hX.lk
theorem z_zretT {ty : FieldType} (hX : zOk X own cc nL f w (some ty) nm et) {r : Int32} (hn : narrow ty (.int r) = .int r) (d : decode cc pc = .ok (.ireturn, 1)) : zG X (zQ X (.inl (some (zI r))) σ) nL pc L [zI r] σ := by
  intro ls H locs hl hI
  refine W.widen (k := zc (x0 X)) (n := zz (x0 X)) (zle hX hI).1 (zle hX hI).2 (vx_ret ?_)
  exact W.zret (v := r) hX.1 hX.2.1 hX.rty hn (fun t ht hW => ⟨_, rfl, rfl, zEnd_of hI ht hW.alike⟩) hI.2.2.2.2.1.2.2 d hX.lk
theorem zbo_inv {β : Type} {x : Int32} {K : Option β} {R : β} (h : zbo x K = some R) : (narrow .boolean (.int x) = .int x) ∧ K = some R := by
  unfold zbo at h
  by_cases hx : x = 0 ∨ x = 1
  · rw [if_pos hx] at h
    exact ⟨by rcases hx with rfl | rfl <;> decide, h⟩
  · rw [if_neg hx] at h; cases h
def zby {β : Type} (x : Int32) (K : Option β) : Option β := if x.toInt8.toInt32 = x then K else none
theorem zby_inv {β : Type} {x : Int32} {K : Option β} {R : β} (h : zby x K = some R) : (narrow .byte (.int x) = .int x) ∧ K = some R := by
  unfold zby at h
  by_cases hx : x.toInt8.toInt32 = x
  · rw [if_pos hx] at h
    exact ⟨by rw [← hx]; exact pk_nb x, h⟩
  · rw [if_neg hx] at h; cases h
def zch {β : Type} (x : Int32) (K : Option β) : Option β := if (x.toUInt32 % 65536).toInt32 = x then K else none
theorem zch_inv {β : Type} {x : Int32} {K : Option β} {R : β} (h : zch x K = some R) : (narrow .char (.int x) = .int x) ∧ K = some R := by
  unfold zch at h
  by_cases hx : (x.toUInt32 % 65536).toInt32 = x
  · rw [if_pos hx] at h
    exact ⟨by rw [← hx]; exact pk_nc x, h⟩
  · rw [if_neg hx] at h; cases h
theorem z_lret (hX : zOk X own cc nL f w (some .long) nm et) {r : Int64} (d : decode cc pc = .ok (.lreturn, 1)) : zG X (zQ X (.inl (some (zJ r))) σ) nL pc L [zJ r] σ := by
  intro ls H locs hl hI
  refine W.widen (k := zc (x0 X)) (n := zz (x0 X)) (zle hX hI).1 (zle hX hI).2 (vx_ret ?_)
  exact W.lret (v := r) hX.1 hX.2.1 hX.rty (fun t ht hW => ⟨_, rfl, rfl, zEnd_of hI ht hW.alike⟩) hI.2.2.2.2.1.2.2 d hX.lk
theorem z_aret {ty : FieldType} (hX : zOk X own cc nL f w (some ty) nm et) (hty : (∃ n, ty = .object n) ∨ ∃ t, ty = .array t) {r : Option Nat} (d : decode cc pc = .ok (.areturn, 1)) : zG X (zQ X (.inl (some (zA r))) σ) nL pc L [zA r] σ := by
  intro ls H locs hl hI
  refine W.widen (k := zc (x0 X)) (n := zz (x0 X)) (zle hX hI).1 (zle hX hI).2 (vx_ret ?_)
  exact W.aret (v := va_rf r) hX.1 hX.2.1 hX.rty hty (by cases r; exact Or.inl rfl; exact Or.inr ⟨_, rfl⟩) (fun t ht hW => ⟨_, rfl, rfl, zEnd_of hI ht hW.alike⟩) hI.2.2.2.2.1.2.2 d hX.lk
theorem z_vret (hX : zOk X own cc nL f w none nm et) (d : decode cc pc = .ok (.return_, 1)) : zG X (zQ X (.inl none) σ) nL pc L [] σ := by
  intro ls H locs hl hI
  refine W.widen (k := zc (x0 X)) (n := zz (x0 X)) (zle hX hI).1 (zle hX hI).2 (vx_ret ?_)
  exact W.vret hX.1 hX.2.1 hX.rty (fun t ht hW => ⟨_, rfl, rfl, zEnd_of hI ht hW.alike⟩) hI.2.2.2.2.1.2.2 d hX.lk
/-- a thrown object over the frame -/
def zGX (X : zX) (Q : State → Prop) (nL pc : Nat) (L : List (Nat × zV)) (st : List zV) (σ : zS) (k : Nat) : Prop :=
  ∀ (ls : Array Slot) (H : Heap) (locs : List Loc) (q : Addr) (ce : Cell), lv_has ls nL (zLv L) → zIn X σ H locs → H[q]? = some ce → ce.vm = .none → (xs X).vm.findClass (zEx k) = some ce.cls →
    vx_W (xp X) (xl X) (xe X) (xR X) (xs X) (xm X) (xa X) (xb X) (xme X) (xc X) H locs (zn σ - zn (x0 X)) (zz (x0 X) - zz σ) Q (F0 (xm X) pc ls (st.map zv)) q
theorem z_out {k : Nat} (hX : zOk X own cc nL f w rt nm et) (hout : ∀ x ∈ et, covers x pc = false) : zGX X (zQ X (.inr k) σ) nL pc L st σ k := by
  intro ls H locs q ce hl hI hce hv hcl
  exact vx_out (by rw [hX.etb]; exact hout) hX.lk hce hv hcl (fun t ht hA => ⟨k, rfl, rfl, zEnd_of hI ht hA⟩) hI.2.2.2.2.1.2.2 (zle hX hI).1 (zle hX hI).2
/-- a run of a callee: it ends with o and the map σ' -/
def zRun (X : zX) (nL pc len : Nat) (L : List (Nat × zV)) (st0 rest : List zV) (σ : zS) (o : zO) (σ' : zS) : Prop :=
  ∀ (ls : Array Slot) (H : Heap) (locs : List Loc), lv_has ls nL (zLv L) → zIn X σ H locs → ∀ T : State, T.heap = H → Stand (xp X) (xl X) (xe X) (xR X) (xs X) (xm X) (xa X) (xb X) (xme X) (xc X) T locs (zn σ - zn (x0 X)) (zz (x0 X) - zz σ) →
    (∃ (v : Option zV) (T' : State) (locs' : List Loc) (a b : Nat), o = .inl v ∧ zIn X σ' T'.heap locs' ∧ Stand (xp X) (xl X) (xe X) (xR X) (xs X) (xm X) (xa X) (xb X) (xme X) (xc X) T' locs' a b ∧
      Goes (xp X) (xe X) (xb X) T (F0 (xm X) pc ls (st0.map zv)) T' (F0 (xm X) (pc + len) ls ((v.toList ++ rest).map zv))) ∨
    (∃ (k : Nat) (q : Addr) (ce : Cell) (T' : State) (locs' : List Loc) (a b : Nat), o = .inr k ∧ zIn X σ' T'.heap locs' ∧ T'.heap[q]? = some ce ∧ ce.vm = .none ∧ (xs X).vm.findClass (zEx k) = some ce.cls ∧ Stand (xp X) (xl X) (xe X) (xR X) (xs X) (xm X) (xa X) (xb X) (xme X) (xc X) T' locs' a b ∧
      Steps (xp X).tables (xe X) (xb X) (T.setTop (F0 (xm X) pc ls (st0.map zv))) ((T'.setTop (F0 (xm X) pc ls (rest.map zv))).pushFrame (.throwing q)))
/-- the counters of a stand, out of the map -/
theorem z_tight (hX : zOk X own cc nL f w rt nm et) {T : State} {locs : List Loc} {a b : Nat} (hI : zIn X σ T.heap locs) (S : Stand (xp X) (xl X) (xe X) (xR X) (xs X) (xm X) (xa X) (xb X) (xme X) (xc X) T locs a b) : Stand (xp X) (xl X) (xe X) (xR X) (xs X) (xm X) (xa X) (xb X) (xme X) (xc X) T locs (zn σ - zn (x0 X)) (zz (x0 X) - zz σ) := by
  obtain ⟨i1, i2, i3, ⟨l, i4, i5⟩, i6, i7, i8⟩ := hI
  have h1 := zsz_sum (T := T.setVm (xs X).vm) S.same i4
  have h2 : T.heap.size = (xs X).heap.size + l.length := by rw [← zsz_len, i4, List.length_append, zsz_len]
  have h3 := hX.sz
  exact { S with same := h1.mono (by omega) (by omega) }
theorem z_call (hX : zOk X own cc nL f w rt nm et) {len : Nat} {st0 rest : List zV} {v : Option zV} (hr : zRun X nL pc len L st0 rest σ (.inl v) σ') (kk : zG X Q nL (pc + len) L (v.toList ++ rest) σ') : zG X Q nL pc L st0 σ := by
  intro ls H locs hl hI T hT S
  rcases hr ls H locs hl hI T hT S with ⟨v', T', locs', a, b, hv, hI', S', go⟩ | ⟨k, q, ce, T', locs', a, b, hv, -⟩
  · cases hv
    obtain ⟨t, a1, b1⟩ := kk ls T'.heap locs' hl hI' T' rfl (z_tight hX hI' S')
    exact ⟨t, go t a1, b1⟩
  · cases hv
theorem z_callX (hX : zOk X own cc nL f w rt nm et) {len k : Nat} {st0 rest : List zV} (hr : zRun X nL pc len L st0 rest σ (.inr k) σ') (kx : zGX X Q nL pc L rest σ' k) : zG X Q nL pc L st0 σ := by
  intro ls H locs hl hI T hT S
  rcases hr ls H locs hl hI T hT S with ⟨v', T', locs', a, b, hv, -⟩ | ⟨k', q, ce, T', locs', a, b, hv, hI', h1, h2, h3, S', go⟩
  · cases hv
  · cases hv
    obtain ⟨t, a1, b1⟩ := kx ls T'.heap locs' q ce hl hI' h1 h2 h3 T' rfl (z_tight hX hI' S')
    exact ⟨t, go.trans a1, b1⟩
/-- the outcome of a function that may throw -/
def zot {α : Type} (emb : α → Option zV) : α ⊕ Nat → zO
  | .inl r => .inl (emb r)
  | .inr k => .inr k
theorem z_cN (hX : zOk X own cc nL f w rt nm et) {α β : Type} (emb : α → Option zV) {fc : Option (α × zS)} {K : α → zS → Option β} {R : β} {len : Nat} {st0 rest : List zV} (h : zb2 fc K = some R) (hr : ∀ r σ', fc = some (r, σ') → zRun X nL pc len L st0 rest σ (.inl (emb r)) σ') (kk : ∀ r σ', K r σ' = some R → zG X Q nL (pc + len) L ((emb r).toList ++ rest) σ') : zG X Q nL pc L st0 σ := by
  cases e : fc with
  | none => rw [e] at h; cases h
  | some q => obtain ⟨r, σ1⟩ := q; rw [e] at h; exact z_call hX (hr r σ1 e) (kk r σ1 h)
theorem z_cT (hX : zOk X own cc nL f w rt nm et) {α β : Type} (emb : α → Option zV) {fc : Option ((α ⊕ Nat) × zS)} {K : α → zS → Option β} {E : Nat → zS → Option β} {R : β} {len : Nat} {st0 rest : List zV} (h : zb3 fc K E = some R) (hr : ∀ r σ', fc = some (r, σ') → zRun X nL pc len L st0 rest σ (zot emb r) σ') (kk : ∀ r σ', K r σ' = some R → zG X Q nL (pc + len) L ((emb r).toList ++ rest) σ') (kx : ∀ k σ', E k σ' = some R → zGX X Q nL pc L rest σ' k) : zG X Q nL pc L st0 σ := by
  cases e : fc with
  | none => rw [e] at h; cases h
  | some q =>
    obtain ⟨r, σ1⟩ := q
    rw [e] at h
    cases r with
    | inl r => exact z_call hX (hr _ σ1 e) (kk r σ1 h)
    | inr k => exact z_callX hX (hr _ σ1 e) (kx k σ1 h)
def eI (r : Int32) : Option zV := some (zI r)
def eJ (r : Int64) : Option zV := some (zJ r)
def eA (r : Option Nat) : Option zV := some (zA r)
def eU (_ : Unit) : Option zV := none
theorem zfr {H : Heap} {locs : List Loc} (hI : zIn X σ H locs) : zFr σ = zFr (x0 X) := by
  funext q
  show (zbs σ ≤ q) = (zbs (x0 X) ≤ q)
  rw [hI.2.2.2.2.2.2]
theorem zPre_of (hX : zOk X own cc nL f w rt nm et) {H : Heap} {locs : List Loc} (hI : zIn X σ H locs) {U : State} (hU : U.heap = H) (hW : (xs X).WarmedH U.vm) : zPre (xD X) (xt X) σ U := by
  have h1 := zIn_size hX hI
  obtain ⟨i1, i2, i3, i4, i6, i7, i8⟩ := hI
  refine ⟨?_, by rw [hU, i8]; exact zR_moved hW.alike i1, by rw [hU]; exact i2, by rw [i8]; exact Nat.le_trans hX.bs h1.1⟩
  rw [i7, i8, hU]
  exact zKK_to hW (fun a ha hb => i6.2.1 a ha hb) hX.K
theorem zPre_blind (D : va_G) (tys : zTy) (σ : zS) (vs : List Value) : FrameBlind (va_Pc vs (zPre D tys σ)) := by
  intro a U g mk ⟨h1, h2, h3, h4⟩
  exact ⟨h1, zKK_to (U := U.calling g mk a) (State.WarmedH.refl U) (fun _ _ _ => rfl) h2, zR_moved (U := U.calling g mk a) (Vm.Alike.refl U.vm) h3, h4⟩
/-- what comes back, in the caller's terms -/
theorem zback (hX : zOk X own cc nL f w rt nm et) {H : Heap} {locs L2 : List Loc} (hI : zIn X σ H locs) {st₀ t T' : State} (h0 : st₀.heap = H) (e1 : T'.heap = t.heap) (hA : (xs X).vm.Alike t.vm) (hL : ∀ q ∈ L2, zFr (x0 X) q.base) (he : zEnd (xD X) (xt X) σ σ' st₀ t) : zIn X σ' T'.heap (locs ++ L2) := by
  obtain ⟨i1, i2, i3, ⟨l, i4, i5⟩, i6, i7, i8⟩ := hI
  obtain ⟨j1, j2, j3, ⟨l2, j4, j5⟩, j6, j7, j8⟩ := he
  have hF : va_F (zFr (x0 X)) st₀ t := by
    have : zFr σ = zFr (x0 X) := by funext q; show (zbs σ ≤ q) = _; rw [i8]
    rw [← this]; exact j6
  obtain ⟨f1, f2⟩ := hF
  rw [h0] at f1 f2 j4
  refine ⟨by rw [e1, ← i8]; exact zR_moved hA.symm j1, by rw [e1]; exact j2, j3.trans i3, ⟨l ++ l2, by rw [e1, j4, i4, List.append_assoc], by rw [List.sum_append]; omega⟩, ⟨Nat.le_trans i6.1 (by rw [e1]; exact f1), fun q h1 h2 => by rw [e1, f2 q (Nat.lt_of_lt_of_le h1 i6.1) h2]; exact i6.2.1 q h1 h2, fun q hq => ?_⟩, j7.trans i7, j8.trans i8⟩
  rcases List.mem_append.mp hq with h | h
  · exact i6.2.2 q h
  · exact hL q h
theorem zrun_of (hX : zOk X own cc nL f w rt nm et) {st0 rest : List zV} {o : zO} {a9 : Array Value} (hr : ∀ (ls : Array Slot) (H : Heap) (locs : List Loc), lv_has ls nL (zLv L) → zIn X σ H locs → vx_Run (xp X) (xl X) (xe X) (xR X) (xs X) (xm X) (xa X) (xb X) (xme X) (xc X) H locs (zn σ - zn (x0 X)) (zz (x0 X) - zz σ) (zc σ) (zz σ) (F0 (xm X) pc ls (st0.map zv)) (rest.map zv) (zQc (xD X) (xt X) σ o σ' a9) (zXC (xD X) (xt X) σ o σ') (zFr σ)) : zRun X nL pc 3 L st0 rest σ o σ' := by
  intro ls H locs hl hI T hT S
  rcases hr ls H locs hl hI T hT S with ⟨v, st₀, t, T', L2, h0, S', hL, e1, e2, ⟨v2, ho, hv, he⟩, go⟩ | ⟨q, st₀, t, T', L2, E, ce, h0, S', hL, e1, e2, ⟨k, ho, hE, he⟩, hce, hcv, hcl, go⟩
  · have hA : (xs X).vm.Alike t.vm := by rw [← e2]; exact S'.warmed.alike
    refine Or.inl ⟨v2, T', locs ++ L2, _, _, ho, zback hX hI h0 e1 hA (by rw [← zfr hI]; exact hL) he, S', ?_⟩
    cases hv
    have e9 : ((v2.map zv).toList ++ rest.map zv) = ((v2.toList ++ rest).map zv) := by cases v2 <;> rfl
    rw [← e9]
    exact go
  · have hA : (xs X).vm.Alike t.vm := by rw [← e2]; exact S'.warmed.alike
    subst hE
    exact Or.inr ⟨k, q, ce, T', locs ++ L2, _, _, ho, zback hX hI h0 e1 hA (by rw [← zfr hI]; exact hL) he, by rw [e1]; exact hce, hcv, hcl, S', go⟩
theorem zrun_of5 (hX : zOk X own cc nL f w rt nm et) {st0 rest : List zV} {o : zO} {a9 : Array Value} (hr : ∀ (ls : Array Slot) (H : Heap) (locs : List Loc), lv_has ls nL (zLv L) → zIn X σ H locs → vx_Run5 (xp X) (xl X) (xe X) (xR X) (xs X) (xm X) (xa X) (xb X) (xme X) (xc X) H locs (zn σ - zn (x0 X)) (zz (x0 X) - zz σ) (zc σ) (zz σ) (F0 (xm X) pc ls (st0.map zv)) (rest.map zv) (zQc (xD X) (xt X) σ o σ' a9) (zXC (xD X) (xt X) σ o σ') (zFr σ)) : zRun X nL pc 5 L st0 rest σ o σ' := by
  intro ls H locs hl hI T hT S
  rcases hr ls H locs hl hI T hT S with ⟨v, st₀, t, T', L2, h0, S', hL, e1, e2, ⟨v2, ho, hv, he⟩, go⟩ | ⟨q, st₀, t, T', L2, E, ce, h0, S', hL, e1, e2, ⟨k, ho, hE, he⟩, hce, hcv, hcl, go⟩
  · have hA : (xs X).vm.Alike t.vm := by rw [← e2]; exact S'.warmed.alike
    refine Or.inl ⟨v2, T', locs ++ L2, _, _, ho, zback hX hI h0 e1 hA (by rw [← zfr hI]; exact hL) he, S', ?_⟩
    cases hv
    have e9 : ((v2.map zv).toList ++ rest.map zv) = ((v2.toList ++ rest).map zv) := by cases v2 <;> rfl
    rw [← e9]
    exact go
  · have hA : (xs X).vm.Alike t.vm := by rw [← e2]; exact S'.warmed.alike
    subst hE
    exact Or.inr ⟨k, q, ce, T', locs ++ L2, _, _, ho, zback hX hI h0 e1 hA (by rw [← zfr hI]; exact hL) he, by rw [e1]; exact hce, hcv, hcl, S', go⟩
theorem zcat8 {rest : List zV} (h : zlen rest ≤ 8) {g : JFrame} (hg : g.monitorRoom = 0) : 2 * g.monitorRoom + ((rest.map zv).map fun v => v.category).sum ≤ 8 := by
  have : ∀ vs : List zV, ((vs.map zv).map fun v => v.category).sum = zlen vs := by
    intro vs
    induction vs with
    | nil => rfl
    | cons v vs ih =>
      simp only [List.map_cons, List.sum_cons, zlen]
      rw [ih]
      cases e : zw v with
      | false => rw [zv_cat e]; rfl
      | true => rw [zv_cat2 e]; rfl
  rw [this, hg]
  omega
theorem zfit (hX : zOk X own cc nL f w rt nm et) {H : Heap} {locs : List Loc} (hI : zIn X σ H locs) : zn σ - zn (x0 X) + zc σ ≤ (xR X).cells ∧ zz (x0 X) - zz σ + zz σ ≤ (xR X).slots := by
  have h1 := zIn_size hX hI
  have h2 := hI.2.2.1
  rw [hX.R]
  exact ⟨by show _ ≤ zc (x0 X); omega, by show _ ≤ zz (x0 X); omega⟩
theorem zrm (hX : zOk X own cc nL f w rt nm et) {f' w' maxL : Nat} (h : f' + 1 ≤ f ∧ 8 + (maxL + 11) + w' ≤ w) : ({ frames := f', cells := zc σ, slots := zz σ, locals := w' } : Room).frames + 1 ≤ (xR X).frames ∧ 8 + (maxL + 11) + ({ frames := f', cells := zc σ, slots := zz σ, locals := w' } : Room).locals ≤ (xR X).locals := by
  rw [hX.R]
  exact h
theorem zcf (hX : zOk X own cc nL f w rt nm et) : CallFix (xp X) (xm X) (xc X) cc nL (xs X) (xa X) lw_all own := ⟨hX.1, hX.2.1, hX.2.2.1, hX.2.2.2.1, hX.2.2.2.2.1⟩
/-- what a call's entry says, by kinds -/
def zLV (own : String) (idx : Nat) (C : String) (y : MethodName) (ws : List Cond) (n : Nat) : Prop := GoodIn lw_all (wsV own idx C y ws) ∧ y.cls = C ∧ y.cls ≠ "java/lang/invoke/MethodHandle" ∧ y.cls ≠ "java/lang/invoke/VarHandle" ∧ (parseMethodDescriptor y.desc).map (fun d => d.parameters.length) = some n
def zLS (own : String) (idx : Nat) (y : MethodName) (ws : List Cond) (n : Nat) : Prop := GoodIn lw_all (va_wsS own idx y ws) ∧ y.cls ≠ "java/lang/invoke/MethodHandle" ∧ y.cls ≠ "java/lang/invoke/VarHandle" ∧ (parseMethodDescriptor y.desc).map (fun d => d.parameters.length) = some n
def zLI (own : String) (idx : Nat) (y : MethodName) (ws : List Cond) (n : Nat) : Prop := GoodIn lw_all ws ∧ Cond.initialized y.cls ∈ lw_all ∧ Cond.methodLink own idx y ∈ lw_all ∧ Cond.instanceMethod y ∈ lw_all ∧ y.name = "<init>" ∧ y.cls ≠ "java/lang/invoke/MethodHandle" ∧ y.cls ≠ "java/lang/invoke/VarHandle" ∧ (parseMethodDescriptor y.desc).map (fun d => d.parameters.length) = some n
def zLN (own : String) (idx : Nat) (y : MethodName) (ws : List Cond) (n : Nat) : Prop := GoodIn lw_all ws ∧ Cond.initialized y.cls ∈ lw_all ∧ (∃ host, Cond.methodLinkNest own idx y host ∈ zNw) ∧ Cond.instanceMethod y ∈ lw_all ∧ y.name = "<init>" ∧ y.cls ≠ "java/lang/invoke/MethodHandle" ∧ y.cls ≠ "java/lang/invoke/VarHandle" ∧ (parseMethodDescriptor y.desc).map (fun d => d.parameters.length) = some n
theorem z_runV (hX : zOk X own cc nL f w rt nm et) {idx : Nat} {C : String} {y : MethodName} {b : ByteArray} {maxL n : Nat} {ret : Option FieldType} (lk : zLV own idx C y (ws_ y b maxL ret) n) {f' w' a : Nat} {As rest : List zV} {o : zO} (hM : zM (xl X) (xD X) (xt X) y (ws_ y b maxL ret) f' w' (zA (some a) :: As) σ o σ') {ci : Nat} {T : u_T} {N : Nat} (hc : zCl ci = some (C, T, N)) (hcl : zcl σ a = ci) (hR : f' + 1 ≤ f ∧ 8 + (maxL + 11) + w' ≤ w) (hn : As.length = n) (h8 : zlen rest ≤ 8) (d : decode cc pc = .ok (.invokevirtual idx, 3)) {st0 : List zV} (hs : st0 = As.reverse ++ zA (some a) :: rest) : zRun X nL pc 3 L st0 rest σ o σ' := by
  refine zrun_of hX (a9 := (Value.ref a :: As.map zv).toArray) fun ls H locs hl hI => ?_
  subst hs
  exact vx_runV (As := As.map zv) (zcf hX) hM (cwV n hX.hts lk.1 rfl rfl rfl lk.2 (zrm hX hR)) ⟨zPre_blind _ _ _ _, zrecv hX hI hcl hc, fun U hU hW => ⟨rfl, zPre_of hX hI hU hW⟩⟩ rfl (by rw [List.length_map]; exact hn) hl.1 (by simp [zv, va_rf]) (zcat8 h8 rfl) d (zfit hX hI)
theorem z_runVW (hX : zOk X own cc nL f w rt nm et) {idx : Nat} {C : String} {y : MethodName} {b : ByteArray} {maxL n : Nat} {ret : Option FieldType} {hh : List (Nat × Nat × Nat × Nat)} (lk : zLV own idx C y (wsW_ y b maxL ret hh) n) {f' w' a : Nat} {As rest : List zV} {o : zO} (hM : zM (xl X) (xD X) (xt X) y (wsW_ y b maxL ret hh) f' w' (zA (some a) :: As) σ o σ') {ci : Nat} {T : u_T} {N : Nat} (hc : zCl ci = some (C, T, N)) (hcl : zcl σ a = ci) (hR : f' + 1 ≤ f ∧ 8 + (maxL + 11) + w' ≤ w) (hn : As.length = n) (h8 : zlen rest ≤ 8) (d : decode cc pc = .ok (.invokevirtual idx, 3)) {st0 : List zV} (hs : st0 = As.reverse ++ zA (some a) :: rest) : zRun X nL pc 3 L st0 rest σ o σ' := by
  refine zrun_of hX (a9 := (Value.ref a :: As.map zv).toArray) fun ls H locs hl hI => ?_
  subst hs
  exact vx_runVX (As := As.map zv) (zcf hX) hM (vx_cwVW n hX.hts lk.1 rfl rfl rfl lk.2 (zrm hX hR)) ⟨zPre_blind _ _ _ _, zrecv hX hI hcl hc, fun U hU hW => ⟨rfl, zPre_of hX hI hU hW⟩⟩ rfl (by rw [List.length_map]; exact hn) hl.1 (by simp [zv, va_rf]) (zcat8 h8 rfl) d (zfit hX hI)
theorem z_runS (hX : zOk X own cc nL f w rt nm et) {idx : Nat} {y : MethodName} {b : ByteArray} {maxL n : Nat} {ret : Option FieldType} (lk : zLS own idx y (ws_ y b maxL ret) n) {f' w' : Nat} {As rest : List zV} {o : zO} (hM : zM (xl X) (xD X) (xt X) y (ws_ y b maxL ret) f' w' As σ o σ') (hR : f' + 1 ≤ f ∧ 8 + (maxL + 11) + w' ≤ w) (hn : As.length = n) (h8 : zlen rest ≤ 8) (d : decode cc pc = .ok (.invokestatic idx, 3)) {st0 : List zV} (hs : st0 = As.reverse ++ rest) : zRun X nL pc 3 L st0 rest σ o σ' := by
  refine zrun_of hX (a9 := (As.map zv).toArray) fun ls H locs hl hI => ?_
  subst hs
  exact vx_runS (As := As.map zv) (zcf hX) hM (va_cwS n hX.hts lk.1 rfl rfl rfl lk.2 (zrm hX hR)) ⟨zPre_blind _ _ _ _, fun U hU hW => ⟨rfl, zPre_of hX hI hU hW⟩⟩ rfl (by rw [List.length_map]; exact hn) hl.1 (by simp) (zcat8 h8 rfl) d (zfit hX hI)
theorem z_runSW (hX : zOk X own cc nL f w rt nm et) {idx : Nat} {y : MethodName} {b : ByteArray} {maxL n : Nat} {ret : Option FieldType} {hh : List (Nat × Nat × Nat × Nat)} (lk : zLS own idx y (wsW_ y b maxL ret hh) n) {f' w' : Nat} {As rest : List zV} {o : zO} (hM : zM (xl X) (xD X) (xt X) y (wsW_ y b maxL ret hh) f' w' As σ o σ') (hR : f' + 1 ≤ f ∧ 8 + (maxL + 11) + w' ≤ w) (hn : As.length = n) (h8 : zlen rest ≤ 8) (d : decode cc pc = .ok (.invokestatic idx, 3)) {st0 : List zV} (hs : st0 = As.reverse ++ rest) : zRun X nL pc 3 L st0 rest σ o σ' := by
  refine zrun_of hX (a9 := (As.map zv).toArray) fun ls H locs hl hI => ?_
  subst hs
  exact vx_runSX (As := As.map zv) (zcf hX) hM (vx_cwSW n hX.hts lk.1 rfl rfl rfl lk.2 (zrm hX hR)) ⟨zPre_blind _ _ _ _, fun U hU hW => ⟨rfl, zPre_of hX hI hU hW⟩⟩ rfl (by rw [List.length_map]; exact hn) hl.1 (by simp) (zcat8 h8 rfl) d (zfit hX hI)
theorem z_runI (hX : zOk X own cc nL f w rt nm et) {idx : Nat} {y : MethodName} {b : ByteArray} {maxL n : Nat} (lk : zLI own idx y (ws_ y b maxL none) n) {f' w' a : Nat} {As rest : List zV} {o : zO} (hM : zM (xl X) (xD X) (xt X) y (ws_ y b maxL none) f' w' (zA (some a) :: As) σ o σ') (hR : f' + 1 ≤ f ∧ 8 + (maxL + 11) + w' ≤ w) (hn : As.length = n) (h8 : zlen rest ≤ 8) (d : decode cc pc = .ok (.invokespecial idx, 3)) {st0 : List zV} (hs : st0 = As.reverse ++ zA (some a) :: rest) : zRun X nL pc 3 L st0 rest σ o σ' := by
  refine zrun_of hX (a9 := (Value.ref a :: As.map zv).toArray) fun ls H locs hl hI => ?_
  subst hs
  obtain ⟨k1, k2, k3, k4, k5, k6⟩ := lk
  exact vx_runI (As := As.map zv) (zcf hX) hM (cwI n hX.hts k1 rfl rfl rfl (hX.hts _ k2) (hX.hts _ k3) (hX.hts _ k4) k5 k6 (zrm hX hR)) ⟨zPre_blind _ _ _ _, fun U hU hW => ⟨rfl, zPre_of hX hI hU hW⟩⟩ rfl (by rw [List.length_map]; exact hn) hl.1 (by simp [zv, va_rf]) (zcat8 h8 rfl) d (zfit hX hI)
theorem z_runIN (hX : zOk X own cc nL f w rt nm et) {idx : Nat} {y : MethodName} {b : ByteArray} {maxL n : Nat} (lk : zLN own idx y (ws_ y b maxL none) n) {f' w' a : Nat} {As rest : List zV} {o : zO} (hM : zM (xl X) (xD X) (xt X) y (ws_ y b maxL none) f' w' (zA (some a) :: As) σ o σ') (hR : f' + 1 ≤ f ∧ 8 + (maxL + 11) + w' ≤ w) (hn : As.length = n) (h8 : zlen rest ≤ 8) (d : decode cc pc = .ok (.invokespecial idx, 3)) {st0 : List zV} (hs : st0 = As.reverse ++ zA (some a) :: rest) : zRun X nL pc 3 L st0 rest σ o σ' := by
  refine zrun_of hX (a9 := (Value.ref a :: As.map zv).toArray) fun ls H locs hl hI => ?_
  subst hs
  obtain ⟨k1, k2, ⟨host, k3⟩, k4, k5, k6⟩ := lk
  exact vx_runIN (As := As.map zv) (zcf hX) hM ⟨va_cnB n hX.hts k1 rfl rfl rfl (hX.Nw k3) (hX.hts _ k2) k6 (zrm hX hR), k5, hX.hts _ k4⟩ ⟨zPre_blind _ _ _ _, fun U hU hW => ⟨rfl, zPre_of hX hI hU hW⟩⟩ rfl (by rw [List.length_map]; exact hn) hl.1 (by simp [zv, va_rf]) (zcat8 h8 rfl) d (zfit hX hI)
theorem z_objInit (hX : zOk X own cc nL f w rt nm et) {idx a : Nat} (lk : Cond.methodLink own idx Lib.objectInit ∈ lw_all) (hf : 1 ≤ f) (hw : 20 ≤ w) (h8 : zlen st ≤ 8) (d : decode cc pc = .ok (.invokespecial idx, 3)) (kk : zG X Q nL (pc + 3) L st σ) : zG X Q nL pc L (zA (some a) :: st) σ := by
  intro ls H locs hl hI
  have h9 := zcat8 h8 (g := F0 (xm X) pc ls (st.map zv)) rfl
  exact W.objInit hX.1 hX.2.1 hX.ow (hX.hts _ lk) (hX.hts _ q129) (hX.hts _ q130) rfl (by rw [hX.ml]; exact hl.1) rfl d (by rw [hX.R]; exact hf) (by rw [hX.R]; exact Nat.le_trans (Nat.add_le_add_right h9 12) hw) (kk ls H locs hl hI)
end ZC
