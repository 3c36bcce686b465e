/-! what the printed walks lean on -/
def zif {β : Type} (c : Prop) [inst9 : Decidable c] (K : Option β) : Option β := if c then K else none
theorem z_ck {c : Prop} [inst9 : Decidable c] {β : Type} {A : Option β} {R : β} (h : zif c A = some R) : c ∧ A = some R := by
  unfold zif at h
  by_cases hc : c
  · rw [if_pos hc] at h; exact ⟨hc, h⟩
  · rw [if_neg hc] at h; cases h
theorem z_ite {c : Prop} [inst9 : Decidable c] {β : Type} {A B : Option β} {R : β} (h : (if c then A else B) = some R) : (c ∧ A = some R) ∨ (¬ c ∧ B = some R) := by
  by_cases hc : c
  · rw [if_pos hc] at h; exact Or.inl ⟨hc, h⟩
  · rw [if_neg hc] at h; exact Or.inr ⟨hc, h⟩
theorem z_bd {α β : Type} {o : Option α} {K : α → Option β} {R : β} (h : o.bind K = some R) : ∃ a, o = some a ∧ K a = some R := by
  cases o with
  | none => cases h
  | some a => exact ⟨a, rfl, h⟩
def zbt {α τ β : Type} (o : Option ((α ⊕ Nat) × τ)) (E : Nat → τ → Option β) (K : α → τ → Option β) : Option β := zb3 o K E
section ZP
variable {X : zX} {own : String} {cc : ByteArray} {nL f w : Nat} {rt : Option FieldType} {nm : String} {et : List ExceptionTableEntry} {Q : State → Prop} {pc : Nat} {L : List (Nat × zV)} {st : List zV} {σ σ' : zS}
theorem z_nmI {e : Int32} {β : Type} {K : Int32 → Option β} {R : β} (h : zl e K = some R) (kk : ∀ y : Int32, K y = some R → zG X Q nL pc L (zI y :: st) σ) : zG X Q nL pc L (zI e :: st) σ := kk e h
theorem z_nmJ {e : Int64} {β : Type} {K : Int64 → Option β} {R : β} (h : zl e K = some R) (kk : ∀ y : Int64, K y = some R → zG X Q nL pc L (zJ y :: st) σ) : zG X Q nL pc L (zJ e :: st) σ := kk e h
theorem z_cNI (hX : zOk X own cc nL f w rt nm et) {β : Type} {fc : Option (Int32 × zS)} {K : Int32 → zS → Option β} {R : β} {st0 rest : List zV} (h : zb2 fc K = some R) (hr : ∀ r σ', fc = some (r, σ') → zRun X nL pc 3 L st0 rest σ (.inl (eI r)) σ') (kk : ∀ r σ', K r σ' = some R → zG X Q nL (pc + 3) L (zI r :: rest) σ') : zG X Q nL pc L st0 σ := z_cN hX eI h hr kk
theorem z_cNI5 (hX : zOk X own cc nL f w rt nm et) {β : Type} {fc : Option (Int32 × zS)} {K : Int32 → zS → Option β} {R : β} {st0 rest : List zV} (h : zb2 fc K = some R) (hr : ∀ r σ', fc = some (r, σ') → zRun X nL pc 5 L st0 rest σ (.inl (eI r)) σ') (kk : ∀ r σ', K r σ' = some R → zG X Q nL (pc + 5) L (zI r :: rest) σ') : zG X Q nL pc L st0 σ := z_cN hX eI h hr kk
theorem z_cNJ (hX : zOk X own cc nL f w rt nm et) {β : Type} {fc : Option (Int64 × zS)} {K : Int64 → zS → Option β} {R : β} {st0 rest : List zV} (h : zb2 fc K = some R) (hr : ∀ r σ', fc = some (r, σ') → zRun X nL pc 3 L st0 rest σ (.inl (eJ r)) σ') (kk : ∀ r σ', K r σ' = some R → zG X Q nL (pc + 3) L (zJ r :: rest) σ') : zG X Q nL pc L st0 σ := z_cN hX eJ h hr kk
theorem z_cNA (hX : zOk X own cc nL f w rt nm et) {β : Type} {fc : Option (Option Nat × zS)} {K : Option Nat → zS → Option β} {R : β} {st0 rest : List zV} (h : zb2 fc K = some R) (hr : ∀ r σ', fc = some (r, σ') → zRun X nL pc 3 L st0 rest σ (.inl (eA r)) σ') (kk : ∀ r σ', K r σ' = some R → zG X Q nL (pc + 3) L (zA r :: rest) σ') : zG X Q nL pc L st0 σ := z_cN hX eA h hr kk
theorem z_cNA5 (hX : zOk X own cc nL f w rt nm et) {β : Type} {fc : Option (Option Nat × zS)} {K : Option Nat → zS → Option β} {R : β} {st0 rest : List zV} (h : zb2 fc K = some R) (hr : ∀ r σ', fc = some (r, σ') → zRun X nL pc 5 L st0 rest σ (.inl (eA r)) σ') (kk : ∀ r σ', K r σ' = some R → zG X Q nL (pc + 5) L (zA r :: rest) σ') : zG X Q nL pc L st0 σ := z_cN hX eA h hr kk
theorem z_cNU (hX : zOk X own cc nL f w rt nm et) {β : Type} {fc : Option (Unit × zS)} {K : Unit → zS → Option β} {R : β} {st0 rest : List zV} (h : zb2 fc K = some R) (hr : ∀ r σ', fc = some (r, σ') → zRun X nL pc 3 L st0 rest σ (.inl (eU r)) σ') (kk : ∀ r σ', K r σ' = some R → zG X Q nL (pc + 3) L rest σ') : zG X Q nL pc L st0 σ := z_cN hX eU h hr kk
theorem z_cTI (hX : zOk X own cc nL f w rt nm et) {β : Type} {fc : Option ((Int32 ⊕ Nat) × zS)} {K : Int32 → zS → Option β} {E : Nat → zS → Option β} {R : β} {st0 rest : List zV} (h : zbt fc E K = some R) (hr : ∀ r σ', fc = some (r, σ') → zRun X nL pc 3 L st0 rest σ (zot eI r) σ') (kx : ∀ k σ', E k σ' = some R → zGX X Q nL pc L rest σ' k) (kk : ∀ r σ', K r σ' = some R → zG X Q nL (pc + 3) L (zI r :: rest) σ') : zG X Q nL pc L st0 σ := z_cT hX eI h hr kk kx
theorem z_cTJ (hX : zOk X own cc nL f w rt nm et) {β : Type} {fc : Option ((Int64 ⊕ Nat) × zS)} {K : Int64 → zS → Option β} {E : Nat → zS → Option β} {R : β} {st0 rest : List zV} (h : zbt fc E K = some R) (hr : ∀ r σ', fc = some (r, σ') → zRun X nL pc 3 L st0 rest σ (zot eJ r) σ') (kx : ∀ k σ', E k σ' = some R → zGX X Q nL pc L rest σ' k) (kk : ∀ r σ', K r σ' = some R → zG X Q nL (pc + 3) L (zJ r :: rest) σ') : zG X Q nL pc L st0 σ := z_cT hX eJ h hr kk kx
theorem z_cTA (hX : zOk X own cc nL f w rt nm et) {β : Type} {fc : Option ((Option Nat ⊕ Nat) × zS)} {K : Option Nat → zS → Option β} {E : Nat → zS → Option β} {R : β} {st0 rest : List zV} (h : zbt fc E K = some R) (hr : ∀ r σ', fc = some (r, σ') → zRun X nL pc 3 L st0 rest σ (zot eA r) σ') (kx : ∀ k σ', E k σ' = some R → zGX X Q nL pc L rest σ' k) (kk : ∀ r σ', K r σ' = some R → zG X Q nL (pc + 3) L (zA r :: rest) σ') : zG X Q nL pc L st0 σ := z_cT hX eA h hr kk kx
theorem z_cTU (hX : zOk X own cc nL f w rt nm et) {β : Type} {fc : Option ((Unit ⊕ Nat) × zS)} {K : Unit → zS → Option β} {E : Nat → zS → Option β} {R : β} {st0 rest : List zV} (h : zbt fc E K = some R) (hr : ∀ r σ', fc = some (r, σ') → zRun X nL pc 3 L st0 rest σ (zot eU r) σ') (kx : ∀ k σ', E k σ' = some R → zGX X Q nL pc L rest σ' k) (kk : ∀ r σ', K r σ' = some R → zG X Q nL (pc + 3) L rest σ') : zG X Q nL pc L st0 σ := z_cT hX eU h hr kk kx
/-- what a callee throws goes on to the caller -/
theorem z_prop (hX : zOk X own cc nL f w rt nm et) {α : Type} {emb : α → Option zV} {k : Nat} {Rt : (α ⊕ Nat) × zS} (h : (some (.inr k, σ) : Option ((α ⊕ Nat) × zS)) = some Rt) (hout : ∀ x ∈ et, covers x pc = false) : zGX X (zQ X (zot emb Rt.1) Rt.2) nL pc L st σ k := by
  cases h
  exact z_out hX hout
def zLSN (own : String) (idx : Nat) (y : MethodName) (ws : List Cond) (n : Nat) : Prop := GoodIn lw_all ws ∧ Cond.initialized y.cls ∈ lw_all ∧ (∃ host, Cond.methodLinkNest own idx y host ∈ zNw) ∧ Cond.static y ∈ lw_all ∧ y.cls ≠ "java/lang/invoke/MethodHandle" ∧ y.cls ≠ "java/lang/invoke/VarHandle" ∧ (parseMethodDescriptor y.desc).map (fun d => d.parameters.length) = some n
theorem z_runSN (hX : zOk X own cc nL f w rt nm et) {idx : Nat} {y : MethodName} {b : ByteArray} {maxL n : Nat} {ret : Option FieldType} (lk : zLSN own idx y (ws_ y b maxL ret) n) {f' w' : Nat} {As rest : List zV} {o : zO} (hM : zM (xl X) (xD X) (xt X) y (ws_ y b maxL ret) f' w' As σ o σ') (hR : f' + 1 ≤ f ∧ 8 + (maxL + 11) + w' ≤ w) (hn : As.length = n) (h8 : zlen rest ≤ 8) (d : decode cc pc = .ok (.invokestatic idx, 3)) {st0 : List zV} (hs : st0 = As.reverse ++ rest) : zRun X nL pc 3 L st0 rest σ o σ' := by
  refine zrun_of hX (a9 := (As.map zv).toArray) fun ls H locs hl hI => ?_
  subst hs
  obtain ⟨k1, k2, ⟨host, k3⟩, k4, k6⟩ := lk
  exact vx_runSN (As := As.map zv) (zcf hX) hM ⟨va_cnB n hX.hts k1 rfl rfl rfl (hX.Nw k3) (hX.hts _ k2) k6 (zrm hX hR), hX.hts _ k4, trivial⟩ ⟨zPre_blind _ _ _ _, fun U hU hW => ⟨rfl, zPre_of hX hI hU hW⟩⟩ rfl (by rw [List.length_map]; exact hn) hl.1 (by simp) (zcat8 h8 rfl) d (zfit hX hI)
def zLVN (own : String) (idx : Nat) (C : String) (y : MethodName) (ws : List Cond) (n : Nat) : Prop := GoodIn lw_all ws ∧ Cond.initialized y.cls ∈ lw_all ∧ (∃ host, Cond.methodLinkNest own idx y host ∈ zNw) ∧ (Cond.instanceMethod y ∈ lw_all ∧ Cond.selects C y y ∈ lw_all) ∧ y.cls ≠ "java/lang/invoke/MethodHandle" ∧ y.cls ≠ "java/lang/invoke/VarHandle" ∧ (parseMethodDescriptor y.desc).map (fun d => d.parameters.length) = some n
theorem z_runVN (hX : zOk X own cc nL f w rt nm et) {idx : Nat} {C : String} {y : MethodName} {b : ByteArray} {maxL n : Nat} {ret : Option FieldType} (lk : zLVN own idx C y (ws_ y b maxL ret) n) {f' w' a : Nat} {As rest : List zV} {o : zO} (hM : zM (xl X) (xD X) (xt X) y (ws_ y b maxL ret) f' w' (zA (some a) :: As) σ o σ') {ci : Nat} {T : u_T} {N : Nat} (hc : zCl ci = some (C, T, N)) (hcl : zcl σ a = ci) (hR : f' + 1 ≤ f ∧ 8 + (maxL + 11) + w' ≤ w) (hn : As.length = n) (h8 : zlen rest ≤ 8) (d : decode cc pc = .ok (.invokevirtual idx, 3)) {st0 : List zV} (hs : st0 = As.reverse ++ zA (some a) :: rest) : zRun X nL pc 3 L st0 rest σ o σ' := by
  refine zrun_of hX (a9 := (Value.ref a :: As.map zv).toArray) fun ls H locs hl hI => ?_
  subst hs
  obtain ⟨k1, k2, ⟨host, k3⟩, k4, k6⟩ := lk
  exact vx_runVN (As := As.map zv) (zcf hX) hM ⟨va_cnB n hX.hts k1 rfl rfl rfl (hX.Nw k3) (hX.hts _ k2) k6 (zrm hX hR), hX.hts _ k4.1, hX.hts _ k4.2⟩ ⟨zPre_blind _ _ _ _, zrecv hX hI hcl hc, fun U hU hW => ⟨rfl, zPre_of hX hI hU hW⟩⟩ rfl (by rw [List.length_map]; exact hn) hl.1 (by simp [zv, va_rf]) (zcat8 h8 rfl) d (zfit hX hI)
/-- an inherited, an overriding, a private method of a class above the receiver's -/
def zLG (own : String) (idx : Nat) (C owner : String) (x y : MethodName) (ws : List Cond) (n : Nat) : Prop := GoodIn lw_all ws ∧ Cond.methodLink own idx x ∈ lw_all ∧ Cond.sameMethod x.cls owner x.name x.desc ∈ lw_all ∧ Cond.instanceMethod y ∈ lw_all ∧ Cond.initialized y.cls ∈ lw_all ∧ (Cond.instanceMethod ⟨owner, x.name, x.desc⟩ ∈ lw_all ∧ ∃ b0 m0 r0, Cond.code ⟨owner, x.name, x.desc⟩ b0 m0 r0 ∈ lw_all) ∧ (Cond.selects C x y ∈ lw_all ∨ ((C, y) ∈ zPv ∧ x = y)) ∧ owner ≠ "java/lang/invoke/MethodHandle" ∧ owner ≠ "java/lang/invoke/VarHandle" ∧ (parseMethodDescriptor x.desc).map (fun d => d.parameters.length) = some n
theorem z_runG (hX : zOk X own cc nL f w rt nm et) {idx : Nat} {C owner : String} {x y : MethodName} {b : ByteArray} {maxL n : Nat} {ret : Option FieldType} (lk : zLG own idx C owner x y (ws_ y b maxL ret) n) {f' w' a : Nat} {As rest : List zV} {o : zO} (hM : zM (xl X) (xD X) (xt X) y (ws_ y b maxL ret) f' w' (zA (some a) :: As) σ o σ') {ci : Nat} {T : u_T} {N : Nat} (hc : zCl ci = some (C, T, N)) (hcl : zcl σ a = ci) (hR : f' + 1 ≤ f ∧ 8 + (maxL + 11) + w' ≤ w) (hn : As.length = n) (h8 : zlen rest ≤ 8) (d : decode cc pc = .ok (.invokevirtual idx, 3)) {st0 : List zV} (hs : st0 = As.reverse ++ zA (some a) :: rest) : zRun X nL pc 3 L st0 rest σ o σ' := by
  refine zrun_of hX (a9 := (Value.ref a :: As.map zv).toArray) fun ls H locs hl hI => ?_
  subst hs
  obtain ⟨k1, k2, k3, k4, k5, ⟨k6, b0, m0, r0, k7⟩, k8, k9, k10, k11⟩ := lk
  have hsel : (Cond.selects C x y).before (xa X) (xs X) = true := by
    rcases k8 with k8 | ⟨k8, rfl⟩
    · exact hX.hts _ k8
    · exact hX.K.2.2.2.2.2.2.2.2.2.2.2.2 _ k8 (xa X)
  have hc9 : Cond.code y b maxL ret ∈ ws_ y b maxL ret := List.mem_cons_self
  have hrm := zrm (σ := σ) hX hR
  have cw : va_CU (xR X) (xs X) (xa X) own C owner idx x y b maxL ret (ws_ y b maxL ret) { frames := f', cells := zc σ, slots := zz σ, locals := w' } (zc σ) (zz σ) n :=
    ⟨⟨rfl, rfl, hrm.1, hrm.2, pay_in hX.hts k1, hc9⟩, hX.hts _ (k1 _ hc9).1, hX.hts _ k5, ⟨k9, k10⟩, fun sig h => by rw [h] at k11; exact (Option.some.inj k11).symm, hX.hts _ k2, hX.hts _ k3, va_Decl.of (hX.hts _ k6) (hX.hts _ k7), hsel, hX.hts _ k4⟩
  exact vx_runU (As := As.map zv) (zcf hX) hM cw ⟨zPre_blind _ _ _ _, zrecv hX hI hcl hc, fun U hU hW => ⟨rfl, zPre_of hX hI hU hW⟩⟩ rfl (by rw [List.length_map]; exact hn) hl.1 (by simp [zv, va_rf]) (zcat8 h8 rfl) d (zfit hX hI)
end ZP
theorem zlk_dflt {d : Int} {x : Int32} : ∀ (ps : List (Int × Int)), (∀ q ∈ ps, ∃ k : Int32, ¬ x = k ∧ k.toInt = q.1) → Op.lookupswitch.offset ps d x.toInt = d
  | [], _ => rfl
  | (a, o) :: r, h => by
    obtain ⟨k, h1, h2⟩ := h _ List.mem_cons_self
    rw [lv_osw h1 h2]
    exact zlk_dflt r (fun q hq => h q (List.mem_cons_of_mem _ hq))
theorem zlk_cons {x k : Int32} {a o : Int} {r : List (Int × Int)} (h : ¬ x = k) (hk : k.toInt = a) (hr : ∀ q ∈ r, ∃ k : Int32, ¬ x = k ∧ k.toInt = q.1) : ∀ q ∈ (a, o) :: r, ∃ k : Int32, ¬ x = k ∧ k.toInt = q.1 := List.forall_mem_cons.mpr ⟨⟨k, h, hk⟩, hr⟩
theorem zlk_nil {x : Int32} : ∀ q ∈ ([] : List (Int × Int)), ∃ k : Int32, ¬ x = k ∧ k.toInt = q.1 := fun q hq => absurd hq List.not_mem_nil
theorem zcond : ∀ ci ∈ [13, 14, 15, 18], ∃ (C : String) (T : u_T) (N : Nat), zCl ci = some (C, T, N) ∧ Cond.castable C "StepDebts$Cond" ∈ zNw := List.forall_mem_cons.mpr ⟨⟨_, _, _, rfl, zNw_of q1560 rfl⟩, List.forall_mem_cons.mpr ⟨⟨_, _, _, rfl, zNw_of q1552 rfl⟩, List.forall_mem_cons.mpr ⟨⟨_, _, _, rfl, zNw_of q1508 rfl⟩, List.forall_mem_cons.mpr ⟨⟨_, _, _, rfl, zNw_of q1528 rfl⟩, fun r hr => absurd hr List.not_mem_nil⟩⟩⟩⟩
/-! calls of 'holds' through the interface: by the receiver's class -/
def zHn : MethodName := ⟨"StepDebts$Cond", "holds", "(LStepDebts$Scene;)Z"⟩
def zHl : List (String × MethodName) := [(RX14, yX14_holds), (RX15, yX15_holds), (RX17, yX17_holds), (RX21, yX21_holds)]
def zLH (own : String) (idx : Nat) : Prop := ∀ q ∈ zHl, ∀ (b : ByteArray) (maxL : Nat) (ret : Option FieldType), Cond.code q.2 b maxL ret ∈ lw_all → zLF own idx q.1 zHn q.2 (ws_ q.2 b maxL ret) 1
def zHolds (l : Launch) (D : va_G) (tys : zTy) (fh : Nat → Option Nat → zS → Option (Int32 × zS)) (f w : Nat) : Prop := ∀ (a : Nat) (r : Option Nat) (σ σ' : zS) (x : Int32), fh a r σ = some (x, σ') → ∃ (ci : Nat) (C : String) (T : u_T) (N : Nat) (y : MethodName) (b : ByteArray) (maxL : Nat) (ret : Option FieldType),
  vwCl[ci]? = some (C, T, N) ∧ zcl σ a = ci ∧ (C, y) ∈ zHl ∧ Cond.code y b maxL ret ∈ lw_all ∧ maxL ≤ 3 ∧ zM l D tys y (ws_ y b maxL ret) f w [zA (some a), zA r] σ (.inl (eI x)) σ'
section ZQ
variable {X : zX} {own : String} {cc : ByteArray} {nL f w : Nat} {rt : Option FieldType} {nm : String} {et : List ExceptionTableEntry} {Q : State → Prop} {pc : Nat} {L : List (Nat × zV)} {st : List zV} {σ σ' : zS}
theorem z_holds (hX : zOk X own cc nL f w rt nm et) {idx cnt : Nat} (lk : zLH own idx) {fh : Nat → Option Nat → zS → Option (Int32 × zS)} {f' w' : Nat} (hfh : zHolds (xl X) (xD X) (xt X) fh f' w') {a : Nat} {r : Option Nat} {x : Int32} (e : fh a r σ = some (x, σ')) (hR : f' + 1 ≤ f ∧ 8 + (3 + 11) + w' ≤ w) {rest : List zV} (h8 : zlen rest ≤ 8) (d : decode cc pc = .ok (.invokeinterface idx cnt, 5)) {st0 : List zV} (hs : st0 = zA r :: zA (some a) :: rest) : zRun X nL pc 5 L st0 rest σ (.inl (eI x)) σ' := by
  obtain ⟨ci, C, T, N, y, b, maxL, ret, h1, h2, h3, h4, h5, h6⟩ := hfh a r σ σ' x e
  exact z_runF hX (lk _ h3 b maxL ret h4) (hX.K.2.2.2.2.2.2.2.2.2.1 _ h3) (As := [zA r]) h6 h1 h2 (by omega) rfl h8 d hs
end ZQ
/-! Math.max and Math.min: the kit's rows -/
def zmax (x y : Int32) : Int32 := if x < y then y else x
def zmin (x y : Int32) : Int32 := if y < x then y else x
section ZM
variable {X : zX} {own : String} {cc : ByteArray} {nL f w : Nat} {rt : Option FieldType} {nm : String} {et : List ExceptionTableEntry} {Q : State → Prop} {pc : Nat} {L : List (Nat × zV)} {st : List zV} {σ σ' : zS}
theorem z_mmax (hX : zOk X own cc nL f w rt nm et) {idx : Nat} (lk : Cond.methodLink own idx Lib.Math.max.name ∈ lw_all) (hf : 1 ≤ f) (hw : 21 ≤ w) (h8 : zlen st ≤ 8) {x y : Int32} (d : decode cc pc = .ok (.invokestatic idx, 3)) (kk : zG X Q nL (pc + 3) L (zI (zmax x y) :: st) σ) : zG X Q nL pc L (zI y :: zI x :: st) σ := by
  intro ls H locs hl hI
  have h9 := zcat8 h8 (g := F0 (xm X) pc ls (st.map zv)) rfl
  have e8 : (F0 (xm X) pc ls (st.map zv)).monitorRoom = 0 := rfl
  rw [e8] at h9
  have h10 := zle hX hI
  have hXR := hX.R
  exact va_mmax hX.1 hX.2.1 (by rw [hX.ml]; exact hl.1.symm) hX.ow (hX.hts _ lk) (hX.hts _ q399) (hX.hts _ q90) (hX.hts _ q400) (by rw [hXR]; exact hf) (by rw [hXR]; show _ + 13 ≤ w; omega) (by rw [hXR]; exact h10.1) (by rw [hXR]; exact h10.2) d (kk ls H locs hl hI)
theorem z_mmin (hX : zOk X own cc nL f w rt nm et) {idx : Nat} (lk : Cond.methodLink own idx Lib.Math.min.name ∈ lw_all) (hf : 1 ≤ f) (hw : 21 ≤ w) (h8 : zlen st ≤ 8) {x y : Int32} (d : decode cc pc = .ok (.invokestatic idx, 3)) (kk : zG X Q nL (pc + 3) L (zI (zmin x y) :: st) σ) : zG X Q nL pc L (zI y :: zI x :: st) σ := by
  intro ls H locs hl hI
  have h9 := zcat8 h8 (g := F0 (xm X) pc ls (st.map zv)) rfl
  have e8 : (F0 (xm X) pc ls (st.map zv)).monitorRoom = 0 := rfl
  rw [e8] at h9
  have h10 := zle hX hI
  have hXR := hX.R
  exact va_mmin hX.1 hX.2.1 (by rw [hX.ml]; exact hl.1.symm) hX.ow (hX.hts _ lk) (hX.hts _ q534) (hX.hts _ q90) (hX.hts _ q535) (by rw [hXR]; exact hf) (by rw [hXR]; show _ + 13 ≤ w; omega) (by rw [hXR]; exact h10.1) (by rw [hXR]; exact h10.2) d (kk ls H locs hl hI)
end ZM
/-! a String constant by ldc_w -/
theorem zldcwString {p : Program} {l : Launch} {e : Env} {R : Room} {s : State} {m : MethodId} {args : Array Value} {below : List Frame} {meth : Method} {c : Code} {T : State} {locs : List Loc} {cells slots : Nat}
    (X : Stand p l e R s m args below meth c T locs cells slots) (hexec : p.tables.exec = Jvm.exec) {own text : String} {index : Nat} {a : Addr} (hown : s.vm.findClass own = some m.cls)
    (hconst : (Cond.stringRef own index text).before #[] s = true) (hev : (Term.string own index).eval #[] s none [] s = some (.ref a)) {g : JFrame} (hg : g.method = m) (hdg : decode c.code g.pc = .ok (.ldc_w index, 3)) :
    ∀ target, Steps p.tables e below (T.setTop { g with pc := g.pc + 3, stack := .ref a :: g.stack }) target → Steps p.tables e below (T.setTop g) target := by
  obtain ⟨k, cf, i, a', hk, hcf, hcp, -, hr, hev'⟩ := Cond.stringRef_spec hown hconst
  cases hev.symm.trans hev'
  obtain ⟨k', hk', he⟩ := X.warmed.alike.2.2 _ _ hk
  have hr' : k'.resolved[index]? = some (some (.string a)) := by
    rcases X.warmed.entry hk hk' index with h | ⟨h, -⟩
    · rw [h]; exact hr
    · rw [hr] at h; cases h
  intro target hrest
  subst hg
  jvm_step X.here [hexec, hdg, ldc_w.wp_string (e := e) (s := T) (f := g) X.here.top hk' (by rw [he]; exact hcf) hcp hr']
  exact hrest
section ZV9
variable {X : zX} {own : String} {cc : ByteArray} {nL f w : Nat} {rt : Option FieldType} {nm : String} {et : List ExceptionTableEntry} {Q : State → Prop} {pc : Nat} {L : List (Nat × zV)} {st : List zV} {σ σ' : zS}
theorem z_ldcSw (hX : zOk X own cc nL f w rt nm et) {idx k : Nat} {tx : String} (hS : (own, idx, tx, k) ∈ zStr) {β : Type} {K : Nat → Option β} {R : β} (h : (zk σ k).bind K = some R) (d : decode cc pc = .ok (.ldc_w idx, 3)) (kk : ∀ a, zk σ k = some a → K a = some R → zG X Q nL (pc + 3) L (zA (some a) :: st) σ) : zG X Q nL pc L st σ := by
  intro ls H locs hl hI
  obtain ⟨a, h1, h2⟩ := hX.K.2.2.2.2.2.1 _ hS
  rw [← hI.2.2.2.2.2.1] at h1
  have h3 : zk σ k = some a := h1
  rw [h3] at h
  intro T hT S
  obtain ⟨t, a1, b1⟩ := kk a h3 h ls H locs hl hI T hT S
  exact ⟨t, zldcwString S hX.1 hX.ow (text := tx) (a := a) h2.1 h2.2 (g := F0 (xm X) pc ls (st.map zv)) rfl (by rw [hX.2.1]; exact d) t a1, b1⟩
end ZV9
