/-- the statics that are read: class, name, descriptor, the constant's number -/
def zSt : List (String × String × String × Nat) := [("java/util/ArrayList", "DEFAULTCAPACITY_EMPTY_ELEMENTDATA", "[Ljava/lang/Object;", 1), ("java/lang/Throwable", "UNASSIGNED_STACK", "[Ljava/lang/StackTraceElement;", 2), ("java/lang/Throwable", "SUPPRESSED_SENTINEL", "Ljava/util/List;", 3), ("jdk/internal/util/Preconditions", "SIOOBE_FORMATTER", "Ljava/util/function/BiFunction;", 4), ("StepDebts$Tag", "$VALUES", "[LStepDebts$Tag;", 5), ("StepDebts$Fact", "$VALUES", "[LStepDebts$Fact;", 6), ("StepDebts$Tag", "NIGHT", "LStepDebts$Tag;", 14), ("StepDebts$Tag", "OWN", "LStepDebts$Tag;", 15)]
def zStI : List (String × String × String × Int32) := [("java/lang/String", "COMPACT_STRINGS", "Z", 1)]
/-- the String constants: class, entry, text; the constant's number is 100 and the text's place here -/
def zTx : List String := ["house", "man", "child", "donkey", "cripple", "turn", "limit", "rest", "offer", "of", "zeal", "for", "count", "if", "not", "and", "or", "night", "own", "age", "wear", "paces", "day"]
def zStr : List (String × Nat × String × Nat) := lw_tbl.filterMap (fun w => match w with
  | .stringRef c k t => (zTx.idxOf? t).map (fun i => (c, k, t, 100 + i))
  | _ => none)
/-- the array classes -/
def zTl : List FieldType := [.int, .byte, .long, .object "java/lang/Object", .object "StepDebts$Tag", .object "StepDebts$Fact"]
/-- classes of throwables of which the first isn't the second's -/
def zNc : List (String × String) := [("java/lang/IllegalArgumentException", "java/lang/IndexOutOfBoundsException"), ("java/lang/IllegalStateException", "java/lang/IndexOutOfBoundsException"), ("java/lang/IllegalStateException", "java/lang/IllegalArgumentException"), ("java/util/NoSuchElementException", "java/lang/IndexOutOfBoundsException"), ("java/lang/UnsupportedOperationException", "java/lang/IllegalArgumentException")]
/-- private methods of a class that has no objects of its own, called on objects of the class below it -/
def zPv : List (String × MethodName) := [(RJ9, yJ8_ensureCapacityInternal), (RJ9, yJ8_newCapacity), (RJ9, yJ8_putStringAt), (RJ9, yJ8_inflateIfNeededFor)]
/-- what holds of the tables and the constants all through the run -/
def zKK (D : va_G) (tys : zTy) (sv : Nat → Option Nat) (B : Nat) (U : State) (H : Heap) : Prop :=
  tys.map (fun q => q.2) = zTl ∧ va_K D vwCl tys U ∧ (∀ w ∈ zNw, va_Nw w U) ∧ (∀ q ∈ zSt, va_Z q.1 q.2.1 q.2.2.1 (va_rf (sv q.2.2.2)) (fun a => B ≤ a) U H) ∧ (∀ q ∈ zStI, va_Z q.1 q.2.1 q.2.2.1 (.int q.2.2.2) (fun a => B ≤ a) U H) ∧
  (∀ q ∈ zStr, ∃ a, sv q.2.2.2 = some a ∧ vk_R q.1 q.2.1 q.2.2.1 a U) ∧ (∃ mi, sv 0 = some mi ∧ va_Mi "[Ljava/lang/Object;" mi U) ∧ va_AO "java/lang/Object" U ∧
  va_Fw "java/util/ArrayList" ⟨"java/util/Collection", "toArray", "()[Ljava/lang/Object;"⟩ yJ2_toArray U ∧ (∀ q ∈ [(RX14, yX14_holds), (RX15, yX15_holds), (RX17, yX17_holds), (RX21, yX21_holds)], va_Fw q.1 ⟨"StepDebts$Cond", "holds", "(LStepDebts$Scene;)Z"⟩ q.2 U) ∧
  (∀ q ∈ ["UNASSIGNED_STACK", "SUPPRESSED_SENTINEL"], ∀ d ∈ [Bundle.steD, Bundle.listD], (q = "UNASSIGNED_STACK" ∧ d = Bundle.steD) ∨ (q = "SUPPRESSED_SENTINEL" ∧ d = Bundle.listD) → vx_Zq Bundle.tN q d (fun a => B ≤ a) U H) ∧ (∀ q ∈ zNc, va_Nc q.1 q.2 U) ∧ ∀ q ∈ zPv, ∀ A : Array Value, (Cond.selects q.1 q.2 q.2).before A U = true
theorem zKK_to {D : va_G} {tys : zTy} {sv : Nat → Option Nat} {B : Nat} {s U : State} {H H1 : Heap} (hW : s.WarmedH U.vm) (hq : ∀ a : Nat, a < H.size → ¬ B ≤ a → H1[a]? = H[a]?) (h : zKK D tys sv B s H) : zKK D tys sv B U H1 := by
  obtain ⟨h0, h1, h2, h3, h4, h5, h6, h7, h8, h9, h10, h11, h12⟩ := h
  have hvm := hW.alike
  refine ⟨h0, va_K.moved hvm h1, zNw_warm hW h2, fun q hq' => va_Z.kept (va_Z.moved hvm (h3 q hq')) hq, fun q hq' => va_Z.kept (va_Z.moved hvm (h4 q hq')) hq, fun q hq' => ?_, ?_, va_AO.moved hvm h7, va_Fw.moved ⟨by decide, by decide⟩ hvm h8, fun q hq' => va_Fw.moved ⟨by decide, by decide⟩ hvm (h9 q hq'), fun q hq1 d hd hqd => vx_Zq.kept (vx_Zq.moved hvm (h10 q hq1 d hd hqd)) hq, fun q hq' => va_Nc.moved hvm (h11 q hq'), fun q hq' A => word_at hW (Or.inl rfl) (h12 q hq' A)⟩
  · obtain ⟨a, ha, hr⟩ := h5 q hq'
    exact ⟨a, ha, vk_R.warm hW hr⟩
  · obtain ⟨mi, ha, hr⟩ := h6
    exact ⟨mi, ha, va_Mi.moved hvm hr⟩
/-- the classes of what is thrown -/
def zEx (k : Nat) : String := match k with
  | 0 => "java/lang/IllegalArgumentException"
  | 1 => "java/lang/UnsupportedOperationException"
  | 2 => "java/lang/IndexOutOfBoundsException"
  | 3 => "java/util/NoSuchElementException"
  | 4 => "java/lang/IllegalStateException"
  | _ => "StepDebts$Wrong"
abbrev zO : Type := Option zV ⊕ Nat
abbrev zFr (σ : zS) : Nat → Prop := fun q => zbs σ ≤ q
def zPre (D : va_G) (tys : zTy) (σ : zS) (U : State) : Prop := zKK D tys (zsv σ) (zbs σ) U U.heap ∧ zR U D tys (zbs σ) σ.1 U.heap ∧ U.heap.size = zn σ ∧ zbs σ ≤ zn σ
def zEnd (D : va_G) (tys : zTy) (σ0 σ : zS) (st t : State) : Prop := zR t D tys (zbs σ0) σ.1 t.heap ∧ t.heap.size = zn σ ∧ zn σ + zc σ = zn σ0 + zc σ0 ∧ (∃ l, zsz t.heap = zsz st.heap ++ l ∧ l.sum + zz σ ≤ zz σ0) ∧ va_F (zFr σ0) st t ∧ zsv σ = zsv σ0 ∧ zbs σ = zbs σ0
def zQc (D : va_G) (tys : zTy) (σ0 : zS) (o : zO) (σ : zS) : Array Value → State → Outcome → State → Prop := fun _ st oc t => ∃ v : Option zV, o = .inl v ∧ oc = .returned (v.map zv) ∧ zEnd D tys σ0 σ st t
def zXC (D : va_G) (tys : zTy) (σ0 : zS) (o : zO) (σ : zS) : String → State → State → Prop := fun E st t => ∃ k : Nat, o = .inr k ∧ E = zEx k ∧ zEnd D tys σ0 σ st t
/-- y's contract: from the map σ0 it ends with o and the map σ, in what cells and slots σ0 has left; f frames and w words of locals suffice -/
def zM (l : Launch) (D : va_G) (tys : zTy) (y : MethodName) (ws : List Cond) (f w : Nat) (vs : List zV) (σ0 : zS) (o : zO) (σ : zS) : Prop :=
  vx_Met l y ws { frames := f, cells := zc σ0, slots := zz σ0, locals := w } (va_Pc (vs.map zv) (zPre D tys σ0)) (zQc D tys σ0 o σ) (zXC D tys σ0 o σ) (zc σ0) (zz σ0) (zFr σ0)
/-- the context is that of a walk through y's body -/
def zOk (X : zX) (own : String) (cc : ByteArray) (nL f w : Nat) (rt : Option FieldType) (nm : String) (et : List ExceptionTableEntry) : Prop :=
  (xp X).tables.exec = Jvm.exec ∧ (xc X).code = cc ∧ (xc X).maxLocals = nL ∧ (xs X).vm.findClass own = some (xm X).cls ∧ (∀ w ∈ lw_all, w.before (xa X) (xs X) = true) ∧ (xme X).locks = false ∧ (xme X).sig.returnType = rt ∧ (xme X).name = nm ∧ (xc X).exceptionTable.toList = et ∧
  zKK (xD X) (xt X) (zsv (x0 X)) (zbs (x0 X)) (xs X) (xs X).heap ∧ (xl X).stackTraces = false ∧ (xs X).heap.size = zn (x0 X) ∧ zbs (x0 X) ≤ zn (x0 X) ∧ xR X = { frames := f, cells := zc (x0 X), slots := zz (x0 X), locals := w }
def zIn (X : zX) (σ : zS) (H : Heap) (locs : List Loc) : Prop :=
  zR (xs X) (xD X) (xt X) (zbs (x0 X)) σ.1 H ∧ H.size = zn σ ∧ zn σ + zc σ = zn (x0 X) + zc (x0 X) ∧ (∃ l, zsz H = zsz (xs X).heap ++ l ∧ l.sum + zz σ ≤ zz (x0 X)) ∧ va_S (zFr (x0 X)) (xs X).heap H locs ∧ zsv σ = zsv (x0 X) ∧ zbs σ = zbs (x0 X)
abbrev zLv (L : List (Nat × zV)) : List (Nat × Value) := L.map (fun q => (q.1, zv q.2))
/-- the goal of a walk: at pc, with the locals L, the stack st, the map σ, it comes to Q -/
def zG (X : zX) (Q : State → Prop) (nL pc : Nat) (L : List (Nat × zV)) (st : List zV) (σ : zS) : Prop :=
  ∀ (ls : Array Slot) (H : Heap) (locs : List Loc), lv_has ls nL (zLv L) → zIn X σ H locs → xW X H locs (zn σ - zn (x0 X)) (zz (x0 X) - zz σ) Q (F0 (xm X) pc ls (st.map zv))
/-- what a body owes at its end -/
def zQ (X : zX) (o : zO) (σ : zS) : State → Prop := vx_MQ (xb X) (zQc (xD X) (xt X) (x0 X) o σ) (zXC (xD X) (xt X) (x0 X) o σ) (xa X) (xs X) (zc (x0 X)) (zz (x0 X)) (zFr (x0 X))
def zargs : Nat → List zV → List (Nat × zV)
  | _, [] => []
  | i, v :: vs => (i, v) :: zargs (if zw v = true then i + 2 else i + 1) vs
theorem zargs_map : ∀ (i : Nat) (vs : List zV), zLv (zargs i vs) = lv_args i (vs.map zv)
  | _, [] => rfl
  | i, v :: vs => by
    have e : (if zw v = true then i + 2 else i + 1) = (if (zv v).category = 2 then i + 2 else i + 1) := by
      cases h : zw v with
      | false => rw [zv_cat h]; rfl
      | true => rw [zv_cat2 h]; rfl
    show (i, zv v) :: zLv (zargs (if zw v = true then i + 2 else i + 1) vs) = (i, zv v) :: lv_args (if (zv v).category = 2 then i + 2 else i + 1) (vs.map zv)
    rw [zargs_map, e]
def zlen : List zV → Nat
  | [] => 0
  | v :: vs => (if zw v = true then 2 else 1) + zlen vs
theorem zlen_map : ∀ vs : List zV, (lg_sl (vs.map zv)).length = zlen vs
  | [] => rfl
  | v :: vs => by
    have h1 := zlen_map vs
    simp only [lg_sl, List.map_cons, List.flatMap_cons, List.length_append, zlen] at h1 ⊢
    rw [h1]
    cases h : zw v with
    | false => rw [if_neg (by rw [zv_cat h]; decide)]; rfl
    | true => rw [if_pos (zv_cat2 h)]; rfl
theorem zIn_size {X : zX} {own : String} {cc : ByteArray} {nL f w : Nat} {rt : Option FieldType} {nm : String} {et : List ExceptionTableEntry} (hX : zOk X own cc nL f w rt nm et) {σ : zS} {H : Heap} {locs : List Loc} (h : zIn X σ H locs) : zn (x0 X) ≤ zn σ ∧ zc σ ≤ zc (x0 X) ∧ zz σ ≤ zz (x0 X) := by
  obtain ⟨-, -, -, -, -, -, -, -, -, -, -, h1, -, -⟩ := hX
  obtain ⟨-, h2, h3, ⟨l, h4, h5⟩, h6, -⟩ := h
  have h7 := h6.1
  rw [h1, h2] at h7
  exact ⟨h7, by omega, by omega⟩
/-- the entry of a body -/
theorem zM_in {l : Launch} {D : va_G} {tys : zTy} {y : MethodName} {cc : ByteArray} {maxL : Nat} {ret : Option FieldType} {f w : Nat} {vs : List zV} {σ0 : zS} {o : zO} {σ : zS} (hl : l.stackTraces = false) (hy : plainName y.cls = true) (hlen : zlen vs ≤ maxL)
    (body : ∀ (p : Program) (e : Env) (R : Room) (s : State) (m : MethodId) (args : Array Value) (below : List Frame) (meth : Method) (c : Code), zOk (p, l, e, R, s, m, args, below, meth, c, D, tys, σ0) y.cls cc maxL f w ret y.name [] →
      zG (p, l, e, R, s, m, args, below, meth, c, D, tys, σ0) (zQ (p, l, e, R, s, m, args, below, meth, c, D, tys, σ0) o σ) maxL 0 (zargs 0 vs) [] σ0) : zM l D tys y (ws_ y cc maxL ret) f w vs σ0 o σ := by
  refine vx_ofW (cc := cc) (maxL := maxL) (ret := ret) (ws' := lw_all) hy rfl ?_
  intro p e s m args below meth c s₁ B hml htab hv
  obtain ⟨rfl, hKK, hR, hsz, hB⟩ := hv
  have hts := atoms_spec (ws := ws_ y cc maxL ret) B.pre
  have hts : ∀ w ∈ lw_all, w.before (vs.map zv).toArray s = true := fun w h => hts w (List.mem_cons_of_mem _ h)
  have htab2 : c.exceptionTable.toList = [] := List.eq_nil_iff_forall_not_mem.mpr (fun x hx => htab x hx)
  have hX : zOk (p, l, e, (headSpec (ws_ y cc maxL ret) { frames := f, cells := zc σ0, slots := zz σ0, locals := w }).room, s, m, (vs.map zv).toArray, below, meth, c, D, tys, σ0) y.cls cc maxL f w ret y.name [] :=
    ⟨B.exec, B.bytes, hml, findClass_of_methodNamed B.named, hts, B.notSynchronized, B.returns, (name_of_methodNamed B.named B.method).1, htab2, hKK, hl, hsz, hB, rfl⟩
  have k := body p e _ s m _ below meth c hX
  rw [lg_entry_eq]
  have hlv := lv_entry (vs.map zv) (n := maxL) (by rw [zlen_map]; exact hlen)
  rw [← zargs_map] at hlv
  have hI : zIn (p, l, e, (headSpec (ws_ y cc maxL ret) { frames := f, cells := zc σ0, slots := zz σ0, locals := w }).room, s, m, (vs.map zv).toArray, below, meth, c, D, tys, σ0) σ0 s.heap [] :=
    ⟨hR, hsz, rfl, ⟨[], by simp, by simp⟩, va_S.rf, rfl, rfl⟩
  have k2 := k _ s.heap [] hlv hI
  simp only [Nat.sub_self] at k2
  exact k2
