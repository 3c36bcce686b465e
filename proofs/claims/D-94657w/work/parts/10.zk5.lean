/-! rows of instructions that read and write the heap -/
def zCl (ci : Nat) : Option vw_C := if ci = 50 then some ("StepDebts$Tag", TTag, 2) else if ci = 51 then some ("StepDebts$Fact", TFact, 2) else vwCl[ci]?
theorem vwCl_lt {c : Nat} {r : vw_C} (h : vwCl[c]? = some r) : c < 22 := (List.getElem?_eq_some_iff.mp h).1
theorem zCl_reg {c : Nat} {r : vw_C} (h : vwCl[c]? = some r) : zCl c = some r := by
  have := vwCl_lt h
  rw [zCl, if_neg (by omega), if_neg (by omega), h]
theorem zCl_con {c : Nat} {r : vw_C} (h : zKc c = some r) : zCl (c % 100) = some r := by
  unfold zKc at h
  split at h
  · next e => subst e; exact h
  · split at h
    · next e => subst e; exact h
    · split at h
      · next e => subst e; exact h
      · cases h
/-- the field k of the class ci, as the entry idx of own's pool names it -/
def zFl (own : String) (idx ci k : Nat) : Prop := ∃ (C : String) (T : u_T) (N : Nat) (ref : String), zCl ci = some (C, T, N) ∧ (ci < 50 → ∀ w ∈ u_ws C T N, w ∈ lw_all) ∧ k < N ∧
  (Cond.fieldLink own idx ref (T k).2.1 (T k).2.2.1 ∈ lw_all ∨ ∃ host, Cond.fieldLinkNest own idx ref (T k).2.1 (T k).2.2.1 host ∈ zNw) ∧ (ref = (T k).1 ∨ Cond.sameField ref (T k).1 (T k).2.1 (T k).2.2.1 ∈ lw_all)
/-- it may be written; fin: it's final, and this is its class's constructor -/
def zFp (own : String) (idx ci k : Nat) (ty : FieldType) (fin : Bool) : Prop := ∃ (C : String) (T : u_T) (N : Nat) (ref : String) (tyf : Nat → FieldType), vwCl[ci]? = some (C, T, N) ∧ (∀ w ∈ u_ws C T N, w ∈ lw_all) ∧ k < N ∧
  (Cond.fieldLink own idx ref (T k).2.1 (T k).2.2.1 ∈ lw_all ∨ (fin = false ∧ ∃ host, Cond.fieldLinkNest own idx ref (T k).2.1 (T k).2.2.1 host ∈ zNw)) ∧ (ref = (T k).1 ∨ Cond.sameField ref (T k).1 (T k).2.1 (T k).2.2.1 ∈ lw_all) ∧
  (T k).2.2.2 = fin ∧ (fin = true → (T k).1 = own) ∧ (∀ j, j < N → parseFieldDescriptor (T j).2.2.1 = some (tyf j)) ∧ (∀ a, a < N → ∀ b, b < N → a ≠ b → (T a).2.1 ≠ (T b).2.1) ∧ parseFieldDescriptor (T k).2.2.1 = some ty
theorem zfld_inv {σ : zS} {a ci k : Nat} {v : Value} (h : zfld σ a ci k = some v) : ∃ (c : Nat) (fs : List Value), σ.1 a = some (.inr (c, fs)) ∧ c % 100 = ci ∧ fs[k]? = some v := by
  unfold zfld at h
  split at h
  · next c fs e =>
    by_cases hc : c % 100 = ci
    · rw [if_pos hc] at h
      exact ⟨c, fs, e, hc, h⟩
    · rw [if_neg hc] at h; cases h
  · cases h
theorem pF_inv {σ σ' : zS} {a ci k : Nat} {v : Value} (h : pF σ a ci k v = some σ') : ∃ fs : List Value, σ.1 a = some (.inr (ci, fs)) ∧ k < fs.length ∧ zbs σ ≤ a ∧ σ' = zset σ a (.inr (ci, fs.set k v)) := by
  unfold pF at h
  split at h
  · next c fs e =>
    by_cases hc : c = ci ∧ k < fs.length ∧ zbs σ ≤ a
    · rw [if_pos hc] at h
      obtain ⟨rfl, h1, h2⟩ := hc
      exact ⟨fs, e, h1, h2, (Option.some.inj h).symm⟩
    · rw [if_neg hc] at h; cases h
  · cases h
theorem zIn_set {X : zX} {σ : zS} {H H1 : Heap} {locs : List Loc} {a k : Nat} {o : zOb} {cell cell1 : Cell} (hI : zIn X σ H locs) (h0 : H[a]? = some cell) (h1 : H1[a]? = some cell1) (he : cell1.slots.size = cell.slots.size) (z : H1.size = H.size) (oq : ∀ q : Nat, q ≠ a → H1[q]? = H[q]?) (hat : zat (xs X) (xD X) (xt X) (zbs (x0 X)) a o H1) (ha : zbs σ ≤ a) : zIn X (zset σ a o) H1 (locs ++ [⟨a, k⟩]) := by
  obtain ⟨i1, i2, i3, ⟨l, i4, i5⟩, i6, i7, i8⟩ := hI
  exact ⟨zR_set i1 hat oq, z.trans i2, i3, ⟨l, (zsz_set z h0 h1 he oq).trans i4, i5⟩, va_S.put i6 z oq (show zbs (x0 X) ≤ a by rw [← i8]; exact ha), i7, i8⟩
theorem zIn_new {X : zX} {σ : zS} {H H1 : Heap} {locs : List Loc} {k : Nat} {o : zOb} {cell : Cell} (hI : zIn X σ H locs) (hc : 1 ≤ zc σ) (hz : k ≤ zz σ) (h1 : H1[H.size]? = some cell) (he : cell.slots.size = k) (z : H1.size = H.size + 1) (oq : ∀ q : Nat, q < H.size → H1[q]? = H[q]?) (hat : zat (xs X) (xD X) (xt X) (zbs (x0 X)) H.size o H1) : zIn X (zup σ.1 (zn σ) o, zsv σ, zbs σ, zn σ + 1, zc σ - 1, zz σ - k) H1 locs := by
  obtain ⟨i1, i2, i3, ⟨l, i4, i5⟩, i6, i7, i8⟩ := hI
  refine ⟨by rw [← i2]; exact zR_new i1 hat oq, by rw [z, i2], by show zn σ + 1 + (zc σ - 1) = _; omega, ⟨l ++ [k], ?_, ?_⟩, ⟨Nat.le_trans i6.1 (by omega), fun q h1 h2 => (oq q (Nat.lt_of_lt_of_le h1 i6.1)).trans (i6.2.1 q h1 h2), i6.2.2⟩, i7, i8⟩
  · rw [zsz_push z h1 oq, i4, he, List.append_assoc]
  · show (l ++ [k]).sum + (zz σ - k) ≤ _
    rw [List.sum_append, List.sum_singleton]
    omega
section ZH
variable {X : zX} {own : String} {cc : ByteArray} {nL f w : Nat} {rt : Option FieldType} {nm : String} {et : List ExceptionTableEntry} {Q : State → Prop} {pc : Nat} {L : List (Nat × zV)} {st : List zV} {σ : zS}
theorem zOk.K (hX : zOk X own cc nL f w rt nm et) : zKK (xD X) (xt X) (zsv (x0 X)) (zbs (x0 X)) (xs X) (xs X).heap := hX.2.2.2.2.2.2.2.2.2.1
theorem zOk.hts (hX : zOk X own cc nL f w rt nm et) : ∀ w ∈ lw_all, w.before (xa X) (xs X) = true := hX.2.2.2.2.1
theorem zOk.ow (hX : zOk X own cc nL f w rt nm et) : (xs X).vm.findClass own = some (xm X).cls := hX.2.2.2.1
theorem zOk.ml (hX : zOk X own cc nL f w rt nm et) : (xc X).maxLocals = nL := hX.2.2.1
theorem zOk.lk (hX : zOk X own cc nL f w rt nm et) : (xme X).locks = false := hX.2.2.2.2.2.1
theorem zOk.rty (hX : zOk X own cc nL f w rt nm et) : (xme X).sig.returnType = rt := hX.2.2.2.2.2.2.1
theorem zOk.nam (hX : zOk X own cc nL f w rt nm et) : (xme X).name = nm := hX.2.2.2.2.2.2.2.1
theorem zOk.etb (hX : zOk X own cc nL f w rt nm et) : (xc X).exceptionTable.toList = et := hX.2.2.2.2.2.2.2.2.1
theorem zOk.tr (hX : zOk X own cc nL f w rt nm et) : (xl X).stackTraces = false := hX.2.2.2.2.2.2.2.2.2.2.1
theorem zOk.sz (hX : zOk X own cc nL f w rt nm et) : (xs X).heap.size = zn (x0 X) := hX.2.2.2.2.2.2.2.2.2.2.2.1
theorem zOk.bs (hX : zOk X own cc nL f w rt nm et) : zbs (x0 X) ≤ zn (x0 X) := hX.2.2.2.2.2.2.2.2.2.2.2.2.1
theorem zOk.R (hX : zOk X own cc nL f w rt nm et) : xR X = { frames := f, cells := zc (x0 X), slots := zz (x0 X), locals := w } := hX.2.2.2.2.2.2.2.2.2.2.2.2.2
theorem zOk.Nw (hX : zOk X own cc nL f w rt nm et) {w : Cond} (h : w ∈ zNw) : va_Nw w (xs X) := hX.K.2.2.1 w h
theorem zty (hX : zOk X own cc nL f w rt nm et) {t : Nat} {q : ClassId × FieldType} {ty : FieldType} (hq : (xt X)[t]? = some q) (h : zTl[t]? = some ty) : q = (q.1, ty) := by
  have h1 : ((xt X).map (fun q => q.2))[t]? = some q.2 := by rw [List.getElem?_map, hq]; rfl
  rw [hX.K.1, h] at h1
  cases h1
  rfl
theorem zty_ex (hX : zOk X own cc nL f w rt nm et) {t : Nat} {ty : FieldType} (h : zTl[t]? = some ty) : ∃ c : ClassId, (xt X)[t]? = some (c, ty) := by
  have h1 : ((xt X).map (fun q => q.2))[t]? = some ty := by rw [hX.K.1]; exact h
  rw [List.getElem?_map] at h1
  cases e : (xt X)[t]? with
  | none => rw [e] at h1; cases h1
  | some q => rw [e] at h1; cases h1; exact ⟨q.1, rfl⟩
theorem z_getV (hX : zOk X own cc nL f w rt nm et) {idx ci k a : Nat} (fl : zFl own idx ci k) {v : Value} (hv : zfld σ a ci k = some v) (d : decode cc pc = .ok (.getfield idx, 3))
    (kk : ∀ (ls : Array Slot) (H : Heap) (locs : List Loc), lv_has ls nL (zLv L) → zIn X σ H locs → xW X H locs (zn σ - zn (x0 X)) (zz (x0 X) - zz σ) Q (F0 (xm X) (pc + 3) ls (v :: st.map zv))) : zG X Q nL pc L (zA (some a) :: st) σ := by
  intro ls H locs hl hI
  obtain ⟨c, fs, h1, h2, h3⟩ := zfld_inv hv
  obtain ⟨C, T, N, ref, hcl, hin, hkN, hlk, hsm⟩ := fl
  have hsame : ∀ x, (xs X).fieldFound? (T k).1 (T k).2.1 (T k).2.2.1 = some x → (xs X).fieldFound? ref (T k).2.1 (T k).2.2.1 = some x := by
    rcases hsm with e | e
    · rw [e]; exact fun _ h => h
    · exact u_same (hX.hts _ e)
  rcases hI.1 a _ h1 with ⟨hc, hat⟩ | ⟨hc, r, hk, ho, hf⟩
  · have hci : c = ci := by rw [← h2]; exact (Nat.mod_eq_of_lt hc).symm
    subst hci
    obtain ⟨r, hr, hat'⟩ := hat
    have er : r = (C, T, N) := Option.some.inj ((zCl_reg hr).symm.trans hcl)
    subst er
    have hci2 := vwCl_lt hr
    have hP : va_P (xD X) vwCl [(a, .inr (c, fs))] H := by
      intro j q hq
      have hz : j < 1 := (List.getElem?_eq_some_iff.mp hq).1
      rw [show j = 0 by omega] at hq
      cases hq
      exact ⟨_, hr, hat'⟩
    rcases hlk with hlk | ⟨host, hlk⟩
    · exact va_get (D := xD X) (ci := c) (C := C) (T := T) (N := N) hX.1 hX.2.1 hX.hts (hin (by omega)) hX.ow hX.K.2.1 hP 0 rfl hr k hkN (hX.hts _ hlk) hsame h3 d (kk ls H locs hl hI)
    · exact va_getN (D := xD X) (ci := c) (C := C) (T := T) (N := N) hX.1 hX.2.1 hX.hts (hin (by omega)) hX.ow hX.K.2.1 hP 0 rfl hr k hkN (va_Nw.use rfl (hX.Nw hlk)) hsame h3 d (kk ls H locs hl hI)
  · have er : r = (C, T, N) := by
      have := zCl_con hk
      rw [h2] at this
      exact Option.some.inj (this.symm.trans hcl)
    subst er
    obtain ⟨cf, kf, i, fd, cell, g1, g2, g3, g4, g5, -⟩ := hf k v h3
    rcases hlk with hlk | ⟨host, hlk⟩
    · exact W.getf hX.1 hX.2.1 hX.ow (hX.hts _ hlk) (hsame _ g1) g2 g3 g4 g5 rfl rfl d (kk ls H locs hl hI)
    · exact va_Wgetf hX.1 hX.2.1 hX.ow (va_Nw.use rfl (hX.Nw hlk)) (hsame _ g1) g2 g3 g4 g5 rfl rfl d (kk ls H locs hl hI)
theorem z_getI (hX : zOk X own cc nL f w rt nm et) {idx ci k a : Nat} (fl : zFl own idx ci k) {β : Type} {K : Int32 → Option β} {R : β} (h : (gI σ a ci k).bind K = some R) (d : decode cc pc = .ok (.getfield idx, 3)) (kk : ∀ x, K x = some R → zG X Q nL (pc + 3) L (zI x :: st) σ) : zG X Q nL pc L (zA (some a) :: st) σ := by
  unfold gI at h
  split at h
  · next x e => exact z_getV hX fl e d (kk x h)
  · cases h
theorem z_getR (hX : zOk X own cc nL f w rt nm et) {idx ci k a : Nat} (fl : zFl own idx ci k) {β : Type} {K : Option Nat → Option β} {R : β} (h : (gR σ a ci k).bind K = some R) (d : decode cc pc = .ok (.getfield idx, 3)) (kk : ∀ x, K x = some R → zG X Q nL (pc + 3) L (zA x :: st) σ) : zG X Q nL pc L (zA (some a) :: st) σ := by
  unfold gR at h
  split at h
  · next x e => exact z_getV hX fl e d (kk (some x) h)
  · next e => exact z_getV hX fl e d (kk none h)
  · cases h
theorem z_putV (hX : zOk X own cc nL f w rt nm et) {idx ci k a : Nat} {ty : FieldType} {fin : Bool} (fl : zFp own idx ci k ty fin) (hfn : fin = true → nm = "<init>") {v : zV} {σ' : zS} (h : pF σ a ci k (zv v) = some σ') (hn : narrow ty (zv v) = zv v) (hfit : fits ty (zv v) = true) (d : decode cc pc = .ok (.putfield idx, 3)) (kk : zG X Q nL (pc + 3) L st σ') : zG X Q nL pc L (v :: zA (some a) :: st) σ := by
  intro ls H locs hl hI
  obtain ⟨fs, h1, h2, h3, rfl⟩ := pF_inv h
  obtain ⟨C, T, N, ref, tyf, hcl, hin, hkN, hlk, hsm, hfin, hfo, hty, hnm, hd⟩ := fl
  have hsame : ∀ x, (xs X).fieldFound? (T k).1 (T k).2.1 (T k).2.2.1 = some x → (xs X).fieldFound? ref (T k).2.1 (T k).2.2.1 = some x := by
    rcases hsm with e | e
    · rw [e]; exact fun _ h => h
    · exact u_same (hX.hts _ e)
  have hci := vwCl_lt hcl
  rcases hI.1 a _ h1 with ⟨hc, r, hr, cell, q1, q2, q3, q4⟩ | ⟨hc, -⟩
  · have er : r = (C, T, N) := Option.some.inj (hr.symm.trans hcl)
    subst er
    have hK := hX.K.2.1
    have hts := hX.hts
    have hap := va_apart (own := own) hts hin tyf hty hnm hK hcl
    obtain ⟨hS, hfc, kC, hkC, hkind⟩ := hK.1 ci _ hcl
    obtain ⟨cf, kf, fi, fd, hi, hsl⟩ := hS k hkN
    have hlay := hts _ (hin _ (u_in_lay hkN))
    unfold u_lay at hlay
    have hst := (u_facts hfc hkC (u_lays hts hin hkN) hi).1
    have go : ∀ (H' : Heap), H'[a]? = some (cell.setSlot fd.slot (zv v)) → H'.size = H.size → (∀ q, q ≠ a → H'[q]? = H[q]?) → xW X H' (locs ++ [⟨a, fd.slot⟩]) (zn σ - zn (x0 X)) (zz (x0 X) - zz σ) Q (F0 (xm X) (pc + 3) ls (st.map zv)) := by
      intro H' e1 e2 e3
      refine kk ls H' _ hl (zIn_set hI q1 e1 (by simp [Cell.setSlot]) e2 e3 (Or.inl ⟨hc, _, hcl, ?_⟩) h3)
      rw [hsl] at e1
      exact t_OB.to (V := updV (vp_V fs) k (zv v)) ⟨_, e1, q2, q3, t_set q4 hap hkN (zv v)⟩ (fun j _ => vp_updV_set h2 (zv v) j)
    cases fin with
    | false =>
      rw [if_neg (by rw [hfin]; decide)] at hlay
      have h6 := u_store hfc hkC hkind hlay hi hd hn hfit
      rcases hlk with hlk | ⟨-, host, hlk⟩
      · exact W.putK hX.1 hX.2.1 (f := fd) ⟨hX.ow, hts _ hlk, ⟨_, _, _, hsame _ hi⟩, hst⟩ (by rw [q2]; exact h6) q1 q3 (by rw [hsl]; exact k2_hasslot (q4 k hkN)) rfl rfl d go
      · exact va_WputK hX.1 hX.2.1 (f := fd) hX.ow (va_Nw.use rfl (hX.Nw hlk)) (hsame _ hi) hst (by rw [q2]; exact h6) q1 q3 (by rw [hsl]; exact k2_hasslot (q4 k hkN)) rfl rfl d go
    | true =>
      rw [if_pos hfin] at hlay
      have hcf : (xm X).cls = cf := by
        obtain ⟨_, _, c', _, _, _, -, -, hf', -, -, -, hown2, -⟩ := Cond.laysFinal_spec hlay
        have e1 : c' = cf := by have := hi.symm.trans hf'; simp at this; exact this.1.symm
        rw [hfo rfl] at hown2
        rw [← e1]; exact Option.some.inj (hX.ow.symm.trans hown2)
      have h6 := u_fits hfc hkC hkind (Or.inr hlay) hi hd hn hfit
      rcases hlk with hlk | ⟨e, -⟩
      · exact W.putFinK hX.1 hX.2.1 hX.ow (hts _ hlk) (hsame _ hi) hst hcf (hX.nam.trans (hfn rfl)) (by rw [q2]; exact h6) q1 q3 (by rw [hsl]; exact k2_hasslot (q4 k hkN)) rfl rfl d go
      · cases e
  · omega
theorem z_putI (hX : zOk X own cc nL f w rt nm et) {idx ci k a : Nat} {fin : Bool} (fl : zFp own idx ci k .int fin) (hfn : fin = true → nm = "<init>") {x : Int32} {β : Type} {K : zS → Option β} {R : β} (h : (pI σ a ci k x).bind K = some R) (d : decode cc pc = .ok (.putfield idx, 3)) (kk : ∀ σ', K σ' = some R → zG X Q nL (pc + 3) L st σ') : zG X Q nL pc L (zI x :: zA (some a) :: st) σ := by
  cases e : pI σ a ci k x with
  | none => rw [e] at h; cases h
  | some σ' => rw [e] at h; exact z_putV hX fl hfn (v := zI x) e rfl rfl d (kk σ' h)
theorem z_putZ (hX : zOk X own cc nL f w rt nm et) {idx ci k a : Nat} {fin : Bool} (fl : zFp own idx ci k .boolean fin) (hfn : fin = true → nm = "<init>") {x : Int32} {β : Type} {K : zS → Option β} {R : β} (h : (pZ σ a ci k x).bind K = some R) (d : decode cc pc = .ok (.putfield idx, 3)) (kk : ∀ σ', K σ' = some R → zG X Q nL (pc + 3) L st σ') : zG X Q nL pc L (zI x :: zA (some a) :: st) σ := by
  unfold pZ at h
  by_cases hx : x = 0 ∨ x = 1
  · rw [if_pos hx] at h
    cases e : pF σ a ci k (.int x) with
    | none => rw [e] at h; cases h
    | some σ' =>
      rw [e] at h
      refine z_putV hX fl hfn (v := zI x) e ?_ ?_ d (kk σ' h)
      · rcases hx with rfl | rfl <;> decide
      · rcases hx with rfl | rfl <;> decide
  · rw [if_neg hx] at h; cases h
theorem z_putB (hX : zOk X own cc nL f w rt nm et) {idx ci k a : Nat} {fin : Bool} (fl : zFp own idx ci k .byte fin) (hfn : fin = true → nm = "<init>") {x : Int32} {β : Type} {K : zS → Option β} {R : β} (h : (pB σ a ci k x).bind K = some R) (d : decode cc pc = .ok (.putfield idx, 3)) (kk : ∀ σ', K σ' = some R → zG X Q nL (pc + 3) L st σ') : zG X Q nL pc L (zI x :: zA (some a) :: st) σ := by
  unfold pB at h
  by_cases hx : x.toInt8.toInt32 = x
  · rw [if_pos hx] at h
    cases e : pF σ a ci k (.int x) with
    | none => rw [e] at h; cases h
    | some σ' =>
      rw [e] at h
      refine z_putV hX fl hfn (v := zI x) e ?_ ?_ d (kk σ' h)
      · show narrow .byte (.int x) = .int x
        rw [← hx]
        exact pk_nb x
      · show fits .byte (.int x) = true
        rw [← hx]
        exact pk_fb x
  · rw [if_neg hx] at h; cases h
theorem z_putR (hX : zOk X own cc nL f w rt nm et) {idx ci k a : Nat} {ty : FieldType} {fin : Bool} (fl : zFp own idx ci k ty fin) (hty : (∃ n, ty = .object n) ∨ ∃ t, ty = .array t) (hfn : fin = true → nm = "<init>") {r : Option Nat} {β : Type} {K : zS → Option β} {R : β} (h : (pR σ a ci k r).bind K = some R) (d : decode cc pc = .ok (.putfield idx, 3)) (kk : ∀ σ', K σ' = some R → zG X Q nL (pc + 3) L st σ') : zG X Q nL pc L (zA r :: zA (some a) :: st) σ := by
  cases e : pR σ a ci k r with
  | none => rw [e] at h; cases h
  | some σ' =>
    rw [e] at h
    refine z_putV hX fl hfn (v := zA r) e ?_ ?_ d (kk σ' h)
    · rcases hty with ⟨n, rfl⟩ | ⟨t, rfl⟩ <;> cases r <;> rfl
    · rcases hty with ⟨n, rfl⟩ | ⟨t, rfl⟩ <;> cases r <;> rfl
end ZH
