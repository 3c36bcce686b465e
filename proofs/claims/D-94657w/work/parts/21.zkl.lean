/-! the law's calls of the model, and its script -/
def rM (σ : zS) (o : Nat) : mS := (fun k => match σ.1 o with
  | some (.inr (_, fs)) => (match fs[k]? with
    | some (.int x) => x
    | _ => 0)
  | _ => 0, fun j => match σ.1 (o + (j + 1)) with
  | some (.inl (_, _, .inl f)) => f
  | _ => fun _ => 0)
/-- a function over the model's numbers, run on the map where the model stands at o -/
noncomputable def gl {α : Type} (o : Nat) (g : mS → Option (α × mS)) (σ : zS) : Option (α × zS) :=
  @ite _ (pM σ o (rM σ o) = σ ∧ zP σ o) (Classical.propDecidable _) (match g (rM σ o) with
    | some (r, M') => some (r, pM σ o M')
    | none => none) none
theorem gl_inv {α : Type} {o : Nat} {g : mS → Option (α × mS)} {σ σ' : zS} {r : α} (h : gl o g σ = some (r, σ')) : (pM σ o (rM σ o) = σ ∧ zP σ o) ∧ ∃ M', g (rM σ o) = some (r, M') ∧ σ' = pM σ o M' := by
  unfold gl at h
  by_cases hc : pM σ o (rM σ o) = σ ∧ zP σ o
  · rw [@if_pos _ (Classical.propDecidable _) hc] at h
    refine ⟨hc, ?_⟩
    split at h
    · next r' M' e => cases h; exact ⟨M', e, rfl⟩
    · cases h
  · rw [@if_neg _ (Classical.propDecidable _) hc] at h
    cases h
theorem gl_cl {α : Type} {o : Nat} {g : mS → Option (α × mS)} {σ σ' : zS} {r : α} (h : gl o g σ = some (r, σ')) : zcl σ o = 5 := by
  obtain ⟨⟨h1, -⟩, -⟩ := gl_inv h
  rw [← h1]
  exact pM_cl
theorem gl_ok {l : Launch} {D : va_G} {tys : zTy} {y : MethodName} {ws : List Cond} {f w : Nat} {vs : List zV} {α : Type} {emb : α → Option zV} {o : Nat} {g : mS → Option (α × mS)} {σ σ' : zS} {r : α} (h : gl o g σ = some (r, σ')) (hc : ∀ (_ : zP σ o) (M : mS) (Rt : α × mS), g M = some Rt → zM l D tys y ws f w vs (pM σ o M) (.inl (emb Rt.1)) (pM σ o Rt.2)) : zM l D tys y ws f w vs σ (.inl (emb r)) σ' := by
  obtain ⟨⟨h1, h2⟩, M', h3, rfl⟩ := gl_inv h
  have h4 := hc h2 _ _ h3
  rw [h1] at h4
  exact h4
def zsl (L : Nat) (xs : Nat → Int32) (i : Int32) : Option Int32 := if i < 0 ∨ L ≤ i.toNatClampNeg then none else some (xs i.toNatClampNeg)
def zScr (X : zX) (b L : Nat) (sc : Nat → Int32) : Prop := va_X b L sc (xs X) (xs X).heap ∧ b < (xs X).heap.size ∧ ¬ zbs (x0 X) ≤ b
def zRet (X : zX) (Q : State → Prop) (Rt : Int32 × zS) : Prop := ∀ {pc : Nat} {L : List (Nat × zV)} {r : Int32} {σ' : zS}, Rt = (r, σ') → decode cL_law pc = .ok (.ireturn, 1) → zG X Q 7 pc L [zI r] σ'
section ZLW
variable {X : zX} {own : String} {cc : ByteArray} {nL f w : Nat} {rt : Option FieldType} {nm : String} {et : List ExceptionTableEntry} {Q : State → Prop} {pc : Nat} {L : List (Nat × zV)} {st : List zV} {σ : zS}
theorem l_sld (hX : zOk X own cc nL f w rt nm et) {b L9 : Nat} {xs9 : Nat → Int32} (hS : zScr X b L9 xs9) {i : Int32} {β : Type} {K : Int32 → Option β} {R : β} (h : (zsl L9 xs9 i).bind K = some R) (d : decode cc pc = .ok (.iaload, 1)) (kk : ∀ x, K x = some R → zG X Q nL (pc + 1) L (zI x :: st) σ) : zG X Q nL pc L (zI i :: zA (some b) :: st) σ := by
  intro ls H locs hl hI
  unfold zsl at h
  by_cases hc : i < 0 ∨ L9 ≤ i.toNatClampNeg
  · rw [if_pos hc] at h; cases h
  · rw [if_neg hc] at h
    exact va_sld hX.1 hX.2.1 hS.1 hS.2.1 hS.2.2 hI.2.2.2.2.1 hc d (kk _ h ls H locs hl hI)
theorem l_slen (hX : zOk X own cc nL f w rt nm et) {b L9 : Nat} {xs9 : Nat → Int32} (hS : zScr X b L9 xs9) (d : decode cc pc = .ok (.arraylength, 1)) (kk : zG X Q nL (pc + 1) L (zI (Int32.ofNat L9) :: st) σ) : zG X Q nL pc L (zA (some b) :: st) σ := by
  intro ls H locs hl hI
  exact va_slen hX.1 hX.2.1 hS.1 hS.2.1 hS.2.2 hI.2.2.2.2.1 d (kk ls H locs hl hI)
end ZLW
