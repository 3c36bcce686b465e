section ZR
variable {X : zX} {own : String} {cc : ByteArray} {nL f w : Nat} {rt : Option FieldType} {nm : String} {et : List ExceptionTableEntry} {Q : State → Prop} {pc : Nat} {L : List (Nat × zV)} {st : List zV} {σ : zS}
theorem z_iadd (hX : zOk X own cc nL f w rt nm et) {x y : Int32} (d : decode cc pc = .ok (.iadd, 1)) (k : zG X Q nL (pc + 1) L (zI (x + y) :: st) σ) : zG X Q nL pc L (zI y :: zI x :: st) σ := fun ls H locs hl hI => lv_iadd hX.1 hX.2.1 d (k ls H locs hl hI)
theorem z_isub (hX : zOk X own cc nL f w rt nm et) {x y : Int32} (d : decode cc pc = .ok (.isub, 1)) (k : zG X Q nL (pc + 1) L (zI (x - y) :: st) σ) : zG X Q nL pc L (zI y :: zI x :: st) σ := fun ls H locs hl hI => lv_isub hX.1 hX.2.1 d (k ls H locs hl hI)
theorem z_imul (hX : zOk X own cc nL f w rt nm et) {x y : Int32} (d : decode cc pc = .ok (.imul, 1)) (k : zG X Q nL (pc + 1) L (zI (x * y) :: st) σ) : zG X Q nL pc L (zI y :: zI x :: st) σ := fun ls H locs hl hI => lv_imul hX.1 hX.2.1 d (k ls H locs hl hI)
theorem z_iand (hX : zOk X own cc nL f w rt nm et) {x y : Int32} (d : decode cc pc = .ok (.iand, 1)) (k : zG X Q nL (pc + 1) L (zI (x &&& y) :: st) σ) : zG X Q nL pc L (zI y :: zI x :: st) σ := fun ls H locs hl hI => lv_iand hX.1 hX.2.1 d (k ls H locs hl hI)
theorem z_ior (hX : zOk X own cc nL f w rt nm et) {x y : Int32} (d : decode cc pc = .ok (.ior, 1)) (k : zG X Q nL (pc + 1) L (zI (x ||| y) :: st) σ) : zG X Q nL pc L (zI y :: zI x :: st) σ := fun ls H locs hl hI => lv_ior hX.1 hX.2.1 d (k ls H locs hl hI)
theorem z_ixor (hX : zOk X own cc nL f w rt nm et) {x y : Int32} (d : decode cc pc = .ok (.ixor, 1)) (k : zG X Q nL (pc + 1) L (zI (x ^^^ y) :: st) σ) : zG X Q nL pc L (zI y :: zI x :: st) σ := fun ls H locs hl hI => lv_ixor hX.1 hX.2.1 d (k ls H locs hl hI)
theorem z_ishl (hX : zOk X own cc nL f w rt nm et) {x y : Int32} (d : decode cc pc = .ok (.ishl, 1)) (k : zG X Q nL (pc + 1) L (zI (x <<< (y &&& 31)) :: st) σ) : zG X Q nL pc L (zI y :: zI x :: st) σ := fun ls H locs hl hI => lv_ishl hX.1 hX.2.1 d (k ls H locs hl hI)
theorem z_ishr (hX : zOk X own cc nL f w rt nm et) {x y : Int32} (d : decode cc pc = .ok (.ishr, 1)) (k : zG X Q nL (pc + 1) L (zI (x >>> (y &&& 31)) :: st) σ) : zG X Q nL pc L (zI y :: zI x :: st) σ := fun ls H locs hl hI => lv_ishr hX.1 hX.2.1 d (k ls H locs hl hI)
theorem z_iushr (hX : zOk X own cc nL f w rt nm et) {x y : Int32} (d : decode cc pc = .ok (.iushr, 1)) (k : zG X Q nL (pc + 1) L (zI ((x.toUInt32 >>> (y.toUInt32 &&& Int32.toUInt32 31)).toInt32) :: st) σ) : zG X Q nL pc L (zI y :: zI x :: st) σ := fun ls H locs hl hI => lv_iushr hX.1 hX.2.1 d rfl (k ls H locs hl hI)
theorem z_ineg (hX : zOk X own cc nL f w rt nm et) {x : Int32} (d : decode cc pc = .ok (.ineg, 1)) (k : zG X Q nL (pc + 1) L (zI (-x) :: st) σ) : zG X Q nL pc L (zI x :: st) σ := fun ls H locs hl hI => lv_ineg hX.1 hX.2.1 d (k ls H locs hl hI)
theorem z_i2l (hX : zOk X own cc nL f w rt nm et) {x : Int32} (d : decode cc pc = .ok (.i2l, 1)) (k : zG X Q nL (pc + 1) L (zJ x.toInt64 :: st) σ) : zG X Q nL pc L (zI x :: st) σ := fun ls H locs hl hI => lv_i2l hX.1 hX.2.1 d rfl (k ls H locs hl hI)
theorem z_i2b (hX : zOk X own cc nL f w rt nm et) {x : Int32} (d : decode cc pc = .ok (.i2b, 1)) (k : zG X Q nL (pc + 1) L (zI x.toInt8.toInt32 :: st) σ) : zG X Q nL pc L (zI x :: st) σ := fun ls H locs hl hI => lv_i2b hX.1 hX.2.1 d rfl (k ls H locs hl hI)
theorem z_i2c (hX : zOk X own cc nL f w rt nm et) {x : Int32} (d : decode cc pc = .ok (.i2c, 1)) (k : zG X Q nL (pc + 1) L (zI (x.toUInt32 % 65536).toInt32 :: st) σ) : zG X Q nL pc L (zI x :: st) σ := fun ls H locs hl hI => lv_i2c hX.1 hX.2.1 d rfl (k ls H locs hl hI)
theorem z_ladd (hX : zOk X own cc nL f w rt nm et) {x y : Int64} (d : decode cc pc = .ok (.ladd, 1)) (k : zG X Q nL (pc + 1) L (zJ (x + y) :: st) σ) : zG X Q nL pc L (zJ y :: zJ x :: st) σ := fun ls H locs hl hI => lv_ladd hX.1 hX.2.1 d (k ls H locs hl hI)
theorem z_lsub (hX : zOk X own cc nL f w rt nm et) {x y : Int64} (d : decode cc pc = .ok (.lsub, 1)) (k : zG X Q nL (pc + 1) L (zJ (x - y) :: st) σ) : zG X Q nL pc L (zJ y :: zJ x :: st) σ := fun ls H locs hl hI => lv_lsub hX.1 hX.2.1 d (k ls H locs hl hI)
theorem z_lmul (hX : zOk X own cc nL f w rt nm et) {x y : Int64} (d : decode cc pc = .ok (.lmul, 1)) (k : zG X Q nL (pc + 1) L (zJ (x * y) :: st) σ) : zG X Q nL pc L (zJ y :: zJ x :: st) σ := fun ls H locs hl hI => lv_lmul hX.1 hX.2.1 d (k ls H locs hl hI)
theorem z_lcmp (hX : zOk X own cc nL f w rt nm et) {x y : Int64} (d : decode cc pc = .ok (.lcmp, 1)) (k : zG X Q nL (pc + 1) L (zI (lg_cmp x y) :: st) σ) : zG X Q nL pc L (zJ y :: zJ x :: st) σ := fun ls H locs hl hI => W.lcmp hX.1 hX.2.1 d (k ls H locs hl hI)
theorem z_iconst (hX : zOk X own cc nL f w rt nm et) {n : Int} {v : Int32} (hv : Int32.ofInt n = v) (d : decode cc pc = .ok (.iconst n, 1)) (k : zG X Q nL (pc + 1) L (zI v :: st) σ) : zG X Q nL pc L (st) σ := fun ls H locs hl hI => lv_iconst hX.1 hX.2.1 d hv (k ls H locs hl hI)
theorem z_bipush (hX : zOk X own cc nL f w rt nm et) {n : Int} {v : Int32} (hv : (Int8.ofInt n).toInt32 = v) (d : decode cc pc = .ok (.bipush n, 2)) (k : zG X Q nL (pc + 2) L (zI v :: st) σ) : zG X Q nL pc L (st) σ := fun ls H locs hl hI => lv_bipush hX.1 hX.2.1 d hv (k ls H locs hl hI)
theorem z_sipush (hX : zOk X own cc nL f w rt nm et) {n : Int} {v : Int32} (hv : (Int16.ofInt n).toInt32 = v) (d : decode cc pc = .ok (.sipush n, 3)) (k : zG X Q nL (pc + 3) L (zI v :: st) σ) : zG X Q nL pc L (st) σ := fun ls H locs hl hI => lv_sipush hX.1 hX.2.1 d hv (k ls H locs hl hI)
theorem z_lconst (hX : zOk X own cc nL f w rt nm et) {n : Fin 2} {v : Int64} (hv : Int64.ofNat (n : Nat) = v) (d : decode cc pc = .ok (.lconst n, 1)) (k : zG X Q nL (pc + 1) L (zJ v :: st) σ) : zG X Q nL pc L (st) σ := fun ls H locs hl hI => lv_lconst hX.1 hX.2.1 d hv (k ls H locs hl hI)
theorem z_null (hX : zOk X own cc nL f w rt nm et)  (d : decode cc pc = .ok (.aconst_null, 1)) (k : zG X Q nL (pc + 1) L (zA none :: st) σ) : zG X Q nL pc L (st) σ := fun ls H locs hl hI => lv_null hX.1 hX.2.1 d (k ls H locs hl hI)
theorem z_ldc (hX : zOk X own cc nL f w rt nm et) {idx : Nat} {v : Int32} (hc : Cond.constant own idx v ∈ lw_all) (d : decode cc pc = .ok (.ldc idx, 2)) (k : zG X Q nL (pc + 2) L (zI v :: st) σ) : zG X Q nL pc L (st) σ := fun ls H locs hl hI => lv_ldc hX.1 hX.2.1 hX.2.2.2.1 (hX.2.2.2.2.1 _ hc) d (k ls H locs hl hI)
theorem z_ldcw (hX : zOk X own cc nL f w rt nm et) {idx : Nat} {v : Int32} (hc : Cond.constant own idx v ∈ lw_all) (d : decode cc pc = .ok (.ldc_w idx, 3)) (k : zG X Q nL (pc + 3) L (zI v :: st) σ) : zG X Q nL pc L (st) σ := fun ls H locs hl hI => lv_ldcw hX.1 hX.2.1 hX.2.2.2.1 (hX.2.2.2.2.1 _ hc) d (k ls H locs hl hI)
theorem z_idivK (hX : zOk X own cc nL f w rt nm et) {x y : Int32} (hy : ¬ y = 0) (d : decode cc pc = .ok (.idiv, 1)) (k : zG X Q nL (pc + 1) L (zI (x / y) :: st) σ) : zG X Q nL pc L (zI y :: zI x :: st) σ := fun ls H locs hl hI => lv_idiv hX.1 hX.2.1 d hy (k ls H locs hl hI)
theorem z_iremK (hX : zOk X own cc nL f w rt nm et) {x y : Int32} (hy : ¬ y = 0) (d : decode cc pc = .ok (.irem, 1)) (k : zG X Q nL (pc + 1) L (zI (x - x / y * y) :: st) σ) : zG X Q nL pc L (zI y :: zI x :: st) σ := fun ls H locs hl hI => lv_irem hX.1 hX.2.1 d hy (k ls H locs hl hI)
theorem z_idiv (hX : zOk X own cc nL f w rt nm et) {x y : Int32} {β : Type} {K : Int32 → Option β} {R : β} (h : (zdiv x y).bind K = some R) (d : decode cc pc = .ok (.idiv, 1)) (k : ∀ v : Int32, K v = some R → zG X Q nL (pc + 1) L (zI v :: st) σ) : zG X Q nL pc L (zI y :: zI x :: st) σ := by
  intro ls H locs hl hI
  unfold zdiv at h
  by_cases hy : y = 0
  · rw [if_pos hy] at h; cases h
  · rw [if_neg hy] at h
    exact lv_idiv hX.1 hX.2.1 d hy (k (x / y) h ls H locs hl hI)
theorem z_irem (hX : zOk X own cc nL f w rt nm et) {x y : Int32} {β : Type} {K : Int32 → Option β} {R : β} (h : (zrem x y).bind K = some R) (d : decode cc pc = .ok (.irem, 1)) (k : ∀ v : Int32, K v = some R → zG X Q nL (pc + 1) L (zI v :: st) σ) : zG X Q nL pc L (zI y :: zI x :: st) σ := by
  intro ls H locs hl hI
  unfold zrem at h
  by_cases hy : y = 0
  · rw [if_pos hy] at h; cases h
  · rw [if_neg hy] at h
    exact lv_irem hX.1 hX.2.1 d hy (k (x - x / y * y) h ls H locs hl hI)
theorem z_ldiv (hX : zOk X own cc nL f w rt nm et) {x y : Int64} {β : Type} {K : Int64 → Option β} {R : β} (h : (zdivJ x y).bind K = some R) (d : decode cc pc = .ok (.ldiv, 1)) (k : ∀ v : Int64, K v = some R → zG X Q nL (pc + 1) L (zJ v :: st) σ) : zG X Q nL pc L (zJ y :: zJ x :: st) σ := by
  intro ls H locs hl hI
  unfold zdivJ at h
  by_cases hy : y = 0
  · rw [if_pos hy] at h; cases h
  · rw [if_neg hy] at h
    exact lv_ldiv hX.1 hX.2.1 d hy (k (x / y) h ls H locs hl hI)
theorem zLv_at {ls : Array Slot} (hl : lv_has ls nL (zLv L)) {i : Nat} {v : zV} (j : Nat) (h : L[j]? = some (i, v)) : ls[i]? = some (.val (zv v)) := lv_at hl j (by simp [zLv, h])
theorem z_iload_n (hX : zOk X own cc nL f w rt nm et) {k9 : Fin 4} {i : Nat} {x : Int32} (j : Nat) (hL : L[j]? = some (i, zI x)) (hi : (k9 : Nat) = i) (d : decode cc pc = .ok (.iload_n k9, 1)) (k : zG X Q nL (pc + 1) L (zI x :: st) σ) : zG X Q nL pc L st σ := fun ls H locs hl hI => lv_iload_n hX.1 hX.2.1 d hi (zLv_at hl j hL) (k ls H locs hl hI)
theorem z_iload (hX : zOk X own cc nL f w rt nm et) {i : Nat} {x : Int32} (j : Nat) (hL : L[j]? = some (i, zI x)) (d : decode cc pc = .ok (.iload i, 2)) (k : zG X Q nL (pc + 2) L (zI x :: st) σ) : zG X Q nL pc L st σ := fun ls H locs hl hI => lv_iload hX.1 hX.2.1 d (zLv_at hl j hL) (k ls H locs hl hI)
theorem z_lload_n (hX : zOk X own cc nL f w rt nm et) {k9 : Fin 4} {i : Nat} {x : Int64} (j : Nat) (hL : L[j]? = some (i, zJ x)) (hi : (k9 : Nat) = i) (d : decode cc pc = .ok (.lload_n k9, 1)) (k : zG X Q nL (pc + 1) L (zJ x :: st) σ) : zG X Q nL pc L st σ := fun ls H locs hl hI => lv_lload_n hX.1 hX.2.1 d hi (zLv_at hl j hL) (k ls H locs hl hI)
theorem z_lload (hX : zOk X own cc nL f w rt nm et) {i : Nat} {x : Int64} (j : Nat) (hL : L[j]? = some (i, zJ x)) (d : decode cc pc = .ok (.lload i, 2)) (k : zG X Q nL (pc + 2) L (zJ x :: st) σ) : zG X Q nL pc L st σ := fun ls H locs hl hI => lv_lload hX.1 hX.2.1 d (zLv_at hl j hL) (k ls H locs hl hI)
theorem z_aload_n (hX : zOk X own cc nL f w rt nm et) {k9 : Fin 4} {i : Nat} {r : Option Nat} (j : Nat) (hL : L[j]? = some (i, zA r)) (hi : (k9 : Nat) = i) (d : decode cc pc = .ok (.aload_n k9, 1)) (k : zG X Q nL (pc + 1) L (zA r :: st) σ) : zG X Q nL pc L st σ := fun ls H locs hl hI => by
  have h1 := zLv_at hl j hL
  have h2 := k ls H locs hl hI
  cases r with
  | none => exact lv_aload_nN hX.1 hX.2.1 d hi h1 h2
  | some a => exact lv_aload_n hX.1 hX.2.1 d hi h1 h2
theorem z_aload (hX : zOk X own cc nL f w rt nm et) {i : Nat} {r : Option Nat} (j : Nat) (hL : L[j]? = some (i, zA r)) (d : decode cc pc = .ok (.aload i, 2)) (k : zG X Q nL (pc + 2) L (zA r :: st) σ) : zG X Q nL pc L st σ := fun ls H locs hl hI => by
  have h1 := zLv_at hl j hL
  have h2 := k ls H locs hl hI
  cases r with
  | none => exact lv_aloadN hX.1 hX.2.1 d h1 h2
  | some a => exact lv_aload hX.1 hX.2.1 d h1 h2
def zins : List (Nat × zV) → Nat → zV → List (Nat × zV)
  | [], i, v => [(i, v)]
  | q :: L, i, v => bif Nat.blt q.1 i then q :: zins L i v else (i, v) :: q :: L
theorem zins_mem : ∀ (L : List (Nat × zV)) (i : Nat) (v : zV) (q : Nat × zV), q ∈ zins L i v → q = (i, v) ∨ q ∈ L
  | [], i, v, q, h => Or.inl (List.mem_singleton.mp h)
  | a :: L, i, v, q, h => by
    unfold zins at h
    cases e : Nat.blt a.1 i with
    | true =>
      rw [e] at h
      rcases List.mem_cons.mp h with h | h
      · exact Or.inr (h ▸ List.mem_cons_self)
      · rcases zins_mem L i v q h with h | h
        · exact Or.inl h
        · exact Or.inr (List.mem_cons_of_mem _ h)
    | false =>
      rw [e] at h
      rcases List.mem_cons.mp h with h | h
      · exact Or.inl h
      · exact Or.inr h
/-- the locals behind a store of a value of one slot -/
def zput (L : List (Nat × zV)) (i : Nat) (v : zV) : List (Nat × zV) := zins (L.filter (fun q => !(Nat.beq q.1 i) && !(Nat.beq (q.1 + 1) i && zw q.2))) i v
def zput2 (L : List (Nat × zV)) (i : Nat) (v : zV) : List (Nat × zV) := zins (L.filter (fun q => !(Nat.beq q.1 i) && (!(Nat.beq q.1 (i + 1)) && !(Nat.beq (q.1 + 1) i && zw q.2)))) i v
theorem zw_cat (v : zV) : ((zv v).category == 2) = zw v := by
  cases h : zw v with
  | false => rw [zv_cat h]; rfl
  | true => rw [zv_cat2 h]; rfl
theorem nat_beq (a b : Nat) : Nat.beq a b = (a == b) := by
  rw [Bool.eq_iff_iff]
  simp [Nat.beq_eq]
theorem z_put1 {ls : Array Slot} {i : Nat} {v : zV} (h : lv_has ls nL ((i, zv v) :: (zLv L).filter (fun q => !(q.1 == i) && !(q.1 + 1 == i && q.2.category == 2)))) : lv_has ls nL (zLv (zput L i v)) := by
  refine ⟨h.1, h.2.1, fun q hq => h.2.2 q ?_⟩
  obtain ⟨p, hp, rfl⟩ := List.mem_map.mp hq
  rcases zins_mem _ _ _ _ hp with e | e
  · rw [e]; exact List.mem_cons_self
  · obtain ⟨e1, e2⟩ := List.mem_filter.mp e
    refine List.mem_cons_of_mem _ (List.mem_filter.mpr ⟨List.mem_map.mpr ⟨p, e1, rfl⟩, ?_⟩)
    simp only [zw_cat]
    simpa only [nat_beq] using e2
theorem z_put2 {ls : Array Slot} {i : Nat} {v : zV} (h : lv_has ls nL ((i, zv v) :: (zLv L).filter (fun q => !(q.1 == i) && (!(q.1 == i + 1) && !(q.1 + 1 == i && q.2.category == 2))))) : lv_has ls nL (zLv (zput2 L i v)) := by
  refine ⟨h.1, h.2.1, fun q hq => h.2.2 q ?_⟩
  obtain ⟨p, hp, rfl⟩ := List.mem_map.mp hq
  rcases zins_mem _ _ _ _ hp with e | e
  · rw [e]; exact List.mem_cons_self
  · obtain ⟨e1, e2⟩ := List.mem_filter.mp e
    refine List.mem_cons_of_mem _ (List.mem_filter.mpr ⟨List.mem_map.mpr ⟨p, e1, rfl⟩, ?_⟩)
    simp only [zw_cat]
    simpa only [nat_beq] using e2
theorem z_istore_n (hX : zOk X own cc nL f w rt nm et) {k9 : Fin 4} {i : Nat} {x : Int32} {L' : List (Nat × zV)} (hL : zput L i (zI x) = L') (hi : (k9 : Nat) = i) (hn : i < nL) (d : decode cc pc = .ok (.istore_n k9, 1)) (k : zG X Q nL (pc + 1) L' st σ) : zG X Q nL pc L (zI x :: st) σ := fun ls H locs hl hI => lv_istore_n hX.1 hX.2.1 d hi hl hn rfl (fun ls' hl' => k ls' H locs (hL ▸ z_put1 hl') hI)
theorem z_istore (hX : zOk X own cc nL f w rt nm et) {i : Nat} {x : Int32} {L' : List (Nat × zV)} (hL : zput L i (zI x) = L') (hn : i < nL) (d : decode cc pc = .ok (.istore i, 2)) (k : zG X Q nL (pc + 2) L' st σ) : zG X Q nL pc L (zI x :: st) σ := fun ls H locs hl hI => lv_istore hX.1 hX.2.1 d hl hn rfl (fun ls' hl' => k ls' H locs (hL ▸ z_put1 hl') hI)
theorem z_lstore_n (hX : zOk X own cc nL f w rt nm et) {k9 : Fin 4} {i : Nat} {x : Int64} {L' : List (Nat × zV)} (hL : zput2 L i (zJ x) = L') (hi : (k9 : Nat) = i) (hn : i + 1 < nL) (d : decode cc pc = .ok (.lstore_n k9, 1)) (k : zG X Q nL (pc + 1) L' st σ) : zG X Q nL pc L (zJ x :: st) σ := fun ls H locs hl hI => lv_lstore_n hX.1 hX.2.1 d hi hl hn rfl (fun ls' hl' => k ls' H locs (hL ▸ z_put2 hl') hI)
theorem z_lstore (hX : zOk X own cc nL f w rt nm et) {i : Nat} {x : Int64} {L' : List (Nat × zV)} (hL : zput2 L i (zJ x) = L') (hn : i + 1 < nL) (d : decode cc pc = .ok (.lstore i, 2)) (k : zG X Q nL (pc + 2) L' st σ) : zG X Q nL pc L (zJ x :: st) σ := fun ls H locs hl hI => lv_lstore hX.1 hX.2.1 d hl hn rfl (fun ls' hl' => k ls' H locs (hL ▸ z_put2 hl') hI)
theorem z_astore_n (hX : zOk X own cc nL f w rt nm et) {k9 : Fin 4} {i : Nat} {r : Option Nat} {L' : List (Nat × zV)} (hL : zput L i (zA r) = L') (hi : (k9 : Nat) = i) (hn : i < nL) (d : decode cc pc = .ok (.astore_n k9, 1)) (k : zG X Q nL (pc + 1) L' st σ) : zG X Q nL pc L (zA r :: st) σ := fun ls H locs hl hI => by
  cases r with
  | none => exact lv_astore_nN hX.1 hX.2.1 d hi hl hn rfl (fun ls' hl' => k ls' H locs (hL ▸ z_put1 hl') hI)
  | some a => exact lv_astore_n hX.1 hX.2.1 d hi hl hn rfl (fun ls' hl' => k ls' H locs (hL ▸ z_put1 hl') hI)
theorem z_astore (hX : zOk X own cc nL f w rt nm et) {i : Nat} {r : Option Nat} {L' : List (Nat × zV)} (hL : zput L i (zA r) = L') (hn : i < nL) (d : decode cc pc = .ok (.astore i, 2)) (k : zG X Q nL (pc + 2) L' st σ) : zG X Q nL pc L (zA r :: st) σ := fun ls H locs hl hI => by
  cases r with
  | none => exact lv_astoreN hX.1 hX.2.1 d hl hn rfl (fun ls' hl' => k ls' H locs (hL ▸ z_put1 hl') hI)
  | some a => exact lv_astore hX.1 hX.2.1 d hl hn rfl (fun ls' hl' => k ls' H locs (hL ▸ z_put1 hl') hI)
theorem z_iinc (hX : zOk X own cc nL f w rt nm et) {i j : Nat} {n : Int} {x c : Int32} {β : Type} {K : Int32 → Option β} {R : β} (h : zl (x + c) K = some R) (hk : L[j]? = some (i, zI x)) (hv : Int32.ofInt n = c) (hn : i < nL) (d : decode cc pc = .ok (.iinc i n, 3)) (k : ∀ y : Int32, K y = some R → zG X Q nL (pc + 3) (zput L i (zI y)) st σ) : zG X Q nL pc L st σ := fun ls H locs hl hI => lv_iinc hX.1 hX.2.1 d hl (k := j) (x := x) (v := x + c) (by simp [zLv, hk, zv]) (by rw [hv]) hn rfl (fun ls' hl' => k (x + c) h ls' H locs (z_put1 hl') hI)
theorem z_sub (ks : List Nat) {L' : List (Nat × zV)} (hk : ks.filterMap (fun k => L[k]?) = L') (k : zG X Q nL pc L' st σ) : zG X Q nL pc L st σ := fun ls H locs hl hI => k ls H locs ⟨hl.1, hl.2.1, fun q hq => by
  obtain ⟨p, hp, rfl⟩ := List.mem_map.mp hq
  rw [← hk] at hp
  obtain ⟨i, -, hi⟩ := List.mem_filterMap.mp hp
  exact hl.2.2 _ (List.mem_map.mpr ⟨p, List.mem_of_getElem? hi, rfl⟩)⟩ hI
theorem z_L {L' : List (Nat × zV)} (e : L = L') (k : zG X Q nL pc L' st σ) : zG X Q nL pc L st σ := e ▸ k
theorem z_dup (hX : zOk X own cc nL f w rt nm et) {a : zV} (ha : zw a = false) (d : decode cc pc = .ok (.dup, 1)) (k : zG X Q nL (pc + 1) L (a :: a :: st) σ) : zG X Q nL pc L (a :: st) σ := fun ls H locs hl hI => lv_dup hX.1 hX.2.1 d (zv_cat ha) (k ls H locs hl hI)
theorem z_pop (hX : zOk X own cc nL f w rt nm et) {a : zV} (ha : zw a = false) (d : decode cc pc = .ok (.pop, 1)) (k : zG X Q nL (pc + 1) L st σ) : zG X Q nL pc L (a :: st) σ := fun ls H locs hl hI => lv_pop hX.1 hX.2.1 d (zv_cat ha) (k ls H locs hl hI)
theorem z_dup_x1 (hX : zOk X own cc nL f w rt nm et) {a b : zV} (ha : zw a = false) (hb : zw b = false) (d : decode cc pc = .ok (.dup_x1, 1)) (k : zG X Q nL (pc + 1) L (a :: b :: a :: st) σ) : zG X Q nL pc L (a :: b :: st) σ := fun ls H locs hl hI => lv_dup_x1 hX.1 hX.2.1 d (zv_cat ha) (zv_cat hb) (k ls H locs hl hI)
theorem z_dup2 (hX : zOk X own cc nL f w rt nm et) {a b : zV} (ha : zw a = false) (hb : zw b = false) (d : decode cc pc = .ok (.dup2, 1)) (k : zG X Q nL (pc + 1) L (a :: b :: a :: b :: st) σ) : zG X Q nL pc L (a :: b :: st) σ := fun ls H locs hl hI => lv_dup2_11 hX.1 hX.2.1 d (zv_cat ha) (zv_cat hb) (k ls H locs hl hI)
theorem z_itE {c : Prop} [inst9 : Decidable c] {β : Type} {A B : Option β} {R : β} (h : (if c then A else B) = some R) : (c → A = some R) ∧ (¬ c → B = some R) := ⟨fun e => by rw [if_pos e] at h; exact h, fun e => by rw [if_neg e] at h; exact h⟩
theorem z_if_eq (hX : zOk X own cc nL f w rt nm et) {x : Int32} {off : Int} {tgt : Nat} {β : Type} {A B : Option β} {R : β} (h : (if x = 0 then A else B) = some R) (d : decode cc pc = .ok (.ifCond .eq off, 3)) (ht : (pc : Int) + off = (tgt : Int)) (kt : A = some R → zG X Q nL tgt L st σ) (kf : B = some R → zG X Q nL (pc + 3) L st σ) : zG X Q nL pc L (zI x :: st) σ := fun ls H locs hl hI => lv_if_eq hX.1 hX.2.1 d ht (fun e => kt ((z_itE h).1 e) ls H locs hl hI) (fun e => kf ((z_itE h).2 e) ls H locs hl hI)
theorem z_icmp_eq (hX : zOk X own cc nL f w rt nm et) {x y : Int32} {off : Int} {tgt : Nat} {β : Type} {A B : Option β} {R : β} (h : (if x = y then A else B) = some R) (d : decode cc pc = .ok (.if_icmp .eq off, 3)) (ht : (pc : Int) + off = (tgt : Int)) (kt : A = some R → zG X Q nL tgt L st σ) (kf : B = some R → zG X Q nL (pc + 3) L st σ) : zG X Q nL pc L (zI y :: zI x :: st) σ := fun ls H locs hl hI => lv_icmp_eq hX.1 hX.2.1 d ht (fun e => kt ((z_itE h).1 e) ls H locs hl hI) (fun e => kf ((z_itE h).2 e) ls H locs hl hI)
theorem z_if_ne (hX : zOk X own cc nL f w rt nm et) {x : Int32} {off : Int} {tgt : Nat} {β : Type} {A B : Option β} {R : β} (h : (if ¬ x = 0 then A else B) = some R) (d : decode cc pc = .ok (.ifCond .ne off, 3)) (ht : (pc : Int) + off = (tgt : Int)) (kt : A = some R → zG X Q nL tgt L st σ) (kf : B = some R → zG X Q nL (pc + 3) L st σ) : zG X Q nL pc L (zI x :: st) σ := fun ls H locs hl hI => lv_if_ne hX.1 hX.2.1 d ht (fun e => kt ((z_itE h).1 e) ls H locs hl hI) (fun e => kf ((z_itE h).2 (fun z => z e)) ls H locs hl hI)
theorem z_icmp_ne (hX : zOk X own cc nL f w rt nm et) {x y : Int32} {off : Int} {tgt : Nat} {β : Type} {A B : Option β} {R : β} (h : (if ¬ x = y then A else B) = some R) (d : decode cc pc = .ok (.if_icmp .ne off, 3)) (ht : (pc : Int) + off = (tgt : Int)) (kt : A = some R → zG X Q nL tgt L st σ) (kf : B = some R → zG X Q nL (pc + 3) L st σ) : zG X Q nL pc L (zI y :: zI x :: st) σ := fun ls H locs hl hI => lv_icmp_ne hX.1 hX.2.1 d ht (fun e => kt ((z_itE h).1 e) ls H locs hl hI) (fun e => kf ((z_itE h).2 (fun z => z e)) ls H locs hl hI)
theorem z_if_lt (hX : zOk X own cc nL f w rt nm et) {x : Int32} {off : Int} {tgt : Nat} {β : Type} {A B : Option β} {R : β} (h : (if x < 0 then A else B) = some R) (d : decode cc pc = .ok (.ifCond .lt off, 3)) (ht : (pc : Int) + off = (tgt : Int)) (kt : A = some R → zG X Q nL tgt L st σ) (kf : B = some R → zG X Q nL (pc + 3) L st σ) : zG X Q nL pc L (zI x :: st) σ := fun ls H locs hl hI => lv_if_lt hX.1 hX.2.1 d ht (fun e => kt ((z_itE h).1 e) ls H locs hl hI) (fun e => kf ((z_itE h).2 e) ls H locs hl hI)
theorem z_icmp_lt (hX : zOk X own cc nL f w rt nm et) {x y : Int32} {off : Int} {tgt : Nat} {β : Type} {A B : Option β} {R : β} (h : (if x < y then A else B) = some R) (d : decode cc pc = .ok (.if_icmp .lt off, 3)) (ht : (pc : Int) + off = (tgt : Int)) (kt : A = some R → zG X Q nL tgt L st σ) (kf : B = some R → zG X Q nL (pc + 3) L st σ) : zG X Q nL pc L (zI y :: zI x :: st) σ := fun ls H locs hl hI => lv_icmp_lt hX.1 hX.2.1 d ht (fun e => kt ((z_itE h).1 e) ls H locs hl hI) (fun e => kf ((z_itE h).2 e) ls H locs hl hI)
theorem z_if_ge (hX : zOk X own cc nL f w rt nm et) {x : Int32} {off : Int} {tgt : Nat} {β : Type} {A B : Option β} {R : β} (h : (if 0 ≤ x then A else B) = some R) (d : decode cc pc = .ok (.ifCond .ge off, 3)) (ht : (pc : Int) + off = (tgt : Int)) (kt : A = some R → zG X Q nL tgt L st σ) (kf : B = some R → zG X Q nL (pc + 3) L st σ) : zG X Q nL pc L (zI x :: st) σ := fun ls H locs hl hI => lv_if_ge hX.1 hX.2.1 d ht (fun e => kt ((z_itE h).1 e) ls H locs hl hI) (fun e => kf ((z_itE h).2 e) ls H locs hl hI)
theorem z_icmp_ge (hX : zOk X own cc nL f w rt nm et) {x y : Int32} {off : Int} {tgt : Nat} {β : Type} {A B : Option β} {R : β} (h : (if y ≤ x then A else B) = some R) (d : decode cc pc = .ok (.if_icmp .ge off, 3)) (ht : (pc : Int) + off = (tgt : Int)) (kt : A = some R → zG X Q nL tgt L st σ) (kf : B = some R → zG X Q nL (pc + 3) L st σ) : zG X Q nL pc L (zI y :: zI x :: st) σ := fun ls H locs hl hI => lv_icmp_ge hX.1 hX.2.1 d ht (fun e => kt ((z_itE h).1 e) ls H locs hl hI) (fun e => kf ((z_itE h).2 e) ls H locs hl hI)
theorem z_if_gt (hX : zOk X own cc nL f w rt nm et) {x : Int32} {off : Int} {tgt : Nat} {β : Type} {A B : Option β} {R : β} (h : (if 0 < x then A else B) = some R) (d : decode cc pc = .ok (.ifCond .gt off, 3)) (ht : (pc : Int) + off = (tgt : Int)) (kt : A = some R → zG X Q nL tgt L st σ) (kf : B = some R → zG X Q nL (pc + 3) L st σ) : zG X Q nL pc L (zI x :: st) σ := fun ls H locs hl hI => lv_if_gt hX.1 hX.2.1 d ht (fun e => kt ((z_itE h).1 e) ls H locs hl hI) (fun e => kf ((z_itE h).2 e) ls H locs hl hI)
theorem z_icmp_gt (hX : zOk X own cc nL f w rt nm et) {x y : Int32} {off : Int} {tgt : Nat} {β : Type} {A B : Option β} {R : β} (h : (if y < x then A else B) = some R) (d : decode cc pc = .ok (.if_icmp .gt off, 3)) (ht : (pc : Int) + off = (tgt : Int)) (kt : A = some R → zG X Q nL tgt L st σ) (kf : B = some R → zG X Q nL (pc + 3) L st σ) : zG X Q nL pc L (zI y :: zI x :: st) σ := fun ls H locs hl hI => lv_icmp_gt hX.1 hX.2.1 d ht (fun e => kt ((z_itE h).1 e) ls H locs hl hI) (fun e => kf ((z_itE h).2 e) ls H locs hl hI)
theorem z_if_le (hX : zOk X own cc nL f w rt nm et) {x : Int32} {off : Int} {tgt : Nat} {β : Type} {A B : Option β} {R : β} (h : (if x ≤ 0 then A else B) = some R) (d : decode cc pc = .ok (.ifCond .le off, 3)) (ht : (pc : Int) + off = (tgt : Int)) (kt : A = some R → zG X Q nL tgt L st σ) (kf : B = some R → zG X Q nL (pc + 3) L st σ) : zG X Q nL pc L (zI x :: st) σ := fun ls H locs hl hI => lv_if_le hX.1 hX.2.1 d ht (fun e => kt ((z_itE h).1 e) ls H locs hl hI) (fun e => kf ((z_itE h).2 e) ls H locs hl hI)
theorem z_icmp_le (hX : zOk X own cc nL f w rt nm et) {x y : Int32} {off : Int} {tgt : Nat} {β : Type} {A B : Option β} {R : β} (h : (if x ≤ y then A else B) = some R) (d : decode cc pc = .ok (.if_icmp .le off, 3)) (ht : (pc : Int) + off = (tgt : Int)) (kt : A = some R → zG X Q nL tgt L st σ) (kf : B = some R → zG X Q nL (pc + 3) L st σ) : zG X Q nL pc L (zI y :: zI x :: st) σ := fun ls H locs hl hI => lv_icmp_le hX.1 hX.2.1 d ht (fun e => kt ((z_itE h).1 e) ls H locs hl hI) (fun e => kf ((z_itE h).2 e) ls H locs hl hI)
theorem z_goto (hX : zOk X own cc nL f w rt nm et) {off : Int} {tgt : Nat} (d : decode cc pc = .ok (.goto off, 3)) (ht : (pc : Int) + off = (tgt : Int)) (k : zG X Q nL tgt L st σ) : zG X Q nL pc L st σ := fun ls H locs hl hI => lv_goto hX.1 hX.2.1 d ht (k ls H locs hl hI)
theorem z_acmp_eq (hX : zOk X own cc nL f w rt nm et) {r q : Option Nat} {off : Int} {tgt : Nat} {β : Type} {A B : Option β} {R : β} (h : (if r = q then A else B) = some R) (d : decode cc pc = .ok (.if_acmp .eq off, 3)) (ht : (pc : Int) + off = (tgt : Int)) (kt : A = some R → zG X Q nL tgt L st σ) (kf : B = some R → zG X Q nL (pc + 3) L st σ) : zG X Q nL pc L (zA q :: zA r :: st) σ := fun ls H locs hl hI => lv_acmp_eq hX.1 hX.2.1 d ht (fun e => kt ((z_itE h).1 e) ls H locs hl hI) (fun e => kf ((z_itE h).2 e) ls H locs hl hI)
theorem z_acmp_ne (hX : zOk X own cc nL f w rt nm et) {r q : Option Nat} {off : Int} {tgt : Nat} {β : Type} {A B : Option β} {R : β} (h : (if ¬ r = q then A else B) = some R) (d : decode cc pc = .ok (.if_acmp .ne off, 3)) (ht : (pc : Int) + off = (tgt : Int)) (kt : A = some R → zG X Q nL tgt L st σ) (kf : B = some R → zG X Q nL (pc + 3) L st σ) : zG X Q nL pc L (zA q :: zA r :: st) σ := fun ls H locs hl hI => lv_acmp_ne hX.1 hX.2.1 d ht (fun e => kt ((z_itE h).1 e) ls H locs hl hI) (fun e => kf ((z_itE h).2 (fun z => z e)) ls H locs hl hI)
def zcs {β : Type} (r : Option Nat) (A : β) (B : Nat → β) : β := match r with
  | none => A
  | some a => B a
theorem z_ifnull (hX : zOk X own cc nL f w rt nm et) {r : Option Nat} {off : Int} {tgt : Nat} {β : Type} {A : Option β} {B : Nat → Option β} {R : β} (h : zcs r A B = some R) (d : decode cc pc = .ok (.ifnull off, 3)) (ht : (pc : Int) + off = (tgt : Int)) (kt : r = none → A = some R → zG X Q nL tgt L st σ) (kf : ∀ a, r = some a → B a = some R → zG X Q nL (pc + 3) L st σ) : zG X Q nL pc L (zA r :: st) σ := fun ls H locs hl hI => by
  cases r with
  | none => exact lv_ifnullN hX.1 hX.2.1 d ht (kt rfl h ls H locs hl hI)
  | some a => exact lv_ifnull hX.1 hX.2.1 d (kf a rfl h ls H locs hl hI)
theorem z_ifnonnull (hX : zOk X own cc nL f w rt nm et) {r : Option Nat} {off : Int} {tgt : Nat} {β : Type} {A : Option β} {B : Nat → Option β} {R : β} (h : zcs r A B = some R) (d : decode cc pc = .ok (.ifnonnull off, 3)) (ht : (pc : Int) + off = (tgt : Int)) (kt : r = none → A = some R → zG X Q nL (pc + 3) L st σ) (kf : ∀ a, r = some a → B a = some R → zG X Q nL tgt L st σ) : zG X Q nL pc L (zA r :: st) σ := fun ls H locs hl hI => by
  cases r with
  | none => exact lv_ifnonnullN hX.1 hX.2.1 d (kt rfl h ls H locs hl hI)
  | some a => exact lv_ifnonnull hX.1 hX.2.1 d ht (kf a rfl h ls H locs hl hI)
theorem z_nn {r : Option Nat} {β : Type} {K : Nat → Option β} {R : β} (h : r.bind K = some R) : ∃ a, r = some a ∧ K a = some R := by
  cases r with
  | none => cases h
  | some a => exact ⟨a, rfl, h⟩
theorem z_nm {α β : Type} {x : α} {K : α → Option β} {R : β} (h : zl x K = some R) {P : α → Prop} (k : ∀ y : α, K y = some R → P y) : P x := k x h
theorem z_lookup (hX : zOk X own cc nL f w rt nm et) {dflt : Int} {ps : Array (Int × Int)} {len : Nat} {x : Int32} {off : Int} {tgt : Nat} (d : decode cc pc = .ok (.lookupswitch dflt ps, len)) (hp : (ps.toList.zip (ps.toList.drop 1)).all (fun (a, next) => a.1 < next.1) = true) (ho : Op.lookupswitch.offset ps.toList dflt x.toInt = off) (ht : (pc : Int) + off = (tgt : Int)) (k : zG X Q nL tgt L st σ) : zG X Q nL pc L (zI x :: st) σ := fun ls H locs hl hI => lv_lookup hX.1 hX.2.1 d hp ho ht (k ls H locs hl hI)
theorem z_tableOut (hX : zOk X own cc nL f w rt nm et) {dflt lo hi : Int} {offs : Array Int} {len : Nat} {x : Int32} {tgt : Nat} (d : decode cc pc = .ok (.tableswitch dflt lo hi offs, len)) (h : x.toInt < lo ∨ hi < x.toInt) (ht : (pc : Int) + dflt = (tgt : Int)) (k : zG X Q nL tgt L st σ) : zG X Q nL pc L (zI x :: st) σ := fun ls H locs hl hI => lv_tableOut hX.1 hX.2.1 d h ht (k ls H locs hl hI)
theorem z_tableIn (hX : zOk X own cc nL f w rt nm et) {dflt lo hi : Int} {offs : Array Int} {len : Nat} {x : Int32} {off : Int} {tgt : Nat} (d : decode cc pc = .ok (.tableswitch dflt lo hi offs, len)) (h1 : ¬ x.toInt < lo) (h2 : ¬ hi < x.toInt) (ho : offs[(x.toInt - lo).toNat]? = some off) (ht : (pc : Int) + off = (tgt : Int)) (k : zG X Q nL tgt L st σ) : zG X Q nL pc L (zI x :: st) σ := fun ls H locs hl hI => lv_tableIn hX.1 hX.2.1 d h1 h2 ho ht (k ls H locs hl hI)
end ZR
