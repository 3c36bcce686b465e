/-! ===== what a map says of a real heap; the goal of a walk; a method's contract ===== -/
abbrev zTy : Type := List (ClassId × FieldType)
def vwCl : List vw_C := [(RX1, TX1, 7), (RX2, TX2, 13), (RX3, TX3, 7), (RX4, TX4, 7), (RX5, TX5, 9), (RX6, TX6, 25), (RX7, TX7, 4), (RX8, TX8, 3), (RX9, TX9, 8), (RX10, TX10, 6), (RX11, TX11, 2), (RX12, TX12, 1), (RX13, TX13, 2), (RX14, TX14, 2), (RX15, TX15, 1), (RX17, TX17, 1), (RX18, TX18, 1), (RX19, TX19, 2), (RX21, TX21, 2), (RJ2, TJ2, 3), (RJ9, TJ9, 4), (RJ10, TJ10, 4)]
def TTag : u_T := fun k => match k with
  | 0 => ("java/lang/Enum", "ordinal", "I", true)
  | _ => ("StepDebts$Tag", "told", "Ljava/lang/String;", true)
def TFact : u_T := fun k => match k with
  | 0 => ("java/lang/Enum", "ordinal", "I", true)
  | _ => ("StepDebts$Fact", "told", "Ljava/lang/String;", true)
/-- the classes of constant objects, by 100 more -/
def zKc (c : Nat) : Option vw_C := if c = 121 then some (RJ10, TJ10, 4) else if c = 150 then some ("StepDebts$Tag", TTag, 2) else if c = 151 then some ("StepDebts$Fact", TFact, 2) else none
def zKt (t : Nat) : Option FieldType := if t = 101 then some .byte else if t = 103 then some (.object "java/lang/Object") else if t = 104 then some (.object "StepDebts$Tag") else if t = 105 then some (.object "StepDebts$Fact") else none
def zko (s : State) (B c a : Nat) (fs : List Value) (H : Heap) : Prop := ∃ r : vw_C, zKc c = some r ∧ va_O r.1 a (fun q => B ≤ q) s H ∧ ∀ (k : Nat) (v : Value), fs[k]? = some v → va_OF (r.2.1 k).1 (r.2.1 k).2.1 (r.2.1 k).2.2.1 v a (fun q => B ≤ q) s H
def zka (s : State) (B t a : Nat) (v : vp_A) (H : Heap) : Prop := ∃ ty : FieldType, zKt t = some ty ∧ va_O ("[" ++ ty.toString) a (fun q => B ≤ q) s H ∧ (104 ≤ t → ∃ cell : Cell, H[a]? = some cell ∧ cell.slots.size = v.1) ∧ ((∃ (n : Nat) (f : Nat → Int32), v = (n, .inl f) ∧ va_T ty a n (fun j => .int (f j)) (fun q => B ≤ q) s H) ∨ ∃ (n : Nat) (f : Nat → Option Nat), v = (n, .inr (.inr (.inr (.inr f)))) ∧ va_T ty a n (fun j => va_rf (f j)) (fun q => B ≤ q) s H)
def zat (s : State) (D : va_G) (tys : zTy) (B a : Nat) (o : zOb) (H : Heap) : Prop := match o with
  | .inl (t, v) => (t < 100 ∧ ∃ q : ClassId × FieldType, tys[t]? = some q ∧ H[a]? = some (vp_cell q.1 v) ∧ (t = 1 → ∀ (n : Nat) (f : Nat → Int32), v = (n, .inl f) → ∀ j, fits .byte (.int (f j)) = true)) ∨ (100 ≤ t ∧ zka s B t a v H)
  | .inr (c, fs) => (c < 100 ∧ va_at D vwCl (a, .inr (c, fs)) H) ∨ (100 ≤ c ∧ zko s B c a fs H)
theorem va_O_at {E : String} {t : Nat} {A : Nat → Prop} {U : State} {H H1 : Heap} (h : va_O E t A U H) (e : H1[t]? = H[t]?) : va_O E t A U H1 := by
  obtain ⟨cell, h1, h2⟩ := h
  exact ⟨cell, e.trans h1, h2⟩
theorem va_OF_at {o n d : String} {v : Value} {t : Nat} {A : Nat → Prop} {U : State} {H H1 : Heap} (h : va_OF o n d v t A U H) (e : H1[t]? = H[t]?) : va_OF o n d v t A U H1 := by
  obtain ⟨cf, k, i, f, cell, h1, h2, h3, h4⟩ := h
  exact ⟨cf, k, i, f, cell, h1, h2, e.trans h3, h4⟩
theorem va_T_at {ty : FieldType} {t N : Nat} {f : Nat → Value} {A : Nat → Prop} {U : State} {H H1 : Heap} (h : va_T ty t N f A U H) (e : H1[t]? = H[t]?) : va_T ty t N f A U H1 := by
  obtain ⟨cell, h1, h2⟩ := h
  exact ⟨cell, e.trans h1, h2⟩
theorem zat_kept {s : State} {D : va_G} {tys : zTy} {B a : Nat} {o : zOb} {H H1 : Heap} (h : zat s D tys B a o H) (e : H1[a]? = H[a]?) : zat s D tys B a o H1 := by
  rcases o with ⟨t, v⟩ | ⟨c, fs⟩
  · rcases h with ⟨h0, q, h1, h2, h3⟩ | ⟨h0, ty, h1, h8, h9, h2⟩
    · exact Or.inl ⟨h0, q, h1, e.trans h2, h3⟩
    · refine Or.inr ⟨h0, ty, h1, va_O_at h8 e, fun z => (h9 z).elim fun cell hc => ⟨cell, e.trans hc.1, hc.2⟩, ?_⟩
      rcases h2 with ⟨n, f, h3, h4⟩ | ⟨n, f, h3, h4⟩
      · exact Or.inl ⟨n, f, h3, va_T_at h4 e⟩
      · exact Or.inr ⟨n, f, h3, va_T_at h4 e⟩
  · rcases h with ⟨h0, h1⟩ | ⟨h0, r, h1, h2, h3⟩
    · exact Or.inl ⟨h0, h1.kept e⟩
    · exact Or.inr ⟨h0, r, h1, va_O_at h2 e, fun k v hv => va_OF_at (h3 k v hv) e⟩
theorem zat_moved {s U : State} {D : va_G} {tys : zTy} {B a : Nat} {o : zOb} {H : Heap} (hvm : s.vm.Alike U.vm) (h : zat s D tys B a o H) : zat U D tys B a o H := by
  rcases o with ⟨t, v⟩ | ⟨c, fs⟩
  · rcases h with h | ⟨h0, ty, h1, h8, h9, h2⟩
    · exact Or.inl h
    · refine Or.inr ⟨h0, ty, h1, va_O.moved hvm h8, h9, ?_⟩
      rcases h2 with ⟨n, f, h3, h4⟩ | ⟨n, f, h3, h4⟩
      · exact Or.inl ⟨n, f, h3, va_T.moved hvm h4⟩
      · exact Or.inr ⟨n, f, h3, va_T.moved hvm h4⟩
  · rcases h with h | ⟨h0, r, h1, h2, h3⟩
    · exact Or.inl h
    · exact Or.inr ⟨h0, r, h1, va_O.moved hvm h2, fun k v hv => va_OF.moved hvm (h3 k v hv)⟩
theorem zat_lt {s : State} {D : va_G} {tys : zTy} {B a : Nat} {o : zOb} {H : Heap} (h : zat s D tys B a o H) : a < H.size := by
  rcases o with ⟨t, v⟩ | ⟨c, fs⟩
  · rcases h with ⟨h0, q, h1, h2, h3⟩ | ⟨h0, ty, h1, h8, h9, ⟨n, f, h3, cell, h4, h5⟩ | ⟨n, f, h3, cell, h4, h5⟩⟩
    · exact (Array.getElem?_eq_some_iff.mp h2).1
    · exact (Array.getElem?_eq_some_iff.mp h4).1
    · exact (Array.getElem?_eq_some_iff.mp h4).1
  · rcases h with ⟨h0, h1⟩ | ⟨h0, r, h1, ⟨cell, h2, h3⟩, h4⟩
    · exact h1.lt
    · exact (Array.getElem?_eq_some_iff.mp h2).1
def zR (s : State) (D : va_G) (tys : zTy) (B : Nat) (hp : zHp) (H : Heap) : Prop := ∀ (a : Nat) (o : zOb), hp a = some o → zat s D tys B a o H
theorem zR_moved {s U : State} {D : va_G} {tys : zTy} {B : Nat} {hp : zHp} {H : Heap} (hvm : s.vm.Alike U.vm) (h : zR s D tys B hp H) : zR U D tys B hp H := fun a o ho => zat_moved hvm (h a o ho)
theorem zR_set {s : State} {D : va_G} {tys : zTy} {B a : Nat} {hp : zHp} {o : zOb} {H H1 : Heap} (h : zR s D tys B hp H) (ha : zat s D tys B a o H1) (oq : ∀ q : Nat, q ≠ a → H1[q]? = H[q]?) : zR s D tys B (zup hp a o) H1 := by
  intro b o' hb
  by_cases e : b = a
  · subst e
    rw [zup, if_pos rfl] at hb
    cases hb
    exact ha
  · rw [zup, if_neg e] at hb
    exact zat_kept (h b o' hb) (oq b e)
theorem zR_new {s : State} {D : va_G} {tys : zTy} {B : Nat} {hp : zHp} {o : zOb} {H H1 : Heap} (h : zR s D tys B hp H) (ha : zat s D tys B H.size o H1) (oq : ∀ q : Nat, q < H.size → H1[q]? = H[q]?) : zR s D tys B (zup hp H.size o) H1 := by
  intro b o' hb
  by_cases e : b = H.size
  · subst e
    rw [zup, if_pos rfl] at hb
    cases hb
    exact ha
  · rw [zup, if_neg e] at hb
    exact zat_kept (h b o' hb) (oq b (zat_lt (h b o' hb)))
/-- the sizes of the cells -/
def zsz (H : Heap) : List Nat := H.toList.map (fun c => c.slots.size)
theorem zsz_len (H : Heap) : (zsz H).length = H.size := by simp [zsz]
theorem zsz_ext {H H1 : Heap} (z : H1.size = H.size) (h : ∀ q : Nat, (H1[q]?).map (fun c => c.slots.size) = (H[q]?).map (fun c => c.slots.size)) : zsz H1 = zsz H := by
  apply List.ext_getElem?
  intro i
  have := h i
  simpa [zsz] using this
theorem zsz_set {H H1 : Heap} {a : Nat} {cell cell1 : Cell} (z : H1.size = H.size) (h0 : H[a]? = some cell) (h1 : H1[a]? = some cell1) (he : cell1.slots.size = cell.slots.size) (oq : ∀ q : Nat, q ≠ a → H1[q]? = H[q]?) : zsz H1 = zsz H := by
  refine zsz_ext z fun q => ?_
  by_cases e : q = a
  · subst e
    rw [h0, h1]
    simp [he]
  · rw [oq q e]
theorem zsz_push {H H1 : Heap} {cell : Cell} (z : H1.size = H.size + 1) (h1 : H1[H.size]? = some cell) (oq : ∀ q : Nat, q < H.size → H1[q]? = H[q]?) : zsz H1 = zsz H ++ [cell.slots.size] := by
  apply List.ext_getElem?
  intro i
  have hl : (zsz H).length = H.size := zsz_len H
  rcases Nat.lt_trichotomy i H.size with h | h | h
  · rw [List.getElem?_append_left (by omega)]
    simp only [zsz, List.getElem?_map, Array.getElem?_toList]
    rw [oq i h]
  · subst h
    rw [List.getElem?_append_right (by omega), hl, Nat.sub_self]
    simp only [zsz, List.getElem?_map, Array.getElem?_toList, h1]
    rfl
  · rw [List.getElem?_eq_none (by rw [zsz_len]; omega), List.getElem?_eq_none (by rw [List.length_append, hl, List.length_singleton]; omega)]
theorem zsz_sum {s T : State} {locs : List Loc} {k n : Nat} {l : List Nat} (h : s.sameButNew T locs k n) (e : zsz T.heap = zsz s.heap ++ l) : s.sameButNew T locs l.length l.sum := by
  obtain ⟨h1, h2, h3, h4, h5, h6⟩ := h
  have e2 : (T.heap.toList.drop s.heap.size).map (·.slots.size) = l := by
    have e3 : (zsz T.heap).drop s.heap.size = l := by rw [e, List.drop_left' (zsz_len _)]
    rw [← e3, zsz, List.map_drop]
  have e4 : T.heap.size = s.heap.size + l.length := by rw [← zsz_len T.heap, e, List.length_append, zsz_len]
  exact ⟨h1, h2, by omega, h4, by rw [e2]; exact Nat.le_refl _, h6⟩
/-- the context of a walk: program, launch, environment, room, start, method, arguments, frames below, method's record, code, classes, array classes, the map at the start -/
abbrev zX : Type := Program × Launch × Env × Room × State × MethodId × Array Value × List Frame × Method × Code × va_G × zTy × zS
abbrev xp (X : zX) : Program := X.1
abbrev xl (X : zX) : Launch := X.2.1
abbrev xe (X : zX) : Env := X.2.2.1
abbrev xR (X : zX) : Room := X.2.2.2.1
abbrev xs (X : zX) : State := X.2.2.2.2.1
abbrev xm (X : zX) : MethodId := X.2.2.2.2.2.1
abbrev xa (X : zX) : Array Value := X.2.2.2.2.2.2.1
abbrev xb (X : zX) : List Frame := X.2.2.2.2.2.2.2.1
abbrev xme (X : zX) : Method := X.2.2.2.2.2.2.2.2.1
abbrev xc (X : zX) : Code := X.2.2.2.2.2.2.2.2.2.1
abbrev xD (X : zX) : va_G := X.2.2.2.2.2.2.2.2.2.2.1
abbrev xt (X : zX) : zTy := X.2.2.2.2.2.2.2.2.2.2.2.1
abbrev x0 (X : zX) : zS := X.2.2.2.2.2.2.2.2.2.2.2.2
abbrev xW (X : zX) (H : Heap) (locs : List Loc) (cells slots : Nat) (Q : State → Prop) (g : JFrame) : Prop := W (xp X) (xl X) (xe X) (xR X) (xs X) (xm X) (xa X) (xb X) (xme X) (xc X) H locs cells slots Q g
/-- the words that ride not in the lists: nest mates' links, castable, declares -/
def zNwB (w : Cond) : Bool := match w with
  | .fieldLinkNest .. => true
  | .methodLinkNest .. => true
  | .castable .. => true
  | .declares .. => true
  | _ => false
def zNw : List Cond := lw_tbl.filter zNwB
theorem zNw_warm {s U : State} (hW : s.WarmedH U.vm) (h : ∀ w ∈ zNw, va_Nw w s) : ∀ w ∈ zNw, va_Nw w U := by
  intro w hw
  have h1 := h w hw
  have h2 := (List.mem_filter.mp hw).2
  cases w <;> first
    | exact va_Nw.warmF hW h1
    | exact va_Nw.warmM hW h1
    | exact va_Nw.warmC hW h1
    | exact va_Nw.warmD hW h1
    | cases h2
theorem zNw_of {w : Cond} (h : w ∈ lw_tbl) (g : zNwB w = true) : w ∈ zNw := List.mem_filter.mpr ⟨h, g⟩
