/-! pure land: Z2 Z3 (see wip/D-94657w/pl) -/
/-! the people's language: a parser that tells the world's numbers -/
def wkU (N : Nat → Nat) (U : cU) (so a h z : Nat) : (Nat → Nat) × cU := (Nj N 1 (N 1 + 1), utab (utab (utab (utab U 1 (4 * N 1) (nI so)) 1 (4 * N 1 + 1) (nI a)) 1 (4 * N 1 + 2) (nI z)) 1 (4 * N 1 + 3) (nI h))
def hoU (N : Nat → Nat) (U : cU) (v : Nat) : (Nat → Nat) × cU := (Nj N 0 (N 0 + 1), uset (utab U 0 (N 0) (nI v)) 1 (nI (N 0 + 1)))
def tuU (N : Nat → Nat) (U : cU) (v : Nat) : (Nat → Nat) × cU := (Nj N 2 (N 2 + 1), utab (utab (utab U 2 (3 * N 2) (nI v)) 2 (3 * N 2 + 1) 0) 2 (3 * N 2 + 2) 0)
def ofU (N : Nat → Nat) (U : cU) (a b : Nat) : (Nat → Nat) × cU := (Nj N 3 (N 3 + 1), utab (utab U 3 (2 * N 3) (nI a)) 3 (2 * N 3 + 1) (nI b))
def lmU (N : Nat → Nat) (U : cU) (v : Nat) : (Nat → Nat) × cU := (N, uset U 2 (nI v))
def rsU (N : Nat → Nat) (U : cU) (v : Nat) : (Nat → Nat) × cU := (N, uset U 3 (nI v))
abbrev NU9 : Type := (Nat → Nat) × cU
def pZe (T : Nat → Nat) (N : Nat → Nat) (U : cU) (so a h p : Nat) : pR9 NU9 :=
  if ywk 10 T (sk T p) = true then (match pFig 0 101 3 T (we T (sk T p)) with
    | .inl e => .inl e
    | .inr (z, q) => .inr (wkU N U so a h z, q)) else .inr (wkU N U so a h 50, sk T p)
def pOf (T : Nat → Nat) (N : Nat → Nat) (U : cU) (so a p : Nat) : pR9 NU9 :=
  if ywk 9 T (sk T p) = true then (match pFig 0 (N 0) 3 T (we T (sk T p)) with
    | .inl e => .inl e
    | .inr (h, q) => pZe T N U so a h q) else .inl (sk T p)
def pWk (T : Nat → Nat) (N : Nat → Nat) (U : cU) (so s p : Nat) : pR9 NU9 :=
  if N 1 = 12 then .inl s else match pFig 0 100 3 T p with
  | .inl e => .inl e
  | .inr (a, q) => pOf T N U so a q
def pHo (T : Nat → Nat) (N : Nat → Nat) (U : cU) (s p : Nat) : pR9 NU9 :=
  if N 0 = 8 then .inl s else match pFig 0 100000 5 T p with
  | .inl e => .inl e
  | .inr (v, q) => .inr (hoU N U v, q)
def pTu (T : Nat → Nat) (N : Nat → Nat) (U : cU) (s p : Nat) : pR9 NU9 :=
  if N 2 = 10 then .inl s else match pFig 1 100 3 T p with
  | .inl e => .inl e
  | .inr (v, q) => .inr (tuU N U v, q)
def pLm (T : Nat → Nat) (N : Nat → Nat) (U : cU) (p : Nat) : pR9 NU9 := match pFig 1 1000 3 T p with
  | .inl e => .inl e
  | .inr (v, q) => .inr (lmU N U v, q)
def pRs (T : Nat → Nat) (N : Nat → Nat) (U : cU) (p : Nat) : pR9 NU9 := match pFig 0 4 3 T p with
  | .inl e => .inl e
  | .inr (v, q) => .inr (rsU N U v, q)
def pFo (T : Nat → Nat) (N : Nat → Nat) (U : cU) (a p : Nat) : pR9 NU9 :=
  if ywk 11 T (sk T p) = true then (match pFig 0 1000 3 T (we T (sk T p)) with
    | .inl e => .inl e
    | .inr (b, q) => .inr (ofU N U a b, q)) else .inl (sk T p)
def pOff (T : Nat → Nat) (N : Nat → Nat) (U : cU) (s p : Nat) : pR9 NU9 :=
  if N 3 = 12 then .inl s else match pFig 1 100000 5 T p with
  | .inl e => .inl e
  | .inr (a, q) => pFo T N U a q
/-- a line of the people -/
def pPp (T : Nat → Nat) (N : Nat → Nat) (U : cU) (p : Nat) : pR9 NU9 :=
  if ywk 0 T (sk T p) = true then pHo T N U (sk T p) (we T (sk T p))
  else if ywk 1 T (sk T p) = true then pWk T N U 0 (sk T p) (we T (sk T p))
  else if ywk 2 T (sk T p) = true then pWk T N U 1 (sk T p) (we T (sk T p))
  else if ywk 3 T (sk T p) = true then pWk T N U 2 (sk T p) (we T (sk T p))
  else if ywk 4 T (sk T p) = true then pWk T N U 3 (sk T p) (we T (sk T p))
  else if ywk 5 T (sk T p) = true then pTu T N U (sk T p) (we T (sk T p))
  else if ywk 6 T (sk T p) = true then pLm T N U (we T (sk T p))
  else if ywk 7 T (sk T p) = true then pRs T N U (we T (sk T p))
  else if ywk 8 T (sk T p) = true then pOff T N U (sk T p) (we T (sk T p))
  else .inl (sk T p)
/-- lines l and on -/
def pPt (T : Nat → Nat) : Nat → Nat → NU9 → Nat → pR9 NU9
  | 0, _, X, p => .inr (X, p)
  | k + 1, l, X, p => if l = 14 then .inl (sk T p) else match pPp T X.1 X.2 p with
    | .inl e => .inl e
    | .inr (X', q) =>
      if T (sk T q) = 256 then .inr (X', sk T q)
      else if T (sk T q) = 59 then pPt T k (l + 1) X' (sk T q + 1)
      else .inl (sk T q)
def pPe (T : Nat → Nat) (X : NU9) : pR9 NU9 := if T (sk T 0) = 256 then .inr (X, sk T 0) else pPt T 15 0 X 0
/-- places, and what is told: the numbers' bounds stay -/
def qP (c n p : Nat) (r : pR9 NU9) : Prop := match r with
  | .inl e => e ≤ n
  | .inr (X, q) => p < q ∧ q ≤ n ∧ RI c X.1 X.2
section ZZ2
variable {T : Nat → Nat} {n p c : Nat} {N : Nat → Nat} {U : cU}
theorem utab_at {t k : Nat} {x : Int32} : (utab U t k x).2 t k = x := by
  show (if t = t then upd (U.2 t) k x else U.2 t) k = x
  rw [if_pos rfl, upd_at]
theorem utab_no {t k j : Nat} {x : Int32} (h : j ≠ k) : (utab U t k x).2 t j = U.2 t j := by
  show (if t = t then upd (U.2 t) k x else U.2 t) j = _
  rw [if_pos rfl, upd_no h]
theorem utab_ne {t t' k : Nat} {x : Int32} (h : t' ≠ t) : (utab U t k x).2 t' = U.2 t' := if_neg h
theorem pFig_v {ylo hi dg : Nat} : match pFig ylo hi dg T p with
    | .inl _ => True
    | .inr (v, _) => ylo ≤ v ∧ v < hi := by
  unfold pFig
  split
  · next h =>
    rename_i e
    split at h
    · exact True.intro
    · cases h
  · next h =>
    rename_i v q
    split at h
    · cases h
    · next hc =>
      have := Sum.inr.inj h
      have h1 := congrArg (fun z => z.1) this
      have h2 : vl T (sk T p) (ne T (sk T p) - sk T p) = v := h1
      rw [h2] at hc
      have : ¬ ¬ (ylo ≤ v ∧ v < hi) := fun z => hc (Or.inr (Or.inr z))
      exact Classical.byContradiction this
theorem RI_ho (I : RI c N U) (h8 : ¬ N 0 = 8) {v : Nat} (hv : v < 100000) : RI c (hoU N U v).1 (hoU N U v).2 := by
  obtain ⟨n0, n1, n2, n3, n4, hou, txt, lim, rst, day, ser, deb, wal, tur, off, ent, bur⟩ := I
  refine ⟨by show N 0 + 1 ≤ 8; omega, n1, n2, n3, n4, rfl, txt, lim, rst, day, ser, fun h hh => ?_, fun i hi => ?_, tur, off, fun e he => ?_, bur⟩
  · show bd _ ((utab U 0 (N 0) (nI v)).2 0 h)
    by_cases z : h = N 0
    · rw [z, utab_at]; exact nI_bd (by omega)
    · rw [utab_no z]; exact deb h hh
  · obtain ⟨a, b, d, w, hw, e⟩ := wal i hi
    exact ⟨a, b, d, w, by show w < N 0 + 1; omega, e⟩
  · obtain ⟨a1, a2, a3, a4, a5, ⟨w, hw, e6⟩, a7⟩ := ent e he
    exact ⟨a1, a2, a3, a4, a5, ⟨w, by show w < N 0 + 1; omega, e6⟩, a7⟩
theorem wk_row (i k : Nat) (hk : k < 4) {so a h z : Nat} : (wkU N U so a h z).2.2 1 (4 * i + k) = if i = N 1 then (if k = 0 then nI so else if k = 1 then nI a else if k = 2 then nI z else nI h) else U.2 1 (4 * i + k) := by
  have e : (wkU N U so a h z).2.2 1 (4 * i + k) = if 4 * i + k = 4 * N 1 + 3 then nI h else if 4 * i + k = 4 * N 1 + 2 then nI z else if 4 * i + k = 4 * N 1 + 1 then nI a else if 4 * i + k = 4 * N 1 then nI so else U.2 1 (4 * i + k) := rfl
  rw [e]
  by_cases y : i = N 1
  · rw [if_pos y]
    rcases (show k = 0 ∨ k = 1 ∨ k = 2 ∨ k = 3 by omega) with rfl | rfl | rfl | rfl
    · rw [if_neg (by omega), if_neg (by omega), if_neg (by omega), if_pos (by omega)]; rfl
    · rw [if_neg (by omega), if_neg (by omega), if_pos (by omega)]; rfl
    · rw [if_neg (by omega), if_pos (by omega)]; rfl
    · rw [if_pos (by omega)]; rfl
  · rw [if_neg (by omega), if_neg (by omega), if_neg (by omega), if_neg (by omega), if_neg y]
theorem RI_wk (I : RI c N U) (h8 : ¬ N 1 = 12) {so a h z : Nat} (hso : so ≤ 3) (ha : a < 100) (hh : h < N 0) (hz : z < 101) : RI c (wkU N U so a h z).1 (wkU N U so a h z).2 := by
  obtain ⟨n0, n1, n2, n3, n4, hou, txt, lim, rst, day, ser, deb, wal, tur, off, ent, bur⟩ := I
  refine ⟨n0, by show N 1 + 1 ≤ 12; omega, n2, n3, n4, hou, txt, lim, rst, day, ser, deb, fun i hi => ?_, tur, off, fun e he => ?_, bur⟩
  · have hi' : i < N 1 + 1 := hi
    have r0 : (wkU N U so a h z).2.2 1 (4 * i) = _ := wk_row (N := N) (U := U) i 0 (by omega)
    have r1 := wk_row (N := N) (U := U) i 1 (by omega) (so := so) (a := a) (h := h) (z := z)
    have r2 := wk_row (N := N) (U := U) i 2 (by omega) (so := so) (a := a) (h := h) (z := z)
    have r3 := wk_row (N := N) (U := U) i 3 (by omega) (so := so) (a := a) (h := h) (z := z)
    rw [r0, r1, r2, r3]
    by_cases y : i = N 1
    · rw [if_pos y, if_pos y, if_pos y, if_pos y]
      exact ⟨nI_bd (by omega), nI_bd (by omega), nI_bd (by omega), h, hh, rfl⟩
    · rw [if_neg y, if_neg y, if_neg y, if_neg y]
      exact wal i (by omega)
  · obtain ⟨a1, a2, a3, a4, ⟨w, hw, e5⟩, a6⟩ := ent e he
    exact ⟨a1, a2, a3, a4, ⟨w, by show w < N 1 + 1; omega, e5⟩, a6⟩
theorem tu_row (i k : Nat) (hk : k < 3) {v : Nat} : (tuU N U v).2.2 2 (3 * i + k) = if i = N 2 then (if k = 0 then nI v else 0) else U.2 2 (3 * i + k) := by
  have e : (tuU N U v).2.2 2 (3 * i + k) = if 3 * i + k = 3 * N 2 + 2 then 0 else if 3 * i + k = 3 * N 2 + 1 then 0 else if 3 * i + k = 3 * N 2 then nI v else U.2 2 (3 * i + k) := rfl
  rw [e]
  by_cases y : i = N 2
  · rw [if_pos y]
    rcases (show k = 0 ∨ k = 1 ∨ k = 2 by omega) with rfl | rfl | rfl
    · rw [if_neg (by omega), if_neg (by omega), if_pos (by omega)]; rfl
    · rw [if_neg (by omega), if_pos (by omega)]; rfl
    · rw [if_pos (by omega)]; rfl
  · rw [if_neg (by omega), if_neg (by omega), if_neg (by omega), if_neg y]
theorem RI_tu (I : RI c N U) (h8 : ¬ N 2 = 10) (hc : c < 2 ^ 31) {v : Nat} (hv : v < 100) : RI c (tuU N U v).1 (tuU N U v).2 := by
  obtain ⟨n0, n1, n2, n3, n4, hou, txt, lim, rst, day, ser, deb, wal, tur, off, ent, bur⟩ := I
  refine ⟨n0, n1, by show N 2 + 1 ≤ 10; omega, n3, n4, hou, txt, lim, rst, day, ser, deb, wal, fun i hi => ?_, off, fun e he => ?_, bur⟩
  · have hi' : i < N 2 + 1 := hi
    have r0 : (tuU N U v).2.2 2 (3 * i) = _ := tu_row (N := N) (U := U) i 0 (by omega)
    have r1 := tu_row (N := N) (U := U) i 1 (by omega) (v := v)
    have r2 := tu_row (N := N) (U := U) i 2 (by omega) (v := v)
    rw [r0, r1, r2]
    by_cases y : i = N 2
    · rw [if_pos y, if_pos y, if_pos y]
      obtain ⟨s, hs, es⟩ := ser
      refine ⟨nI_bd (by omega), nI_bd (n := 0) (by omega), nI_bd (n := 0) (by omega), ?_⟩
      show (0 : Int32) ≤ U.1 6
      rw [es]
      exact nI_pos' (by omega)
    · rw [if_neg y, if_neg y, if_neg y]
      exact tur i (by omega)
  · obtain ⟨a1, a2, a3, a4, a5, a6, ⟨w, hw, e7⟩, a8⟩ := ent e he
    exact ⟨a1, a2, a3, a4, a5, a6, ⟨w, by show w ≤ N 2 + 1; omega, e7⟩, a8⟩
theorem of_row (i k : Nat) (hk : k < 2) {a b : Nat} : (ofU N U a b).2.2 3 (2 * i + k) = if i = N 3 then (if k = 0 then nI a else nI b) else U.2 3 (2 * i + k) := by
  have e : (ofU N U a b).2.2 3 (2 * i + k) = if 2 * i + k = 2 * N 3 + 1 then nI b else if 2 * i + k = 2 * N 3 then nI a else U.2 3 (2 * i + k) := rfl
  rw [e]
  by_cases y : i = N 3
  · rw [if_pos y]
    rcases (show k = 0 ∨ k = 1 by omega) with rfl | rfl
    · rw [if_neg (by omega), if_pos (by omega)]; rfl
    · rw [if_pos (by omega)]; rfl
  · rw [if_neg (by omega), if_neg (by omega), if_neg y]
theorem RI_of (I : RI c N U) (h8 : ¬ N 3 = 12) {a b : Nat} (ha : a < 100000) (hb : b < 1000) : RI c (ofU N U a b).1 (ofU N U a b).2 := by
  obtain ⟨n0, n1, n2, n3, n4, hou, txt, lim, rst, day, ser, deb, wal, tur, off, ent, bur⟩ := I
  refine ⟨n0, n1, n2, by show N 3 + 1 ≤ 12; omega, n4, hou, txt, lim, rst, day, ser, deb, wal, tur, fun i hi => ?_, ent, bur⟩
  have hi' : i < N 3 + 1 := hi
  have r0 : (ofU N U a b).2.2 3 (2 * i) = _ := of_row (N := N) (U := U) i 0 (by omega)
  have r1 := of_row (N := N) (U := U) i 1 (by omega) (a := a) (b := b)
  rw [r0, r1]
  by_cases y : i = N 3
  · rw [if_pos y, if_pos y]
    exact ⟨nI_bd (by omega), nI_bd (by omega)⟩
  · rw [if_neg y, if_neg y]
    exact off i (by omega)
theorem RI_lm (I : RI c N U) {v : Nat} (hv : v < 1000) : RI c (lmU N U v).1 (lmU N U v).2 := by
  obtain ⟨n0, n1, n2, n3, n4, hou, txt, lim, rst, day, ser, deb, wal, tur, off, ent, bur⟩ := I
  exact ⟨n0, n1, n2, n3, n4, hou, txt, nI_bd (by omega), rst, day, ser, deb, wal, tur, off, ent, bur⟩
theorem RI_rs (I : RI c N U) {v : Nat} (hv : v < 4) : RI c (rsU N U v).1 (rsU N U v).2 := by
  obtain ⟨n0, n1, n2, n3, n4, hou, txt, lim, rst, day, ser, deb, wal, tur, off, ent, bur⟩ := I
  exact ⟨n0, n1, n2, n3, n4, hou, txt, lim, nI_bd (by omega), day, ser, deb, wal, tur, off, ent, bur⟩
/-- figures, then something -/
theorem fig_then (h : Tx T n) (hp : p ≤ n) {p0 ylo hi dg : Nat} (h0 : p0 ≤ p) {K : Nat → Nat → pR9 NU9} (hK : ∀ v q, ylo ≤ v → v < hi → p < q → q ≤ n → qP c n p0 (K v q)) : qP c n p0 (match pFig ylo hi dg T p with
    | .inl e => .inl e
    | .inr (v, q) => K v q) := by
  have F := pFig_b h hp (ylo := ylo) (hi := hi) (dg := dg)
  have V := pFig_v (T := T) (p := p) (ylo := ylo) (hi := hi) (dg := dg)
  generalize pFig ylo hi dg T p = r at F V
  match r, F, V with
  | .inl e, F, _ => exact F
  | .inr (v, q), F, V => exact hK v q V.1 V.2 F.1 F.2
theorem pZe_b (h : Tx T n) (hp : p ≤ n) (I : RI c N U) (h8 : ¬ N 1 = 12) {so a hh : Nat} (hso : so ≤ 3) (ha : a < 100) (hh' : hh < N 0) {p0 : Nat} (h0 : p0 < p) : qP c n p0 (pZe T N U so a hh p) := by
  obtain ⟨a1, a2, -, -⟩ := sk_spec h hp
  unfold pZe
  by_cases z : ywk 10 T (sk T p) = true
  · rw [if_pos z]
    have hb := wk_b h (by omega) a2 z
    exact fig_then h hb.2 (by omega) (fun v q h1 h2 h3 h4 => ⟨by show p0 < q; omega, h4, RI_wk I h8 hso ha hh' h2⟩)
  · rw [if_neg z]
    exact ⟨by show p0 < sk T p; omega, a2, RI_wk I h8 hso ha hh' (by omega)⟩
theorem pWk_b (h : Tx T n) (hp : p ≤ n) (I : RI c N U) {so s p0 : Nat} (hso : so ≤ 3) (hs : s ≤ n) (h0 : p0 ≤ p) : qP c n p0 (pWk T N U so s p) := by
  unfold pWk
  by_cases h8 : N 1 = 12
  · rw [if_pos h8]; exact hs
  · rw [if_neg h8]
    refine fig_then h hp h0 (fun v q h1 h2 h3 h4 => ?_)
    obtain ⟨a1, a2, -, -⟩ := sk_spec h h4
    unfold pOf
    by_cases z : ywk 9 T (sk T q) = true
    · rw [if_pos z]
      have hb := wk_b h (by omega) a2 z
      exact fig_then h hb.2 (by omega) (fun v2 q2 h5 h6 h7 h8' => pZe_b h h8' I h8 hso h2 h6 (by omega))
    · rw [if_neg z]; exact a2
theorem pPp_b (h : Tx T n) (hp : p ≤ n) (I : RI c N U) (hc : c < 2 ^ 31) : qP c n p (pPp T N U p) := by
  obtain ⟨a1, a2, -, -⟩ := sk_spec h hp
  unfold pPp
  by_cases z : ywk 0 T (sk T p) = true
  · rw [if_pos z]
    have hb := wk_b h (by omega) a2 z
    unfold pHo
    by_cases h8 : N 0 = 8
    · rw [if_pos h8]; exact a2
    · rw [if_neg h8]
      exact fig_then h hb.2 (by omega) (fun v q h1 h2 h3 h4 => ⟨by show p < q; omega, h4, RI_ho I h8 h2⟩)
  · rw [if_neg z]
    by_cases z : ywk 1 T (sk T p) = true
    · rw [if_pos z]
      have hb := wk_b h (by omega) a2 z
      exact pWk_b h hb.2 I (by omega) a2 (by omega)
    · rw [if_neg z]
      by_cases z : ywk 2 T (sk T p) = true
      · rw [if_pos z]
        have hb := wk_b h (by omega) a2 z
        exact pWk_b h hb.2 I (by omega) a2 (by omega)
      · rw [if_neg z]
        by_cases z : ywk 3 T (sk T p) = true
        · rw [if_pos z]
          have hb := wk_b h (by omega) a2 z
          exact pWk_b h hb.2 I (by omega) a2 (by omega)
        · rw [if_neg z]
          by_cases z : ywk 4 T (sk T p) = true
          · rw [if_pos z]
            have hb := wk_b h (by omega) a2 z
            exact pWk_b h hb.2 I (by omega) a2 (by omega)
          · rw [if_neg z]
            by_cases z : ywk 5 T (sk T p) = true
            · rw [if_pos z]
              have hb := wk_b h (by omega) a2 z
              unfold pTu
              by_cases h8 : N 2 = 10
              · rw [if_pos h8]; exact a2
              · rw [if_neg h8]
                exact fig_then h hb.2 (by omega) (fun v q h1 h2 h3 h4 => ⟨by show p < q; omega, h4, RI_tu I h8 hc h2⟩)
            · rw [if_neg z]
              by_cases z : ywk 6 T (sk T p) = true
              · rw [if_pos z]
                have hb := wk_b h (by omega) a2 z
                exact fig_then h hb.2 (by omega) (fun v q h1 h2 h3 h4 => ⟨by show p < q; omega, h4, RI_lm I h2⟩)
              · rw [if_neg z]
                by_cases z : ywk 7 T (sk T p) = true
                · rw [if_pos z]
                  have hb := wk_b h (by omega) a2 z
                  exact fig_then h hb.2 (by omega) (fun v q h1 h2 h3 h4 => ⟨by show p < q; omega, h4, RI_rs I h2⟩)
                · rw [if_neg z]
                  by_cases z : ywk 8 T (sk T p) = true
                  · rw [if_pos z]
                    have hb := wk_b h (by omega) a2 z
                    unfold pOff
                    by_cases h8 : N 3 = 12
                    · rw [if_pos h8]; exact a2
                    · rw [if_neg h8]
                      refine fig_then h hb.2 (by omega) (fun v q h1 h2 h3 h4 => ?_)
                      obtain ⟨b1, b2, -, -⟩ := sk_spec h h4
                      unfold pFo
                      by_cases y : ywk 11 T (sk T q) = true
                      · rw [if_pos y]
                        have hb2 := wk_b h (by omega) b2 y
                        exact fig_then h hb2.2 (by omega) (fun v2 q2 h5 h6 h7 h8' => ⟨by show p < q2; omega, h8', RI_of I h8 h2 h6⟩)
                      · rw [if_neg y]; exact b2
                  · rw [if_neg z]; exact a2
end ZZ2
section ZZ3
variable {T : Nat → Nat} {n p c : Nat} {N : Nat → Nat} {U : cU} {m m' : Nat → Int32}
theorem RM_ho (I : RI c N U) (R : yRM N U m) (h8 : ¬ N 0 = 8) {v : Nat} (hm : ∀ k, k < 542 → m' k = if k = 1 then nI (N 0 + 1) else if k = 12 + N 0 then nI v else m k) : yRM (hoU N U v).1 (hoU N U v).2 m' := by
  have n0 := RI_n0 I
  have n1 := RI_n1 I
  have n2 := RI_n2 I
  have n3 := RI_n3 I
  have n4 := RI_n4 I
  have hk : ∀ k, k < 542 → k ≠ 1 → (k < 12 ∨ 20 ≤ k) → m' k = m k := fun k h1 h2 h3 => by rw [hm k h1, if_neg h2, if_neg (by omega)]
  obtain ⟨h0, h1, h2, h3, h4, h5, h6, h7, h8', h9, h10, h11, h12, h13, h14⟩ := R
  refine ⟨(hk 0 (by omega) (by omega) (by omega)).trans h0, (hm 1 (by omega)).trans (if_pos rfl), (hk 2 (by omega) (by omega) (by omega)).trans h2, (hk 3 (by omega) (by omega) (by omega)).trans h3, (hk 4 (by omega) (by omega) (by omega)).trans h4, (hk 5 (by omega) (by omega) (by omega)).trans h5, (hk 6 (by omega) (by omega) (by omega)).trans h6, (hk 7 (by omega) (by omega) (by omega)).trans h7, (hk 8 (by omega) (by omega) (by omega)).trans h8', (hk 9 (by omega) (by omega) (by omega)).trans h9, fun h hh => ?_, fun i hi => ?_, fun i hi => ?_, fun i hi => ?_, fun i hi => ?_⟩
  · show m' (12 + h) = (utab U 0 (N 0) (nI v)).2 0 h
    rw [hm _ (by omega), if_neg (by omega)]
    by_cases z : h = N 0
    · rw [if_pos (by omega), z, utab_at]
    · rw [if_neg (by omega), utab_no z]; exact h10 h hh
  · have hi' : i < N 1 := hi
    rw [hk _ (by omega) (by omega) (by omega), hk _ (by omega) (by omega) (by omega), hk _ (by omega) (by omega) (by omega), hk _ (by omega) (by omega) (by omega)]; exact h11 i hi
  · have hi' : i < N 2 := hi
    rw [hk _ (by omega) (by omega) (by omega), hk _ (by omega) (by omega) (by omega), hk _ (by omega) (by omega) (by omega)]; exact h12 i hi
  · have hi' : i < N 3 := hi
    rw [hk _ (by omega) (by omega) (by omega), hk _ (by omega) (by omega) (by omega)]; exact h13 i hi
  · have hi' : i < N 4 := hi
    rw [hk _ (by omega) (by omega) (by omega), hk _ (by omega) (by omega) (by omega), hk _ (by omega) (by omega) (by omega), hk _ (by omega) (by omega) (by omega), hk _ (by omega) (by omega) (by omega), hk _ (by omega) (by omega) (by omega), hk _ (by omega) (by omega) (by omega)]; exact h14 i hi
theorem RM_wk (I : RI c N U) (R : yRM N U m) (h8 : ¬ N 1 = 12) {so a h z : Nat} (hm : ∀ k, k < 542 → m' k = if k = 2 then nI (N 1 + 1) else if k = 20 + 4 * N 1 + 3 then nI z else if k = 20 + 4 * N 1 + 2 then nI h else if k = 20 + 4 * N 1 + 1 then nI a else if k = 20 + 4 * N 1 + 0 then nI so else m k) : yRM (wkU N U so a h z).1 (wkU N U so a h z).2 m' := by
  have n0 := RI_n0 I
  have n1 := RI_n1 I
  have n2 := RI_n2 I
  have n3 := RI_n3 I
  have n4 := RI_n4 I
  have hk : ∀ k, k < 542 → k ≠ 2 → (k < 20 ∨ 68 ≤ k) → m' k = m k := fun k h1 h2 h3 => by rw [hm k h1, if_neg h2, if_neg (by omega), if_neg (by omega), if_neg (by omega), if_neg (by omega)]
  obtain ⟨h0, h1, h2, h3, h4, h5, h6, h7, h8', h9, h10, h11, h12, h13, h14⟩ := R
  refine ⟨(hk 0 (by omega) (by omega) (by omega)).trans h0, (hk 1 (by omega) (by omega) (by omega)).trans h1, (hm 2 (by omega)).trans (if_pos rfl), (hk 3 (by omega) (by omega) (by omega)).trans h3, (hk 4 (by omega) (by omega) (by omega)).trans h4, (hk 5 (by omega) (by omega) (by omega)).trans h5, (hk 6 (by omega) (by omega) (by omega)).trans h6, (hk 7 (by omega) (by omega) (by omega)).trans h7, (hk 8 (by omega) (by omega) (by omega)).trans h8', (hk 9 (by omega) (by omega) (by omega)).trans h9, fun h hh => ?_, fun i hi => ?_, fun i hi => ?_, fun i hi => ?_, fun i hi => ?_⟩
  · exact (hk _ (by omega) (by omega) (by omega)).trans (h10 h hh)
  · have hi' : i < N 1 + 1 := hi
    have r0 : (wkU N U so a h z).2.2 1 (4 * i) = _ := wk_row (N := N) (U := U) i 0 (by omega)
    have r1 := wk_row (N := N) (U := U) i 1 (by omega) (so := so) (a := a) (h := h) (z := z)
    have r2 := wk_row (N := N) (U := U) i 2 (by omega) (so := so) (a := a) (h := h) (z := z)
    have r3 := wk_row (N := N) (U := U) i 3 (by omega) (so := so) (a := a) (h := h) (z := z)
    rw [r0, r1, r2, r3]
    by_cases y : i = N 1
    · subst y
      rw [if_pos (rfl : N 1 = N 1), if_pos (rfl : N 1 = N 1), if_pos (rfl : N 1 = N 1), if_pos (rfl : N 1 = N 1)]
      refine ⟨?_, ?_, ?_, ?_⟩
      · rw [hm _ (by omega), if_neg (by omega), if_neg (by omega), if_neg (by omega), if_neg (by omega), if_pos rfl] <;> rfl
      · rw [hm _ (by omega), if_neg (by omega), if_neg (by omega), if_neg (by omega), if_pos rfl] <;> rfl
      · rw [hm _ (by omega), if_neg (by omega), if_neg (by omega), if_pos rfl] <;> rfl
      · rw [hm _ (by omega), if_neg (by omega), if_pos rfl] <;> rfl
    · rw [if_neg y, if_neg y, if_neg y, if_neg y]
      have hkk : ∀ q, q < 4 → m' (20 + 4 * i + q) = m (20 + 4 * i + q) := fun q hq => by rw [hm _ (by omega), if_neg (by omega), if_neg (by omega), if_neg (by omega), if_neg (by omega), if_neg (by omega)]
      rw [hkk 0 (by omega), hkk 1 (by omega), hkk 2 (by omega), hkk 3 (by omega)]
      exact h11 i (by omega)
  · have hi' : i < N 2 := hi
    rw [hk _ (by omega) (by omega) (by omega), hk _ (by omega) (by omega) (by omega), hk _ (by omega) (by omega) (by omega)]; exact h12 i hi
  · have hi' : i < N 3 := hi
    rw [hk _ (by omega) (by omega) (by omega), hk _ (by omega) (by omega) (by omega)]; exact h13 i hi
  · have hi' : i < N 4 := hi
    rw [hk _ (by omega) (by omega) (by omega), hk _ (by omega) (by omega) (by omega), hk _ (by omega) (by omega) (by omega), hk _ (by omega) (by omega) (by omega), hk _ (by omega) (by omega) (by omega), hk _ (by omega) (by omega) (by omega), hk _ (by omega) (by omega) (by omega)]; exact h14 i hi
theorem RM_tu (I : RI c N U) (hc : c < 2 ^ 31) (R : yRM N U m) (h8 : ¬ N 2 = 10) {v : Nat} (hm : ∀ k, k < 542 → m' k = if k = 3 then nI (N 2 + 1) else if k = 68 + 3 * N 2 + 2 then 0 else if k = 68 + 3 * N 2 + 1 then 0 else if k = 68 + 3 * N 2 + 0 then nI v else m k) : yRM (tuU N U v).1 (tuU N U v).2 m' := by
  have n0 := RI_n0 I
  have n1 := RI_n1 I
  have n2 := RI_n2 I
  have n3 := RI_n3 I
  have n4 := RI_n4 I
  have ent := RI_ent I
  have hk : ∀ k, k < 542 → k ≠ 3 → (k < 68 ∨ 98 ≤ k) → m' k = m k := fun k h1 h2 h3 => by rw [hm k h1, if_neg h2, if_neg (by omega), if_neg (by omega), if_neg (by omega)]
  obtain ⟨h0, h1, h2, h3, h4, h5, h6, h7, h8', h9, h10, h11, h12, h13, h14⟩ := R
  refine ⟨(hk 0 (by omega) (by omega) (by omega)).trans h0, (hk 1 (by omega) (by omega) (by omega)).trans h1, (hk 2 (by omega) (by omega) (by omega)).trans h2, (hm 3 (by omega)).trans (if_pos rfl), (hk 4 (by omega) (by omega) (by omega)).trans h4, (hk 5 (by omega) (by omega) (by omega)).trans h5, (hk 6 (by omega) (by omega) (by omega)).trans h6, (hk 7 (by omega) (by omega) (by omega)).trans h7, (hk 8 (by omega) (by omega) (by omega)).trans h8', (hk 9 (by omega) (by omega) (by omega)).trans h9, fun h hh => ?_, fun i hi => ?_, fun i hi => ?_, fun i hi => ?_, fun i hi => ?_⟩
  · exact (hk _ (by omega) (by omega) (by omega)).trans (h10 h hh)
  · have hi' : i < N 1 := hi
    rw [hk _ (by omega) (by omega) (by omega), hk _ (by omega) (by omega) (by omega), hk _ (by omega) (by omega) (by omega), hk _ (by omega) (by omega) (by omega)]; exact h11 i hi
  · have hi' : i < N 2 + 1 := hi
    have r0 : (tuU N U v).2.2 2 (3 * i) = _ := tu_row (N := N) (U := U) i 0 (by omega)
    have r1 := tu_row (N := N) (U := U) i 1 (by omega) (v := v)
    have r2 := tu_row (N := N) (U := U) i 2 (by omega) (v := v)
    rw [r0, r1, r2]
    by_cases y : i = N 2
    · subst y
      rw [if_pos (rfl : N 2 = N 2), if_pos (rfl : N 2 = N 2), if_pos (rfl : N 2 = N 2)]
      refine ⟨?_, ?_, 0, Nat.zero_le _, ?_, fun e he => ?_⟩
      · rw [hm _ (by omega), if_neg (by omega), if_neg (by omega), if_neg (by omega), if_pos rfl] <;> rfl
      · rw [hm _ (by omega), if_neg (by omega), if_neg (by omega), if_pos rfl] <;> rfl
      · rw [hm _ (by omega), if_neg (by omega), if_pos rfl] <;> rfl
      · refine ⟨fun _ => ?_, fun _ => Nat.zero_le _⟩
        obtain ⟨q, ⟨hq1, hq2⟩, eq⟩ := (ent e he).1
        show ¬ U.2 4 (8 * e) ≤ 0
        rw [eq, show (0 : Int32) = nI 0 from rfl, nI_leI (by omega) (by omega)]
        omega
    · rw [if_neg y, if_neg y, if_neg y]
      have hkk : ∀ q, q < 3 → m' (68 + 3 * i + q) = m (68 + 3 * i + q) := fun q hq => by rw [hm _ (by omega), if_neg (by omega), if_neg (by omega), if_neg (by omega), if_neg (by omega)]
      rw [hkk 0 (by omega), hkk 1 (by omega), hkk 2 (by omega)]
      exact h12 i (by omega)
  · have hi' : i < N 3 := hi
    rw [hk _ (by omega) (by omega) (by omega), hk _ (by omega) (by omega) (by omega)]; exact h13 i hi
  · have hi' : i < N 4 := hi
    rw [hk _ (by omega) (by omega) (by omega), hk _ (by omega) (by omega) (by omega), hk _ (by omega) (by omega) (by omega), hk _ (by omega) (by omega) (by omega), hk _ (by omega) (by omega) (by omega), hk _ (by omega) (by omega) (by omega), hk _ (by omega) (by omega) (by omega)]; exact h14 i hi
theorem RM_of (I : RI c N U) (R : yRM N U m) (h8 : ¬ N 3 = 12) {a b : Nat} (hm : ∀ k, k < 542 → m' k = if k = 5 then nI (N 3 + 1) else if k = 98 + 2 * N 3 + 1 then nI b else if k = 98 + 2 * N 3 then nI a else m k) : yRM (ofU N U a b).1 (ofU N U a b).2 m' := by
  have n0 := RI_n0 I
  have n1 := RI_n1 I
  have n2 := RI_n2 I
  have n3 := RI_n3 I
  have n4 := RI_n4 I
  have hk : ∀ k, k < 542 → k ≠ 5 → (k < 98 ∨ 122 ≤ k) → m' k = m k := fun k h1 h2 h3 => by rw [hm k h1, if_neg h2, if_neg (by omega), if_neg (by omega)]
  obtain ⟨h0, h1, h2, h3, h4, h5, h6, h7, h8', h9, h10, h11, h12, h13, h14⟩ := R
  refine ⟨(hk 0 (by omega) (by omega) (by omega)).trans h0, (hk 1 (by omega) (by omega) (by omega)).trans h1, (hk 2 (by omega) (by omega) (by omega)).trans h2, (hk 3 (by omega) (by omega) (by omega)).trans h3, (hk 4 (by omega) (by omega) (by omega)).trans h4, (hm 5 (by omega)).trans (if_pos rfl), (hk 6 (by omega) (by omega) (by omega)).trans h6, (hk 7 (by omega) (by omega) (by omega)).trans h7, (hk 8 (by omega) (by omega) (by omega)).trans h8', (hk 9 (by omega) (by omega) (by omega)).trans h9, fun h hh => ?_, fun i hi => ?_, fun i hi => ?_, fun i hi => ?_, fun i hi => ?_⟩
  · exact (hk _ (by omega) (by omega) (by omega)).trans (h10 h hh)
  · have hi' : i < N 1 := hi
    rw [hk _ (by omega) (by omega) (by omega), hk _ (by omega) (by omega) (by omega), hk _ (by omega) (by omega) (by omega), hk _ (by omega) (by omega) (by omega)]; exact h11 i hi
  · have hi' : i < N 2 := hi
    rw [hk _ (by omega) (by omega) (by omega), hk _ (by omega) (by omega) (by omega), hk _ (by omega) (by omega) (by omega)]; exact h12 i hi
  · have hi' : i < N 3 + 1 := hi
    have r0 : (ofU N U a b).2.2 3 (2 * i) = _ := of_row (N := N) (U := U) i 0 (by omega)
    have r1 := of_row (N := N) (U := U) i 1 (by omega) (a := a) (b := b)
    rw [r0, r1]
    by_cases y : i = N 3
    · subst y
      rw [if_pos (rfl : N 3 = N 3), if_pos (rfl : N 3 = N 3)]
      refine ⟨?_, ?_⟩
      · rw [hm _ (by omega), if_neg (by omega), if_neg (by omega), if_pos rfl] <;> rfl
      · rw [hm _ (by omega), if_neg (by omega), if_pos rfl] <;> rfl
    · rw [if_neg y, if_neg y]
      rw [hm _ (by omega), if_neg (by omega), if_neg (by omega), if_neg (by omega), hm _ (by omega), if_neg (by omega), if_neg (by omega), if_neg (by omega)]
      exact h13 i (by omega)
  · have hi' : i < N 4 := hi
    rw [hk _ (by omega) (by omega) (by omega), hk _ (by omega) (by omega) (by omega), hk _ (by omega) (by omega) (by omega), hk _ (by omega) (by omega) (by omega), hk _ (by omega) (by omega) (by omega), hk _ (by omega) (by omega) (by omega), hk _ (by omega) (by omega) (by omega)]; exact h14 i hi
theorem RM_congr3 (hN : N 1 ≤ 12 ∧ N 2 ≤ 10 ∧ N 3 ≤ 12 ∧ N 4 ≤ 60) (R : yRM N U m) (h : ∀ k, k < 542 → m' k = m k) : yRM N U m' := by
  obtain ⟨n1, n2, n3, n4⟩ := hN
  obtain ⟨h0, h1, h2, h3, h4, h5, h6, h7, h8, h9, h10, h11, h12, h13, h14⟩ := R
  refine ⟨by rw [h _ (by omega)]; exact h0, by rw [h _ (by omega)]; exact h1, by rw [h _ (by omega)]; exact h2, by rw [h _ (by omega)]; exact h3, by rw [h _ (by omega)]; exact h4, by rw [h _ (by omega)]; exact h5, by rw [h _ (by omega)]; exact h6, by rw [h _ (by omega)]; exact h7, by rw [h _ (by omega)]; exact h8, by rw [h _ (by omega)]; exact h9, fun i hi => by rw [h _ (by omega)]; exact h10 i hi, fun i hi => ?_, fun i hi => ?_, fun i hi => ?_, fun i hi => ?_⟩
  · rw [h _ (by omega), h _ (by omega), h _ (by omega), h _ (by omega)]; exact h11 i hi
  · rw [h _ (by omega), h _ (by omega), h _ (by omega)]; exact h12 i hi
  · rw [h _ (by omega), h _ (by omega)]; exact h13 i hi
  · rw [h _ (by omega), h _ (by omega), h _ (by omega), h _ (by omega), h _ (by omega), h _ (by omega), h _ (by omega)]; exact h14 i hi
theorem RM_s (I : RI c N U) (R : yRM N U m) (j : Nat) (hj : j = 6 ∨ j = 7) {x : Int32} {U' : cU} (hm : ∀ k, k < 542 → m' k = if k = j then x else m k) (h2 : U'.2 = U.2) (h1 : ∀ k, k < 7 → k ≠ j - 4 → U'.1 k = U.1 k) (h3 : U'.1 (j - 4) = x) : yRM N U' m' := by
  have R' : ∀ m1 : Nat → Int32, (∀ k, m1 k = if k = j then x else m k) → yRM N U' m1 := by
    intro m1 hm1
    obtain ⟨h0, h1', h2', h3', h4, h5, h6, h7, h8', h9, h10, h11, h12, h13, h14⟩ := R
    have hk : ∀ k, (k < 6 ∨ 8 ≤ k) → m1 k = m k := fun k hk => (hm1 k).trans (if_neg (by omega))
    rw [← h2] at h10 h11 h12 h13 h14
    refine ⟨by rw [hk 0 (by omega), h1 0 (by omega) (by omega)]; exact h0, by rw [hk 1 (by omega)]; exact h1', by rw [hk 2 (by omega)]; exact h2', by rw [hk 3 (by omega)]; exact h3', by rw [hk 4 (by omega)]; exact h4, by rw [hk 5 (by omega)]; exact h5, ?_, ?_, by rw [hk 8 (by omega), h1 4 (by omega) (by omega)]; exact h8', by rw [hk 9 (by omega), h1 5 (by omega) (by omega)]; exact h9, fun i hi => by rw [hk _ (by omega)]; exact h10 i hi, fun i hi => by rw [hk _ (by omega), hk _ (by omega), hk _ (by omega), hk _ (by omega)]; exact h11 i hi, fun i hi => by rw [hk _ (by omega), hk _ (by omega), hk _ (by omega)]; exact h12 i hi, fun i hi => by rw [hk _ (by omega), hk _ (by omega)]; exact h13 i hi, fun i hi => by rw [hk _ (by omega), hk _ (by omega), hk _ (by omega), hk _ (by omega), hk _ (by omega), hk _ (by omega), hk _ (by omega)]; exact h14 i hi⟩
    · rcases hj with rfl | rfl
      · rw [hm1, if_pos rfl]; exact h3.symm
      · rw [hm1, if_neg (by omega), h1 2 (by omega) (by omega)]; exact h6
    · rcases hj with rfl | rfl
      · rw [hm1, if_neg (by omega), h1 3 (by omega) (by omega)]; exact h7
      · rw [hm1, if_pos rfl]; exact h3.symm
  exact RM_congr3 ⟨RI_n1 I, RI_n2 I, RI_n3 I, RI_n4 I⟩ (R' _ (fun _ => rfl)) hm
end ZZ3
