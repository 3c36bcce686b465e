/-! pure land: W1 W2 W3 W4 (see wip/D-94657w/pl) -/
section ZW1
variable {σ σ' σ'' τ : zS} {o rd tp n p m d a b q z : Nat} {tl ft : Int32} {g : Nat → Int32} {T : Nat → Nat}
/-- the object of a part is filled -/
theorem X19_fill {x : Int32} {r : Option Nat} (h : yRd σ rd tp tl ft g n p m d) (ha : σ.1 a = some (.inr (17, [.int 0, .null]))) (hb : zbs σ ≤ a) (han : a < zn σ) (hr : rd < a) (ht : tp < a) : ∃ τ, f_X19_init a x r σ = some ((), τ) ∧ yRd τ rd tp tl ft g n p m d ∧ τ.1 a = some (.inr (17, [.int x, va_rf r])) ∧ (∀ q, q ≠ a → τ.1 q = σ.1 q) ∧ τ.2 = σ.2 := by
  have p1 : pI σ a 17 0 x = some (zset σ a (.inr (17, [.int x, .null]))) := pI_of ha (Nat.le_of_ble_eq_true rfl) hb
  have p2 : pR (zset σ a (.inr (17, [.int x, .null]))) a 17 1 r = some (zset σ a (.inr (17, [.int x, va_rf r]))) := (pF_of (zs_at (σ := σ)) (Nat.le_of_ble_eq_true rfl) hb).trans (congrArg some zset2)
  refine ⟨zset σ a (.inr (17, [.int x, va_rf r])), ?_, (set_obj (z := a) h (Nat.le_refl a) han hr ht).1, zs_at, fun q hq => zs_no hq, rfl⟩
  unfold f_X19_init
  rw [ybind_eq p1, ybind_eq p2]
/-- a part of a sum is built -/
theorem f_onePart (C : Cx σ o rd) (h : yRd σ rd tp tl ft g n p m d) (hT : TB g T n) (hp : p ≤ n) (hr : 450 ≤ zc σ ∧ 6000 ≤ zz σ) : match pPart T p with
    | .inl e => ∃ τ q d', f_X1_onePart o σ = some (.inr 5, τ) ∧ yRd τ rd tp tl ft g n q e d' ∧ Sp σ τ rd 410 2100
    | .inr (f, q) => ∃ τ a m', f_X1_onePart o σ = some (.inl (some a), τ) ∧ yRd τ rd tp tl ft g n q m' d ∧ Sp σ τ rd (6 + (q - p)) (30 + 5 * (q - p)) ∧ HqP (Rz (zn σ) τ) τ a f ∧ zn σ ≤ a ∧ a < zn τ ∧ zob τ (some a) = true := by
  have hn := hT.1.1
  obtain ⟨a1, a2, a3, a4⟩ := sk_spec hT.1 hp
  obtain ⟨b1, b2, b3, b4⟩ := we_spec hT.1 a2
  have ss := sk_sk hT.1 hp
  have hbz := h.2.2.2.2.2.2.1
  have hrb := h.2.2.2.1
  have hrn := h.2.2.2.2.1
  have htn := h.2.2.2.2.2.1
  obtain ⟨σ1, x1, x2, x3⟩ := f_isFigure h hT hp
  have C1 := Cx_Sp C x3 hrb hbz
  have n1 := x3.2.2.2.1
  have c1 := x3.2.2.2.2.1
  have z1 := x3.2.2.2.2.2
  have hbz1 := x2.2.2.2.2.2.2.1
  have hb1 := x3.2.2.1
  unfold f_X1_onePart pPart
  by_cases zD : isD (T (sk T p)) = true
  · rw [if_pos zD]
    rw [if_pos zD] at x1
    obtain ⟨σ2, y1, y2, y3, y4, y5⟩ := new_obj (ci := 17) (fs := [.int 0, .null]) x2 ⟨by omega, by show 2 ≤ _; omega⟩
    have C2 := Cx_Sp C1 y3 (by omega) hbz1
    have n2 := y3.2.2.2.1
    have hb2 := y3.2.2.1
    have c2 := y3.2.2.2.2.1
    have z2 := y3.2.2.2.2.2
    have z2' : zz σ1 ≤ zz σ2 + 2 := z2
    have F := f_fig y2 hT a2 (ylo := 0) (hi := 1000) (dg := 3) (hI := 999) (by omega) (by omega) (fun v hv => by rw [show (999 : Int32) = nI 999 from rfl, nI_leI (by omega) (by omega)]; omega) ⟨by omega, by omega⟩
    have FB := pFig_b hT.1 a2 (ylo := 0) (hi := 1000) (dg := 3)
    generalize pFig 0 1000 3 T (sk T p) = R at F FB
    match R, F, FB with
    | .inl e, F, _ =>
      obtain ⟨τ, q, f1, f2, f3⟩ := F
      refine ⟨τ, q, d, ?_, f2, Sp_le (Sp_t x3 (Sp_t y3 f3)) (by omega) (by show 0 + (2 + 6) ≤ _; omega)⟩
      have fn : f_X3_number rd 0 999 σ2 = some (.inr 5, τ) := by
        unfold f_X3_number
        have f1' : f_X3_figures rd 0 999 3 σ2 = some (.inr 5, τ) := f1
        rw [zif_t (Rd_cl y2), zbt_er f1']
      rw [ybind_eq C.1.1, bd_at, zif_t (Rd_cl h), zb2_eq x1, if_neg kk1, zb2_eq y1, ybind_eq C2.1.1, bd_at, zif_t (Rd_cl y2), zbt_er fn]
    | .inr (v, q), F, FB =>
      obtain ⟨τ, f1, f2, f3⟩ := F
      have n3 := f3.2.2.2.1
      have hb3 := f3.2.2.1
      have fn : f_X3_number rd 0 999 σ2 = some (.inl (nI v), τ) := by
        unfold f_X3_number
        have f1' : f_X3_figures rd 0 999 3 σ2 = some (.inl (nI v), τ) := f1
        rw [zif_t (Rd_cl y2), zbt_eq f1']
      have tob : τ.1 (zn σ1) = some (.inr (17, [.int 0, .null])) := (f3.1 _ (by omega) (by omega)).trans y4
      obtain ⟨τ2, g1, g2, g3, g4, g5⟩ := X19_fill (x := nI v) (r := none) f2 tob (by omega) (by omega) (by omega) (by have := x2.2.2.2.2.2.1; omega)
      have en : zn τ2 = zn τ := congrArg (fun w => w.2.2.1) g5
      have ec : zc τ2 = zc τ := congrArg (fun w => w.2.2.2.1) g5
      have ez : zz τ2 = zz τ := congrArg (fun w => w.2.2.2.2) g5
      have ev : zsv τ2 = zsv τ := congrArg (fun w => w.1) g5
      have eb : zbs τ2 = zbs τ := congrArg (fun w => w.2.1) g5
      have S9 : Sp σ τ rd (0 + (1 + 0)) (0 + (2 + 0)) := Sp_t x3 (Sp_t y3 f3)
      have hq : sk T p < q := FB.1
      refine ⟨τ2, zn σ1, _, ?_, g2, ⟨fun q' h1 h2 => (g4 q' (by omega)).trans (S9.1 q' h1 h2), ev.trans S9.2.1, eb.trans S9.2.2.1, by have := S9.2.2.2.1; omega, by have := S9.2.2.2.2.1; omega, by have := S9.2.2.2.2.2; omega⟩, Hq_num g3 ⟨by omega, by omega, _, g3, fun fs e => by cases e⟩, by omega, by omega, zob_of g3 (by omega)⟩
      rw [ybind_eq C.1.1, bd_at, zif_t (Rd_cl h), zb2_eq x1, if_neg kk1, zb2_eq y1, ybind_eq C2.1.1, bd_at, zif_t (Rd_cl y2), zbt_eq fn, zb2_eq g1]
  · rw [if_neg zD]
    rw [if_neg zD] at x1
    obtain ⟨σ2, w, vw, f, y1, y2, y3, y4, y5, y6, y7⟩ := f_word x2 hT a2 ⟨by omega, by omega⟩
    rw [ss] at y2 y3 y4 y5
    have n2 := y3.2.2.2.1
    have hb2 := y3.2.2.1
    have c2 := y3.2.2.2.2.1
    have z2 := y3.2.2.2.2.2
    have hbz2 := y2.2.2.2.2.2.2.1
    have C2 := Cx_Sp C1 y3 (by omega) hbz1
    obtain ⟨σ3, fa, sa, u1, u2, u3, u4⟩ := f_factOf C2.2.1 y2 y4 (by omega) b1 y5 ⟨by omega, by omega⟩ ⟨y2.2.2.2.2.1, hbz2, y2.2.2.2.1⟩
    have C3 := Cx_Sp C2 u3 y2.2.2.2.1 hbz2
    have n3 := u3.2.2.2.1
    have hb3 := u3.2.2.1
    have c3 := u3.2.2.2.2.1
    have z3 := u3.2.2.2.2.2
    have S3 : Sp σ σ3 rd (0 + (4 + (we T (sk T p) - sk T p) + 1)) (0 + (24 + 5 * (we T (sk T p) - sk T p) + 4)) := Sp_t x3 (Sp_t y3 u3)
    -- the object of a fact
    have OK : ∀ i, i < 4 → fcW T (sk T p) = some i → ∃ τ a m', f_X1_onePart o σ = some (.inl (some a), τ) ∧ yRd τ rd tp tl ft g n (we T (sk T p)) m' d ∧ Sp σ τ rd (6 + (we T (sk T p) - p)) (30 + 5 * (we T (sk T p) - p)) ∧ HqP (Rz (zn σ) τ) τ a (fun s => s (1 + i)) ∧ zn σ ≤ a ∧ a < zn τ ∧ zob τ (some a) = true := by
      intro i hi hfc
      rw [hfc] at u1
      obtain ⟨σ4, v1, v2, v3, v4, v5⟩ := new_obj (ci := 17) (fs := [.int 0, .null]) u2 ⟨by omega, by show 2 ≤ _; omega⟩
      have hb4 := v3.2.2.1
      have n4 := v3.2.2.2.1
      obtain ⟨τ2, g1, g2, g3, g4, g5⟩ := X19_fill (x := 0) (r := some (fa i)) v2 v4 (by have := u2.2.2.2.2.2.2.1; omega) (by omega) (by have := u2.2.2.2.2.1; omega) (by have := u2.2.2.2.2.2.1; omega)
      have en : zn τ2 = zn σ4 := congrArg (fun w => w.2.2.1) g5
      have ec : zc τ2 = zc σ4 := congrArg (fun w => w.2.2.2.1) g5
      have ez : zz τ2 = zz σ4 := congrArg (fun w => w.2.2.2.2) g5
      have ev : zsv τ2 = zsv σ4 := congrArg (fun w => w.1) g5
      have eb : zbs τ2 = zbs σ4 := congrArg (fun w => w.2.1) g5
      have S9 := Sp_t S3 v3
      have S92 : zz σ ≤ zz σ4 + (0 + (24 + 5 * (we T (sk T p) - sk T p) + 4) + 2) := S9.2.2.2.2.2
      have hfa : ∀ i, i < 4 → fa i < zbs τ2 ∧ τ2.1 (fa i) = some (.inr (151, [.int (nI i), .ref (sa (fcX i))])) := by
        intro j hj
        obtain ⟨k1, k2⟩ := u4 j hj
        refine ⟨by omega, ?_⟩
        rw [g4 _ (by omega), v3.1 _ (by omega) (by have := y2.2.2.2.1; omega), u3.1 _ (by omega) (by have := y2.2.2.2.1; omega)]
        exact k2
      refine ⟨τ2, zn σ3, _, ?_, g2, ⟨fun q' h1 h2 => (g4 q' (by omega)).trans (S9.1 q' h1 h2), ev.trans S9.2.1, eb.trans S9.2.2.1, by have := S9.2.2.2.1; omega, by have := S9.2.2.2.2.1; omega, by omega⟩, Hq_fact hi hfa g3 ⟨by omega, by omega, _, g3, fun fs e => by cases e⟩, by omega, by omega, zob_of g3 (by omega)⟩
      have u1' : f_X20_of (some w) σ2 = some (some (fa i), σ3) := u1
      unfold f_X1_onePart
      rw [ybind_eq C.1.1, bd_at, zif_t (Rd_cl h), zb2_eq x1, if_pos rfl, ybind_eq C1.1.1, bd_at, zif_t (Rd_cl x2), zb2_eq y1, zb2_eq u1']
      show zb2 (znewO σ3 17 [.int 0, .null]) _ = _
      rw [zb2_eq v1, zb2_eq g1]
    unfold f_X1_onePart at OK
    unfold fcW at OK u1
    by_cases w1 : ywk 19 T (sk T p) = true
    · rw [if_pos w1]; rw [if_pos w1] at OK
      exact OK 0 (by omega) rfl
    · rw [if_neg w1]; rw [if_neg w1] at OK u1
      by_cases w2 : ywk 20 T (sk T p) = true
      · rw [if_pos w2]; rw [if_pos w2] at OK
        exact OK 1 (by omega) rfl
      · rw [if_neg w2]; rw [if_neg w2] at OK u1
        by_cases w3 : ywk 21 T (sk T p) = true
        · rw [if_pos w3]; rw [if_pos w3] at OK
          exact OK 2 (by omega) rfl
        · rw [if_neg w3]; rw [if_neg w3] at OK u1
          by_cases w4 : ywk 22 T (sk T p) = true
          · rw [if_pos w4]; rw [if_pos w4] at OK
            exact OK 3 (by omega) rfl
          · rw [if_neg w4]; rw [if_neg w4] at u1
            obtain ⟨τ, ww, t1, t2, t3, t4⟩ := f_wrong u2 ⟨by omega, by omega⟩
            refine ⟨τ, _, d, ?_, t3, Sp_le (Sp_t S3 t4) (by omega) (by omega)⟩
            have u1' : f_X20_of (some w) σ2 = some (none, σ3) := u1
            rw [ybind_eq C.1.1, bd_at, zif_t (Rd_cl h), zb2_eq x1, if_pos rfl, ybind_eq C1.1.1, bd_at, zif_t (Rd_cl x2), zb2_eq y1, zb2_eq u1']
            show (gR σ3 o 0 2).bind _ = _
            rw [ybind_eq C3.1.1, bd_at, zif_t (Rd_cl u2), zb2_eq t1, bd_at, zif_t t2]
end ZW1
/-! lists that are built -/
def Bl (σ : zS) (z l e cap c : Nat) (el : Nat → Nat) : Prop := (z ≤ l ∧ l < zn σ ∧ zbs σ ≤ z) ∧ (∃ mc, σ.1 l = some (.inr (19, [.int mc, .ref e, .int (nI c)]))) ∧ c ≤ 400 ∧ cap ≤ 2 * c + 10 ∧ ((σ.1 e = some (.inl (3, cap, obA (lsA c el))) ∧ z ≤ e ∧ e < zn σ ∧ c ≤ cap ∧ 1 ≤ cap) ∨ (c = 0 ∧ zk σ 1 = some e ∧ cap = 0)) ∧ ∀ i, i < c → z ≤ el i ∧ el i < zn σ ∧ zob σ (some (el i)) = true
/-- the cells that the elements may use -/
def yPl (z l e : Nat) (σ : zS) (q : Nat) : Prop := Rz z σ q ∧ q ≠ l ∧ q ≠ e
section ZW2
variable {σ σ' σ'' τ : zS} {o rd tp n p m d a b q z l e cap c : Nat} {tl ft : Int32} {g : Nat → Int32} {T : Nat → Nat} {el : Nat → Nat}
theorem Bl_ne (h : Bl σ z l e cap c el) (E : yEv σ) : e ≠ l := by
  obtain ⟨⟨h1, h2, h3⟩, ⟨mc, h4⟩, h5, h6, h7, h8⟩ := h
  intro q
  rcases h7 with h | h
  · rw [q, h4] at h; cases h.1
  · have := (E.2 _ h.2.1).1; omega
theorem Bl_add {x : Nat} (h : Bl σ z l e cap c el) (E : yEv σ) (hc : c < 400) (hbz : zbs σ ≤ zn σ) (hx : z ≤ x) (hxn : x < zn σ) (hxo : zob σ (some x) = true) (hr : 1 ≤ zc σ ∧ 900 ≤ zz σ) :
    ∃ σ' e' cap', f_J2_add l (some x) σ = some (1, σ') ∧ Bl σ' z l e' cap' (c + 1) (fun i => if i = c then x else el i) ∧ (∀ q, q ≠ l → q ≠ e' → σ'.1 q = σ.1 q) ∧ zsv σ' = zsv σ ∧ zbs σ' = zbs σ ∧ zn σ ≤ zn σ' ∧ zc σ ≤ zc σ' + 1 ∧ zz σ ≤ zz σ' + 4 * (cap' - cap) ∧ cap ≤ cap' ∧ (e' = e ∨ zn σ ≤ e') ∧ zbs σ ≤ e' ∧ z ≤ e' ∧ ((∀ q, zn σ ≤ q → σ.1 q = none) → ∀ q, zn σ' ≤ q → σ'.1 q = none) := by
  have hne := Bl_ne h E
  obtain ⟨⟨h1, h2, h3⟩, ⟨mc, h4⟩, h5, h6, h7, h8⟩ := h
  obtain ⟨m0, hm0⟩ := E.1
  have hcase : (σ.1 e = some (.inl (3, cap, obA (lsA c el))) ∧ zbs σ ≤ e ∧ e < zn σ ∧ c ≤ cap ∧ 1 ≤ cap ∧ cap ≤ 900 ∧ ∀ i, i < c → zob σ (some (el i)) = true ∧ el i < zn σ) ∨ (c = 0 ∧ zk σ 1 = some e ∧ σ.1 e = some (.inl (103, 0, obA (fun _ => none))) ∧ e < zbs σ ∧ cap = 0) := by
    rcases h7 with ⟨o1, o2, o3, o4, o5⟩ | ⟨o1, o2, o3⟩
    · exact Or.inl ⟨o1, by omega, o3, o4, o5, by omega, fun i hi => ⟨(h8 i hi).2.2, (h8 i hi).2.1⟩⟩
    · obtain ⟨d1, d2⟩ := E.2 _ o2
      exact Or.inr ⟨o1, o2, d2, d1, o3⟩
  obtain ⟨e', cap', σ', a1, a2, a3, a4, a5, a6, a7, a8, a9, a10, a11⟩ := J2_addB h4 (by omega) h2 hbz hxo hxn (by omega) hcase hm0 hr
  have hnn : zn σ ≤ zn σ' := by rcases a9 with h | h <;> omega
  have hze : z ≤ e' := by
    rcases a9 with ⟨q1, q2, q3⟩ | ⟨q1, q2⟩
    · rcases h7 with o | o
      · omega
      · have := (E.2 _ o.2.1).1; omega
    · omega
  have hzo : ∀ y, y ≠ e' → zob σ (some y) = true → zob σ' (some y) = true := by
    intro y hy ho
    show (match σ'.1 y with
      | some (.inr (c, _)) => Nat.blt c 22
      | _ => false) = true
    have e1 : σ'.1 y = if y = l then some (.inr (19, [.int (mc + 1), .ref e', .int (nI (c + 1))])) else if y = e' then some (.inl (3, cap', obA (lsA (c + 1) (fun i => if i = c then x else el i)))) else σ.1 y := by rw [a2]
    rw [e1]
    by_cases zl : y = l
    · rw [if_pos zl]; rfl
    · rw [if_neg zl, if_neg hy]; exact ho
  -- an element isn't the array
  have hea : ∀ y, y < zn σ → zob σ (some y) = true → y ≠ e' := by
    intro y hy ho q
    rcases a9 with ⟨q1, q2, q3⟩ | ⟨q1, q2⟩
    · rw [q, q1] at ho
      have ho' : (match σ.1 e with
        | some (.inr (c, _)) => Nat.blt c 22
        | _ => false) = true := ho
      rcases h7 with o | o
      · rw [o.1] at ho'; cases ho'
      · have := (E.2 _ o.2.1).1; omega
    · omega
  refine ⟨σ', e', cap', a1, ⟨⟨h1, by omega, by rw [a4]; exact h3⟩, ⟨mc + 1, by rw [a2]; exact if_pos rfl⟩, by omega, by omega, Or.inl ⟨?_, hze, ?_, a6, by omega⟩, fun i hi => ?_⟩, fun q h1 h2 => by rw [a2]; exact (if_neg h1).trans (if_neg h2), a3, a4, hnn, a10, a11, ?_, ?_, a5, hze, fun hf q hq => ?_⟩
  · rw [a2]
    exact (if_neg a8).trans (if_pos rfl)
  · rcases a9 with ⟨q1, q2, q3⟩ | ⟨q1, q2⟩
    · rcases h7 with o | o
      · omega
      · have := (E.2 _ o.2.1).1; omega
    · omega
  · show z ≤ (if i = c then x else el i) ∧ (if i = c then x else el i) < zn σ' ∧ zob σ' (some (if i = c then x else el i)) = true
    by_cases y : i = c
    · rw [if_pos y]
      exact ⟨hx, by omega, hzo x (hea x hxn hxo) hxo⟩
    · rw [if_neg y]
      obtain ⟨k1, k2, k3⟩ := h8 i (by omega)
      exact ⟨k1, by omega, hzo _ (hea _ k2 k3) k3⟩
  · exact a7.1
  · rcases a9 with ⟨q1, q2, q3⟩ | ⟨q1, q2⟩
    · exact Or.inl q1
    · exact Or.inr (by omega)
  · rw [a2]
    have hq' : zn σ' ≤ q := hq
    have : q ≠ e' := by
      rcases a9 with ⟨q1, q2, q3⟩ | ⟨q1, q2⟩
      · rcases h7 with o | o
        · omega
        · have := (E.2 _ o.2.1).1; omega
      · omega
    exact (if_neg (by omega)).trans ((if_neg this).trans (hf q (by omega)))
end ZW2
def fset {α : Type} (fs : Nat → α) (c : Nat) (x : α) : Nat → α := fun i => if i = c then x else fs i
theorem smF_set {fs : Nat → Sc9 → Int32} {c : Nat} {x : Sc9 → Int32} : ∀ k, k ≤ c → smF (fset fs c x) k = smF fs k := by
  intro k
  induction k with
  | zero => intro _; rfl
  | succ k ih =>
    intro h
    funext s
    show smF (fset fs c x) k s + fset fs c x k s = smF fs k s + fs k s
    rw [ih (by omega)]
    have : fset fs c x k = fs k := if_neg (by omega)
    rw [this]
theorem smF_new {fs : Nat → Sc9 → Int32} {c : Nat} {x : Sc9 → Int32} : smF (fset fs c x) (c + 1) = fun s => smF fs c s + x s := by
  funext s
  show smF (fset fs c x) c s + fset fs c x c s = _
  rw [smF_set c (Nat.le_refl c)]
  have : fset fs c x c = x := if_pos rfl
  rw [this]
/-- one part more, then the rest -/
def pSk (T : Nat → Nat) (k : Nat) (f : Sc9 → Int32) (p : Nat) : pR9 (Sc9 → Int32) := match pPart T p with
  | .inl e => .inl e
  | .inr (g, q) => pSumL T k (fun s => f s + g s) q
section ZW3
variable {σ σ' σ'' τ : zS} {o rd tp n p m d a b q z l e cap c : Nat} {tl ft : Int32} {g : Nat → Int32} {T : Nat → Nat} {el : Nat → Nat}
theorem Rz_Sp (hs : Sp σ τ rd a b) (hr : rd < z) : ∀ q, Rz z σ q → Rz z τ q := by
  rintro q ⟨h1, h2, ob, h3, h4⟩
  exact ⟨h1, by have := hs.2.2.2.1; omega, ob, by rw [hs.1 q h2 (by omega)]; exact h3, h4⟩
theorem Bl_Sp (h : Bl σ z l e cap c el) (hs : Sp σ τ rd a b) (hr : rd < z) : Bl τ z l e cap c el := by
  obtain ⟨⟨h1, h2, h3⟩, ⟨mc, h4⟩, h5, h6, h7, h8⟩ := h
  have hn := hs.2.2.2.1
  refine ⟨⟨h1, by omega, by rw [hs.2.2.1]; exact h3⟩, ⟨mc, by rw [hs.1 l h2 (by omega)]; exact h4⟩, h5, h6, ?_, fun i hi => ?_⟩
  · rcases h7 with ⟨o1, o2, o3, o4⟩ | ⟨o1, o2, o3⟩
    · exact Or.inl ⟨by rw [hs.1 e o3 (by omega)]; exact o1, o2, by omega, o4⟩
    · exact Or.inr ⟨o1, by show zsv τ 1 = _; rw [hs.2.1]; exact o2, o3⟩
  · obtain ⟨k1, k2, k3⟩ := h8 i hi
    refine ⟨k1, by omega, ?_⟩
    show (match τ.1 (el i) with
      | some (.inr (c, _)) => Nat.blt c 22
      | _ => false) = true
    rw [hs.1 _ k2 (by omega)]
    exact k3
theorem Cx_z (h : Cx σ o rd) (hs : ∀ q, q < z → q ≠ rd → τ.1 q = σ.1 q) (hv : zsv τ = zsv σ) (hb : zbs τ = zbs σ) (hn : zn σ ≤ zn τ) (hz : zbs σ ≤ z) (hr : zbs σ ≤ rd) (ho : o < z) : Cx τ o rd := by
  obtain ⟨⟨h1, h2, h3, h4⟩, h5, h6, dd, h7⟩ := h
  have e := hs o ho h4
  refine ⟨⟨?_, ?_, by omega, h4⟩, zLk_ag (P := fun _ => False) h5 ⟨fun q hq => hq.elim (fun z => z.elim) (fun hq => hs q (by omega) (by omega)), hv, hb⟩, ?_, dd, by show zsv τ 1 = _; rw [hv]; exact h7⟩
  · unfold gR zfld at h1 ⊢
    rw [e]; exact h1
  · unfold zcl at h2 ⊢
    rw [e]; exact h2
  · obtain ⟨⟨m0, g1⟩, g2⟩ := h6
    refine ⟨⟨m0, by show zsv τ 0 = _; rw [hv]; exact g1⟩, fun d hd => ?_⟩
    have hd' : zk σ 1 = some d := by
      have : zsv τ 1 = some d := hd
      rw [hv] at this; exact this
    obtain ⟨q1, q2⟩ := g2 d hd'
    exact ⟨by rw [hb]; exact q1, by rw [hs d (by omega) (by omega)]; exact q2⟩
/-- the loop of a sum -/
theorem f_sumL (hT : TB g T n) {a1 : Nat} : ∀ k c p m cap e el (fs : Nat → Sc9 → Int32) σ fu, p ≤ n → n ≤ p + k → k < fu → Cx σ o rd → yRd σ rd tp tl ft g n p m d → Bl σ z l e cap c el → rd < z → tp < z → o < z → z ≤ a1 → a1 < zn σ → a1 ≠ l → a1 ≠ e → σ.1 a1 = some (.inr (16, [.ref l])) → (∀ i, i < c → HqP (yPl z l e σ) σ (el i) (fs i)) → c + (n - p) ≤ 400 → 8 * (n - p) + 460 ≤ zc σ → 35 * (n - p) + 4 * (2 * (c + (n - p)) + 10 - cap) + 7000 ≤ zz σ →
    match pSk T k (smF fs c) p with
    | .inl e => ∃ τ q d', zlp0 (f_X1_sum_2_8_b o (some a1)) fu σ = some (.inr 5, τ) ∧ yRd τ rd tp tl ft g n q e d' ∧ (∀ q, q < z → q ≠ rd → τ.1 q = σ.1 q) ∧ zsv τ = zsv σ ∧ zbs τ = zbs σ ∧ zn σ ≤ zn τ ∧ zc σ ≤ zc τ + (8 * (n - p) + 410) ∧ zz σ ≤ zz τ + (35 * (n - p) + 4 * (2 * (c + (n - p)) + 10 - cap) + 2100)
    | .inr (f, q) => ∃ τ m', zlp0 (f_X1_sum_2_8_b o (some a1)) fu σ = some (.inl (some a1), τ) ∧ yRd τ rd tp tl ft g n q m' d ∧ (∀ q, q < z → q ≠ rd → τ.1 q = σ.1 q) ∧ zsv τ = zsv σ ∧ zbs τ = zbs σ ∧ zn σ ≤ zn τ ∧ zc σ ≤ zc τ + 8 * (q - p) ∧ zz σ ≤ zz τ + (35 * (q - p) + 4 * (2 * (c + (q - p)) + 10 - cap)) ∧ HsP (Rz z τ) τ a1 f ∧ zob τ (some a1) = true := by
  have hn := hT.1.1
  intro k
  induction k with
  | zero =>
    intro c p m cap e el fs σ fu h1 h2 h3 C hR hB hz1 hz2 hz3 ha1 ha2 ha3 ha4 ha5 hel hcn hzc hzz
    -- no place is left for a part
    have hpn : p = n := by omega
    subst hpn
    have F := f_onePart C hR hT (Nat.le_refl p) ⟨by omega, by omega⟩
    have FB := pPart_b hT.1 (Nat.le_refl p)
    obtain ⟨fu, rfl⟩ : ∃ f', fu = f' + 1 := ⟨fu - 1, by omega⟩
    unfold pSk
    generalize pPart T p = R at F FB
    match R, F, FB with
    | .inl e2, F, _ =>
      obtain ⟨τ, q, d', f1, f2, s1, s2, s3, s4, s5, s6⟩ := F
      have t5 : zc σ ≤ zc τ + (8 * (p - p) + 410) := Nat.le_trans s5 (Nat.add_le_add_left (Nat.le_add_left _ _) _)
      have t6 : zz σ ≤ zz τ + (35 * (p - p) + 4 * (2 * (c + (p - p)) + 10 - cap) + 2100) := Nat.le_trans s6 (Nat.add_le_add_left (Nat.le_add_left _ _) _)
      refine ⟨τ, q, d', ?_, f2, fun q' h1 h2 => s1 q' (by have := hB.1.1; have := hB.1.2.1; omega) h2, s2, s3, s4, t5, t6⟩
      show f_X1_sum_2_8_b o (some a1) _ σ = _
      unfold f_X1_sum_2_8_b
      rw [bd_at, ybind_eq (gR_of ha5 (k := 0) (q := some l) rfl rfl), zif_t C.1.2.1, zbt_er f1]
    | .inr (g2, q), _, FB => exact absurd FB.2 (Nat.not_le.mpr FB.1)
  | succ k ih =>
    intro c p m cap e el fs σ fu h1 h2 h3 C hR hB hz1 hz2 hz3 ha1 ha2 ha3 ha4 ha5 hel hcn hzc hzz
    have F := f_onePart C hR hT h1 ⟨by omega, by omega⟩
    have FB := pPart_b hT.1 h1
    obtain ⟨fu, rfl⟩ : ∃ f', fu = f' + 1 := ⟨fu - 1, by omega⟩
    have hzn : z ≤ zn σ := by have := hB.1.1; have := hB.1.2.1; omega
    unfold pSk
    generalize pPart T p = R at F FB
    match R, F, FB with
    | .inl e2, F, _ =>
      obtain ⟨τ, q, d', f1, f2, s1, s2, s3, s4, s5, s6⟩ := F
      have t5 : zc σ ≤ zc τ + (8 * (n - p) + 410) := Nat.le_trans s5 (Nat.add_le_add_left (Nat.le_add_left _ _) _)
      have t6 : zz σ ≤ zz τ + (35 * (n - p) + 4 * (2 * (c + (n - p)) + 10 - cap) + 2100) := Nat.le_trans s6 (Nat.add_le_add_left (Nat.le_add_left _ _) _)
      refine ⟨τ, q, d', ?_, f2, fun q' h1 h2 => s1 q' (by omega) h2, s2, s3, s4, t5, t6⟩
      show f_X1_sum_2_8_b o (some a1) _ σ = _
      unfold f_X1_sum_2_8_b
      rw [bd_at, ybind_eq (gR_of ha5 (k := 0) (q := some l) rfl rfl), zif_t C.1.2.1, zbt_er f1]
    | .inr (g2, q), F, FB =>
      obtain ⟨σ1, x, m1, f1, f2, f3, f4, f5, f6, f7⟩ := F
      have hq1 : p < q := FB.1
      have hq2 : q ≤ n := FB.2
      have C1 := Cx_Sp C f3 hR.2.2.2.1 hR.2.2.2.2.2.2.1
      have hB1 := Bl_Sp hB f3 hz1
      have hn1 := f3.2.2.2.1
      have hb1 := f3.2.2.1
      have hc1 := f3.2.2.2.2.1
      have hz1' := f3.2.2.2.2.2
      obtain ⟨σ2, e2, cap2, g1, g2', g3, g4, g5, g6, g7, g8, g9, g10, g11, g12, g13⟩ := Bl_add hB1 C1.2.2.1 (by omega) f2.2.2.2.2.2.2.1 (x := x) (by omega) f6 f7 ⟨by omega, by omega⟩
      have hR2 : yRd σ2 rd tp tl ft g n q m1 d := by
        obtain ⟨r1, r2, r3, r4, r5, r6, r7, r8⟩ := f2
        have hl := hB.1.1
        exact ⟨by rw [g3 _ (by omega) (by omega)]; exact r1, by rw [g3 _ (by omega) (by omega)]; exact r2, r3, by rw [g5]; exact r4, by omega, by omega, by rw [g5]; omega, g13 r8⟩
      have hl := hB.1.1
      have hln := hB.1.2.1
      have hzb := hB.1.2.2
      have he : e < zn σ := by
        rcases hB.2.2.2.2.1 with o | o
        · exact o.2.2.1
        · have := (C.2.2.1.2 _ o.2.1).1; omega
      have old2 : ∀ q', q' < zn σ1 → q' ≠ l → q' ≠ e → σ2.1 q' = σ1.1 q' := fun q' k1 k2 k3 => g3 q' k2 (by rcases g10 with w | w <;> omega)
      have M2 : ∀ q', q' < z → q' ≠ rd → σ2.1 q' = σ.1 q' := fun q' k1 k2 => (g3 q' (by omega) (by omega)).trans (f3.1 q' (by omega) k2)
      have C2 : Cx σ2 o rd := Cx_z C M2 (g4.trans f3.2.1) (g5.trans hb1) (by omega) hzb hR.2.2.2.1 hz3
      have ha1' : σ2.1 a1 = some (.inr (16, [.ref l])) := by
        rw [old2 a1 (by omega) ha3 ha4, f3.1 a1 ha2 (by omega)]
        exact ha5
      have hel2 : ∀ i, i < c + 1 → HqP (yPl z l e2 σ2) σ2 (if i = c then x else el i) (fset fs c g2 i) := by
        intro i hi
        by_cases y : i = c
        · have e1 : fset fs c g2 i = g2 := if_pos y
          rw [if_pos y, e1]
          refine HqP_up f4 (fun q' hq' => ?_) ⟨fun q' hq' => ?_, g4, g5⟩
          · obtain ⟨w1, w2, ob, w3, w4⟩ := hq'
            exact ⟨⟨by omega, by omega, ob, by rw [old2 q' w2 (by omega) (by omega)]; exact w3, w4⟩, by omega, by rcases g10 with w | w <;> omega⟩
          · rcases hq' with ⟨w1, w2, -⟩ | w
            · exact old2 q' w2 (by omega) (by omega)
            · exact g3 q' (by omega) (by omega)
        · have e1 : fset fs c g2 i = fs i := if_neg y
          rw [if_neg y, e1]
          refine HqP_up (hel i (by omega)) (fun q' hq' => ?_) ⟨fun q' hq' => ?_, g4.trans f3.2.1, g5.trans hb1⟩
          · obtain ⟨⟨w1, w2, ob, w3, w4⟩, w5, w6⟩ := hq'
            exact ⟨⟨w1, by omega, ob, by rw [old2 q' (by omega) w5 w6, f3.1 q' w2 (by omega)]; exact w3, w4⟩, w5, by rcases g10 with w | w <;> omega⟩
          · rcases hq' with ⟨⟨w1, w2, -⟩, w5, w6⟩ | w
            · exact (old2 q' (by omega) w5 w6).trans (f3.1 q' w2 (by omega))
            · exact M2 q' (by omega) (by have := hR.2.2.2.1; omega)
      have cl2 : zcl σ1 l = 19 := by
        obtain ⟨mc, hmc⟩ := hB1.2.1
        exact cl_of hmc rfl
      have stp : ∀ rf, f_X1_sum_2_8_b o (some a1) rf σ = zb2 (f_X3_sign rd 43 σ2) fun x17 σ18 => if ¬ x17 = 0 then rf σ18 else some (.inl (some a1), σ18) := by
        intro rf
        unfold f_X1_sum_2_8_b
        rw [bd_at, ybind_eq (gR_of ha5 (k := 0) (q := some l) rfl rfl), zif_t C.1.2.1, zbt_eq f1, bd_at, zif_t cl2, zb2_eq g1, ybind_eq C2.1.1, bd_at, zif_t (Rd_cl hR2)]
      obtain ⟨s1, s0⟩ := f_sign hR2 hT hq2 (c := 43) (by omega)
      obtain ⟨b1, b2, -, -⟩ := sk_spec hT.1 hq2
      show match pSumL T (k + 1) (fun s => smF fs c s + g2 s) q with
        | .inl e => ∃ τ q d', f_X1_sum_2_8_b o (some a1) (zlp0 (f_X1_sum_2_8_b o (some a1)) fu) σ = some (.inr 5, τ) ∧ yRd τ rd tp tl ft g n q e d' ∧ (∀ q, q < z → q ≠ rd → τ.1 q = σ.1 q) ∧ zsv τ = zsv σ ∧ zbs τ = zbs σ ∧ zn σ ≤ zn τ ∧ zc σ ≤ zc τ + (8 * (n - p) + 410) ∧ zz σ ≤ zz τ + (35 * (n - p) + 4 * (2 * (c + (n - p)) + 10 - cap) + 2100)
        | .inr (f, q) => ∃ τ m', f_X1_sum_2_8_b o (some a1) (zlp0 (f_X1_sum_2_8_b o (some a1)) fu) σ = some (.inl (some a1), τ) ∧ yRd τ rd tp tl ft g n q m' d ∧ (∀ q, q < z → q ≠ rd → τ.1 q = σ.1 q) ∧ zsv τ = zsv σ ∧ zbs τ = zbs σ ∧ zn σ ≤ zn τ ∧ zc σ ≤ zc τ + 8 * (q - p) ∧ zz σ ≤ zz τ + (35 * (q - p) + 4 * (2 * (c + (q - p)) + 10 - cap)) ∧ HsP (Rz z τ) τ a1 f ∧ zob τ (some a1) = true
      rw [stp, show (43 : Int32) = nI 43 from rfl]
      have hcap2 := g2'.2.2.2.1
      unfold pSumL
      by_cases y : T (sk T q) = 43
      · obtain ⟨τ1, t1, t2, t3⟩ := s1 y
        rw [if_pos y, zb2_eq t1, if_pos kk1]
        have hlt := Tx_in hT.1 (by omega) y
        have u2 := t3.2.2.2.1
        have u3 := t3.2.2.2.2.1
        have u4 := t3.2.2.2.2.2
        have u5 := t3.2.2.1
        have C3 := Cx_Sp C2 t3 hR2.2.2.2.1 hR2.2.2.2.2.2.2.1
        have ha1'' : τ1.1 a1 = some (.inr (16, [.ref l])) := (t3.1 a1 (by omega) (by omega)).trans ha1'
        have key := ih (c + 1) (sk T q + 1) (sk T q) cap2 e2 (fun i => if i = c then x else el i) (fset fs c g2) τ1 fu (by omega) (by omega) (by omega) C3 t2 (Bl_Sp g2' t3 hz1) hz1 hz2 hz3 ha1 (by omega) ha3 (by rcases g10 with w | w <;> omega) ha1'' (fun i hi => HqP_up (hel2 i hi) (fun q' hq' => ⟨Rz_Sp t3 hz1 q' hq'.1, hq'.2⟩) ⟨fun q' hq' => by
          rcases hq' with ⟨⟨w1, w2, -⟩, -⟩ | w
          · exact t3.1 q' w2 (by omega)
          · exact t3.1 q' (by omega) (by have := hR2.2.2.2.1; omega), t3.2.1, u5⟩) (by omega) (by omega) (by omega)
        rw [smF_new] at key
        unfold pSk at key
        have hsk : q + 1 ≤ sk T q + 1 := by omega
        have hs'n : sk T q + 1 ≤ n := by omega
        generalize sk T q + 1 = s' at key hsk hs'n ⊢
        have FB4 := pPart_b hT.1 hs'n
        generalize pPart T s' = R2 at key FB4 ⊢
        match R2, key, FB4 with
        | .inl e3, key, _ =>
          obtain ⟨τ, q9, d9, k1, k2, k3, k4, k5, k6, k7, k8⟩ := key
          exact ⟨τ, q9, d9, k1, k2, fun q' h1 h2 => (k3 q' h1 h2).trans ((t3.1 q' (by omega) h2).trans (M2 q' h1 h2)), k4.trans (t3.2.1.trans (g4.trans f3.2.1)), k5.trans (u5.trans (g5.trans hb1)), by omega, by omega, by omega⟩
        | .inr (g9, q9), key, FB4 =>
          have hq9 : s' < q9 := FB4.1
          have FB5 := pSumL_b hT.1 k (fun s => (fun s => smF fs c s + g2 s) s + g9 s) q9 FB4.2
          show match pSumL T k (fun s => (fun s => smF fs c s + g2 s) s + g9 s) q9 with
            | .inl e => _
            | .inr (f, q) => _
          have key' : match pSumL T k (fun s => (fun s => smF fs c s + g2 s) s + g9 s) q9 with
            | .inl e => _
            | .inr (f, q) => _ := key
          generalize pSumL T k (fun s => (fun s => smF fs c s + g2 s) s + g9 s) q9 = R3 at key' FB5 ⊢
          match R3, key', FB5 with
          | .inl e3, key, _ =>
            obtain ⟨τ, q9, d9, k1, k2, k3, k4, k5, k6, k7, k8⟩ := key
            exact ⟨τ, q9, d9, k1, k2, fun q' h1 h2 => (k3 q' h1 h2).trans ((t3.1 q' (by omega) h2).trans (M2 q' h1 h2)), k4.trans (t3.2.1.trans (g4.trans f3.2.1)), k5.trans (u5.trans (g5.trans hb1)), by omega, by omega, by omega⟩
          | .inr (f9, q8), key, FB5 =>
            have hq8 : q9 ≤ q8 := FB5.1
            obtain ⟨τ, m9, k1, k2, k3, k4, k5, k6, k7, k8, k9, k10⟩ := key
            exact ⟨τ, m9, k1, k2, fun q' h1 h2 => (k3 q' h1 h2).trans ((t3.1 q' (by omega) h2).trans (M2 q' h1 h2)), k4.trans (t3.2.1.trans (g4.trans f3.2.1)), k5.trans (u5.trans (g5.trans hb1)), by omega, by omega, by omega, k9, k10⟩
      · obtain ⟨τ1, t1, t2, t3⟩ := s0 y
        rw [if_neg y, zb2_eq t1, if_neg kk0]
        have u2 := t3.2.2.2.1
        have u3 := t3.2.2.2.2.1
        have u4 := t3.2.2.2.2.2
        have u5 := t3.2.2.1
        have ha1'' : τ1.1 a1 = some (.inr (16, [.ref l])) := (t3.1 a1 (by omega) (by omega)).trans ha1'
        have hB3 := Bl_Sp g2' t3 hz1
        obtain ⟨⟨v1, v2, v3⟩, v4, v5, v6, v7, v8⟩ := hB3
        have hown : τ1.1 e2 = some (.inl (3, cap2, obA (lsA (c + 1) (fun i => if i = c then x else el i)))) ∧ e2 < zn τ1 ∧ c + 1 ≤ cap2 := by
          rcases v7 with o | o
          · exact ⟨o.1, o.2.2.1, o.2.2.2.1⟩
          · omega
        refine ⟨τ1, sk T q, rfl, t2, fun q' h1 h2 => (t3.1 q' (by omega) h2).trans (M2 q' h1 h2), t3.2.1.trans (g4.trans f3.2.1), u5.trans (g5.trans hb1), by omega, by omega, by omega, ?_, zob_of ha1'' (by omega)⟩
        have hls : Ls9 τ1 l e2 cap2 (c + 1) (fun i => if i = c then x else el i) := ⟨v4, hown.1, hown.2.2, by omega⟩
        obtain ⟨mc9, hmc9⟩ := v4
        have rl : Rz z τ1 l := ⟨v1, v2, _, hmc9, fun fs e => by cases e⟩
        have re : Rz z τ1 e2 := ⟨g12, hown.2.1, _, hown.1, fun fs e => by cases e⟩
        have ra : Rz z τ1 a1 := ⟨ha1, by omega, _, ha1'', fun fs e => by cases e⟩
        have := Hs_sum (P := Rz z τ1) (fs := fset fs c g2) hls rl re ha1'' ra (fun i hi => HqP_up (hel2 i hi) (fun q' hq' => Rz_Sp t3 hz1 q' hq'.1) ⟨fun q' hq' => by
          rcases hq' with ⟨⟨w1, w2, -⟩, -⟩ | w
          · exact t3.1 q' w2 (by omega)
          · exact t3.1 q' (by omega) (by have := hR2.2.2.2.1; omega), t3.2.1, u5⟩)
        rw [smF_new] at this
        exact this
end ZW3
section ZW4
variable {σ σ' σ'' τ : zS} {o rd tp n p m d a b q z l e cap c : Nat} {tl ft : Int32} {g : Nat → Int32} {T : Nat → Nat} {el : Nat → Nat}
/-- a new list -/
theorem new_list {dd : Nat} (h : yRd σ rd tp tl ft g n p m d) (hd : zk σ 1 = some dd) (hc : 1 ≤ zc σ ∧ 3 ≤ zz σ) : ∃ σ', (∀ {β : Type} (K : Nat → zS → Option β), (zb2 (znewO σ 19 [.int 0, .null, .int 0]) fun a6 σ7 => zb2 (f_J2_init a6 σ7) fun _ σ9 => K a6 σ9) = K (zn σ) σ') ∧ yRd σ' rd tp tl ft g n p m d ∧ Sp σ σ' rd 1 3 ∧ σ'.1 (zn σ) = some (.inr (19, [.int 0, .ref dd, .int (nI 0)])) ∧ zn σ' = zn σ + 1 := by
  obtain ⟨τ, e1, e2, e3, e4, e5⟩ := new_obj (ci := 19) (fs := [.int 0, .null, .int 0]) h ⟨hc.1, hc.2⟩
  have hbz := h.2.2.2.2.2.2.1
  have hb : zbs τ ≤ zn σ := by rw [e3.2.2.1]; exact hbz
  have ei : f_J2_init (zn σ) τ = some ((), zset τ (zn σ) (.inr (19, [.int 0, .ref dd, .int 0]))) := by
    unfold f_J2_init f_J1_init f_J0_init
    have p1 : pI τ (zn σ) 19 0 0 = some (zset τ (zn σ) (.inr (19, [.int 0, .null, .int 0]))) := pI_of e4 (Nat.le_of_ble_eq_true rfl) hb
    rw [zb2_at, ybind_eq p1, zb2_at]
    have k1 : zk (zset τ (zn σ) (.inr (19, [.int 0, .null, .int 0]))) 1 = some dd := by show zsv τ 1 = _; rw [e3.2.1]; exact hd
    rw [k1, zl_at]
    have p2 : pR (zset τ (zn σ) (.inr (19, [.int 0, .null, .int 0]))) (zn σ) 19 1 (some dd) = some (zset τ (zn σ) (.inr (19, [.int 0, .ref dd, .int 0]))) := (pF_of (zs_at (σ := τ)) (Nat.le_of_ble_eq_true rfl) hb).trans (congrArg some zset2)
    rw [ybind_eq p2]
  refine ⟨zset τ (zn σ) (.inr (19, [.int 0, .ref dd, .int 0])), fun K => ?_, (set_obj (z := zn σ) e2 (Nat.le_refl _) (by omega) h.2.2.2.2.1 h.2.2.2.2.2.1).1, ⟨fun q h1 h2 => (if_neg (by omega)).trans (e3.1 q h1 h2), e3.2⟩, zs_at, e5⟩
  rw [zb2_eq e1, zb2_eq ei]
/-- a sum is built -/
theorem f_sum_2 (C : Cx σ o rd) (h : yRd σ rd tp tl ft g n p m d) (hT : TB g T n) (hp : p ≤ n) (hr : 10 * (n - p) + 500 ≤ zc σ ∧ 50 * (n - p) + 7100 ≤ zz σ) : match pSum T p with
    | .inl e => ∃ τ q d', f_X1_sum_2 o σ = some (.inr 5, τ) ∧ yRd τ rd tp tl ft g n q e d' ∧ Sp σ τ rd (10 * (n - p) + 420) (100 * (n - p) + 2200)
    | .inr (f, q) => ∃ τ a m', f_X1_sum_2 o σ = some (.inl (some a), τ) ∧ yRd τ rd tp tl ft g n q m' d ∧ Sp σ τ rd (10 * (q - p)) (100 * (q - p)) ∧ HsP (Rz (zn σ) τ) τ a f ∧ zn σ ≤ a ∧ a < zn τ ∧ zob τ (some a) = true := by
  have hn := hT.1.1
  have hbz := h.2.2.2.2.2.2.1
  have hrb := h.2.2.2.1
  have hrn := h.2.2.2.2.1
  have htn := h.2.2.2.2.2.1
  have hon := C.1.2.2.1
  obtain ⟨dd, hdd⟩ := C.2.2.2
  obtain ⟨σ1, x1, x2, x3, x4, x5⟩ := new_obj (ci := 16) (fs := [.null]) h ⟨by omega, by show 1 ≤ _; omega⟩
  have x3c := x3.2.2.2.2.1
  have x3z : zz σ ≤ zz σ1 + 1 := x3.2.2.2.2.2
  have x3b := x3.2.2.1
  have hdd1 : zk σ1 1 = some dd := by show zsv σ1 1 = _; rw [x3.2.1]; exact hdd
  obtain ⟨σ2, y1, y2, y3, y4, y5⟩ := new_list x2 hdd1 ⟨by omega, by omega⟩
  have y3c := y3.2.2.2.2.1
  have y3z := y3.2.2.2.2.2
  have y3b := y3.2.2.1
  have ta : σ2.1 (zn σ) = some (.inr (16, [.null])) := (y3.1 _ (by omega) (by omega)).trans x4
  have pr : pR σ2 (zn σ) 16 0 (some (zn σ1)) = some (zset σ2 (zn σ) (.inr (16, [.ref (zn σ1)]))) := pF_of ta (Nat.le_of_ble_eq_true rfl) (by omega)
  let σ3 : zS := zset σ2 (zn σ) (.inr (16, [.ref (zn σ1)]))
  have R3 : yRd σ3 rd tp tl ft g n p m d := (set_obj (z := zn σ) y2 (Nat.le_refl _) (by omega) hrn htn).1
  have S2 : Sp σ σ2 rd (1 + 1) (1 + 3) := Sp_t x3 y3
  have S3 : Sp σ σ3 rd 2 4 := ⟨fun q h1 h2 => (if_neg (by omega)).trans (S2.1 q h1 h2), S2.2.1, S2.2.2.1, S2.2.2.2.1, S2.2.2.2.2.1, S2.2.2.2.2.2⟩
  have C3 := Cx_Sp C S3 hrb hbz
  have n3 : zn σ3 = zn σ + 2 := by show zn σ2 = _; omega
  have S3c := S3.2.2.2.2.1
  have S3z := S3.2.2.2.2.2
  have B3 : Bl σ3 (zn σ) (zn σ1) dd 0 0 (fun _ => 0) := ⟨⟨by omega, by omega, by rw [S3.2.2.1]; exact hbz⟩, ⟨0, (if_neg (by omega)).trans y4⟩, by omega, by omega, Or.inr ⟨rfl, by show zsv σ3 1 = _; rw [S3.2.1]; exact hdd, rfl⟩, fun i hi => absurd hi (Nat.not_lt_zero i)⟩
  have key := f_sumL (o := o) (rd := rd) (z := zn σ) (l := zn σ1) hT (a1 := zn σ) 400 0 p m 0 dd (fun _ => 0) (fun _ _ => 0) σ3 NN hp (by omega) (NN_lt (by omega)) C3 R3 B3 hrn htn hon (Nat.le_refl _) (by omega) (by omega) (by have := (C.2.2.1.2 _ hdd).1; omega) zs_at (fun i hi => absurd hi (Nat.not_lt_zero i)) (by omega) (by omega) (by omega)
  have head : f_X1_sum_2 o σ = zlp0 (f_X1_sum_2_8_b o (some (zn σ))) NN σ3 := by
    unfold f_X1_sum_2 f_X18_init f_X1_sum_2_8
    rw [zb2_eq x1, y1, ybind_eq pr, zb2_at]
  rw [head]
  have pe : pSum T p = pSk T 400 (smF (fun _ _ => 0) 0) p := by
    unfold pSum pSk
    generalize pPart T p = R
    match R with
    | .inl e => rfl
    | .inr (g, q) =>
      show pSumL T 400 g q = pSumL T 400 (fun s => 0 + g s) q
      have : (fun s => 0 + g s) = g := funext fun s => Int32.zero_add _
      rw [this]
  have hb := pSum_b hT.1 hp
  rw [← pe] at key
  generalize pSum T p = R at key hb
  match R, key, hb with
  | .inl e, key, _ =>
    obtain ⟨τ, q, d', k1, k2, k3, k4, k5, k6, k7, k8⟩ := key
    exact ⟨τ, q, d', k1, k2, fun q' h1 h2 => (k3 q' h1 h2).trans (S3.1 q' h1 h2), k4.trans S3.2.1, k5.trans S3.2.2.1, by omega, by omega, by omega⟩
  | .inr (f, q), key, hb =>
    have hpq : p < q := hb.1
    obtain ⟨τ, m', k1, k2, k3, k4, k5, k6, k7, k8, k9, k10⟩ := key
    exact ⟨τ, zn σ, m', k1, k2, ⟨fun q' h1 h2 => (k3 q' h1 h2).trans (S3.1 q' h1 h2), k4.trans S3.2.1, k5.trans S3.2.2.1, by omega, by omega, by omega⟩, k9, Nat.le_refl _, by omega, k10⟩
end ZW4
