/-! from the law's function to the law's walk -/
/-- the constants' numbers -/
def zSv (ad : Nat → Nat × Nat) (ta fa : Nat → Nat) (vt vf da mi : Nat) (fm us su : Option Nat) : Nat → Option Nat := fun k =>
  if 100 ≤ k ∧ k < 123 then some (ad (k - 100)).1 else match k with
  | 0 => some mi
  | 1 => some da
  | 2 => us
  | 3 => su
  | 4 => fm
  | 5 => some vt
  | 6 => some vf
  | 10 => some (ta 0)
  | 11 => some (ta 1)
  | 12 => some (ta 2)
  | 13 => some (ta 3)
  | 14 => some (ta 4)
  | 15 => some (ta 5)
  | 20 => some (fa 0)
  | 21 => some (fa 1)
  | 22 => some (fa 2)
  | 23 => some (fa 3)
  | _ => none
/-- a map that bears the constants, and nothing else of ours -/
def zStart (σ : zS) : Prop := ∃ (ad : Nat → Nat × Nat) (ta fa : Nat → Nat) (vt vf da mi B : Nat) (fm us su : Option Nat), σ = (zH0 ad ta fa vt vf da, zSv ad ta fa vt vf da mi fm us su, B, B, 1200384, 5489834) ∧
  (∀ (a : Nat) (o : zOb), zPc ad ta fa vt vf da a o → σ.1 a = some o) ∧ ∀ (a : Nat) (o : zOb), σ.1 a = some o → a < B ∧ zPc ad ta fa vt vf da a o
theorem zWhole {p : Program} {e : Env} {s : State} {m : MethodId} {below : List Frame} {meth : Method} {c : Code} (l : Launch) (hflags : l.flags = flags0) {b L : Nat} {xs : Nat → Int32} (C0 : lw_At p s m meth c b L xs) (H : ∀ σ, zStart σ → ∃ σ', f_L_law L xs σ = some (1, σ')) : W p l e room_1 s m #[Value.ref b] below meth c s.heap [] 0 0 (lw_Z below #[Value.ref b] s) (entryFrame m ([Value.ref b] : List Value).toArray 7) := by
  obtain ⟨hx, hb, hr, hml, hown, hts, hX, hbl, hlk, hgv⟩ := C0
  have hg : ∀ c ∈ zFL, c.before #[Value.ref b] s = true := flat_of_before _ hgv
  have hA : ∀ a : Nat, a < s.heap.size → ¬ (fun q => s.heap.size ≤ q) a := fun a h1 h2 => absurd h1 (Nat.not_lt.mpr h2)
  obtain ⟨ad, had⟩ := zS_of (b := b) hg hA
  have had1 : ∀ i, i < 23 → (zTm i).eval #[Value.ref b] s none [] s = some (.ref (ad i).1) := fun i hi => (had i hi).1
  obtain ⟨ta, hta⟩ := zTag_of hg hA had1
  obtain ⟨fa, hfa⟩ := zFact_of hg hA had1
  obtain ⟨vt, e5, v1, v2, v3⟩ := zVal_of (b := b) (N := 6) (el := zTagT) (ta := ta) hA (by decide) (zg_at _ hg zCTagVex) (zg_at _ hg zCTagVar) (zg_at _ hg zCTagVln) (zg_at _ hg zCTagVal) (zg_all hg zCTagVel) (fun i hi => (hta i hi).1)
  obtain ⟨vf, e6, w1, w2, w3⟩ := zVal_of (b := b) (N := 4) (el := zFactT) (ta := fa) hA (by decide) (zg_at _ hg zCFactVex) (zg_at _ hg zCFactVar) (zg_at _ hg zCFactVln) (zg_at _ hg zCFactVal) (zg_all hg zCFactVel) (fun i hi => (hfa i hi).1)
  obtain ⟨da, dc, dcA, dkA, e1, d2, d3, d4, d5, d6, -⟩ := Cond.exactly_spec (args := #[Value.ref b]) (first := s) (o := none) (s := s) (idx := []) (t := zDefT) (cls := "[Ljava/lang/Object;") (zg_at _ hg zCD2)
  obtain ⟨da', e1', dT⟩ := va_Tof (tm := zDefT) (ty := .object "java/lang/Object") (N := 0) (f := fun _ => .null) (A := fun q => s.heap.size ≤ q) (by decide) (zg_at _ hg zCD1) (va_eqt (zg_at _ hg zCD3)) (fun j hj => absurd hj (Nat.not_lt_zero j)) hA
  cases e1.symm.trans e1'
  have hF : zFc s (fun q => s.heap.size ≤ q) ad ta fa vt vf da := ⟨fun i hi => (had i hi).2, fun i hi => (hta i hi).2, fun i hi => (hfa i hi).2, ⟨v1, v2, v3⟩, ⟨w1, w2, w3⟩, ⟨dcA, d3, d5, by rw [d6]; exact d2, hA _ (Array.getElem?_eq_some_iff.mp d3).1⟩, dT⟩
  have href : ∀ {t : Term}, (Cond.isRef t).before #[Value.ref b] s = true → ∀ {C n d : String}, t = .static C n d → ∃ q, (Term.static C n d).eval #[Value.ref b] s none [] s = some (va_rf q) := by
    intro t h C n d ht
    obtain ⟨v, hv, hr⟩ := Cond.isRef_spec h
    subst ht
    cases v with
    | ref q => exact ⟨some q, hv⟩
    | null => exact ⟨none, hv⟩
    | _ => cases hr
  obtain ⟨fm, e4⟩ := href (zg_at _ hg zCFm) (C := "jdk/internal/util/Preconditions") (n := "SIOOBE_FORMATTER") rfl
  obtain ⟨us, e2⟩ := href (zg_at _ hg zCUs) (C := "java/lang/Throwable") (n := "UNASSIGNED_STACK") rfl
  obtain ⟨su, e3⟩ := href (zg_at _ hg zCSu) (C := "java/lang/Throwable") (n := "SUPPRESSED_SENTINEL") rfl
  obtain ⟨mi, hmi⟩ := va_Mi.of (zg_at _ hg zCmi)
  obtain ⟨cI, hI1, hI2⟩ := zRA1 (fun C h => by cases h) (hts _ (lw_all_tbl q163))
  obtain ⟨cB, hB1, hB2⟩ := zRA1 (fun C h => by cases h) (hts _ (lw_all_tbl q250))
  obtain ⟨cJ, hJ1, hJ2⟩ := zRA1 (fun C h => by cases h) (hts _ (lw_all_tbl q2159))
  obtain ⟨cO, hO1, hO2⟩ := zRA2 (hts _ q531)
  obtain ⟨cT, hT1, hT2⟩ := zRA2 (hts _ q1281)
  obtain ⟨cF, hF1, hF2⟩ := zRA2 (hts _ q1347)
  have hcl : ∀ c : Nat, ∃ q : ClassId × (Nat → Nat), ∀ r, vwCl[c]? = some r → u_Kn s r.1 r.2.1 r.2.2 q.1 q.2 := by
    intro c
    cases h : vwCl[c]? with
    | none => exact ⟨(cI, fun _ => 0), fun r hr => by cases hr⟩
    | some r =>
      have h9 : ∃ (cC : ClassId) (iS : Nat → Nat), u_Kn s r.1 r.2.1 r.2.2 cC iS := by
        match c, h with
        | 0, h => cases h; exact u_known hts (fun w hw => lw_all_tbl (in_X1 w hw)) (hts _ (lw_all_tbl q124))
        | 1, h => cases h; exact u_known hts (fun w hw => lw_all_tbl (in_X2 w hw)) (hts _ (lw_all_tbl q132))
        | 2, h => cases h; exact u_known hts (fun w hw => lw_all_tbl (in_X3 w hw)) (hts _ (lw_all_tbl q221))
        | 3, h => cases h; exact u_known hts (fun w hw => lw_all_tbl (in_X4 w hw)) (hts _ (lw_all_tbl q252))
        | 4, h => cases h; exact u_known hts (fun w hw => lw_all_tbl (in_X5 w hw)) (hts _ (lw_all_tbl q287))
        | 5, h => cases h; exact u_known hts (fun w hw => lw_all_tbl (in_X6 w hw)) (hts _ (lw_all_tbl q1758))
        | 6, h => cases h; exact u_known hts (fun w hw => lw_all_tbl (in_X7 w hw)) (hts _ (lw_all_tbl q442))
        | 7, h => cases h; exact u_known hts (fun w hw => lw_all_tbl (in_X8 w hw)) (hts _ (lw_all_tbl q544))
        | 8, h => cases h; exact u_known hts (fun w hw => lw_all_tbl (in_X9 w hw)) (hts _ (lw_all_tbl q570))
        | 9, h => cases h; exact u_known hts (fun w hw => lw_all_tbl (in_X10 w hw)) (hts _ (lw_all_tbl q1007))
        | 10, h => cases h; exact u_known hts (fun w hw => lw_all_tbl (in_X11 w hw)) (hts _ (lw_all_tbl q1141))
        | 11, h => cases h; exact u_known hts (fun w hw => lw_all_tbl (in_X12 w hw)) (hts _ (lw_all_tbl q1205))
        | 12, h => cases h; exact u_known hts (fun w hw => lw_all_tbl (in_X13 w hw)) (hts _ (lw_all_tbl q1223))
        | 13, h => cases h; exact u_known hts (fun w hw => lw_all_tbl (in_X14 w hw)) (hts _ (lw_all_tbl q1230))
        | 14, h => cases h; exact u_known hts (fun w hw => lw_all_tbl (in_X15 w hw)) (hts _ (lw_all_tbl q1263))
        | 15, h => cases h; exact u_known hts (fun w hw => lw_all_tbl (in_X17 w hw)) (hts _ (lw_all_tbl q1288))
        | 16, h => cases h; exact u_known hts (fun w hw => lw_all_tbl (in_X18 w hw)) (hts _ (lw_all_tbl q1302))
        | 17, h => cases h; exact u_known hts (fun w hw => lw_all_tbl (in_X19 w hw)) (hts _ (lw_all_tbl q1323))
        | 18, h => cases h; exact u_known hts (fun w hw => lw_all_tbl (in_X21 w hw)) (hts _ (lw_all_tbl q1351))
        | 19, h => cases h; exact u_known hts (fun w hw => lw_all_tbl (in_J2 w hw)) (hts _ (lw_all_tbl q138))
        | 20, h => cases h; exact u_known hts (fun w hw => lw_all_tbl (in_J9 w hw)) (hts _ (lw_all_tbl q686))
        | 21, h => cases h; exact u_known hts (fun w hw => lw_all_tbl (in_J10 w hw)) (hts _ (lw_all_tbl q799))
        | n + 22, h => cases h
      obtain ⟨cC, iS, h9⟩ := h9
      exact ⟨(cC, iS), fun r' hr => by cases hr; exact h9⟩
  obtain ⟨Dq, hD⟩ := Classical.axiomOfChoice hcl
  have hK : va_K ((fun c => (Dq c).1), (fun c => (Dq c).2)) vwCl [(cI, .int), (cB, .byte), (cJ, .long), (cO, .object "java/lang/Object"), (cT, .object "StepDebts$Tag"), (cF, .object "StepDebts$Fact")] s := by
    refine ⟨fun c q hq => hD c q hq, fun k q hq => ?_⟩
    match k, hq with
    | 0, hq => cases hq; exact ⟨hI1, hI2⟩
    | 1, hq => cases hq; exact ⟨hB1, hB2⟩
    | 2, hq => cases hq; exact ⟨hJ1, hJ2⟩
    | 3, hq => cases hq; exact ⟨hO1, hO2⟩
    | 4, hq => cases hq; exact ⟨hT1, hT2⟩
    | 5, hq => cases hq; exact ⟨hF1, hF2⟩
    | k + 6, hq => cases hq
  have hKK : zKK ((fun c => (Dq c).1), (fun c => (Dq c).2)) [(cI, .int), (cB, .byte), (cJ, .long), (cO, .object "java/lang/Object"), (cT, .object "StepDebts$Tag"), (cF, .object "StepDebts$Fact")] (zSv ad ta fa vt vf da mi fm us su) s.heap.size s s.heap := by
    refine ⟨rfl, hK, ?_, ?_, ?_, ?_, ⟨mi, rfl, hmi⟩, va_AO.of (hts _ q531), va_Fw.of (hts _ q621) (hts _ q620) (hts _ q626) (hts _ q624) (hts _ q622), List.forall_mem_cons.mpr ⟨va_Fw.of (hts _ q1507) (hts _ q1506) (hts _ q1564) (hts _ q1562) (hts _ q1560), List.forall_mem_cons.mpr ⟨va_Fw.of (hts _ q1507) (hts _ q1506) (hts _ q1556) (hts _ q1554) (hts _ q1552), List.forall_mem_cons.mpr ⟨va_Fw.of (hts _ q1507) (hts _ q1506) (hts _ q1512) (hts _ q1510) (hts _ q1508), List.forall_mem_cons.mpr ⟨va_Fw.of (hts _ q1507) (hts _ q1506) (hts _ q1532) (hts _ q1530) (hts _ q1528), fun r hr => absurd hr List.not_mem_nil⟩⟩⟩⟩, ?_, ?_, List.forall_mem_cons.mpr ⟨fun A => zsel_priv (hts _ (lw_all_tbl q746)) (hts _ (lw_all_tbl q725)) (hts _ q724) rfl ⟨by decide, by decide⟩ A, List.forall_mem_cons.mpr ⟨fun A => zsel_priv (hts _ (lw_all_tbl q746)) (hts _ (lw_all_tbl q729)) (hts _ q728) rfl ⟨by decide, by decide⟩ A, List.forall_mem_cons.mpr ⟨fun A => zsel_priv (hts _ (lw_all_tbl q746)) (hts _ (lw_all_tbl q937)) (hts _ q936) rfl ⟨by decide, by decide⟩ A, List.forall_mem_cons.mpr ⟨fun A => zsel_priv (hts _ (lw_all_tbl q746)) (hts _ (lw_all_tbl q941)) (hts _ q940) rfl ⟨by decide, by decide⟩ A, fun r hr => absurd hr List.not_mem_nil⟩⟩⟩⟩⟩
    · intro w hw
      have h1 := (List.mem_filter.mp hw).1
      have h2 := (List.mem_filter.mp hw).2
      cases w <;> first | exact va_Nw.of rfl (hts _ h1) | cases h2
    · exact List.forall_mem_cons.mpr ⟨va_Zof (hts _ q150) (hts _ (lw_all_tbl q80)) e1 hA, List.forall_mem_cons.mpr ⟨va_Zof (hts _ q857) (hts _ (lw_all_tbl q99)) e2 hA, List.forall_mem_cons.mpr ⟨va_Zof (hts _ q859) (hts _ (lw_all_tbl q99)) e3 hA, List.forall_mem_cons.mpr ⟨va_Zof (hts _ q771) (hts _ (lw_all_tbl q87)) e4 hA, List.forall_mem_cons.mpr ⟨va_Zof (hts _ q1276) (hts _ (lw_all_tbl q113)) e5 hA, List.forall_mem_cons.mpr ⟨va_Zof (hts _ q1342) (hts _ (lw_all_tbl q117)) e6 hA, List.forall_mem_cons.mpr ⟨va_Zof (hts _ q1519) (hts _ (lw_all_tbl q113)) (hta 4 (by decide)).1 hA, List.forall_mem_cons.mpr ⟨va_Zof (hts _ q1521) (hts _ (lw_all_tbl q113)) (hta 5 (by decide)).1 hA, fun r hr => absurd hr List.not_mem_nil⟩⟩⟩⟩⟩⟩⟩⟩
    · exact List.forall_mem_cons.mpr ⟨va_Zof (hts _ q695) (hts _ (lw_all_tbl q96)) (va_eqi (zg_at _ hg zCcs)) hA, fun r hr => absurd hr List.not_mem_nil⟩
    · intro q hq
      obtain ⟨h1, h2, h3⟩ := zStr_ev hg had1 q hq
      refine ⟨(ad (q.2.2.2 - 100)).1, ?_, vk_R.of (hts _ (zStr_word hq)) h3⟩
      show (if 100 ≤ q.2.2.2 ∧ q.2.2.2 < 123 then some (ad (q.2.2.2 - 100)).1 else _) = _
      rw [if_pos ⟨h1, h2⟩]
    · intro q hq d hd h
      rcases h with ⟨rfl, rfl⟩ | ⟨rfl, rfl⟩
      · exact vx_Zqof (hts _ q857) (hts _ (lw_all_tbl q99)) (zg_at _ hg zCUs) hA
      · exact vx_Zqof (hts _ q859) (hts _ (lw_all_tbl q99)) (zg_at _ hg zCSu) hA
    · have h5 := zg_all hg zCnc
      exact List.forall_mem_cons.mpr ⟨va_Nc.of (h5 0 (by decide)), List.forall_mem_cons.mpr ⟨va_Nc.of (h5 1 (by decide)), List.forall_mem_cons.mpr ⟨va_Nc.of (h5 2 (by decide)), List.forall_mem_cons.mpr ⟨va_Nc.of (h5 3 (by decide)), List.forall_mem_cons.mpr ⟨va_Nc.of (h5 4 (by decide)), fun r hr => absurd hr List.not_mem_nil⟩⟩⟩⟩⟩
  have htr : l.stackTraces = false := by
    unfold Launch.stackTraces
    rw [hflags]
    decide +kernel
  have hst : zStart (zH0 ad ta fa vt vf da, zSv ad ta fa vt vf da mi fm us su, s.heap.size, s.heap.size, 1200384, 5489834) := ⟨ad, ta, fa, vt, vf, da, mi, s.heap.size, fm, us, su, rfl, fun a o h => zH0_at hF h, fun a o h => ⟨zat_lt (zPc_at (D := ((fun c => (Dq c).1), (fun c => (Dq c).2))) (tys := []) hF (zH0_some h)), zH0_some h⟩⟩
  obtain ⟨σ', h⟩ := H _ hst
  have hXok : zOk (p, l, e, room_1, s, m, #[Value.ref b], below, meth, c, ((fun c => (Dq c).1), (fun c => (Dq c).2)), [(cI, .int), (cB, .byte), (cJ, .long), (cO, .object "java/lang/Object"), (cT, .object "StepDebts$Tag"), (cF, .object "StepDebts$Fact")], (zH0 ad ta fa vt vf da, zSv ad ta fa vt vf da mi fm us su, s.heap.size, s.heap.size, 1200384, 5489834)) RX0 cL_law 7 8192 104096 ret meth.name c.exceptionTable.toList :=
    ⟨hx, hb, hml, hown, fun w hw => hts w (lw_all_tbl hw), hlk, hr, rfl, rfl, hKK, htr, rfl, Nat.le_refl _, rfl⟩
  have hret : zRet (p, l, e, room_1, s, m, #[Value.ref b], below, meth, c, ((fun c => (Dq c).1), (fun c => (Dq c).2)), [(cI, .int), (cB, .byte), (cJ, .long), (cO, .object "java/lang/Object"), (cT, .object "StepDebts$Tag"), (cF, .object "StepDebts$Fact")], (zH0 ad ta fa vt vf da, zSv ad ta fa vt vf da mi fm us su, s.heap.size, s.heap.size, 1200384, 5489834)) (lw_Z below #[Value.ref b] s) (1, σ') := by
    intro pc L9 r σ2 e9 d ls H2 locs hl hI
    cases e9
    exact va_forget hI.2.2.2.2.1.2.2 (W.widen (k := 1200384) (n := 5489834) (zle hXok hI).1 (zle hXok hI).2 (lw_ret hx hb hr hlk d))
  have k := s_L_law hXok (sb := b) (L9 := L) (xs9 := xs) ⟨hX, hbl, Nat.not_le.mpr hbl⟩ hret h
  rw [lg_entry_eq]
  have hlv := lv_entry [Value.ref b] (n := 7) (Nat.le_of_ble_eq_true rfl)
  have k2 := k _ s.heap [] hlv ⟨fun a o ho => zPc_at hF (zH0_some ho), rfl, rfl, ⟨[], by simp, by simp⟩, va_S.rf, rfl, rfl⟩
  simp only [Nat.sub_self] at k2
  exact k2
