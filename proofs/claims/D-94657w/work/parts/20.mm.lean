/-! the model: functions over its numbers, walks, contracts -/
def g_X6_thrown (M : mS) : Option (Int32 × mS) :=
  some (M.1 0, M)

set_option maxHeartbeats 4000000 in
theorem m_X6_thrown {X : zX} (hX : zOk X RX6 cX6_thrown 1 1 40 (Option.some Jvm.ClassFile.FieldType.int) "thrown" []) {σ : zS} {o : Nat} (hP : zP σ o) {M : mS} {Rt : Int32 × mS} (h : g_X6_thrown M = some Rt) : zG X (zQ X (.inl (eI Rt.1)) (pM σ o Rt.2)) 1 0 [(0, zA (some o))] [] (pM σ o M) := by
  unfold g_X6_thrown at h
  refine z_aload_n hX 0 rfl rfl dX6_thrown_0 (m_getI hX fl_X6_41_5 mSc_0 dX6_thrown_1 ?_)
  obtain rfl := Option.some.inj h
  exact z_iret hX dX6_thrown_4

theorem c_X6_thrown {l : Launch} {D : va_G} {tys : zTy} (hl : l.stackTraces = false) {σ : zS} {o : Nat} (hP : zP σ o) {M : mS} {Rt : Int32 × mS} (h : g_X6_thrown M = some Rt) : zM l D tys yX6_thrown (ws_ yX6_thrown cX6_thrown 1 (Option.some Jvm.ClassFile.FieldType.int)) 1 40 [zA (some o)] (pM σ o M) (.inl (eI Rt.1)) (pM σ o Rt.2) :=
  zM_in hl rfl (Nat.le_of_ble_eq_true rfl) (fun p e R s m args below meth c hX => z_L rfl (m_X6_thrown hX hP h))
def g_X6_feed_76 (rec23 : Int32 → mS → Option (Int32 × mS)) (v1 : Int32) (v2 : Int32) (v3 : Int32) (v4 : Int32) (v5 : Int32) (v6 : Int32) (t0 : Int32) (M : mS) : Option (Int32 × mS) :=
  (mSt M 3 (M.1 6) (((t0.toUInt32 >>> ((24 - (8 * (v6 - v6 / 4 * 4)) : Int32).toUInt32 &&& Int32.toUInt32 31)).toInt32) &&& 255)).bind fun M2 =>
  zl (mset M2 6 ((M2.1 6) + 1)) fun M3 =>
  zl (v6 + 1) fun x4 =>
  rec23 x4 M3

set_option maxHeartbeats 4000000 in
theorem m_X6_feed_76 {X : zX} (hX : zOk X RX6 cX6_feed 8 1 40 (Option.some Jvm.ClassFile.FieldType.int) "feed" []) {σ : zS} {o : Nat} (hP : zP σ o) {Rt : Int32 × mS} {rec23 : Int32 → mS → Option (Int32 × mS)} {v1 : Int32} {v2 : Int32} {v3 : Int32} {v4 : Int32} {v5 : Int32} {v6 : Int32} (hrec23 : ∀ (v6 : Int32) (M : mS), rec23 v6 M = some Rt → zG X (zQ X (.inl (eI Rt.1)) (pM σ o Rt.2)) 8 23 [(0, zA (some o)), (1, zI v1), (2, zI v2), (3, zI v3), (4, zI v4), (5, zI v5), (6, zI v6)] [] (pM σ o M)) {t0 : Int32} {M : mS} (h : g_X6_feed_76 rec23 v1 v2 v3 v4 v5 v6 t0 M = some Rt) : zG X (zQ X (.inl (eI Rt.1)) (pM σ o Rt.2)) 8 76 [(0, zA (some o)), (1, zI v1), (2, zI v2), (3, zI v3), (4, zI v4), (5, zI v5), (6, zI v6)] [zI t0] (pM σ o M) := by
  unfold g_X6_feed_76 at h
  refine z_istore (L' := [(0, zA (some o)), (1, zI v1), (2, zI v2), (3, zI v3), (4, zI v4), (5, zI v5), (6, zI v6), (7, zI t0)]) hX rfl (by decide) dX6_feed_76 (z_aload_n hX 0 rfl rfl dX6_feed_78 (m_getA hX fl_X6_19_5 mAr_5 dX6_feed_79 (z_aload_n hX 0 rfl rfl dX6_feed_82 (m_getI hX fl_X6_48_5 mSc_6 dX6_feed_83 (z_iload hX 7 rfl dX6_feed_86 (z_bipush hX (v := 24) (by decide) dX6_feed_88 (z_bipush hX (v := 8) (by decide) dX6_feed_90 (z_iload hX 6 rfl dX6_feed_92 (z_iconst hX (v := 4) (by decide) dX6_feed_94 (z_iremK hX (by decide) dX6_feed_95 (z_imul hX dX6_feed_96 (z_isub hX dX6_feed_97 (z_iushr hX dX6_feed_98 (z_sipush hX (v := 255) (by decide) dX6_feed_99 (z_iand hX dX6_feed_102 ?_)))))))))))))))
  refine m_iast hX hP (j := 3) (by decide) h dX6_feed_103 (fun M2 h => ?_)
  refine z_aload_n hX 0 rfl rfl dX6_feed_104 (z_dup hX rfl dX6_feed_105 (m_getI hX fl_X6_48_5 mSc_6 dX6_feed_106 (z_iconst hX (v := 1) (by decide) dX6_feed_109 (z_iadd hX dX6_feed_110 ?_))))
  refine m_putI hX hP fp_X6_48_5 mSc_6 h dX6_feed_111 (fun M3 h => ?_)
  refine z_iinc hX (j := 6) h rfl (by decide) (by decide) dX6_feed_114 (fun x4 h => z_L (L' := [(0, zA (some o)), (1, zI v1), (2, zI v2), (3, zI v3), (4, zI v4), (5, zI v5), (6, zI x4), (7, zI t0)]) rfl ?_)
  refine z_goto (tgt := 23) hX dX6_feed_117 (by decide) ?_
  exact z_sub [0, 1, 2, 3, 4, 5, 6] rfl (hrec23 _ _ h)

def g_X6_feed_23_b (v1 : Int32) (v2 : Int32) (v3 : Int32) (v4 : Int32) (v5 : Int32) (rec23 : Int32 → mS → Option (Int32 × mS)) (v6 : Int32) (M : mS) : Option (Int32 × mS) :=
  if 20 ≤ v6 then
    some (M.1 6, M)
  else
    if 4 ≤ v6 then
      if 8 ≤ v6 then
        if 12 ≤ v6 then
          if 16 ≤ v6 then
            g_X6_feed_76 rec23 v1 v2 v3 v4 v5 v6 v5 M
          else
            g_X6_feed_76 rec23 v1 v2 v3 v4 v5 v6 v4 M
        else
          g_X6_feed_76 rec23 v1 v2 v3 v4 v5 v6 v3 M
      else
        g_X6_feed_76 rec23 v1 v2 v3 v4 v5 v6 v2 M
    else
      g_X6_feed_76 rec23 v1 v2 v3 v4 v5 v6 v1 M

def g_X6_feed_23 (v1 : Int32) (v2 : Int32) (v3 : Int32) (v4 : Int32) (v5 : Int32) : Int32 → mS → Option (Int32 × mS) := zlp1 (g_X6_feed_23_b v1 v2 v3 v4 v5) NN
set_option maxHeartbeats 4000000 in
theorem m_X6_feed_23_b {X : zX} (hX : zOk X RX6 cX6_feed 8 1 40 (Option.some Jvm.ClassFile.FieldType.int) "feed" []) {σ : zS} {o : Nat} (hP : zP σ o) {Rt : Int32 × mS} {v1 : Int32} {v2 : Int32} {v3 : Int32} {v4 : Int32} {v5 : Int32} {rec23 : Int32 → mS → Option (Int32 × mS)} (hrec23 : ∀ (v6 : Int32) (M : mS), rec23 v6 M = some Rt → zG X (zQ X (.inl (eI Rt.1)) (pM σ o Rt.2)) 8 23 [(0, zA (some o)), (1, zI v1), (2, zI v2), (3, zI v3), (4, zI v4), (5, zI v5), (6, zI v6)] [] (pM σ o M)) {v6 : Int32} {M : mS} (h : g_X6_feed_23_b v1 v2 v3 v4 v5 rec23 v6 M = some Rt) : zG X (zQ X (.inl (eI Rt.1)) (pM σ o Rt.2)) 8 23 [(0, zA (some o)), (1, zI v1), (2, zI v2), (3, zI v3), (4, zI v4), (5, zI v5), (6, zI v6)] [] (pM σ o M) := by
  unfold g_X6_feed_23_b at h
  refine z_iload hX 6 rfl dX6_feed_23 (z_bipush hX (v := 20) (by decide) dX6_feed_25 ?_)
  refine z_icmp_ge (tgt := 120) hX h dX6_feed_27 (by decide) (fun h => ?_) (fun h => ?_)
  · refine z_aload_n hX 0 rfl rfl dX6_feed_120 (m_getI hX fl_X6_48_5 mSc_6 dX6_feed_121 ?_)
    obtain rfl := Option.some.inj h
    exact z_iret hX dX6_feed_124
  · refine z_iload hX 6 rfl dX6_feed_30 (z_iconst hX (v := 4) (by decide) dX6_feed_32 ?_)
    refine z_icmp_ge (tgt := 40) hX h dX6_feed_33 (by decide) (fun h => ?_) (fun h => ?_)
    · refine z_iload hX 6 rfl dX6_feed_40 (z_bipush hX (v := 8) (by decide) dX6_feed_42 ?_)
      refine z_icmp_ge (tgt := 51) hX h dX6_feed_44 (by decide) (fun h => ?_) (fun h => ?_)
      · refine z_iload hX 6 rfl dX6_feed_51 (z_bipush hX (v := 12) (by decide) dX6_feed_53 ?_)
        refine z_icmp_ge (tgt := 62) hX h dX6_feed_55 (by decide) (fun h => ?_) (fun h => ?_)
        · refine z_iload hX 6 rfl dX6_feed_62 (z_bipush hX (v := 16) (by decide) dX6_feed_64 ?_)
          refine z_icmp_ge (tgt := 74) hX h dX6_feed_66 (by decide) (fun h => ?_) (fun h => ?_)
          · refine z_iload hX 5 rfl dX6_feed_74 ?_
            exact z_sub [0, 1, 2, 3, 4, 5, 6] rfl (m_X6_feed_76 hX hP hrec23 h)
          · refine z_iload hX 4 rfl dX6_feed_69 (z_goto (tgt := 76) hX dX6_feed_71 (by decide) ?_)
            exact z_sub [0, 1, 2, 3, 4, 5, 6] rfl (m_X6_feed_76 hX hP hrec23 h)
        · refine z_iload_n hX 3 rfl rfl dX6_feed_58 (z_goto (tgt := 76) hX dX6_feed_59 (by decide) ?_)
          exact z_sub [0, 1, 2, 3, 4, 5, 6] rfl (m_X6_feed_76 hX hP hrec23 h)
      · refine z_iload_n hX 2 rfl rfl dX6_feed_47 (z_goto (tgt := 76) hX dX6_feed_48 (by decide) ?_)
        exact z_sub [0, 1, 2, 3, 4, 5, 6] rfl (m_X6_feed_76 hX hP hrec23 h)
    · refine z_iload_n hX 1 rfl rfl dX6_feed_36 (z_goto (tgt := 76) hX dX6_feed_37 (by decide) ?_)
      exact z_sub [0, 1, 2, 3, 4, 5, 6] rfl (m_X6_feed_76 hX hP hrec23 h)

theorem m_X6_feed_23 {X : zX} (hX : zOk X RX6 cX6_feed 8 1 40 (Option.some Jvm.ClassFile.FieldType.int) "feed" []) {σ : zS} {o : Nat} (hP : zP σ o) {Rt : Int32 × mS} {v1 : Int32} {v2 : Int32} {v3 : Int32} {v4 : Int32} {v5 : Int32} {v6 : Int32} {M : mS} (h : g_X6_feed_23 v1 v2 v3 v4 v5 v6 M = some Rt) : zG X (zQ X (.inl (eI Rt.1)) (pM σ o Rt.2)) 8 23 [(0, zA (some o)), (1, zI v1), (2, zI v2), (3, zI v3), (4, zI v4), (5, zI v5), (6, zI v6)] [] (pM σ o M) :=
  zlp1_ok (P := fun v6 M => zG X (zQ X (.inl (eI Rt.1)) (pM σ o Rt.2)) 8 23 [(0, zA (some o)), (1, zI v1), (2, zI v2), (3, zI v3), (4, zI v4), (5, zI v5), (6, zI v6)] [] (pM σ o M)) (fun rec hr v6 M h => m_X6_feed_23_b hX hP hr h) NN v6 M h
def g_X6_feed (p1 : Int32) (p2 : Int32) (p3 : Int32) (p4 : Int32) (p5 : Int32) (M : mS) : Option (Int32 × mS) :=
  zl (mset M 0 0) fun M1 =>
  if ((M1.1 6) + 20) ≤ 400 then
    g_X6_feed_23 p1 p2 p3 p4 p5 0 M1
  else
    some (((-1) : Int32), M1)

set_option maxHeartbeats 4000000 in
theorem m_X6_feed {X : zX} (hX : zOk X RX6 cX6_feed 8 1 40 (Option.some Jvm.ClassFile.FieldType.int) "feed" []) {σ : zS} {o : Nat} (hP : zP σ o) {p1 : Int32} {p2 : Int32} {p3 : Int32} {p4 : Int32} {p5 : Int32} {M : mS} {Rt : Int32 × mS} (h : g_X6_feed p1 p2 p3 p4 p5 M = some Rt) : zG X (zQ X (.inl (eI Rt.1)) (pM σ o Rt.2)) 8 0 [(0, zA (some o)), (1, zI p1), (2, zI p2), (3, zI p3), (4, zI p4), (5, zI p5)] [] (pM σ o M) := by
  unfold g_X6_feed at h
  refine z_aload_n hX 0 rfl rfl dX6_feed_0 (z_iconst hX (v := 0) (by decide) dX6_feed_1 ?_)
  refine m_putI hX hP fp_X6_41_5 mSc_0 h dX6_feed_2 (fun M1 h => ?_)
  refine z_aload_n hX 0 rfl rfl dX6_feed_5 (m_getI hX fl_X6_48_5 mSc_6 dX6_feed_6 (z_bipush hX (v := 20) (by decide) dX6_feed_9 (z_iadd hX dX6_feed_11 (z_sipush hX (v := 400) (by decide) dX6_feed_12 ?_))))
  refine z_icmp_le (tgt := 20) hX h dX6_feed_15 (by decide) (fun h => ?_) (fun h => ?_)
  · refine z_iconst hX (v := 0) (by decide) dX6_feed_20 (z_istore (L' := [(0, zA (some o)), (1, zI p1), (2, zI p2), (3, zI p3), (4, zI p4), (5, zI p5), (6, zI 0)]) hX rfl (by decide) dX6_feed_21 ?_)
    exact z_sub [0, 1, 2, 3, 4, 5, 6] rfl (m_X6_feed_23 hX hP  h)
  · refine z_iconst hX (v := (-1)) (by decide) dX6_feed_18 ?_
    obtain rfl := Option.some.inj h
    exact z_iret hX dX6_feed_19

theorem c_X6_feed {l : Launch} {D : va_G} {tys : zTy} (hl : l.stackTraces = false) {σ : zS} {o : Nat} (hP : zP σ o) {p1 : Int32} {p2 : Int32} {p3 : Int32} {p4 : Int32} {p5 : Int32} {M : mS} {Rt : Int32 × mS} (h : g_X6_feed p1 p2 p3 p4 p5 M = some Rt) : zM l D tys yX6_feed (ws_ yX6_feed cX6_feed 8 (Option.some Jvm.ClassFile.FieldType.int)) 1 40 [zA (some o), zI p1, zI p2, zI p3, zI p4, zI p5] (pM σ o M) (.inl (eI Rt.1)) (pM σ o Rt.2) :=
  zM_in hl rfl (Nat.le_of_ble_eq_true rfl) (fun p e R s m args below meth c hX => z_L rfl (m_X6_feed hX hP h))
def g_X6_isIn (p1 : Int32) (p2 : Int32) (p3 : Int32) (M : mS) : Option (Int32 × mS) :=
  if p1 < p2 then
    some ((0 : Int32), M)
  else
    if p3 < p1 then
      some ((0 : Int32), M)
    else
      some ((1 : Int32), M)

set_option maxHeartbeats 4000000 in
theorem m_X6_isIn {X : zX} (hX : zOk X RX6 cX6_isIn 3 1 40 (Option.some Jvm.ClassFile.FieldType.boolean) "isIn" []) {σ : zS} {o : Nat} (hP : zP σ o) {p1 : Int32} {p2 : Int32} {p3 : Int32} {M : mS} {Rt : Int32 × mS} (h : g_X6_isIn p1 p2 p3 M = some Rt) : zG X (zQ X (.inl (eI Rt.1)) (pM σ o Rt.2)) 3 0 [(0, zI p1), (1, zI p2), (2, zI p3)] [] (pM σ o M) := by
  unfold g_X6_isIn at h
  refine z_iload_n hX 0 rfl rfl dX6_isIn_0 (z_iload_n hX 1 rfl rfl dX6_isIn_1 ?_)
  refine z_icmp_lt (tgt := 14) hX h dX6_isIn_2 (by decide) (fun h => ?_) (fun h => ?_)
  · refine z_iconst hX (v := 0) (by decide) dX6_isIn_14 ?_
    obtain rfl := Option.some.inj h
    exact z_zretT (r := 0) hX (by decide) dX6_isIn_15
  · refine z_iload_n hX 0 rfl rfl dX6_isIn_5 (z_iload_n hX 2 rfl rfl dX6_isIn_6 ?_)
    refine z_icmp_gt (tgt := 14) hX h dX6_isIn_7 (by decide) (fun h => ?_) (fun h => ?_)
    · refine z_iconst hX (v := 0) (by decide) dX6_isIn_14 ?_
      obtain rfl := Option.some.inj h
      exact z_zretT (r := 0) hX (by decide) dX6_isIn_15
    · refine z_iconst hX (v := 1) (by decide) dX6_isIn_10 (z_goto (tgt := 15) hX dX6_isIn_11 (by decide) ?_)
      obtain rfl := Option.some.inj h
      exact z_zretT (r := 1) hX (by decide) dX6_isIn_15

theorem c_X6_isIn {l : Launch} {D : va_G} {tys : zTy} (hl : l.stackTraces = false) {σ : zS} {o : Nat} (hP : zP σ o) {p1 : Int32} {p2 : Int32} {p3 : Int32} {M : mS} {Rt : Int32 × mS} (h : g_X6_isIn p1 p2 p3 M = some Rt) : zM l D tys yX6_isIn (ws_ yX6_isIn cX6_isIn 3 (Option.some Jvm.ClassFile.FieldType.boolean)) 1 40 [zI p1, zI p2, zI p3] (pM σ o M) (.inl (eI Rt.1)) (pM σ o Rt.2) :=
  zM_in hl rfl (Nat.le_of_ble_eq_true rfl) (fun p e R s m args below meth c hX => z_L rfl (m_X6_isIn hX hP h))
def g_X6_end (p1 : Int32) (M : mS) : Option (Int32 × mS) :=
  zl (mset M 0 0) fun M1 =>
  zb2 (g_X6_isIn p1 0 (M1.1 6) M1) fun x2 M3 =>
  if ¬ x2 = 0 then
    zl (mset M3 6 p1) fun M4 =>
    some ((1 : Int32), M4)
  else
    some ((0 : Int32), M3)

set_option maxHeartbeats 4000000 in
theorem m_X6_end {X : zX} (hX : zOk X RX6 cX6_end 2 2 62 (Option.some Jvm.ClassFile.FieldType.boolean) "end" []) {σ : zS} {o : Nat} (hP : zP σ o) {p1 : Int32} {M : mS} {Rt : Int32 × mS} (h : g_X6_end p1 M = some Rt) : zG X (zQ X (.inl (eI Rt.1)) (pM σ o Rt.2)) 2 0 [(0, zA (some o)), (1, zI p1)] [] (pM σ o M) := by
  unfold g_X6_end at h
  refine z_aload_n hX 0 rfl rfl dX6_end_0 (z_iconst hX (v := 0) (by decide) dX6_end_1 ?_)
  refine m_putI hX hP fp_X6_41_5 mSc_0 h dX6_end_2 (fun M1 h => ?_)
  refine z_iload_n hX 1 rfl rfl dX6_end_5 (z_iconst hX (v := 0) (by decide) dX6_end_6 (z_aload_n hX 0 rfl rfl dX6_end_7 (m_getI hX fl_X6_48_5 mSc_6 dX6_end_8 ?_)))
  refine m_cNI hX (rest := []) h (fun r9 M9 e9 => z_runS hX lk_X6_44 (c_X6_isIn hX.tr hP e9) ⟨Nat.le_of_ble_eq_true rfl, Nat.le_of_ble_eq_true rfl⟩ rfl (Nat.le_of_ble_eq_true rfl) dX6_end_11 rfl) (fun x2 M3 h => ?_)
  refine z_if_ne (tgt := 19) hX h dX6_end_14 (by decide) (fun h => ?_) (fun h => ?_)
  · refine z_aload_n hX 0 rfl rfl dX6_end_19 (z_iload_n hX 1 rfl rfl dX6_end_20 ?_)
    refine m_putI hX hP fp_X6_48_5 mSc_6 h dX6_end_21 (fun M4 h => ?_)
    refine z_iconst hX (v := 1) (by decide) dX6_end_24 ?_
    obtain rfl := Option.some.inj h
    exact z_zretT (r := 1) hX (by decide) dX6_end_25
  · refine z_iconst hX (v := 0) (by decide) dX6_end_17 ?_
    obtain rfl := Option.some.inj h
    exact z_zretT (r := 0) hX (by decide) dX6_end_18

theorem c_X6_end {l : Launch} {D : va_G} {tys : zTy} (hl : l.stackTraces = false) {σ : zS} {o : Nat} (hP : zP σ o) {p1 : Int32} {M : mS} {Rt : Int32 × mS} (h : g_X6_end p1 M = some Rt) : zM l D tys yX6_end (ws_ yX6_end cX6_end 2 (Option.some Jvm.ClassFile.FieldType.boolean)) 2 62 [zA (some o), zI p1] (pM σ o M) (.inl (eI Rt.1)) (pM σ o Rt.2) :=
  zM_in hl rfl (Nat.le_of_ble_eq_true rfl) (fun p e R s m args below meth c hX => z_L rfl (m_X6_end hX hP h))
def g_X6_begins (M : mS) : Option (Unit × mS) :=
  zl (mset M 10 (-1)) fun M1 =>
  zl (mset M1 7 (-1)) fun M2 =>
  zl (mset M2 8 (M2.1 6)) fun M3 =>
  zl (mset M3 6 0) fun M4 =>
  zl (mset M4 9 0) fun M5 =>
  zl (mset M5 11 0) fun M6 =>
  some ((), M6)

set_option maxHeartbeats 4000000 in
theorem m_X6_begins {X : zX} (hX : zOk X RX6 cX6_begins 1 1 40 (Option.none : Option Jvm.ClassFile.FieldType) "begins" []) {σ : zS} {o : Nat} (hP : zP σ o) {M : mS} {Rt : Unit × mS} (h : g_X6_begins M = some Rt) : zG X (zQ X (.inl (eU Rt.1)) (pM σ o Rt.2)) 1 0 [(0, zA (some o))] [] (pM σ o M) := by
  unfold g_X6_begins at h
  refine z_aload_n hX 0 rfl rfl dX6_begins_0 (z_iconst hX (v := (-1)) (by decide) dX6_begins_1 ?_)
  refine m_putI hX hP fp_X6_22_5 mSc_10 h dX6_begins_2 (fun M1 h => ?_)
  refine z_aload_n hX 0 rfl rfl dX6_begins_5 (z_iconst hX (v := (-1)) (by decide) dX6_begins_6 ?_)
  refine m_putI hX hP fp_X6_51_5 mSc_7 h dX6_begins_7 (fun M2 h => ?_)
  refine z_aload_n hX 0 rfl rfl dX6_begins_10 (z_aload_n hX 0 rfl rfl dX6_begins_11 (m_getI hX fl_X6_48_5 mSc_6 dX6_begins_12 ?_))
  refine m_putI hX hP fp_X6_57_5 mSc_8 h dX6_begins_15 (fun M3 h => ?_)
  refine z_aload_n hX 0 rfl rfl dX6_begins_18 (z_iconst hX (v := 0) (by decide) dX6_begins_19 ?_)
  refine m_putI hX hP fp_X6_48_5 mSc_6 h dX6_begins_20 (fun M4 h => ?_)
  refine z_aload_n hX 0 rfl rfl dX6_begins_23 (z_iconst hX (v := 0) (by decide) dX6_begins_24 ?_)
  refine m_putI hX hP fp_X6_54_5 mSc_9 h dX6_begins_25 (fun M5 h => ?_)
  refine z_aload_n hX 0 rfl rfl dX6_begins_28 (z_iconst hX (v := 0) (by decide) dX6_begins_29 ?_)
  refine m_putI hX hP fp_X6_122_5 mSc_11 h dX6_begins_30 (fun M6 h => ?_)
  obtain rfl := Option.some.inj h
  exact z_vret hX dX6_begins_33

theorem c_X6_begins {l : Launch} {D : va_G} {tys : zTy} (hl : l.stackTraces = false) {σ : zS} {o : Nat} (hP : zP σ o) {M : mS} {Rt : Unit × mS} (h : g_X6_begins M = some Rt) : zM l D tys yX6_begins (ws_ yX6_begins cX6_begins 1 (Option.none : Option Jvm.ClassFile.FieldType)) 1 40 [zA (some o)] (pM σ o M) (.inl (eU Rt.1)) (pM σ o Rt.2) :=
  zM_in hl rfl (Nat.le_of_ble_eq_true rfl) (fun p e R s m args below meth c hX => z_L rfl (m_X6_begins hX hP h))
def g_X6_letter (p1 : Int32) (M : mS) : Option (Int32 × mS) :=
  if ¬ (M.1 7) = (-1) then
    (mL M 0 ((M.1 7) + p1)).bind fun x1 =>
    some (x1, M)
  else
    (mL M 3 p1).bind fun x2 =>
    some (x2, M)

set_option maxHeartbeats 4000000 in
theorem m_X6_letter {X : zX} (hX : zOk X RX6 cX6_letter 2 1 40 (Option.some Jvm.ClassFile.FieldType.int) "letter" []) {σ : zS} {o : Nat} (hP : zP σ o) {p1 : Int32} {M : mS} {Rt : Int32 × mS} (h : g_X6_letter p1 M = some Rt) : zG X (zQ X (.inl (eI Rt.1)) (pM σ o Rt.2)) 2 0 [(0, zA (some o)), (1, zI p1)] [] (pM σ o M) := by
  unfold g_X6_letter at h
  refine z_aload_n hX 0 rfl rfl dX6_letter_0 (m_getI hX fl_X6_51_5 mSc_7 dX6_letter_1 (z_iconst hX (v := (-1)) (by decide) dX6_letter_4 ?_))
  refine z_icmp_ne (tgt := 17) hX h dX6_letter_5 (by decide) (fun h => ?_) (fun h => ?_)
  · refine z_aload_n hX 0 rfl rfl dX6_letter_17 (m_getA hX fl_X6_7_5 mAr_1 dX6_letter_18 (z_aload_n hX 0 rfl rfl dX6_letter_21 (m_getI hX fl_X6_51_5 mSc_7 dX6_letter_22 (z_iload_n hX 1 rfl rfl dX6_letter_25 (z_iadd hX dX6_letter_26 ?_)))))
    refine m_iald hX (j := 0) (by decide) h dX6_letter_27 (fun x1 h => ?_)
    obtain rfl := Option.some.inj h
    exact z_iret hX dX6_letter_28
  · refine z_aload_n hX 0 rfl rfl dX6_letter_8 (m_getA hX fl_X6_19_5 mAr_5 dX6_letter_9 (z_iload_n hX 1 rfl rfl dX6_letter_12 ?_))
    refine m_iald hX (j := 3) (by decide) h dX6_letter_13 (fun x2 h => ?_)
    refine z_goto (tgt := 28) hX dX6_letter_14 (by decide) ?_
    obtain rfl := Option.some.inj h
    exact z_iret hX dX6_letter_28

theorem c_X6_letter {l : Launch} {D : va_G} {tys : zTy} (hl : l.stackTraces = false) {σ : zS} {o : Nat} (hP : zP σ o) {p1 : Int32} {M : mS} {Rt : Int32 × mS} (h : g_X6_letter p1 M = some Rt) : zM l D tys yX6_letter (ws_ yX6_letter cX6_letter 2 (Option.some Jvm.ClassFile.FieldType.int)) 1 40 [zA (some o), zI p1] (pM σ o M) (.inl (eI Rt.1)) (pM σ o Rt.2) :=
  zM_in hl rfl (Nat.le_of_ble_eq_true rfl) (fun p e R s m args below meth c hX => z_L rfl (m_X6_letter hX hP h))
def g_X6_skip_0_b (rec0 : mS → Option (Unit × mS)) (M : mS) : Option (Unit × mS) :=
  if (M.1 8) ≤ (M.1 9) then
    some ((), M)
  else
    zb2 (g_X6_letter (M.1 9) M) fun x1 M2 =>
    if ¬ x1 = 32 then
      some ((), M2)
    else
      zl (mset M2 9 ((M2.1 9) + 1)) fun M3 =>
      rec0 M3

def g_X6_skip_0 : mS → Option (Unit × mS) := zlp0 (g_X6_skip_0_b) NN
set_option maxHeartbeats 4000000 in
theorem m_X6_skip_0_b {X : zX} (hX : zOk X RX6 cX6_skip 1 2 61 (Option.none : Option Jvm.ClassFile.FieldType) "skip" []) {σ : zS} {o : Nat} (hP : zP σ o) {Rt : Unit × mS} {rec0 : mS → Option (Unit × mS)} (hrec0 : ∀ (M : mS), rec0 M = some Rt → zG X (zQ X (.inl (eU Rt.1)) (pM σ o Rt.2)) 1 0 [(0, zA (some o))] [] (pM σ o M)) {M : mS} (h : g_X6_skip_0_b rec0 M = some Rt) : zG X (zQ X (.inl (eU Rt.1)) (pM σ o Rt.2)) 1 0 [(0, zA (some o))] [] (pM σ o M) := by
  unfold g_X6_skip_0_b at h
  refine z_aload_n hX 0 rfl rfl dX6_skip_0 (m_getI hX fl_X6_54_5 mSc_9 dX6_skip_1 (z_aload_n hX 0 rfl rfl dX6_skip_4 (m_getI hX fl_X6_57_5 mSc_8 dX6_skip_5 ?_)))
  refine z_icmp_ge (tgt := 37) hX h dX6_skip_8 (by decide) (fun h => ?_) (fun h => ?_)
  · obtain rfl := Option.some.inj h
    exact z_vret hX dX6_skip_37
  · refine z_aload_n hX 0 rfl rfl dX6_skip_11 (z_aload_n hX 0 rfl rfl dX6_skip_12 (m_getI hX fl_X6_54_5 mSc_9 dX6_skip_13 ?_))
    refine m_cNI hX (rest := []) h (fun r9 M9 e9 => z_runV hX lk_X6_60 (c_X6_letter hX.tr hP e9) (ci := 5) zc9_5 pM_cl ⟨Nat.le_of_ble_eq_true rfl, Nat.le_of_ble_eq_true rfl⟩ rfl (Nat.le_of_ble_eq_true rfl) dX6_skip_16 rfl) (fun x1 M2 h => ?_)
    refine z_bipush hX (v := 32) (by decide) dX6_skip_19 ?_
    refine z_icmp_ne (tgt := 37) hX h dX6_skip_21 (by decide) (fun h => ?_) (fun h => ?_)
    · obtain rfl := Option.some.inj h
      exact z_vret hX dX6_skip_37
    · refine z_aload_n hX 0 rfl rfl dX6_skip_24 (z_dup hX rfl dX6_skip_25 (m_getI hX fl_X6_54_5 mSc_9 dX6_skip_26 (z_iconst hX (v := 1) (by decide) dX6_skip_29 (z_iadd hX dX6_skip_30 ?_))))
      refine m_putI hX hP fp_X6_54_5 mSc_9 h dX6_skip_31 (fun M3 h => ?_)
      refine z_goto (tgt := 0) hX dX6_skip_34 (by decide) ?_
      exact z_sub [0] rfl (hrec0  _ h)

theorem m_X6_skip_0 {X : zX} (hX : zOk X RX6 cX6_skip 1 2 61 (Option.none : Option Jvm.ClassFile.FieldType) "skip" []) {σ : zS} {o : Nat} (hP : zP σ o) {Rt : Unit × mS} {M : mS} (h : g_X6_skip_0 M = some Rt) : zG X (zQ X (.inl (eU Rt.1)) (pM σ o Rt.2)) 1 0 [(0, zA (some o))] [] (pM σ o M) :=
  zlp0_ok (P := fun M => zG X (zQ X (.inl (eU Rt.1)) (pM σ o Rt.2)) 1 0 [(0, zA (some o))] [] (pM σ o M)) (fun rec hr M h => m_X6_skip_0_b hX hP hr h) NN M h
def g_X6_skip (M : mS) : Option (Unit × mS) :=
  g_X6_skip_0 M

set_option maxHeartbeats 4000000 in
theorem m_X6_skip {X : zX} (hX : zOk X RX6 cX6_skip 1 2 61 (Option.none : Option Jvm.ClassFile.FieldType) "skip" []) {σ : zS} {o : Nat} (hP : zP σ o) {M : mS} {Rt : Unit × mS} (h : g_X6_skip M = some Rt) : zG X (zQ X (.inl (eU Rt.1)) (pM σ o Rt.2)) 1 0 [(0, zA (some o))] [] (pM σ o M) := by
  unfold g_X6_skip at h
  exact z_sub [0] rfl (m_X6_skip_0 hX hP  h)

theorem c_X6_skip {l : Launch} {D : va_G} {tys : zTy} (hl : l.stackTraces = false) {σ : zS} {o : Nat} (hP : zP σ o) {M : mS} {Rt : Unit × mS} (h : g_X6_skip M = some Rt) : zM l D tys yX6_skip (ws_ yX6_skip cX6_skip 1 (Option.none : Option Jvm.ClassFile.FieldType)) 2 61 [zA (some o)] (pM σ o M) (.inl (eU Rt.1)) (pM σ o Rt.2) :=
  zM_in hl rfl (Nat.le_of_ble_eq_true rfl) (fun p e R s m args below meth c hX => z_L rfl (m_X6_skip hX hP h))
def g_X6_wrong (p1 : Int32) (M : mS) : Option (Unit × mS) :=
  if ¬ (M.1 10) = (-1) then
    some ((), M)
  else
    zl (mset M 10 p1) fun M1 =>
    some ((), M1)

set_option maxHeartbeats 4000000 in
theorem m_X6_wrong {X : zX} (hX : zOk X RX6 cX6_wrong 2 1 40 (Option.none : Option Jvm.ClassFile.FieldType) "wrong" []) {σ : zS} {o : Nat} (hP : zP σ o) {p1 : Int32} {M : mS} {Rt : Unit × mS} (h : g_X6_wrong p1 M = some Rt) : zG X (zQ X (.inl (eU Rt.1)) (pM σ o Rt.2)) 2 0 [(0, zA (some o)), (1, zI p1)] [] (pM σ o M) := by
  unfold g_X6_wrong at h
  refine z_aload_n hX 0 rfl rfl dX6_wrong_0 (m_getI hX fl_X6_22_5 mSc_10 dX6_wrong_1 (z_iconst hX (v := (-1)) (by decide) dX6_wrong_4 ?_))
  refine z_icmp_ne (tgt := 13) hX h dX6_wrong_5 (by decide) (fun h => ?_) (fun h => ?_)
  · obtain rfl := Option.some.inj h
    exact z_vret hX dX6_wrong_13
  · refine z_aload_n hX 0 rfl rfl dX6_wrong_8 (z_iload_n hX 1 rfl rfl dX6_wrong_9 ?_)
    refine m_putI hX hP fp_X6_22_5 mSc_10 h dX6_wrong_10 (fun M1 h => ?_)
    obtain rfl := Option.some.inj h
    exact z_vret hX dX6_wrong_13

theorem c_X6_wrong {l : Launch} {D : va_G} {tys : zTy} (hl : l.stackTraces = false) {σ : zS} {o : Nat} (hP : zP σ o) {p1 : Int32} {M : mS} {Rt : Unit × mS} (h : g_X6_wrong p1 M = some Rt) : zM l D tys yX6_wrong (ws_ yX6_wrong cX6_wrong 2 (Option.none : Option Jvm.ClassFile.FieldType)) 1 40 [zA (some o), zI p1] (pM σ o M) (.inl (eU Rt.1)) (pM σ o Rt.2) :=
  zM_in hl rfl (Nat.le_of_ble_eq_true rfl) (fun p e R s m args below meth c hX => z_L rfl (m_X6_wrong hX hP h))
def g_X6_has_55_b (v1 : Nat) (v2 : Int32) (rec55 : Int32 → mS → Option (Int32 × mS)) (v3 : Int32) (M : mS) : Option (Int32 × mS) :=
  if (zlt v1) ≤ v3 then
    zl (mset M 9 v2) fun M4 =>
    some ((1 : Int32), M4)
  else
    zb2 (g_X6_letter ((M.1 9) + v3) M) fun x5 M6 =>
    (zch9 v1 v3).bind fun x7 =>
    if x5 = x7 then
      zl (v3 + 1) fun x8 =>
      rec55 x8 M6
    else
      some ((0 : Int32), M6)

def g_X6_has_55 (v1 : Nat) (v2 : Int32) : Int32 → mS → Option (Int32 × mS) := zlp1 (g_X6_has_55_b v1 v2) NN
set_option maxHeartbeats 4000000 in
theorem m_X6_has_55_b {X : zX} (hX : zOk X RX6 cX6_has 4 5 125 (Option.some Jvm.ClassFile.FieldType.boolean) "has" []) {σ : zS} {o : Nat} (hP : zP σ o) {Rt : Int32 × mS} {v1 : Nat} {w1 : Nat} (ha_w1 : zLa σ v1 w1) {v2 : Int32} {rec55 : Int32 → mS → Option (Int32 × mS)} (hrec55 : ∀ (v3 : Int32) (M : mS), rec55 v3 M = some Rt → zG X (zQ X (.inl (eI Rt.1)) (pM σ o Rt.2)) 4 55 [(0, zA (some o)), (1, zA (some w1)), (2, zI v2), (3, zI v3)] [] (pM σ o M)) {v3 : Int32} {M : mS} (h : g_X6_has_55_b v1 v2 rec55 v3 M = some Rt) : zG X (zQ X (.inl (eI Rt.1)) (pM σ o Rt.2)) 4 55 [(0, zA (some o)), (1, zA (some w1)), (2, zI v2), (3, zI v3)] [] (pM σ o M) := by
  unfold g_X6_has_55_b at h
  refine z_iload_n hX 3 rfl rfl dX6_has_55 (z_aload_n hX 1 rfl rfl dX6_has_56 (m_len hX hP ha_w1 lk_X6_67 ⟨Nat.le_of_ble_eq_true rfl, Nat.le_of_ble_eq_true rfl⟩ (Nat.le_of_ble_eq_true rfl) dX6_has_57 ?_))
  refine z_icmp_ge (tgt := 89) hX h dX6_has_60 (by decide) (fun h => ?_) (fun h => ?_)
  · refine z_aload_n hX 0 rfl rfl dX6_has_89 (z_iload_n hX 2 rfl rfl dX6_has_90 ?_)
    refine m_putI hX hP fp_X6_54_5 mSc_9 h dX6_has_91 (fun M4 h => ?_)
    refine z_iconst hX (v := 1) (by decide) dX6_has_94 ?_
    obtain rfl := Option.some.inj h
    exact z_zretT (r := 1) hX (by decide) dX6_has_95
  · refine z_aload_n hX 0 rfl rfl dX6_has_63 (z_aload_n hX 0 rfl rfl dX6_has_64 (m_getI hX fl_X6_54_5 mSc_9 dX6_has_65 (z_iload_n hX 3 rfl rfl dX6_has_68 (z_iadd hX dX6_has_69 ?_))))
    refine m_cNI hX (rest := []) h (fun r9 M9 e9 => z_runV hX lk_X6_60 (c_X6_letter hX.tr hP e9) (ci := 5) zc9_5 pM_cl ⟨Nat.le_of_ble_eq_true rfl, Nat.le_of_ble_eq_true rfl⟩ rfl (Nat.le_of_ble_eq_true rfl) dX6_has_70 rfl) (fun x5 M6 h => ?_)
    refine z_aload_n hX 1 rfl rfl dX6_has_73 (z_iload_n hX 3 rfl rfl dX6_has_74 ?_)
    refine m_charAt hX hP ha_w1 lk_X6_73 ⟨Nat.le_of_ble_eq_true rfl, Nat.le_of_ble_eq_true rfl⟩ (Nat.le_of_ble_eq_true rfl) h dX6_has_75 (fun x7 h => ?_)
    refine z_icmp_eq (tgt := 83) hX h dX6_has_78 (by decide) (fun h => ?_) (fun h => ?_)
    · refine z_iinc hX (j := 3) h rfl (by decide) (by decide) dX6_has_83 (fun x8 h => z_L (L' := [(0, zA (some o)), (1, zA (some w1)), (2, zI v2), (3, zI x8)]) rfl ?_)
      refine z_goto (tgt := 55) hX dX6_has_86 (by decide) ?_
      exact z_sub [0, 1, 2, 3] rfl (hrec55 _ _ h)
    · refine z_iconst hX (v := 0) (by decide) dX6_has_81 ?_
      obtain rfl := Option.some.inj h
      exact z_zretT (r := 0) hX (by decide) dX6_has_82

theorem m_X6_has_55 {X : zX} (hX : zOk X RX6 cX6_has 4 5 125 (Option.some Jvm.ClassFile.FieldType.boolean) "has" []) {σ : zS} {o : Nat} (hP : zP σ o) {Rt : Int32 × mS} {v1 : Nat} {w1 : Nat} (ha_w1 : zLa σ v1 w1) {v2 : Int32} {v3 : Int32} {M : mS} (h : g_X6_has_55 v1 v2 v3 M = some Rt) : zG X (zQ X (.inl (eI Rt.1)) (pM σ o Rt.2)) 4 55 [(0, zA (some o)), (1, zA (some w1)), (2, zI v2), (3, zI v3)] [] (pM σ o M) :=
  zlp1_ok (P := fun v3 M => zG X (zQ X (.inl (eI Rt.1)) (pM σ o Rt.2)) 4 55 [(0, zA (some o)), (1, zA (some w1)), (2, zI v2), (3, zI v3)] [] (pM σ o M)) (fun rec hr v3 M h => m_X6_has_55_b hX hP ha_w1 hr h) NN v3 M h
def g_X6_has_38 (v1 : Nat) (v2 : Int32) (M : mS) : Option (Int32 × mS) :=
  if (v2 - (M.1 9)) = (zlt v1) then
    g_X6_has_55 v1 v2 0 M
  else
    some ((0 : Int32), M)

set_option maxHeartbeats 4000000 in
theorem m_X6_has_38 {X : zX} (hX : zOk X RX6 cX6_has 4 5 125 (Option.some Jvm.ClassFile.FieldType.boolean) "has" []) {σ : zS} {o : Nat} (hP : zP σ o) {Rt : Int32 × mS} {v1 : Nat} {w1 : Nat} (ha_w1 : zLa σ v1 w1) {v2 : Int32} {M : mS} (h : g_X6_has_38 v1 v2 M = some Rt) : zG X (zQ X (.inl (eI Rt.1)) (pM σ o Rt.2)) 4 38 [(0, zA (some o)), (1, zA (some w1)), (2, zI v2)] [] (pM σ o M) := by
  unfold g_X6_has_38 at h
  refine z_iload_n hX 2 rfl rfl dX6_has_38 (z_aload_n hX 0 rfl rfl dX6_has_39 (m_getI hX fl_X6_54_5 mSc_9 dX6_has_40 (z_isub hX dX6_has_43 (z_aload_n hX 1 rfl rfl dX6_has_44 (m_len hX hP ha_w1 lk_X6_67 ⟨Nat.le_of_ble_eq_true rfl, Nat.le_of_ble_eq_true rfl⟩ (Nat.le_of_ble_eq_true rfl) dX6_has_45 ?_)))))
  refine z_icmp_eq (tgt := 53) hX h dX6_has_48 (by decide) (fun h => ?_) (fun h => ?_)
  · refine z_iconst hX (v := 0) (by decide) dX6_has_53 (z_istore_n (L' := [(0, zA (some o)), (1, zA (some w1)), (2, zI v2), (3, zI 0)]) hX rfl rfl (by decide) dX6_has_54 ?_)
    exact z_sub [0, 1, 2, 3] rfl (m_X6_has_55 hX hP ha_w1  h)
  · refine z_iconst hX (v := 0) (by decide) dX6_has_51 ?_
    obtain rfl := Option.some.inj h
    exact z_zretT (r := 0) hX (by decide) dX6_has_52

def g_X6_has_9_b (v1 : Nat) (rec9 : Int32 → mS → Option (Int32 × mS)) (v2 : Int32) (M : mS) : Option (Int32 × mS) :=
  if (M.1 8) ≤ v2 then
    g_X6_has_38 v1 v2 M
  else
    zb2 (g_X6_letter v2 M) fun x9 M10 =>
    zb2 (g_X6_isIn x9 97 122 M10) fun x11 M12 =>
    if x11 = 0 then
      g_X6_has_38 v1 v2 M12
    else
      zl (v2 + 1) fun x13 =>
      rec9 x13 M12

def g_X6_has_9 (v1 : Nat) : Int32 → mS → Option (Int32 × mS) := zlp1 (g_X6_has_9_b v1) NN
set_option maxHeartbeats 4000000 in
theorem m_X6_has_9_b {X : zX} (hX : zOk X RX6 cX6_has 4 5 125 (Option.some Jvm.ClassFile.FieldType.boolean) "has" []) {σ : zS} {o : Nat} (hP : zP σ o) {Rt : Int32 × mS} {v1 : Nat} {w1 : Nat} (ha_w1 : zLa σ v1 w1) {rec9 : Int32 → mS → Option (Int32 × mS)} (hrec9 : ∀ (v2 : Int32) (M : mS), rec9 v2 M = some Rt → zG X (zQ X (.inl (eI Rt.1)) (pM σ o Rt.2)) 4 9 [(0, zA (some o)), (1, zA (some w1)), (2, zI v2)] [] (pM σ o M)) {v2 : Int32} {M : mS} (h : g_X6_has_9_b v1 rec9 v2 M = some Rt) : zG X (zQ X (.inl (eI Rt.1)) (pM σ o Rt.2)) 4 9 [(0, zA (some o)), (1, zA (some w1)), (2, zI v2)] [] (pM σ o M) := by
  unfold g_X6_has_9_b at h
  refine z_iload_n hX 2 rfl rfl dX6_has_9 (z_aload_n hX 0 rfl rfl dX6_has_10 (m_getI hX fl_X6_57_5 mSc_8 dX6_has_11 ?_))
  refine z_icmp_ge (tgt := 38) hX h dX6_has_14 (by decide) (fun h => ?_) (fun h => ?_)
  · exact z_sub [0, 1, 2] rfl (m_X6_has_38 hX hP ha_w1  h)
  · refine z_aload_n hX 0 rfl rfl dX6_has_17 (z_iload_n hX 2 rfl rfl dX6_has_18 ?_)
    refine m_cNI hX (rest := []) h (fun r9 M9 e9 => z_runV hX lk_X6_60 (c_X6_letter hX.tr hP e9) (ci := 5) zc9_5 pM_cl ⟨Nat.le_of_ble_eq_true rfl, Nat.le_of_ble_eq_true rfl⟩ rfl (Nat.le_of_ble_eq_true rfl) dX6_has_19 rfl) (fun x9 M10 h => ?_)
    refine z_bipush hX (v := 97) (by decide) dX6_has_22 (z_bipush hX (v := 122) (by decide) dX6_has_24 ?_)
    refine m_cNI hX (rest := []) h (fun r9 M9 e9 => z_runS hX lk_X6_44 (c_X6_isIn hX.tr hP e9) ⟨Nat.le_of_ble_eq_true rfl, Nat.le_of_ble_eq_true rfl⟩ rfl (Nat.le_of_ble_eq_true rfl) dX6_has_26 rfl) (fun x11 M12 h => ?_)
    refine z_if_eq (tgt := 38) hX h dX6_has_29 (by decide) (fun h => ?_) (fun h => ?_)
    · exact z_sub [0, 1, 2] rfl (m_X6_has_38 hX hP ha_w1  h)
    · refine z_iinc hX (j := 2) h rfl (by decide) (by decide) dX6_has_32 (fun x13 h => z_L (L' := [(0, zA (some o)), (1, zA (some w1)), (2, zI x13)]) rfl ?_)
      refine z_goto (tgt := 9) hX dX6_has_35 (by decide) ?_
      exact z_sub [0, 1, 2] rfl (hrec9 _ _ h)

theorem m_X6_has_9 {X : zX} (hX : zOk X RX6 cX6_has 4 5 125 (Option.some Jvm.ClassFile.FieldType.boolean) "has" []) {σ : zS} {o : Nat} (hP : zP σ o) {Rt : Int32 × mS} {v1 : Nat} {w1 : Nat} (ha_w1 : zLa σ v1 w1) {v2 : Int32} {M : mS} (h : g_X6_has_9 v1 v2 M = some Rt) : zG X (zQ X (.inl (eI Rt.1)) (pM σ o Rt.2)) 4 9 [(0, zA (some o)), (1, zA (some w1)), (2, zI v2)] [] (pM σ o M) :=
  zlp1_ok (P := fun v2 M => zG X (zQ X (.inl (eI Rt.1)) (pM σ o Rt.2)) 4 9 [(0, zA (some o)), (1, zA (some w1)), (2, zI v2)] [] (pM σ o M)) (fun rec hr v2 M h => m_X6_has_9_b hX hP ha_w1 hr h) NN v2 M h
def g_X6_has (p1 : Nat) (M : mS) : Option (Int32 × mS) :=
  zb2 (g_X6_skip M) fun _ M2 =>
  zl (M2.1 9) fun x3 =>
  g_X6_has_9 p1 x3 M2

set_option maxHeartbeats 4000000 in
theorem m_X6_has {X : zX} (hX : zOk X RX6 cX6_has 4 5 125 (Option.some Jvm.ClassFile.FieldType.boolean) "has" []) {σ : zS} {o : Nat} (hP : zP σ o) {p1 : Nat} {w1 : Nat} (ha_w1 : zLa σ p1 w1) {M : mS} {Rt : Int32 × mS} (h : g_X6_has p1 M = some Rt) : zG X (zQ X (.inl (eI Rt.1)) (pM σ o Rt.2)) 4 0 [(0, zA (some o)), (1, zA (some w1))] [] (pM σ o M) := by
  unfold g_X6_has at h
  refine z_aload_n hX 0 rfl rfl dX6_has_0 ?_
  refine m_cNU hX (rest := []) h (fun r9 M9 e9 => z_runV hX lk_X6_64 (c_X6_skip hX.tr hP e9) (ci := 5) zc9_5 pM_cl ⟨Nat.le_of_ble_eq_true rfl, Nat.le_of_ble_eq_true rfl⟩ rfl (Nat.le_of_ble_eq_true rfl) dX6_has_1 rfl) (fun _ M2 h => ?_)
  refine z_aload_n hX 0 rfl rfl dX6_has_4 (m_getI hX fl_X6_54_5 mSc_9 dX6_has_5 ?_)
  refine z_nmI h (fun x3 h => ?_)
  refine z_istore_n (L' := [(0, zA (some o)), (1, zA (some w1)), (2, zI x3)]) hX rfl rfl (by decide) dX6_has_8 ?_
  exact z_sub [0, 1, 2] rfl (m_X6_has_9 hX hP ha_w1  h)

theorem c_X6_has {l : Launch} {D : va_G} {tys : zTy} (hl : l.stackTraces = false) {σ : zS} {o : Nat} (hP : zP σ o) {p1 : Nat} {w1 : Nat} (ha_w1 : zLa σ p1 w1) {M : mS} {Rt : Int32 × mS} (h : g_X6_has p1 M = some Rt) : zM l D tys yX6_has (ws_ yX6_has cX6_has 4 (Option.some Jvm.ClassFile.FieldType.boolean)) 5 125 [zA (some o), zA (some w1)] (pM σ o M) (.inl (eI Rt.1)) (pM σ o Rt.2) :=
  zM_in hl rfl (Nat.le_of_ble_eq_true rfl) (fun p e R s m args below meth c hX => z_L rfl (m_X6_has hX hP ha_w1 h))
def g_X6_figures_127 (v4 : Int32) (v5 : Int32) (M : mS) : Option (Int32 × mS) :=
  zb2 (g_X6_wrong v4 M) fun _ M5 =>
  some (v5, M5)

set_option maxHeartbeats 4000000 in
theorem m_X6_figures_127 {X : zX} (hX : zOk X RX6 cX6_figures 6 3 81 (Option.some Jvm.ClassFile.FieldType.int) "figures" []) {σ : zS} {o : Nat} (hP : zP σ o) {Rt : Int32 × mS} {v4 : Int32} {v5 : Int32} {M : mS} (h : g_X6_figures_127 v4 v5 M = some Rt) : zG X (zQ X (.inl (eI Rt.1)) (pM σ o Rt.2)) 6 127 [(0, zA (some o)), (4, zI v4), (5, zI v5)] [] (pM σ o M) := by
  unfold g_X6_figures_127 at h
  refine z_aload_n hX 0 rfl rfl dX6_figures_127 (z_iload hX 1 rfl dX6_figures_128 ?_)
  refine m_cNU hX (rest := []) h (fun r9 M9 e9 => z_runV hX lk_X6_77 (c_X6_wrong hX.tr hP e9) (ci := 5) zc9_5 pM_cl ⟨Nat.le_of_ble_eq_true rfl, Nat.le_of_ble_eq_true rfl⟩ rfl (Nat.le_of_ble_eq_true rfl) dX6_figures_130 rfl) (fun _ M5 h => ?_)
  refine z_iload hX 2 rfl dX6_figures_133 ?_
  obtain rfl := Option.some.inj h
  exact z_iret hX dX6_figures_135

def g_X6_figures_95 (v1 : Int32) (v2 : Int32) (v3 : Int32) (v4 : Int32) (v5 : Int32) (M : mS) : Option (Int32 × mS) :=
  if (M.1 9) = v4 then
    g_X6_figures_127 v4 v5 M
  else
    if v3 < ((M.1 9) - v4) then
      g_X6_figures_127 v4 v5 M
    else
      if v5 < v1 then
        g_X6_figures_127 v4 v5 M
      else
        if v5 ≤ v2 then
          some (v5, M)
        else
          g_X6_figures_127 v4 v5 M

set_option maxHeartbeats 4000000 in
theorem m_X6_figures_95 {X : zX} (hX : zOk X RX6 cX6_figures 6 3 81 (Option.some Jvm.ClassFile.FieldType.int) "figures" []) {σ : zS} {o : Nat} (hP : zP σ o) {Rt : Int32 × mS} {v1 : Int32} {v2 : Int32} {v3 : Int32} {v4 : Int32} {v5 : Int32} {M : mS} (h : g_X6_figures_95 v1 v2 v3 v4 v5 M = some Rt) : zG X (zQ X (.inl (eI Rt.1)) (pM σ o Rt.2)) 6 95 [(0, zA (some o)), (1, zI v1), (2, zI v2), (3, zI v3), (4, zI v4), (5, zI v5)] [] (pM σ o M) := by
  unfold g_X6_figures_95 at h
  refine z_aload_n hX 0 rfl rfl dX6_figures_95 (m_getI hX fl_X6_54_5 mSc_9 dX6_figures_96 (z_iload hX 4 rfl dX6_figures_99 ?_))
  refine z_icmp_eq (tgt := 127) hX h dX6_figures_101 (by decide) (fun h => ?_) (fun h => ?_)
  · exact z_sub [0, 4, 5] rfl (m_X6_figures_127 hX hP  h)
  · refine z_aload_n hX 0 rfl rfl dX6_figures_104 (m_getI hX fl_X6_54_5 mSc_9 dX6_figures_105 (z_iload hX 4 rfl dX6_figures_108 (z_isub hX dX6_figures_110 (z_iload_n hX 3 rfl rfl dX6_figures_111 ?_))))
    refine z_icmp_gt (tgt := 127) hX h dX6_figures_112 (by decide) (fun h => ?_) (fun h => ?_)
    · exact z_sub [0, 4, 5] rfl (m_X6_figures_127 hX hP  h)
    · refine z_iload hX 5 rfl dX6_figures_115 (z_iload_n hX 1 rfl rfl dX6_figures_117 ?_)
      refine z_icmp_lt (tgt := 127) hX h dX6_figures_118 (by decide) (fun h => ?_) (fun h => ?_)
      · exact z_sub [0, 4, 5] rfl (m_X6_figures_127 hX hP  h)
      · refine z_iload hX 5 rfl dX6_figures_121 (z_iload_n hX 2 rfl rfl dX6_figures_123 ?_)
        refine z_icmp_le (tgt := 133) hX h dX6_figures_124 (by decide) (fun h => ?_) (fun h => ?_)
        · refine z_iload hX 5 rfl dX6_figures_133 ?_
          obtain rfl := Option.some.inj h
          exact z_iret hX dX6_figures_135
        · exact z_sub [0, 4, 5] rfl (m_X6_figures_127 hX hP  h)

def g_X6_figures_23_b (v1 : Int32) (v2 : Int32) (v3 : Int32) (v4 : Int32) (rec23 : Int32 → mS → Option (Int32 × mS)) (v5 : Int32) (M : mS) : Option (Int32 × mS) :=
  if (M.1 8) ≤ (M.1 9) then
    g_X6_figures_95 v1 v2 v3 v4 v5 M
  else
    zb2 (g_X6_letter (M.1 9) M) fun x6 M7 =>
    zb2 (g_X6_isIn x6 48 57 M7) fun x8 M9 =>
    if x8 = 0 then
      g_X6_figures_95 v1 v2 v3 v4 v5 M9
    else
      if v3 < ((M9.1 9) - v4) then
        g_X6_figures_95 v1 v2 v3 v4 v5 M9
      else
        zb2 (g_X6_letter (M9.1 9) M9) fun x10 M11 =>
        zl (((10 * v5) + x10) - 48) fun x12 =>
        zl (mset M11 9 ((M11.1 9) + 1)) fun M13 =>
        rec23 x12 M13

def g_X6_figures_23 (v1 : Int32) (v2 : Int32) (v3 : Int32) (v4 : Int32) : Int32 → mS → Option (Int32 × mS) := zlp1 (g_X6_figures_23_b v1 v2 v3 v4) NN
set_option maxHeartbeats 4000000 in
theorem m_X6_figures_23_b {X : zX} (hX : zOk X RX6 cX6_figures 6 3 81 (Option.some Jvm.ClassFile.FieldType.int) "figures" []) {σ : zS} {o : Nat} (hP : zP σ o) {Rt : Int32 × mS} {v1 : Int32} {v2 : Int32} {v3 : Int32} {v4 : Int32} {rec23 : Int32 → mS → Option (Int32 × mS)} (hrec23 : ∀ (v5 : Int32) (M : mS), rec23 v5 M = some Rt → zG X (zQ X (.inl (eI Rt.1)) (pM σ o Rt.2)) 6 23 [(0, zA (some o)), (1, zI v1), (2, zI v2), (3, zI v3), (4, zI v4), (5, zI v5)] [] (pM σ o M)) {v5 : Int32} {M : mS} (h : g_X6_figures_23_b v1 v2 v3 v4 rec23 v5 M = some Rt) : zG X (zQ X (.inl (eI Rt.1)) (pM σ o Rt.2)) 6 23 [(0, zA (some o)), (1, zI v1), (2, zI v2), (3, zI v3), (4, zI v4), (5, zI v5)] [] (pM σ o M) := by
  unfold g_X6_figures_23_b at h
  refine z_aload_n hX 0 rfl rfl dX6_figures_23 (m_getI hX fl_X6_54_5 mSc_9 dX6_figures_24 (z_aload_n hX 0 rfl rfl dX6_figures_27 (m_getI hX fl_X6_57_5 mSc_8 dX6_figures_28 ?_)))
  refine z_icmp_ge (tgt := 95) hX h dX6_figures_31 (by decide) (fun h => ?_) (fun h => ?_)
  · exact z_sub [0, 1, 2, 3, 4, 5] rfl (m_X6_figures_95 hX hP  h)
  · refine z_aload_n hX 0 rfl rfl dX6_figures_34 (z_aload_n hX 0 rfl rfl dX6_figures_35 (m_getI hX fl_X6_54_5 mSc_9 dX6_figures_36 ?_))
    refine m_cNI hX (rest := []) h (fun r9 M9 e9 => z_runV hX lk_X6_60 (c_X6_letter hX.tr hP e9) (ci := 5) zc9_5 pM_cl ⟨Nat.le_of_ble_eq_true rfl, Nat.le_of_ble_eq_true rfl⟩ rfl (Nat.le_of_ble_eq_true rfl) dX6_figures_39 rfl) (fun x6 M7 h => ?_)
    refine z_bipush hX (v := 48) (by decide) dX6_figures_42 (z_bipush hX (v := 57) (by decide) dX6_figures_44 ?_)
    refine m_cNI hX (rest := []) h (fun r9 M9 e9 => z_runS hX lk_X6_44 (c_X6_isIn hX.tr hP e9) ⟨Nat.le_of_ble_eq_true rfl, Nat.le_of_ble_eq_true rfl⟩ rfl (Nat.le_of_ble_eq_true rfl) dX6_figures_46 rfl) (fun x8 M9 h => ?_)
    refine z_if_eq (tgt := 95) hX h dX6_figures_49 (by decide) (fun h => ?_) (fun h => ?_)
    · exact z_sub [0, 1, 2, 3, 4, 5] rfl (m_X6_figures_95 hX hP  h)
    · refine z_aload_n hX 0 rfl rfl dX6_figures_52 (m_getI hX fl_X6_54_5 mSc_9 dX6_figures_53 (z_iload hX 4 rfl dX6_figures_56 (z_isub hX dX6_figures_58 (z_iload_n hX 3 rfl rfl dX6_figures_59 ?_))))
      refine z_icmp_gt (tgt := 95) hX h dX6_figures_60 (by decide) (fun h => ?_) (fun h => ?_)
      · exact z_sub [0, 1, 2, 3, 4, 5] rfl (m_X6_figures_95 hX hP  h)
      · refine z_bipush hX (v := 10) (by decide) dX6_figures_63 (z_iload hX 5 rfl dX6_figures_65 (z_imul hX dX6_figures_67 (z_aload_n hX 0 rfl rfl dX6_figures_68 (z_aload_n hX 0 rfl rfl dX6_figures_69 (m_getI hX fl_X6_54_5 mSc_9 dX6_figures_70 ?_)))))
        refine m_cNI hX (rest := [zI (10 * v5)]) h (fun r9 M9 e9 => z_runV hX lk_X6_60 (c_X6_letter hX.tr hP e9) (ci := 5) zc9_5 pM_cl ⟨Nat.le_of_ble_eq_true rfl, Nat.le_of_ble_eq_true rfl⟩ rfl (Nat.le_of_ble_eq_true rfl) dX6_figures_73 rfl) (fun x10 M11 h => ?_)
        refine z_iadd hX dX6_figures_76 (z_bipush hX (v := 48) (by decide) dX6_figures_77 (z_isub hX dX6_figures_79 ?_))
        refine z_nmI h (fun x12 h => ?_)
        refine z_istore (L' := [(0, zA (some o)), (1, zI v1), (2, zI v2), (3, zI v3), (4, zI v4), (5, zI x12)]) hX rfl (by decide) dX6_figures_80 (z_aload_n hX 0 rfl rfl dX6_figures_82 (z_dup hX rfl dX6_figures_83 (m_getI hX fl_X6_54_5 mSc_9 dX6_figures_84 (z_iconst hX (v := 1) (by decide) dX6_figures_87 (z_iadd hX dX6_figures_88 ?_)))))
        refine m_putI hX hP fp_X6_54_5 mSc_9 h dX6_figures_89 (fun M13 h => ?_)
        refine z_goto (tgt := 23) hX dX6_figures_92 (by decide) ?_
        exact z_sub [0, 1, 2, 3, 4, 5] rfl (hrec23 _ _ h)

theorem m_X6_figures_23 {X : zX} (hX : zOk X RX6 cX6_figures 6 3 81 (Option.some Jvm.ClassFile.FieldType.int) "figures" []) {σ : zS} {o : Nat} (hP : zP σ o) {Rt : Int32 × mS} {v1 : Int32} {v2 : Int32} {v3 : Int32} {v4 : Int32} {v5 : Int32} {M : mS} (h : g_X6_figures_23 v1 v2 v3 v4 v5 M = some Rt) : zG X (zQ X (.inl (eI Rt.1)) (pM σ o Rt.2)) 6 23 [(0, zA (some o)), (1, zI v1), (2, zI v2), (3, zI v3), (4, zI v4), (5, zI v5)] [] (pM σ o M) :=
  zlp1_ok (P := fun v5 M => zG X (zQ X (.inl (eI Rt.1)) (pM σ o Rt.2)) 6 23 [(0, zA (some o)), (1, zI v1), (2, zI v2), (3, zI v3), (4, zI v4), (5, zI v5)] [] (pM σ o M)) (fun rec hr v5 M h => m_X6_figures_23_b hX hP hr h) NN v5 M h
def g_X6_figures (p1 : Int32) (p2 : Int32) (p3 : Int32) (M : mS) : Option (Int32 × mS) :=
  if (M.1 10) = (-1) then
    zb2 (g_X6_skip M) fun _ M2 =>
    zl (M2.1 9) fun x3 =>
    g_X6_figures_23 p1 p2 p3 x3 0 M2
  else
    some ((0 : Int32), M)

set_option maxHeartbeats 4000000 in
theorem m_X6_figures {X : zX} (hX : zOk X RX6 cX6_figures 6 3 81 (Option.some Jvm.ClassFile.FieldType.int) "figures" []) {σ : zS} {o : Nat} (hP : zP σ o) {p1 : Int32} {p2 : Int32} {p3 : Int32} {M : mS} {Rt : Int32 × mS} (h : g_X6_figures p1 p2 p3 M = some Rt) : zG X (zQ X (.inl (eI Rt.1)) (pM σ o Rt.2)) 6 0 [(0, zA (some o)), (1, zI p1), (2, zI p2), (3, zI p3)] [] (pM σ o M) := by
  unfold g_X6_figures at h
  refine z_aload_n hX 0 rfl rfl dX6_figures_0 (m_getI hX fl_X6_22_5 mSc_10 dX6_figures_1 (z_iconst hX (v := (-1)) (by decide) dX6_figures_4 ?_))
  refine z_icmp_eq (tgt := 10) hX h dX6_figures_5 (by decide) (fun h => ?_) (fun h => ?_)
  · refine z_aload_n hX 0 rfl rfl dX6_figures_10 ?_
    refine m_cNU hX (rest := []) h (fun r9 M9 e9 => z_runV hX lk_X6_64 (c_X6_skip hX.tr hP e9) (ci := 5) zc9_5 pM_cl ⟨Nat.le_of_ble_eq_true rfl, Nat.le_of_ble_eq_true rfl⟩ rfl (Nat.le_of_ble_eq_true rfl) dX6_figures_11 rfl) (fun _ M2 h => ?_)
    refine z_aload_n hX 0 rfl rfl dX6_figures_14 (m_getI hX fl_X6_54_5 mSc_9 dX6_figures_15 ?_)
    refine z_nmI h (fun x3 h => ?_)
    refine z_istore (L' := [(0, zA (some o)), (1, zI p1), (2, zI p2), (3, zI p3), (4, zI x3)]) hX rfl (by decide) dX6_figures_18 (z_iconst hX (v := 0) (by decide) dX6_figures_20 (z_istore (L' := [(0, zA (some o)), (1, zI p1), (2, zI p2), (3, zI p3), (4, zI x3), (5, zI 0)]) hX rfl (by decide) dX6_figures_21 ?_))
    exact z_sub [0, 1, 2, 3, 4, 5] rfl (m_X6_figures_23 hX hP  h)
  · refine z_iconst hX (v := 0) (by decide) dX6_figures_8 ?_
    obtain rfl := Option.some.inj h
    exact z_iret hX dX6_figures_9

theorem c_X6_figures {l : Launch} {D : va_G} {tys : zTy} (hl : l.stackTraces = false) {σ : zS} {o : Nat} (hP : zP σ o) {p1 : Int32} {p2 : Int32} {p3 : Int32} {M : mS} {Rt : Int32 × mS} (h : g_X6_figures p1 p2 p3 M = some Rt) : zM l D tys yX6_figures (ws_ yX6_figures cX6_figures 6 (Option.some Jvm.ClassFile.FieldType.int)) 3 81 [zA (some o), zI p1, zI p2, zI p3] (pM σ o M) (.inl (eI Rt.1)) (pM σ o Rt.2) :=
  zM_in hl rfl (Nat.le_of_ble_eq_true rfl) (fun p e R s m args below meth c hX => z_L rfl (m_X6_figures hX hP h))
def zRA_X6_atom (l : Launch) (D : va_G) (tys : zTy) (σ : zS) (o : Nat) (ra : mS → Option (Int32 × mS)) (f w : Nat) : Prop := ∀ (M : mS) (Rt : Int32 × mS), ra M = some Rt → zM l D tys yX6_atom (ws_ yX6_atom cX6_atom 4 (Option.some Jvm.ClassFile.FieldType.boolean)) f w [zA (some o)] (pM σ o M) (.inl (eI Rt.1)) (pM σ o Rt.2)
def g_X6_every_40 (ra : mS → Option (Int32 × mS)) (rec5 : Int32 → mS → Option (Int32 × mS)) (t0 : Int32) (M : mS) : Option (Int32 × mS) :=
  rec5 t0 M

set_option maxHeartbeats 4000000 in
theorem m_X6_every_40 {f9 w9 : Nat} {X : zX} (hX : zOk X RX6 cX6_every 3 (f9 + 6) (w9 + 148) (Option.some Jvm.ClassFile.FieldType.boolean) "every" []) {ra : mS → Option (Int32 × mS)} {σ : zS} {o : Nat} (hP : zP σ o) (hra : zRA_X6_atom (xl X) (xD X) (xt X) σ o ra f9 w9) {Rt : Int32 × mS} {rec5 : Int32 → mS → Option (Int32 × mS)} (hrec5 : ∀ (v1 : Int32) (M : mS), rec5 v1 M = some Rt → zG X (zQ X (.inl (eI Rt.1)) (pM σ o Rt.2)) 3 5 [(0, zA (some o)), (1, zI v1)] [] (pM σ o M)) {t0 : Int32} {M : mS} (h : g_X6_every_40 ra rec5 t0 M = some Rt) : zG X (zQ X (.inl (eI Rt.1)) (pM σ o Rt.2)) 3 40 [(0, zA (some o))] [zI t0] (pM σ o M) := by
  unfold g_X6_every_40 at h
  refine z_istore_n (L' := [(0, zA (some o)), (1, zI t0)]) hX rfl rfl (by decide) dX6_every_40 (z_goto (tgt := 5) hX dX6_every_41 (by decide) ?_)
  exact z_sub [0, 1] rfl (hrec5 _ _ h)

def g_X6_every_39 (ra : mS → Option (Int32 × mS)) (rec5 : Int32 → mS → Option (Int32 × mS)) (M : mS) : Option (Int32 × mS) :=
  g_X6_every_40 ra rec5  0 M

set_option maxHeartbeats 4000000 in
theorem m_X6_every_39 {f9 w9 : Nat} {X : zX} (hX : zOk X RX6 cX6_every 3 (f9 + 6) (w9 + 148) (Option.some Jvm.ClassFile.FieldType.boolean) "every" []) {ra : mS → Option (Int32 × mS)} {σ : zS} {o : Nat} (hP : zP σ o) (hra : zRA_X6_atom (xl X) (xD X) (xt X) σ o ra f9 w9) {Rt : Int32 × mS} {rec5 : Int32 → mS → Option (Int32 × mS)} (hrec5 : ∀ (v1 : Int32) (M : mS), rec5 v1 M = some Rt → zG X (zQ X (.inl (eI Rt.1)) (pM σ o Rt.2)) 3 5 [(0, zA (some o)), (1, zI v1)] [] (pM σ o M)) {M : mS} (h : g_X6_every_39 ra rec5 M = some Rt) : zG X (zQ X (.inl (eI Rt.1)) (pM σ o Rt.2)) 3 39 [(0, zA (some o))] [] (pM σ o M) := by
  unfold g_X6_every_39 at h
  refine z_iconst hX (v := 0) (by decide) dX6_every_39 ?_
  exact z_sub [0] rfl (m_X6_every_40 hX hP hra hrec5 h)

def g_X6_every_5_b (ra : mS → Option (Int32 × mS)) (rec5 : Int32 → mS → Option (Int32 × mS)) (v1 : Int32) (M : mS) : Option (Int32 × mS) :=
  if ¬ (M.1 10) = (-1) then
    zbo v1 (some (v1, M))
  else
    zb2 (g_X6_has 15 M) fun x4 M5 =>
    if x4 = 0 then
      zbo v1 (some (v1, M5))
    else
      zb2 (ra M5) fun x6 M7 =>
      if v1 = 0 then
        g_X6_every_39 ra rec5 M7
      else
        if x6 = 0 then
          g_X6_every_39 ra rec5 M7
        else
          g_X6_every_40 ra rec5  1 M7

def g_X6_every_5 (ra : mS → Option (Int32 × mS)) : Int32 → mS → Option (Int32 × mS) := zlp1 (g_X6_every_5_b ra) NN
set_option maxHeartbeats 4000000 in
theorem m_X6_every_5_b {f9 w9 : Nat} {X : zX} (hX : zOk X RX6 cX6_every 3 (f9 + 6) (w9 + 148) (Option.some Jvm.ClassFile.FieldType.boolean) "every" []) {ra : mS → Option (Int32 × mS)} {σ : zS} {o : Nat} (hP : zP σ o) (hra : zRA_X6_atom (xl X) (xD X) (xt X) σ o ra f9 w9) {Rt : Int32 × mS} {rec5 : Int32 → mS → Option (Int32 × mS)} (hrec5 : ∀ (v1 : Int32) (M : mS), rec5 v1 M = some Rt → zG X (zQ X (.inl (eI Rt.1)) (pM σ o Rt.2)) 3 5 [(0, zA (some o)), (1, zI v1)] [] (pM σ o M)) {v1 : Int32} {M : mS} (h : g_X6_every_5_b ra rec5 v1 M = some Rt) : zG X (zQ X (.inl (eI Rt.1)) (pM σ o Rt.2)) 3 5 [(0, zA (some o)), (1, zI v1)] [] (pM σ o M) := by
  unfold g_X6_every_5_b at h
  refine z_aload_n hX 0 rfl rfl dX6_every_5 (m_getI hX fl_X6_22_5 mSc_10 dX6_every_6 (z_iconst hX (v := (-1)) (by decide) dX6_every_9 ?_))
  refine z_icmp_ne (tgt := 44) hX h dX6_every_10 (by decide) (fun h => ?_) (fun h => ?_)
  · refine z_iload_n hX 1 rfl rfl dX6_every_44 ?_
    obtain ⟨n9, h⟩ := zbo_inv h
    obtain rfl := Option.some.inj h
    exact z_zretT hX n9 dX6_every_45
  · refine z_aload_n hX 0 rfl rfl dX6_every_13 ?_
    refine m_ldcS (i := 15) hX st_X6_182 (by decide) dX6_every_14 (fun a3 ha_a3 => ?_)
    refine m_cNI hX (rest := []) h (fun r9 M9 e9 => z_runV hX lk_X6_81 (c_X6_has hX.tr hP ha_a3 e9) (ci := 5) zc9_5 pM_cl ⟨by omega, by omega⟩ rfl (Nat.le_of_ble_eq_true rfl) dX6_every_16 rfl) (fun x4 M5 h => ?_)
    refine z_if_eq (tgt := 44) hX h dX6_every_19 (by decide) (fun h => ?_) (fun h => ?_)
    · refine z_iload_n hX 1 rfl rfl dX6_every_44 ?_
      obtain ⟨n9, h⟩ := zbo_inv h
      obtain rfl := Option.some.inj h
      exact z_zretT hX n9 dX6_every_45
    · refine z_aload_n hX 0 rfl rfl dX6_every_22 ?_
      refine m_cNI hX (rest := []) h (fun r9 M9 e9 => z_runV hX lk_X6_176 (hra _ _ e9) (ci := 5) zc9_5 pM_cl ⟨by omega, by omega⟩ rfl (Nat.le_of_ble_eq_true rfl) dX6_every_23 rfl) (fun x6 M7 h => ?_)
      refine z_istore_n (L' := [(0, zA (some o)), (1, zI v1), (2, zI x6)]) hX rfl rfl (by decide) dX6_every_26 (z_iload_n hX 1 rfl rfl dX6_every_27 ?_)
      refine z_if_eq (tgt := 39) hX h dX6_every_28 (by decide) (fun h => ?_) (fun h => ?_)
      · exact z_sub [0] rfl (m_X6_every_39 hX hP hra hrec5 h)
      · refine z_iload_n hX 2 rfl rfl dX6_every_31 ?_
        refine z_if_eq (tgt := 39) hX h dX6_every_32 (by decide) (fun h => ?_) (fun h => ?_)
        · exact z_sub [0] rfl (m_X6_every_39 hX hP hra hrec5 h)
        · refine z_iconst hX (v := 1) (by decide) dX6_every_35 (z_goto (tgt := 40) hX dX6_every_36 (by decide) ?_)
          exact z_sub [0] rfl (m_X6_every_40 hX hP hra hrec5 h)

theorem m_X6_every_5 {f9 w9 : Nat} {X : zX} (hX : zOk X RX6 cX6_every 3 (f9 + 6) (w9 + 148) (Option.some Jvm.ClassFile.FieldType.boolean) "every" []) {ra : mS → Option (Int32 × mS)} {σ : zS} {o : Nat} (hP : zP σ o) (hra : zRA_X6_atom (xl X) (xD X) (xt X) σ o ra f9 w9) {Rt : Int32 × mS} {v1 : Int32} {M : mS} (h : g_X6_every_5 ra v1 M = some Rt) : zG X (zQ X (.inl (eI Rt.1)) (pM σ o Rt.2)) 3 5 [(0, zA (some o)), (1, zI v1)] [] (pM σ o M) :=
  zlp1_ok (P := fun v1 M => zG X (zQ X (.inl (eI Rt.1)) (pM σ o Rt.2)) 3 5 [(0, zA (some o)), (1, zI v1)] [] (pM σ o M)) (fun rec hr v1 M h => m_X6_every_5_b hX hP hra hr h) NN v1 M h
def g_X6_every (ra : mS → Option (Int32 × mS)) (M : mS) : Option (Int32 × mS) :=
  zb2 (ra M) fun x1 M2 =>
  g_X6_every_5 ra x1 M2

set_option maxHeartbeats 4000000 in
theorem m_X6_every {f9 w9 : Nat} {X : zX} (hX : zOk X RX6 cX6_every 3 (f9 + 6) (w9 + 148) (Option.some Jvm.ClassFile.FieldType.boolean) "every" []) {ra : mS → Option (Int32 × mS)} {σ : zS} {o : Nat} (hP : zP σ o) (hra : zRA_X6_atom (xl X) (xD X) (xt X) σ o ra f9 w9) {M : mS} {Rt : Int32 × mS} (h : g_X6_every ra M = some Rt) : zG X (zQ X (.inl (eI Rt.1)) (pM σ o Rt.2)) 3 0 [(0, zA (some o))] [] (pM σ o M) := by
  unfold g_X6_every at h
  refine z_aload_n hX 0 rfl rfl dX6_every_0 ?_
  refine m_cNI hX (rest := []) h (fun r9 M9 e9 => z_runV hX lk_X6_176 (hra _ _ e9) (ci := 5) zc9_5 pM_cl ⟨by omega, by omega⟩ rfl (Nat.le_of_ble_eq_true rfl) dX6_every_1 rfl) (fun x1 M2 h => ?_)
  refine z_istore_n (L' := [(0, zA (some o)), (1, zI x1)]) hX rfl rfl (by decide) dX6_every_4 ?_
  exact z_sub [0, 1] rfl (m_X6_every_5 hX hP hra  h)

theorem c_X6_every {l : Launch} {D : va_G} {tys : zTy} (hl : l.stackTraces = false) {ra : mS → Option (Int32 × mS)} {f9 w9 : Nat} {σ : zS} {o : Nat} (hP : zP σ o) (hra : zRA_X6_atom l D tys σ o ra f9 w9) {M : mS} {Rt : Int32 × mS} (h : g_X6_every ra M = some Rt) : zM l D tys yX6_every (ws_ yX6_every cX6_every 3 (Option.some Jvm.ClassFile.FieldType.boolean)) (f9 + 6) (w9 + 148) [zA (some o)] (pM σ o M) (.inl (eI Rt.1)) (pM σ o Rt.2) :=
  zM_in hl rfl (Nat.le_of_ble_eq_true rfl) (fun p e R s m args below meth c hX => z_L rfl (m_X6_every hX hP hra h))
def g_X6_some_40 (ra : mS → Option (Int32 × mS)) (rec5 : Int32 → mS → Option (Int32 × mS)) (t0 : Int32) (M : mS) : Option (Int32 × mS) :=
  rec5 t0 M

set_option maxHeartbeats 4000000 in
theorem m_X6_some_40 {f9 w9 : Nat} {X : zX} (hX : zOk X RX6 cX6_some 3 (f9 + 7) (w9 + 170) (Option.some Jvm.ClassFile.FieldType.boolean) "some" []) {ra : mS → Option (Int32 × mS)} {σ : zS} {o : Nat} (hP : zP σ o) (hra : zRA_X6_atom (xl X) (xD X) (xt X) σ o ra f9 w9) {Rt : Int32 × mS} {rec5 : Int32 → mS → Option (Int32 × mS)} (hrec5 : ∀ (v1 : Int32) (M : mS), rec5 v1 M = some Rt → zG X (zQ X (.inl (eI Rt.1)) (pM σ o Rt.2)) 3 5 [(0, zA (some o)), (1, zI v1)] [] (pM σ o M)) {t0 : Int32} {M : mS} (h : g_X6_some_40 ra rec5 t0 M = some Rt) : zG X (zQ X (.inl (eI Rt.1)) (pM σ o Rt.2)) 3 40 [(0, zA (some o))] [zI t0] (pM σ o M) := by
  unfold g_X6_some_40 at h
  refine z_istore_n (L' := [(0, zA (some o)), (1, zI t0)]) hX rfl rfl (by decide) dX6_some_40 (z_goto (tgt := 5) hX dX6_some_41 (by decide) ?_)
  exact z_sub [0, 1] rfl (hrec5 _ _ h)

def g_X6_some_35 (ra : mS → Option (Int32 × mS)) (rec5 : Int32 → mS → Option (Int32 × mS)) (M : mS) : Option (Int32 × mS) :=
  g_X6_some_40 ra rec5  1 M

set_option maxHeartbeats 4000000 in
theorem m_X6_some_35 {f9 w9 : Nat} {X : zX} (hX : zOk X RX6 cX6_some 3 (f9 + 7) (w9 + 170) (Option.some Jvm.ClassFile.FieldType.boolean) "some" []) {ra : mS → Option (Int32 × mS)} {σ : zS} {o : Nat} (hP : zP σ o) (hra : zRA_X6_atom (xl X) (xD X) (xt X) σ o ra f9 w9) {Rt : Int32 × mS} {rec5 : Int32 → mS → Option (Int32 × mS)} (hrec5 : ∀ (v1 : Int32) (M : mS), rec5 v1 M = some Rt → zG X (zQ X (.inl (eI Rt.1)) (pM σ o Rt.2)) 3 5 [(0, zA (some o)), (1, zI v1)] [] (pM σ o M)) {M : mS} (h : g_X6_some_35 ra rec5 M = some Rt) : zG X (zQ X (.inl (eI Rt.1)) (pM σ o Rt.2)) 3 35 [(0, zA (some o))] [] (pM σ o M) := by
  unfold g_X6_some_35 at h
  refine z_iconst hX (v := 1) (by decide) dX6_some_35 (z_goto (tgt := 40) hX dX6_some_36 (by decide) ?_)
  exact z_sub [0] rfl (m_X6_some_40 hX hP hra hrec5 h)

def g_X6_some_5_b (ra : mS → Option (Int32 × mS)) (rec5 : Int32 → mS → Option (Int32 × mS)) (v1 : Int32) (M : mS) : Option (Int32 × mS) :=
  if ¬ (M.1 10) = (-1) then
    zbo v1 (some (v1, M))
  else
    zb2 (g_X6_has 16 M) fun x4 M5 =>
    if x4 = 0 then
      zbo v1 (some (v1, M5))
    else
      zb2 (g_X6_every ra M5) fun x6 M7 =>
      if ¬ v1 = 0 then
        g_X6_some_35 ra rec5 M7
      else
        if x6 = 0 then
          g_X6_some_40 ra rec5  0 M7
        else
          g_X6_some_35 ra rec5 M7

def g_X6_some_5 (ra : mS → Option (Int32 × mS)) : Int32 → mS → Option (Int32 × mS) := zlp1 (g_X6_some_5_b ra) NN
set_option maxHeartbeats 4000000 in
theorem m_X6_some_5_b {f9 w9 : Nat} {X : zX} (hX : zOk X RX6 cX6_some 3 (f9 + 7) (w9 + 170) (Option.some Jvm.ClassFile.FieldType.boolean) "some" []) {ra : mS → Option (Int32 × mS)} {σ : zS} {o : Nat} (hP : zP σ o) (hra : zRA_X6_atom (xl X) (xD X) (xt X) σ o ra f9 w9) {Rt : Int32 × mS} {rec5 : Int32 → mS → Option (Int32 × mS)} (hrec5 : ∀ (v1 : Int32) (M : mS), rec5 v1 M = some Rt → zG X (zQ X (.inl (eI Rt.1)) (pM σ o Rt.2)) 3 5 [(0, zA (some o)), (1, zI v1)] [] (pM σ o M)) {v1 : Int32} {M : mS} (h : g_X6_some_5_b ra rec5 v1 M = some Rt) : zG X (zQ X (.inl (eI Rt.1)) (pM σ o Rt.2)) 3 5 [(0, zA (some o)), (1, zI v1)] [] (pM σ o M) := by
  unfold g_X6_some_5_b at h
  refine z_aload_n hX 0 rfl rfl dX6_some_5 (m_getI hX fl_X6_22_5 mSc_10 dX6_some_6 (z_iconst hX (v := (-1)) (by decide) dX6_some_9 ?_))
  refine z_icmp_ne (tgt := 44) hX h dX6_some_10 (by decide) (fun h => ?_) (fun h => ?_)
  · refine z_iload_n hX 1 rfl rfl dX6_some_44 ?_
    obtain ⟨n9, h⟩ := zbo_inv h
    obtain rfl := Option.some.inj h
    exact z_zretT hX n9 dX6_some_45
  · refine z_aload_n hX 0 rfl rfl dX6_some_13 ?_
    refine m_ldcS (i := 16) hX st_X6_187 (by decide) dX6_some_14 (fun a3 ha_a3 => ?_)
    refine m_cNI hX (rest := []) h (fun r9 M9 e9 => z_runV hX lk_X6_81 (c_X6_has hX.tr hP ha_a3 e9) (ci := 5) zc9_5 pM_cl ⟨by omega, by omega⟩ rfl (Nat.le_of_ble_eq_true rfl) dX6_some_16 rfl) (fun x4 M5 h => ?_)
    refine z_if_eq (tgt := 44) hX h dX6_some_19 (by decide) (fun h => ?_) (fun h => ?_)
    · refine z_iload_n hX 1 rfl rfl dX6_some_44 ?_
      obtain ⟨n9, h⟩ := zbo_inv h
      obtain rfl := Option.some.inj h
      exact z_zretT hX n9 dX6_some_45
    · refine z_aload_n hX 0 rfl rfl dX6_some_22 ?_
      refine m_cNI hX (rest := []) h (fun r9 M9 e9 => z_runV hX lk_X6_184 (c_X6_every hX.tr hP hra e9) (ci := 5) zc9_5 pM_cl ⟨by omega, by omega⟩ rfl (Nat.le_of_ble_eq_true rfl) dX6_some_23 rfl) (fun x6 M7 h => ?_)
      refine z_istore_n (L' := [(0, zA (some o)), (1, zI v1), (2, zI x6)]) hX rfl rfl (by decide) dX6_some_26 (z_iload_n hX 1 rfl rfl dX6_some_27 ?_)
      refine z_if_ne (tgt := 35) hX h dX6_some_28 (by decide) (fun h => ?_) (fun h => ?_)
      · exact z_sub [0] rfl (m_X6_some_35 hX hP hra hrec5 h)
      · refine z_iload_n hX 2 rfl rfl dX6_some_31 ?_
        refine z_if_eq (tgt := 39) hX h dX6_some_32 (by decide) (fun h => ?_) (fun h => ?_)
        · refine z_iconst hX (v := 0) (by decide) dX6_some_39 ?_
          exact z_sub [0] rfl (m_X6_some_40 hX hP hra hrec5 h)
        · exact z_sub [0] rfl (m_X6_some_35 hX hP hra hrec5 h)

theorem m_X6_some_5 {f9 w9 : Nat} {X : zX} (hX : zOk X RX6 cX6_some 3 (f9 + 7) (w9 + 170) (Option.some Jvm.ClassFile.FieldType.boolean) "some" []) {ra : mS → Option (Int32 × mS)} {σ : zS} {o : Nat} (hP : zP σ o) (hra : zRA_X6_atom (xl X) (xD X) (xt X) σ o ra f9 w9) {Rt : Int32 × mS} {v1 : Int32} {M : mS} (h : g_X6_some_5 ra v1 M = some Rt) : zG X (zQ X (.inl (eI Rt.1)) (pM σ o Rt.2)) 3 5 [(0, zA (some o)), (1, zI v1)] [] (pM σ o M) :=
  zlp1_ok (P := fun v1 M => zG X (zQ X (.inl (eI Rt.1)) (pM σ o Rt.2)) 3 5 [(0, zA (some o)), (1, zI v1)] [] (pM σ o M)) (fun rec hr v1 M h => m_X6_some_5_b hX hP hra hr h) NN v1 M h
def g_X6_some (ra : mS → Option (Int32 × mS)) (M : mS) : Option (Int32 × mS) :=
  zb2 (g_X6_every ra M) fun x1 M2 =>
  g_X6_some_5 ra x1 M2

set_option maxHeartbeats 4000000 in
theorem m_X6_some {f9 w9 : Nat} {X : zX} (hX : zOk X RX6 cX6_some 3 (f9 + 7) (w9 + 170) (Option.some Jvm.ClassFile.FieldType.boolean) "some" []) {ra : mS → Option (Int32 × mS)} {σ : zS} {o : Nat} (hP : zP σ o) (hra : zRA_X6_atom (xl X) (xD X) (xt X) σ o ra f9 w9) {M : mS} {Rt : Int32 × mS} (h : g_X6_some ra M = some Rt) : zG X (zQ X (.inl (eI Rt.1)) (pM σ o Rt.2)) 3 0 [(0, zA (some o))] [] (pM σ o M) := by
  unfold g_X6_some at h
  refine z_aload_n hX 0 rfl rfl dX6_some_0 ?_
  refine m_cNI hX (rest := []) h (fun r9 M9 e9 => z_runV hX lk_X6_184 (c_X6_every hX.tr hP hra e9) (ci := 5) zc9_5 pM_cl ⟨by omega, by omega⟩ rfl (Nat.le_of_ble_eq_true rfl) dX6_some_1 rfl) (fun x1 M2 h => ?_)
  refine z_istore_n (L' := [(0, zA (some o)), (1, zI x1)]) hX rfl rfl (by decide) dX6_some_4 ?_
  exact z_sub [0, 1] rfl (m_X6_some_5 hX hP hra  h)

theorem c_X6_some {l : Launch} {D : va_G} {tys : zTy} (hl : l.stackTraces = false) {ra : mS → Option (Int32 × mS)} {f9 w9 : Nat} {σ : zS} {o : Nat} (hP : zP σ o) (hra : zRA_X6_atom l D tys σ o ra f9 w9) {M : mS} {Rt : Int32 × mS} (h : g_X6_some ra M = some Rt) : zM l D tys yX6_some (ws_ yX6_some cX6_some 3 (Option.some Jvm.ClassFile.FieldType.boolean)) (f9 + 7) (w9 + 170) [zA (some o)] (pM σ o M) (.inl (eI Rt.1)) (pM σ o Rt.2) :=
  zM_in hl rfl (Nat.le_of_ble_eq_true rfl) (fun p e R s m args below meth c hX => z_L rfl (m_X6_some hX hP hra h))
def g_X6_isSign (p1 : Int32) (M : mS) : Option (Int32 × mS) :=
  zb2 (g_X6_skip M) fun _ M2 =>
  if (M2.1 8) ≤ (M2.1 9) then
    some ((0 : Int32), M2)
  else
    zb2 (g_X6_letter (M2.1 9) M2) fun x3 M4 =>
    if ¬ x3 = p1 then
      some ((0 : Int32), M4)
    else
      some ((1 : Int32), M4)

set_option maxHeartbeats 4000000 in
theorem m_X6_isSign {X : zX} (hX : zOk X RX6 cX6_isSign 2 3 81 (Option.some Jvm.ClassFile.FieldType.boolean) "isSign" []) {σ : zS} {o : Nat} (hP : zP σ o) {p1 : Int32} {M : mS} {Rt : Int32 × mS} (h : g_X6_isSign p1 M = some Rt) : zG X (zQ X (.inl (eI Rt.1)) (pM σ o Rt.2)) 2 0 [(0, zA (some o)), (1, zI p1)] [] (pM σ o M) := by
  unfold g_X6_isSign at h
  refine z_aload_n hX 0 rfl rfl dX6_isSign_0 ?_
  refine m_cNU hX (rest := []) h (fun r9 M9 e9 => z_runV hX lk_X6_64 (c_X6_skip hX.tr hP e9) (ci := 5) zc9_5 pM_cl ⟨Nat.le_of_ble_eq_true rfl, Nat.le_of_ble_eq_true rfl⟩ rfl (Nat.le_of_ble_eq_true rfl) dX6_isSign_1 rfl) (fun _ M2 h => ?_)
  refine z_aload_n hX 0 rfl rfl dX6_isSign_4 (m_getI hX fl_X6_54_5 mSc_9 dX6_isSign_5 (z_aload_n hX 0 rfl rfl dX6_isSign_8 (m_getI hX fl_X6_57_5 mSc_8 dX6_isSign_9 ?_)))
  refine z_icmp_ge (tgt := 31) hX h dX6_isSign_12 (by decide) (fun h => ?_) (fun h => ?_)
  · refine z_iconst hX (v := 0) (by decide) dX6_isSign_31 ?_
    obtain rfl := Option.some.inj h
    exact z_zretT (r := 0) hX (by decide) dX6_isSign_32
  · refine z_aload_n hX 0 rfl rfl dX6_isSign_15 (z_aload_n hX 0 rfl rfl dX6_isSign_16 (m_getI hX fl_X6_54_5 mSc_9 dX6_isSign_17 ?_))
    refine m_cNI hX (rest := []) h (fun r9 M9 e9 => z_runV hX lk_X6_60 (c_X6_letter hX.tr hP e9) (ci := 5) zc9_5 pM_cl ⟨Nat.le_of_ble_eq_true rfl, Nat.le_of_ble_eq_true rfl⟩ rfl (Nat.le_of_ble_eq_true rfl) dX6_isSign_20 rfl) (fun x3 M4 h => ?_)
    refine z_iload_n hX 1 rfl rfl dX6_isSign_23 ?_
    refine z_icmp_ne (tgt := 31) hX h dX6_isSign_24 (by decide) (fun h => ?_) (fun h => ?_)
    · refine z_iconst hX (v := 0) (by decide) dX6_isSign_31 ?_
      obtain rfl := Option.some.inj h
      exact z_zretT (r := 0) hX (by decide) dX6_isSign_32
    · refine z_iconst hX (v := 1) (by decide) dX6_isSign_27 (z_goto (tgt := 32) hX dX6_isSign_28 (by decide) ?_)
      obtain rfl := Option.some.inj h
      exact z_zretT (r := 1) hX (by decide) dX6_isSign_32

theorem c_X6_isSign {l : Launch} {D : va_G} {tys : zTy} (hl : l.stackTraces = false) {σ : zS} {o : Nat} (hP : zP σ o) {p1 : Int32} {M : mS} {Rt : Int32 × mS} (h : g_X6_isSign p1 M = some Rt) : zM l D tys yX6_isSign (ws_ yX6_isSign cX6_isSign 2 (Option.some Jvm.ClassFile.FieldType.boolean)) 3 81 [zA (some o), zI p1] (pM σ o M) (.inl (eI Rt.1)) (pM σ o Rt.2) :=
  zM_in hl rfl (Nat.le_of_ble_eq_true rfl) (fun p e R s m args below meth c hX => z_L rfl (m_X6_isSign hX hP h))
def g_X6_part_106 (t0 : Int32) (M : mS) : Option (Int32 × mS) :=
  if ¬ t0 = (-1) then
    (mL M 4 t0).bind fun x15 =>
    some (x15, M)
  else
    zb2 (g_X6_wrong (M.1 9) M) fun _ M17 =>
    some ((0 : Int32), M17)

set_option maxHeartbeats 4000000 in
theorem m_X6_part_106 {X : zX} (hX : zOk X RX6 cX6_part 2 6 148 (Option.some Jvm.ClassFile.FieldType.int) "part" []) {σ : zS} {o : Nat} (hP : zP σ o) {Rt : Int32 × mS} {t0 : Int32} {M : mS} (h : g_X6_part_106 t0 M = some Rt) : zG X (zQ X (.inl (eI Rt.1)) (pM σ o Rt.2)) 2 106 [(0, zA (some o))] [zI t0] (pM σ o M) := by
  unfold g_X6_part_106 at h
  refine z_istore_n (L' := [(0, zA (some o)), (1, zI t0)]) hX rfl rfl (by decide) dX6_part_106 (z_iload_n hX 1 rfl rfl dX6_part_107 (z_iconst hX (v := (-1)) (by decide) dX6_part_108 ?_))
  refine z_icmp_ne (tgt := 122) hX h dX6_part_109 (by decide) (fun h => ?_) (fun h => ?_)
  · refine z_aload_n hX 0 rfl rfl dX6_part_122 (m_getA hX fl_X6_26_5 mAr_12 dX6_part_123 (z_iload_n hX 1 rfl rfl dX6_part_126 ?_))
    refine m_iald hX (j := 4) (by decide) h dX6_part_127 (fun x15 h => ?_)
    obtain rfl := Option.some.inj h
    exact z_iret hX dX6_part_128
  · refine z_aload_n hX 0 rfl rfl dX6_part_112 (z_aload_n hX 0 rfl rfl dX6_part_113 (m_getI hX fl_X6_54_5 mSc_9 dX6_part_114 ?_))
    refine m_cNU hX (rest := []) h (fun r9 M9 e9 => z_runV hX lk_X6_77 (c_X6_wrong hX.tr hP e9) (ci := 5) zc9_5 pM_cl ⟨Nat.le_of_ble_eq_true rfl, Nat.le_of_ble_eq_true rfl⟩ rfl (Nat.le_of_ble_eq_true rfl) dX6_part_117 rfl) (fun _ M17 h => ?_)
    refine z_iconst hX (v := 0) (by decide) dX6_part_120 ?_
    obtain rfl := Option.some.inj h
    exact z_iret hX dX6_part_121

def g_X6_part_53 (M : mS) : Option (Int32 × mS) :=
  zb2 (g_X6_has 19 M) fun x4 M5 =>
  if x4 = 0 then
    zb2 (g_X6_has 20 M5) fun x7 M8 =>
    if x7 = 0 then
      zb2 (g_X6_has 21 M8) fun x10 M11 =>
      if x10 = 0 then
        zb2 (g_X6_has 22 M11) fun x13 M14 =>
        if x13 = 0 then
          g_X6_part_106  (-1) M14
        else
          g_X6_part_106  3 M14
      else
        g_X6_part_106  2 M11
    else
      g_X6_part_106  1 M8
  else
    g_X6_part_106  0 M5

set_option maxHeartbeats 4000000 in
theorem m_X6_part_53 {X : zX} (hX : zOk X RX6 cX6_part 2 6 148 (Option.some Jvm.ClassFile.FieldType.int) "part" []) {σ : zS} {o : Nat} (hP : zP σ o) {Rt : Int32 × mS} {M : mS} (h : g_X6_part_53 M = some Rt) : zG X (zQ X (.inl (eI Rt.1)) (pM σ o Rt.2)) 2 53 [(0, zA (some o))] [] (pM σ o M) := by
  unfold g_X6_part_53 at h
  refine z_aload_n hX 0 rfl rfl dX6_part_53 ?_
  refine m_ldcS (i := 19) hX st_X6_142 (by decide) dX6_part_54 (fun a3 ha_a3 => ?_)
  refine m_cNI hX (rest := []) h (fun r9 M9 e9 => z_runV hX lk_X6_81 (c_X6_has hX.tr hP ha_a3 e9) (ci := 5) zc9_5 pM_cl ⟨Nat.le_of_ble_eq_true rfl, Nat.le_of_ble_eq_true rfl⟩ rfl (Nat.le_of_ble_eq_true rfl) dX6_part_56 rfl) (fun x4 M5 h => ?_)
  refine z_if_eq (tgt := 66) hX h dX6_part_59 (by decide) (fun h => ?_) (fun h => ?_)
  · refine z_aload_n hX 0 rfl rfl dX6_part_66 ?_
    refine m_ldcS (i := 20) hX st_X6_144 (by decide) dX6_part_67 (fun a6 ha_a6 => ?_)
    refine m_cNI hX (rest := []) h (fun r9 M9 e9 => z_runV hX lk_X6_81 (c_X6_has hX.tr hP ha_a6 e9) (ci := 5) zc9_5 pM_cl ⟨Nat.le_of_ble_eq_true rfl, Nat.le_of_ble_eq_true rfl⟩ rfl (Nat.le_of_ble_eq_true rfl) dX6_part_69 rfl) (fun x7 M8 h => ?_)
    refine z_if_eq (tgt := 79) hX h dX6_part_72 (by decide) (fun h => ?_) (fun h => ?_)
    · refine z_aload_n hX 0 rfl rfl dX6_part_79 ?_
      refine m_ldcS (i := 21) hX st_X6_146 (by decide) dX6_part_80 (fun a9 ha_a9 => ?_)
      refine m_cNI hX (rest := []) h (fun r9 M9 e9 => z_runV hX lk_X6_81 (c_X6_has hX.tr hP ha_a9 e9) (ci := 5) zc9_5 pM_cl ⟨Nat.le_of_ble_eq_true rfl, Nat.le_of_ble_eq_true rfl⟩ rfl (Nat.le_of_ble_eq_true rfl) dX6_part_82 rfl) (fun x10 M11 h => ?_)
      refine z_if_eq (tgt := 92) hX h dX6_part_85 (by decide) (fun h => ?_) (fun h => ?_)
      · refine z_aload_n hX 0 rfl rfl dX6_part_92 ?_
        refine m_ldcS (i := 22) hX st_X6_148 (by decide) dX6_part_93 (fun a12 ha_a12 => ?_)
        refine m_cNI hX (rest := []) h (fun r9 M9 e9 => z_runV hX lk_X6_81 (c_X6_has hX.tr hP ha_a12 e9) (ci := 5) zc9_5 pM_cl ⟨Nat.le_of_ble_eq_true rfl, Nat.le_of_ble_eq_true rfl⟩ rfl (Nat.le_of_ble_eq_true rfl) dX6_part_95 rfl) (fun x13 M14 h => ?_)
        refine z_if_eq (tgt := 105) hX h dX6_part_98 (by decide) (fun h => ?_) (fun h => ?_)
        · refine z_iconst hX (v := (-1)) (by decide) dX6_part_105 ?_
          exact z_sub [0] rfl (m_X6_part_106 hX hP  h)
        · refine z_iconst hX (v := 3) (by decide) dX6_part_101 (z_goto (tgt := 106) hX dX6_part_102 (by decide) ?_)
          exact z_sub [0] rfl (m_X6_part_106 hX hP  h)
      · refine z_iconst hX (v := 2) (by decide) dX6_part_88 (z_goto (tgt := 106) hX dX6_part_89 (by decide) ?_)
        exact z_sub [0] rfl (m_X6_part_106 hX hP  h)
    · refine z_iconst hX (v := 1) (by decide) dX6_part_75 (z_goto (tgt := 106) hX dX6_part_76 (by decide) ?_)
      exact z_sub [0] rfl (m_X6_part_106 hX hP  h)
  · refine z_iconst hX (v := 0) (by decide) dX6_part_62 (z_goto (tgt := 106) hX dX6_part_63 (by decide) ?_)
    exact z_sub [0] rfl (m_X6_part_106 hX hP  h)

def g_X6_part (M : mS) : Option (Int32 × mS) :=
  if (M.1 10) = (-1) then
    zb2 (g_X6_skip M) fun _ M2 =>
    if (M2.1 8) ≤ (M2.1 9) then
      g_X6_part_53 M2
    else
      zb2 (g_X6_letter (M2.1 9) M2) fun x18 M19 =>
      zb2 (g_X6_isIn x18 48 57 M19) fun x20 M21 =>
      if x20 = 0 then
        g_X6_part_53 M21
      else
        zb2 (g_X6_figures 0 999 3 M21) fun x22 M23 =>
        some (x22, M23)
  else
    some ((0 : Int32), M)

set_option maxHeartbeats 4000000 in
theorem m_X6_part {X : zX} (hX : zOk X RX6 cX6_part 2 6 148 (Option.some Jvm.ClassFile.FieldType.int) "part" []) {σ : zS} {o : Nat} (hP : zP σ o) {M : mS} {Rt : Int32 × mS} (h : g_X6_part M = some Rt) : zG X (zQ X (.inl (eI Rt.1)) (pM σ o Rt.2)) 2 0 [(0, zA (some o))] [] (pM σ o M) := by
  unfold g_X6_part at h
  refine z_aload_n hX 0 rfl rfl dX6_part_0 (m_getI hX fl_X6_22_5 mSc_10 dX6_part_1 (z_iconst hX (v := (-1)) (by decide) dX6_part_4 ?_))
  refine z_icmp_eq (tgt := 10) hX h dX6_part_5 (by decide) (fun h => ?_) (fun h => ?_)
  · refine z_aload_n hX 0 rfl rfl dX6_part_10 ?_
    refine m_cNU hX (rest := []) h (fun r9 M9 e9 => z_runV hX lk_X6_64 (c_X6_skip hX.tr hP e9) (ci := 5) zc9_5 pM_cl ⟨Nat.le_of_ble_eq_true rfl, Nat.le_of_ble_eq_true rfl⟩ rfl (Nat.le_of_ble_eq_true rfl) dX6_part_11 rfl) (fun _ M2 h => ?_)
    refine z_aload_n hX 0 rfl rfl dX6_part_14 (m_getI hX fl_X6_54_5 mSc_9 dX6_part_15 (z_aload_n hX 0 rfl rfl dX6_part_18 (m_getI hX fl_X6_57_5 mSc_8 dX6_part_19 ?_)))
    refine z_icmp_ge (tgt := 53) hX h dX6_part_22 (by decide) (fun h => ?_) (fun h => ?_)
    · exact z_sub [0] rfl (m_X6_part_53 hX hP  h)
    · refine z_aload_n hX 0 rfl rfl dX6_part_25 (z_aload_n hX 0 rfl rfl dX6_part_26 (m_getI hX fl_X6_54_5 mSc_9 dX6_part_27 ?_))
      refine m_cNI hX (rest := []) h (fun r9 M9 e9 => z_runV hX lk_X6_60 (c_X6_letter hX.tr hP e9) (ci := 5) zc9_5 pM_cl ⟨Nat.le_of_ble_eq_true rfl, Nat.le_of_ble_eq_true rfl⟩ rfl (Nat.le_of_ble_eq_true rfl) dX6_part_30 rfl) (fun x18 M19 h => ?_)
      refine z_bipush hX (v := 48) (by decide) dX6_part_33 (z_bipush hX (v := 57) (by decide) dX6_part_35 ?_)
      refine m_cNI hX (rest := []) h (fun r9 M9 e9 => z_runS hX lk_X6_44 (c_X6_isIn hX.tr hP e9) ⟨Nat.le_of_ble_eq_true rfl, Nat.le_of_ble_eq_true rfl⟩ rfl (Nat.le_of_ble_eq_true rfl) dX6_part_37 rfl) (fun x20 M21 h => ?_)
      refine z_if_eq (tgt := 53) hX h dX6_part_40 (by decide) (fun h => ?_) (fun h => ?_)
      · exact z_sub [0] rfl (m_X6_part_53 hX hP  h)
      · refine z_aload_n hX 0 rfl rfl dX6_part_43 (z_iconst hX (v := 0) (by decide) dX6_part_44 (z_sipush hX (v := 999) (by decide) dX6_part_45 (z_iconst hX (v := 3) (by decide) dX6_part_48 ?_)))
        refine m_cNI hX (rest := []) h (fun r9 M9 e9 => z_runV hX lk_X6_85 (c_X6_figures hX.tr hP e9) (ci := 5) zc9_5 pM_cl ⟨Nat.le_of_ble_eq_true rfl, Nat.le_of_ble_eq_true rfl⟩ rfl (Nat.le_of_ble_eq_true rfl) dX6_part_49 rfl) (fun x22 M23 h => ?_)
        obtain rfl := Option.some.inj h
        exact z_iret hX dX6_part_52
  · refine z_iconst hX (v := 0) (by decide) dX6_part_8 ?_
    obtain rfl := Option.some.inj h
    exact z_iret hX dX6_part_9

theorem c_X6_part {l : Launch} {D : va_G} {tys : zTy} (hl : l.stackTraces = false) {σ : zS} {o : Nat} (hP : zP σ o) {M : mS} {Rt : Int32 × mS} (h : g_X6_part M = some Rt) : zM l D tys yX6_part (ws_ yX6_part cX6_part 2 (Option.some Jvm.ClassFile.FieldType.int)) 6 148 [zA (some o)] (pM σ o M) (.inl (eI Rt.1)) (pM σ o Rt.2) :=
  zM_in hl rfl (Nat.le_of_ble_eq_true rfl) (fun p e R s m args below meth c hX => z_L rfl (m_X6_part hX hP h))
def g_X6_sum_5_b (rec5 : Int32 → mS → Option (Int32 × mS)) (v1 : Int32) (M : mS) : Option (Int32 × mS) :=
  if ¬ (M.1 10) = (-1) then
    some (v1, M)
  else
    zb2 (g_X6_isSign 43 M) fun x3 M4 =>
    if x3 = 0 then
      some (v1, M4)
    else
      zl (mset M4 9 ((M4.1 9) + 1)) fun M5 =>
      zb2 (g_X6_part M5) fun x6 M7 =>
      zl (v1 + x6) fun x8 =>
      rec5 x8 M7

def g_X6_sum_5 : Int32 → mS → Option (Int32 × mS) := zlp1 (g_X6_sum_5_b) NN
set_option maxHeartbeats 4000000 in
theorem m_X6_sum_5_b {X : zX} (hX : zOk X RX6 cX6_sum 2 7 169 (Option.some Jvm.ClassFile.FieldType.int) "sum" []) {σ : zS} {o : Nat} (hP : zP σ o) {Rt : Int32 × mS} {rec5 : Int32 → mS → Option (Int32 × mS)} (hrec5 : ∀ (v1 : Int32) (M : mS), rec5 v1 M = some Rt → zG X (zQ X (.inl (eI Rt.1)) (pM σ o Rt.2)) 2 5 [(0, zA (some o)), (1, zI v1)] [] (pM σ o M)) {v1 : Int32} {M : mS} (h : g_X6_sum_5_b rec5 v1 M = some Rt) : zG X (zQ X (.inl (eI Rt.1)) (pM σ o Rt.2)) 2 5 [(0, zA (some o)), (1, zI v1)] [] (pM σ o M) := by
  unfold g_X6_sum_5_b at h
  refine z_aload_n hX 0 rfl rfl dX6_sum_5 (m_getI hX fl_X6_22_5 mSc_10 dX6_sum_6 (z_iconst hX (v := (-1)) (by decide) dX6_sum_9 ?_))
  refine z_icmp_ne (tgt := 42) hX h dX6_sum_10 (by decide) (fun h => ?_) (fun h => ?_)
  · refine z_iload_n hX 1 rfl rfl dX6_sum_42 ?_
    obtain rfl := Option.some.inj h
    exact z_iret hX dX6_sum_43
  · refine z_aload_n hX 0 rfl rfl dX6_sum_13 (z_bipush hX (v := 43) (by decide) dX6_sum_14 ?_)
    refine m_cNI hX (rest := []) h (fun r9 M9 e9 => z_runV hX lk_X6_131 (c_X6_isSign hX.tr hP e9) (ci := 5) zc9_5 pM_cl ⟨Nat.le_of_ble_eq_true rfl, Nat.le_of_ble_eq_true rfl⟩ rfl (Nat.le_of_ble_eq_true rfl) dX6_sum_16 rfl) (fun x3 M4 h => ?_)
    refine z_if_eq (tgt := 42) hX h dX6_sum_19 (by decide) (fun h => ?_) (fun h => ?_)
    · refine z_iload_n hX 1 rfl rfl dX6_sum_42 ?_
      obtain rfl := Option.some.inj h
      exact z_iret hX dX6_sum_43
    · refine z_aload_n hX 0 rfl rfl dX6_sum_22 (z_dup hX rfl dX6_sum_23 (m_getI hX fl_X6_54_5 mSc_9 dX6_sum_24 (z_iconst hX (v := 1) (by decide) dX6_sum_27 (z_iadd hX dX6_sum_28 ?_))))
      refine m_putI hX hP fp_X6_54_5 mSc_9 h dX6_sum_29 (fun M5 h => ?_)
      refine z_iload_n hX 1 rfl rfl dX6_sum_32 (z_aload_n hX 0 rfl rfl dX6_sum_33 ?_)
      refine m_cNI hX (rest := [zI v1]) h (fun r9 M9 e9 => z_runV hX lk_X6_150 (c_X6_part hX.tr hP e9) (ci := 5) zc9_5 pM_cl ⟨Nat.le_of_ble_eq_true rfl, Nat.le_of_ble_eq_true rfl⟩ rfl (Nat.le_of_ble_eq_true rfl) dX6_sum_34 rfl) (fun x6 M7 h => ?_)
      refine z_iadd hX dX6_sum_37 ?_
      refine z_nmI h (fun x8 h => ?_)
      refine z_istore_n (L' := [(0, zA (some o)), (1, zI x8)]) hX rfl rfl (by decide) dX6_sum_38 (z_goto (tgt := 5) hX dX6_sum_39 (by decide) ?_)
      exact z_sub [0, 1] rfl (hrec5 _ _ h)

theorem m_X6_sum_5 {X : zX} (hX : zOk X RX6 cX6_sum 2 7 169 (Option.some Jvm.ClassFile.FieldType.int) "sum" []) {σ : zS} {o : Nat} (hP : zP σ o) {Rt : Int32 × mS} {v1 : Int32} {M : mS} (h : g_X6_sum_5 v1 M = some Rt) : zG X (zQ X (.inl (eI Rt.1)) (pM σ o Rt.2)) 2 5 [(0, zA (some o)), (1, zI v1)] [] (pM σ o M) :=
  zlp1_ok (P := fun v1 M => zG X (zQ X (.inl (eI Rt.1)) (pM σ o Rt.2)) 2 5 [(0, zA (some o)), (1, zI v1)] [] (pM σ o M)) (fun rec hr v1 M h => m_X6_sum_5_b hX hP hr h) NN v1 M h
def g_X6_sum (M : mS) : Option (Int32 × mS) :=
  zb2 (g_X6_part M) fun x1 M2 =>
  g_X6_sum_5 x1 M2

set_option maxHeartbeats 4000000 in
theorem m_X6_sum {X : zX} (hX : zOk X RX6 cX6_sum 2 7 169 (Option.some Jvm.ClassFile.FieldType.int) "sum" []) {σ : zS} {o : Nat} (hP : zP σ o) {M : mS} {Rt : Int32 × mS} (h : g_X6_sum M = some Rt) : zG X (zQ X (.inl (eI Rt.1)) (pM σ o Rt.2)) 2 0 [(0, zA (some o))] [] (pM σ o M) := by
  unfold g_X6_sum at h
  refine z_aload_n hX 0 rfl rfl dX6_sum_0 ?_
  refine m_cNI hX (rest := []) h (fun r9 M9 e9 => z_runV hX lk_X6_150 (c_X6_part hX.tr hP e9) (ci := 5) zc9_5 pM_cl ⟨Nat.le_of_ble_eq_true rfl, Nat.le_of_ble_eq_true rfl⟩ rfl (Nat.le_of_ble_eq_true rfl) dX6_sum_1 rfl) (fun x1 M2 h => ?_)
  refine z_istore_n (L' := [(0, zA (some o)), (1, zI x1)]) hX rfl rfl (by decide) dX6_sum_4 ?_
  exact z_sub [0, 1] rfl (m_X6_sum_5 hX hP  h)

theorem c_X6_sum {l : Launch} {D : va_G} {tys : zTy} (hl : l.stackTraces = false) {σ : zS} {o : Nat} (hP : zP σ o) {M : mS} {Rt : Int32 × mS} (h : g_X6_sum M = some Rt) : zM l D tys yX6_sum (ws_ yX6_sum cX6_sum 2 (Option.some Jvm.ClassFile.FieldType.int)) 7 169 [zA (some o)] (pM σ o M) (.inl (eI Rt.1)) (pM σ o Rt.2) :=
  zM_in hl rfl (Nat.le_of_ble_eq_true rfl) (fun p e R s m args below meth c hX => z_L rfl (m_X6_sum hX hP h))
def g_X6_plain_164 (v1 : Int32) (v2 : Int32) (M : mS) : Option (Int32 × mS) :=
  zl (mset M 9 ((M.1 9) + 1)) fun M23 =>
  zb2 (g_X6_sum M23) fun x24 M25 =>
  if v2 = 0 then
    if v1 ≤ x24 then
      some ((0 : Int32), M25)
    else
      some ((1 : Int32), M25)
  else
    if x24 ≤ v1 then
      some ((0 : Int32), M25)
    else
      some ((1 : Int32), M25)

set_option maxHeartbeats 4000000 in
theorem m_X6_plain_164 {X : zX} (hX : zOk X RX6 cX6_plain 4 8 190 (Option.some Jvm.ClassFile.FieldType.boolean) "plain" []) {σ : zS} {o : Nat} (hP : zP σ o) {Rt : Int32 × mS} {v1 : Int32} {v2 : Int32} {M : mS} (h : g_X6_plain_164 v1 v2 M = some Rt) : zG X (zQ X (.inl (eI Rt.1)) (pM σ o Rt.2)) 4 164 [(0, zA (some o)), (1, zI v1), (2, zI v2)] [] (pM σ o M) := by
  unfold g_X6_plain_164 at h
  refine z_aload_n hX 0 rfl rfl dX6_plain_164 (z_dup hX rfl dX6_plain_165 (m_getI hX fl_X6_54_5 mSc_9 dX6_plain_166 (z_iconst hX (v := 1) (by decide) dX6_plain_169 (z_iadd hX dX6_plain_170 ?_))))
  refine m_putI hX hP fp_X6_54_5 mSc_9 h dX6_plain_171 (fun M23 h => ?_)
  refine z_aload_n hX 0 rfl rfl dX6_plain_174 ?_
  refine m_cNI hX (rest := []) h (fun r9 M9 e9 => z_runV hX lk_X6_167 (c_X6_sum hX.tr hP e9) (ci := 5) zc9_5 pM_cl ⟨Nat.le_of_ble_eq_true rfl, Nat.le_of_ble_eq_true rfl⟩ rfl (Nat.le_of_ble_eq_true rfl) dX6_plain_175 rfl) (fun x24 M25 h => ?_)
  refine z_istore_n (L' := [(0, zA (some o)), (1, zI v1), (2, zI v2), (3, zI x24)]) hX rfl rfl (by decide) dX6_plain_178 (z_iload_n hX 2 rfl rfl dX6_plain_179 ?_)
  refine z_if_eq (tgt := 196) hX h dX6_plain_180 (by decide) (fun h => ?_) (fun h => ?_)
  · refine z_iload_n hX 1 rfl rfl dX6_plain_196 (z_iload_n hX 3 rfl rfl dX6_plain_197 ?_)
    refine z_icmp_le (tgt := 205) hX h dX6_plain_198 (by decide) (fun h => ?_) (fun h => ?_)
    · refine z_iconst hX (v := 0) (by decide) dX6_plain_205 ?_
      obtain rfl := Option.some.inj h
      exact z_zretT (r := 0) hX (by decide) dX6_plain_206
    · refine z_iconst hX (v := 1) (by decide) dX6_plain_201 (z_goto (tgt := 206) hX dX6_plain_202 (by decide) ?_)
      obtain rfl := Option.some.inj h
      exact z_zretT (r := 1) hX (by decide) dX6_plain_206
  · refine z_iload_n hX 1 rfl rfl dX6_plain_183 (z_iload_n hX 3 rfl rfl dX6_plain_184 ?_)
    refine z_icmp_ge (tgt := 192) hX h dX6_plain_185 (by decide) (fun h => ?_) (fun h => ?_)
    · refine z_iconst hX (v := 0) (by decide) dX6_plain_192 (z_goto (tgt := 206) hX dX6_plain_193 (by decide) ?_)
      obtain rfl := Option.some.inj h
      exact z_zretT (r := 0) hX (by decide) dX6_plain_206
    · refine z_iconst hX (v := 1) (by decide) dX6_plain_188 (z_goto (tgt := 206) hX dX6_plain_189 (by decide) ?_)
      obtain rfl := Option.some.inj h
      exact z_zretT (r := 1) hX (by decide) dX6_plain_206

def g_X6_plain (M : mS) : Option (Int32 × mS) :=
  zb2 (g_X6_has 1 M) fun x2 M3 =>
  if x2 = 0 then
    zb2 (g_X6_has 2 M3) fun x5 M6 =>
    if x5 = 0 then
      zb2 (g_X6_has 3 M6) fun x8 M9 =>
      if x8 = 0 then
        zb2 (g_X6_has 4 M9) fun x11 M12 =>
        if x11 = 0 then
          zb2 (g_X6_has 17 M12) fun x14 M15 =>
          if x14 = 0 then
            zb2 (g_X6_has 18 M15) fun x17 M18 =>
            if x17 = 0 then
              zb2 (g_X6_sum M18) fun x19 M20 =>
              if (M20.1 10) = (-1) then
                zb2 (g_X6_isSign 60 M20) fun x21 M22 =>
                if ¬ x21 = 0 then
                  g_X6_plain_164 x19 x21 M22
                else
                  zb2 (g_X6_isSign 62 M22) fun x26 M27 =>
                  if ¬ x26 = 0 then
                    g_X6_plain_164 x19 x21 M27
                  else
                    zb2 (g_X6_wrong (M27.1 9) M27) fun _ M29 =>
                    some ((0 : Int32), M29)
              else
                some ((0 : Int32), M20)
            else
              zbo (M18.1 15) (some (M18.1 15, M18))
          else
            zbo (M15.1 14) (some (M15.1 14, M15))
        else
          if ¬ (M12.1 13) = 3 then
            some ((0 : Int32), M12)
          else
            some ((1 : Int32), M12)
      else
        if ¬ (M9.1 13) = 2 then
          some ((0 : Int32), M9)
        else
          some ((1 : Int32), M9)
    else
      if ¬ (M6.1 13) = 1 then
        some ((0 : Int32), M6)
      else
        some ((1 : Int32), M6)
  else
    if ¬ (M3.1 13) = 0 then
      some ((0 : Int32), M3)
    else
      some ((1 : Int32), M3)

set_option maxHeartbeats 4000000 in
theorem m_X6_plain {X : zX} (hX : zOk X RX6 cX6_plain 4 8 190 (Option.some Jvm.ClassFile.FieldType.boolean) "plain" []) {σ : zS} {o : Nat} (hP : zP σ o) {M : mS} {Rt : Int32 × mS} (h : g_X6_plain M = some Rt) : zG X (zQ X (.inl (eI Rt.1)) (pM σ o Rt.2)) 4 0 [(0, zA (some o))] [] (pM σ o M) := by
  unfold g_X6_plain at h
  refine z_aload_n hX 0 rfl rfl dX6_plain_0 ?_
  refine m_ldcS (i := 1) hX st_X6_100 (by decide) dX6_plain_1 (fun a1 ha_a1 => ?_)
  refine m_cNI hX (rest := []) h (fun r9 M9 e9 => z_runV hX lk_X6_81 (c_X6_has hX.tr hP ha_a1 e9) (ci := 5) zc9_5 pM_cl ⟨Nat.le_of_ble_eq_true rfl, Nat.le_of_ble_eq_true rfl⟩ rfl (Nat.le_of_ble_eq_true rfl) dX6_plain_3 rfl) (fun x2 M3 h => ?_)
  refine z_if_eq (tgt := 22) hX h dX6_plain_6 (by decide) (fun h => ?_) (fun h => ?_)
  · refine z_aload_n hX 0 rfl rfl dX6_plain_22 ?_
    refine m_ldcS (i := 2) hX st_X6_106 (by decide) dX6_plain_23 (fun a4 ha_a4 => ?_)
    refine m_cNI hX (rest := []) h (fun r9 M9 e9 => z_runV hX lk_X6_81 (c_X6_has hX.tr hP ha_a4 e9) (ci := 5) zc9_5 pM_cl ⟨Nat.le_of_ble_eq_true rfl, Nat.le_of_ble_eq_true rfl⟩ rfl (Nat.le_of_ble_eq_true rfl) dX6_plain_25 rfl) (fun x5 M6 h => ?_)
    refine z_if_eq (tgt := 45) hX h dX6_plain_28 (by decide) (fun h => ?_) (fun h => ?_)
    · refine z_aload_n hX 0 rfl rfl dX6_plain_45 ?_
      refine m_ldcS (i := 3) hX st_X6_108 (by decide) dX6_plain_46 (fun a7 ha_a7 => ?_)
      refine m_cNI hX (rest := []) h (fun r9 M9 e9 => z_runV hX lk_X6_81 (c_X6_has hX.tr hP ha_a7 e9) (ci := 5) zc9_5 pM_cl ⟨Nat.le_of_ble_eq_true rfl, Nat.le_of_ble_eq_true rfl⟩ rfl (Nat.le_of_ble_eq_true rfl) dX6_plain_48 rfl) (fun x8 M9 h => ?_)
      refine z_if_eq (tgt := 68) hX h dX6_plain_51 (by decide) (fun h => ?_) (fun h => ?_)
      · refine z_aload_n hX 0 rfl rfl dX6_plain_68 ?_
        refine m_ldcS (i := 4) hX st_X6_110 (by decide) dX6_plain_69 (fun a10 ha_a10 => ?_)
        refine m_cNI hX (rest := []) h (fun r9 M9 e9 => z_runV hX lk_X6_81 (c_X6_has hX.tr hP ha_a10 e9) (ci := 5) zc9_5 pM_cl ⟨Nat.le_of_ble_eq_true rfl, Nat.le_of_ble_eq_true rfl⟩ rfl (Nat.le_of_ble_eq_true rfl) dX6_plain_71 rfl) (fun x11 M12 h => ?_)
        refine z_if_eq (tgt := 91) hX h dX6_plain_74 (by decide) (fun h => ?_) (fun h => ?_)
        · refine z_aload_n hX 0 rfl rfl dX6_plain_91 ?_
          refine m_ldcS (i := 17) hX st_X6_156 (by decide) dX6_plain_92 (fun a13 ha_a13 => ?_)
          refine m_cNI hX (rest := []) h (fun r9 M9 e9 => z_runV hX lk_X6_81 (c_X6_has hX.tr hP ha_a13 e9) (ci := 5) zc9_5 pM_cl ⟨Nat.le_of_ble_eq_true rfl, Nat.le_of_ble_eq_true rfl⟩ rfl (Nat.le_of_ble_eq_true rfl) dX6_plain_94 rfl) (fun x14 M15 h => ?_)
          refine z_if_eq (tgt := 105) hX h dX6_plain_97 (by decide) (fun h => ?_) (fun h => ?_)
          · refine z_aload_n hX 0 rfl rfl dX6_plain_105 ?_
            refine m_ldcS (i := 18) hX st_X6_162 (by decide) dX6_plain_106 (fun a16 ha_a16 => ?_)
            refine m_cNI hX (rest := []) h (fun r9 M9 e9 => z_runV hX lk_X6_81 (c_X6_has hX.tr hP ha_a16 e9) (ci := 5) zc9_5 pM_cl ⟨Nat.le_of_ble_eq_true rfl, Nat.le_of_ble_eq_true rfl⟩ rfl (Nat.le_of_ble_eq_true rfl) dX6_plain_108 rfl) (fun x17 M18 h => ?_)
            refine z_if_eq (tgt := 119) hX h dX6_plain_111 (by decide) (fun h => ?_) (fun h => ?_)
            · refine z_aload_n hX 0 rfl rfl dX6_plain_119 ?_
              refine m_cNI hX (rest := []) h (fun r9 M9 e9 => z_runV hX lk_X6_167 (c_X6_sum hX.tr hP e9) (ci := 5) zc9_5 pM_cl ⟨Nat.le_of_ble_eq_true rfl, Nat.le_of_ble_eq_true rfl⟩ rfl (Nat.le_of_ble_eq_true rfl) dX6_plain_120 rfl) (fun x19 M20 h => ?_)
              refine z_istore_n (L' := [(0, zA (some o)), (1, zI x19)]) hX rfl rfl (by decide) dX6_plain_123 (z_aload_n hX 0 rfl rfl dX6_plain_124 (m_getI hX fl_X6_22_5 mSc_10 dX6_plain_125 (z_iconst hX (v := (-1)) (by decide) dX6_plain_128 ?_)))
              refine z_icmp_eq (tgt := 134) hX h dX6_plain_129 (by decide) (fun h => ?_) (fun h => ?_)
              · refine z_aload_n hX 0 rfl rfl dX6_plain_134 (z_bipush hX (v := 60) (by decide) dX6_plain_135 ?_)
                refine m_cNI hX (rest := []) h (fun r9 M9 e9 => z_runV hX lk_X6_131 (c_X6_isSign hX.tr hP e9) (ci := 5) zc9_5 pM_cl ⟨Nat.le_of_ble_eq_true rfl, Nat.le_of_ble_eq_true rfl⟩ rfl (Nat.le_of_ble_eq_true rfl) dX6_plain_137 rfl) (fun x21 M22 h => ?_)
                refine z_istore_n (L' := [(0, zA (some o)), (1, zI x19), (2, zI x21)]) hX rfl rfl (by decide) dX6_plain_140 (z_iload_n hX 2 rfl rfl dX6_plain_141 ?_)
                refine z_if_ne (tgt := 164) hX h dX6_plain_142 (by decide) (fun h => ?_) (fun h => ?_)
                · exact z_sub [0, 1, 2] rfl (m_X6_plain_164 hX hP  h)
                · refine z_aload_n hX 0 rfl rfl dX6_plain_145 (z_bipush hX (v := 62) (by decide) dX6_plain_146 ?_)
                  refine m_cNI hX (rest := []) h (fun r9 M9 e9 => z_runV hX lk_X6_131 (c_X6_isSign hX.tr hP e9) (ci := 5) zc9_5 pM_cl ⟨Nat.le_of_ble_eq_true rfl, Nat.le_of_ble_eq_true rfl⟩ rfl (Nat.le_of_ble_eq_true rfl) dX6_plain_148 rfl) (fun x26 M27 h => ?_)
                  refine z_if_ne (tgt := 164) hX h dX6_plain_151 (by decide) (fun h => ?_) (fun h => ?_)
                  · exact z_sub [0, 1, 2] rfl (m_X6_plain_164 hX hP  h)
                  · refine z_aload_n hX 0 rfl rfl dX6_plain_154 (z_aload_n hX 0 rfl rfl dX6_plain_155 (m_getI hX fl_X6_54_5 mSc_9 dX6_plain_156 ?_))
                    refine m_cNU hX (rest := []) h (fun r9 M9 e9 => z_runV hX lk_X6_77 (c_X6_wrong hX.tr hP e9) (ci := 5) zc9_5 pM_cl ⟨Nat.le_of_ble_eq_true rfl, Nat.le_of_ble_eq_true rfl⟩ rfl (Nat.le_of_ble_eq_true rfl) dX6_plain_159 rfl) (fun _ M29 h => ?_)
                    refine z_iconst hX (v := 0) (by decide) dX6_plain_162 ?_
                    obtain rfl := Option.some.inj h
                    exact z_zretT (r := 0) hX (by decide) dX6_plain_163
              · refine z_iconst hX (v := 0) (by decide) dX6_plain_132 ?_
                obtain rfl := Option.some.inj h
                exact z_zretT (r := 0) hX (by decide) dX6_plain_133
            · refine z_aload_n hX 0 rfl rfl dX6_plain_114 (m_getI hX fl_X6_164_5 mSc_15 dX6_plain_115 ?_)
              obtain ⟨n9, h⟩ := zbo_inv h
              obtain rfl := Option.some.inj h
              exact z_zretT hX n9 dX6_plain_118
          · refine z_aload_n hX 0 rfl rfl dX6_plain_100 (m_getI hX fl_X6_158_5 mSc_14 dX6_plain_101 ?_)
            obtain ⟨n9, h⟩ := zbo_inv h
            obtain rfl := Option.some.inj h
            exact z_zretT hX n9 dX6_plain_104
        · refine z_aload_n hX 0 rfl rfl dX6_plain_77 (m_getI hX fl_X6_153_5 mSc_13 dX6_plain_78 (z_iconst hX (v := 3) (by decide) dX6_plain_81 ?_))
          refine z_icmp_ne (tgt := 89) hX h dX6_plain_82 (by decide) (fun h => ?_) (fun h => ?_)
          · refine z_iconst hX (v := 0) (by decide) dX6_plain_89 ?_
            obtain rfl := Option.some.inj h
            exact z_zretT (r := 0) hX (by decide) dX6_plain_90
          · refine z_iconst hX (v := 1) (by decide) dX6_plain_85 (z_goto (tgt := 90) hX dX6_plain_86 (by decide) ?_)
            obtain rfl := Option.some.inj h
            exact z_zretT (r := 1) hX (by decide) dX6_plain_90
      · refine z_aload_n hX 0 rfl rfl dX6_plain_54 (m_getI hX fl_X6_153_5 mSc_13 dX6_plain_55 (z_iconst hX (v := 2) (by decide) dX6_plain_58 ?_))
        refine z_icmp_ne (tgt := 66) hX h dX6_plain_59 (by decide) (fun h => ?_) (fun h => ?_)
        · refine z_iconst hX (v := 0) (by decide) dX6_plain_66 ?_
          obtain rfl := Option.some.inj h
          exact z_zretT (r := 0) hX (by decide) dX6_plain_67
        · refine z_iconst hX (v := 1) (by decide) dX6_plain_62 (z_goto (tgt := 67) hX dX6_plain_63 (by decide) ?_)
          obtain rfl := Option.some.inj h
          exact z_zretT (r := 1) hX (by decide) dX6_plain_67
    · refine z_aload_n hX 0 rfl rfl dX6_plain_31 (m_getI hX fl_X6_153_5 mSc_13 dX6_plain_32 (z_iconst hX (v := 1) (by decide) dX6_plain_35 ?_))
      refine z_icmp_ne (tgt := 43) hX h dX6_plain_36 (by decide) (fun h => ?_) (fun h => ?_)
      · refine z_iconst hX (v := 0) (by decide) dX6_plain_43 ?_
        obtain rfl := Option.some.inj h
        exact z_zretT (r := 0) hX (by decide) dX6_plain_44
      · refine z_iconst hX (v := 1) (by decide) dX6_plain_39 (z_goto (tgt := 44) hX dX6_plain_40 (by decide) ?_)
        obtain rfl := Option.some.inj h
        exact z_zretT (r := 1) hX (by decide) dX6_plain_44
  · refine z_aload_n hX 0 rfl rfl dX6_plain_9 (m_getI hX fl_X6_153_5 mSc_13 dX6_plain_10 ?_)
    refine z_if_ne (tgt := 20) hX h dX6_plain_13 (by decide) (fun h => ?_) (fun h => ?_)
    · refine z_iconst hX (v := 0) (by decide) dX6_plain_20 ?_
      obtain rfl := Option.some.inj h
      exact z_zretT (r := 0) hX (by decide) dX6_plain_21
    · refine z_iconst hX (v := 1) (by decide) dX6_plain_16 (z_goto (tgt := 21) hX dX6_plain_17 (by decide) ?_)
      obtain rfl := Option.some.inj h
      exact z_zretT (r := 1) hX (by decide) dX6_plain_21

theorem c_X6_plain {l : Launch} {D : va_G} {tys : zTy} (hl : l.stackTraces = false) {σ : zS} {o : Nat} (hP : zP σ o) {M : mS} {Rt : Int32 × mS} (h : g_X6_plain M = some Rt) : zM l D tys yX6_plain (ws_ yX6_plain cX6_plain 4 (Option.some Jvm.ClassFile.FieldType.boolean)) 8 190 [zA (some o)] (pM σ o M) (.inl (eI Rt.1)) (pM σ o Rt.2) :=
  zM_in hl rfl (Nat.le_of_ble_eq_true rfl) (fun p e R s m args below meth c hX => z_L rfl (m_X6_plain hX hP h))
def g_X6_atom_142 (ra : mS → Option (Int32 × mS)) (v3 : Int32) (M : mS) : Option (Int32 × mS) :=
  zl (mset M 11 ((M.1 11) - 1)) fun M12 =>
  zbo v3 (some (v3, M12))

set_option maxHeartbeats 4000000 in
theorem m_X6_atom_142 {f9 w9 : Nat} {X : zX} (hX : zOk X RX6 cX6_atom 4 (f9 + 9) (w9 + 213) (Option.some Jvm.ClassFile.FieldType.boolean) "atom" []) {ra : mS → Option (Int32 × mS)} {σ : zS} {o : Nat} (hP : zP σ o) (hra : zRA_X6_atom (xl X) (xD X) (xt X) σ o ra f9 w9) {Rt : Int32 × mS} {v3 : Int32} {M : mS} (h : g_X6_atom_142 ra v3 M = some Rt) : zG X (zQ X (.inl (eI Rt.1)) (pM σ o Rt.2)) 4 142 [(0, zA (some o)), (3, zI v3)] [] (pM σ o M) := by
  unfold g_X6_atom_142 at h
  refine z_aload_n hX 0 rfl rfl dX6_atom_142 (z_dup hX rfl dX6_atom_143 (m_getI hX fl_X6_122_5 mSc_11 dX6_atom_144 (z_iconst hX (v := 1) (by decide) dX6_atom_147 (z_isub hX dX6_atom_148 ?_))))
  refine m_putI hX hP fp_X6_122_5 mSc_11 h dX6_atom_149 (fun M12 h => ?_)
  refine z_iload_n hX 1 rfl rfl dX6_atom_152 ?_
  obtain ⟨n9, h⟩ := zbo_inv h
  obtain rfl := Option.some.inj h
  exact z_zretT hX n9 dX6_atom_153

def g_X6_atom_132 (ra : mS → Option (Int32 × mS)) (v3 : Int32) (M : mS) : Option (Int32 × mS) :=
  zl (mset M 9 ((M.1 9) + 1)) fun M11 =>
  g_X6_atom_142 ra v3 M11

set_option maxHeartbeats 4000000 in
theorem m_X6_atom_132 {f9 w9 : Nat} {X : zX} (hX : zOk X RX6 cX6_atom 4 (f9 + 9) (w9 + 213) (Option.some Jvm.ClassFile.FieldType.boolean) "atom" []) {ra : mS → Option (Int32 × mS)} {σ : zS} {o : Nat} (hP : zP σ o) (hra : zRA_X6_atom (xl X) (xD X) (xt X) σ o ra f9 w9) {Rt : Int32 × mS} {v3 : Int32} {M : mS} (h : g_X6_atom_132 ra v3 M = some Rt) : zG X (zQ X (.inl (eI Rt.1)) (pM σ o Rt.2)) 4 132 [(0, zA (some o)), (3, zI v3)] [] (pM σ o M) := by
  unfold g_X6_atom_132 at h
  refine z_aload_n hX 0 rfl rfl dX6_atom_132 (z_dup hX rfl dX6_atom_133 (m_getI hX fl_X6_54_5 mSc_9 dX6_atom_134 (z_iconst hX (v := 1) (by decide) dX6_atom_137 (z_iadd hX dX6_atom_138 ?_))))
  refine m_putI hX hP fp_X6_54_5 mSc_9 h dX6_atom_139 (fun M11 h => ?_)
  exact z_sub [0, 1] rfl (m_X6_atom_142 hX hP hra  h)

def g_X6_atom_88 (ra : mS → Option (Int32 × mS)) (t0 : Int32) (M : mS) : Option (Int32 × mS) :=
  g_X6_atom_142 ra t0 M

set_option maxHeartbeats 4000000 in
theorem m_X6_atom_88 {f9 w9 : Nat} {X : zX} (hX : zOk X RX6 cX6_atom 4 (f9 + 9) (w9 + 213) (Option.some Jvm.ClassFile.FieldType.boolean) "atom" []) {ra : mS → Option (Int32 × mS)} {σ : zS} {o : Nat} (hP : zP σ o) (hra : zRA_X6_atom (xl X) (xD X) (xt X) σ o ra f9 w9) {Rt : Int32 × mS} {t0 : Int32} {M : mS} (h : g_X6_atom_88 ra t0 M = some Rt) : zG X (zQ X (.inl (eI Rt.1)) (pM σ o Rt.2)) 4 88 [(0, zA (some o))] [zI t0] (pM σ o M) := by
  unfold g_X6_atom_88 at h
  refine z_istore_n (L' := [(0, zA (some o)), (3, zI t0)]) hX rfl rfl (by decide) dX6_atom_88 (z_goto (tgt := 142) hX dX6_atom_89 (by decide) ?_)
  exact z_sub [0, 1] rfl (m_X6_atom_142 hX hP hra  h)

def g_X6_atom_44 (ra : mS → Option (Int32 × mS)) (v1 : Int32) (v2 : Int32) (M : mS) : Option (Int32 × mS) :=
  if ¬ (M.1 11) = 6 then
    zl (mset M 11 ((M.1 11) + 1)) fun M7 =>
    if v2 = 0 then
      zl (mset M7 9 ((M7.1 9) + 1)) fun M8 =>
      zb2 (g_X6_some ra M8) fun x9 M10 =>
      if ¬ (M10.1 10) = (-1) then
        g_X6_atom_132 ra x9 M10
      else
        zb2 (g_X6_isSign 41 M10) fun x13 M14 =>
        if ¬ x13 = 0 then
          g_X6_atom_132 ra x9 M14
        else
          zb2 (g_X6_wrong (M14.1 9) M14) fun _ M16 =>
          g_X6_atom_132 ra x9 M16
    else
      zb2 (ra M7) fun x17 M18 =>
      if ¬ x17 = 0 then
        g_X6_atom_88 ra  0 M18
      else
        g_X6_atom_88 ra  1 M18
  else
    zb2 (g_X6_wrong v1 M) fun _ M20 =>
    some ((0 : Int32), M20)

set_option maxHeartbeats 4000000 in
theorem m_X6_atom_44 {f9 w9 : Nat} {X : zX} (hX : zOk X RX6 cX6_atom 4 (f9 + 9) (w9 + 213) (Option.some Jvm.ClassFile.FieldType.boolean) "atom" []) {ra : mS → Option (Int32 × mS)} {σ : zS} {o : Nat} (hP : zP σ o) (hra : zRA_X6_atom (xl X) (xD X) (xt X) σ o ra f9 w9) {Rt : Int32 × mS} {v1 : Int32} {v2 : Int32} {M : mS} (h : g_X6_atom_44 ra v1 v2 M = some Rt) : zG X (zQ X (.inl (eI Rt.1)) (pM σ o Rt.2)) 4 44 [(0, zA (some o)), (1, zI v1), (2, zI v2)] [] (pM σ o M) := by
  unfold g_X6_atom_44 at h
  refine z_aload_n hX 0 rfl rfl dX6_atom_44 (m_getI hX fl_X6_122_5 mSc_11 dX6_atom_45 (z_bipush hX (v := 6) (by decide) dX6_atom_48 ?_))
  refine z_icmp_ne (tgt := 60) hX h dX6_atom_50 (by decide) (fun h => ?_) (fun h => ?_)
  · refine z_aload_n hX 0 rfl rfl dX6_atom_60 (z_dup hX rfl dX6_atom_61 (m_getI hX fl_X6_122_5 mSc_11 dX6_atom_62 (z_iconst hX (v := 1) (by decide) dX6_atom_65 (z_iadd hX dX6_atom_66 ?_))))
    refine m_putI hX hP fp_X6_122_5 mSc_11 h dX6_atom_67 (fun M7 h => ?_)
    refine z_iconst hX (v := 0) (by decide) dX6_atom_70 (z_istore_n (L' := [(0, zA (some o)), (1, zI v1), (2, zI v2), (3, zI 0)]) hX rfl rfl (by decide) dX6_atom_71 (z_iload_n hX 2 rfl rfl dX6_atom_72 ?_))
    refine z_if_eq (tgt := 92) hX h dX6_atom_73 (by decide) (fun h => ?_) (fun h => ?_)
    · refine z_aload_n hX 0 rfl rfl dX6_atom_92 (z_dup hX rfl dX6_atom_93 (m_getI hX fl_X6_54_5 mSc_9 dX6_atom_94 (z_iconst hX (v := 1) (by decide) dX6_atom_97 (z_iadd hX dX6_atom_98 ?_))))
      refine m_putI hX hP fp_X6_54_5 mSc_9 h dX6_atom_99 (fun M8 h => ?_)
      refine z_aload_n hX 0 rfl rfl dX6_atom_102 ?_
      refine m_cNI hX (rest := []) h (fun r9 M9 e9 => z_runV hX lk_X6_179 (c_X6_some hX.tr hP hra e9) (ci := 5) zc9_5 pM_cl ⟨by omega, by omega⟩ rfl (Nat.le_of_ble_eq_true rfl) dX6_atom_103 rfl) (fun x9 M10 h => ?_)
      refine z_istore_n (L' := [(0, zA (some o)), (1, zI v1), (2, zI v2), (3, zI x9)]) hX rfl rfl (by decide) dX6_atom_106 (z_aload_n hX 0 rfl rfl dX6_atom_107 (m_getI hX fl_X6_22_5 mSc_10 dX6_atom_108 (z_iconst hX (v := (-1)) (by decide) dX6_atom_111 ?_)))
      refine z_icmp_ne (tgt := 132) hX h dX6_atom_112 (by decide) (fun h => ?_) (fun h => ?_)
      · exact z_sub [0, 3] rfl (m_X6_atom_132 hX hP hra  h)
      · refine z_aload_n hX 0 rfl rfl dX6_atom_115 (z_bipush hX (v := 41) (by decide) dX6_atom_116 ?_)
        refine m_cNI hX (rest := []) h (fun r9 M9 e9 => z_runV hX lk_X6_131 (c_X6_isSign hX.tr hP e9) (ci := 5) zc9_5 pM_cl ⟨by omega, by omega⟩ rfl (Nat.le_of_ble_eq_true rfl) dX6_atom_118 rfl) (fun x13 M14 h => ?_)
        refine z_if_ne (tgt := 132) hX h dX6_atom_121 (by decide) (fun h => ?_) (fun h => ?_)
        · exact z_sub [0, 3] rfl (m_X6_atom_132 hX hP hra  h)
        · refine z_aload_n hX 0 rfl rfl dX6_atom_124 (z_aload_n hX 0 rfl rfl dX6_atom_125 (m_getI hX fl_X6_54_5 mSc_9 dX6_atom_126 ?_))
          refine m_cNU hX (rest := []) h (fun r9 M9 e9 => z_runV hX lk_X6_77 (c_X6_wrong hX.tr hP e9) (ci := 5) zc9_5 pM_cl ⟨by omega, by omega⟩ rfl (Nat.le_of_ble_eq_true rfl) dX6_atom_129 rfl) (fun _ M16 h => ?_)
          exact z_sub [0, 3] rfl (m_X6_atom_132 hX hP hra  h)
    · refine z_aload_n hX 0 rfl rfl dX6_atom_76 ?_
      refine m_cNI hX (rest := []) h (fun r9 M9 e9 => z_runV hX lk_X6_176 (hra _ _ e9) (ci := 5) zc9_5 pM_cl ⟨by omega, by omega⟩ rfl (Nat.le_of_ble_eq_true rfl) dX6_atom_77 rfl) (fun x17 M18 h => ?_)
      refine z_if_ne (tgt := 87) hX h dX6_atom_80 (by decide) (fun h => ?_) (fun h => ?_)
      · refine z_iconst hX (v := 0) (by decide) dX6_atom_87 ?_
        exact z_sub [0] rfl (m_X6_atom_88 hX hP hra  h)
      · refine z_iconst hX (v := 1) (by decide) dX6_atom_83 (z_goto (tgt := 88) hX dX6_atom_84 (by decide) ?_)
        exact z_sub [0] rfl (m_X6_atom_88 hX hP hra  h)
  · refine z_aload_n hX 0 rfl rfl dX6_atom_53 (z_iload_n hX 1 rfl rfl dX6_atom_54 ?_)
    refine m_cNU hX (rest := []) h (fun r9 M9 e9 => z_runV hX lk_X6_77 (c_X6_wrong hX.tr hP e9) (ci := 5) zc9_5 pM_cl ⟨by omega, by omega⟩ rfl (Nat.le_of_ble_eq_true rfl) dX6_atom_55 rfl) (fun _ M20 h => ?_)
    refine z_iconst hX (v := 0) (by decide) dX6_atom_58 ?_
    obtain rfl := Option.some.inj h
    exact z_zretT (r := 0) hX (by decide) dX6_atom_59

def g_X6_atom (ra : mS → Option (Int32 × mS)) (M : mS) : Option (Int32 × mS) :=
  if (M.1 10) = (-1) then
    zb2 (g_X6_skip M) fun _ M2 =>
    zl (M2.1 9) fun x3 =>
    zb2 (g_X6_has 14 M2) fun x5 M6 =>
    if ¬ x5 = 0 then
      g_X6_atom_44 ra x3 x5 M6
    else
      zb2 (g_X6_isSign 40 M6) fun x21 M22 =>
      if ¬ x21 = 0 then
        g_X6_atom_44 ra x3 x5 M22
      else
        zb2 (g_X6_plain M22) fun x23 M24 =>
        zbo x23 (some (x23, M24))
  else
    some ((0 : Int32), M)

set_option maxHeartbeats 4000000 in
theorem m_X6_atom {f9 w9 : Nat} {X : zX} (hX : zOk X RX6 cX6_atom 4 (f9 + 9) (w9 + 213) (Option.some Jvm.ClassFile.FieldType.boolean) "atom" []) {ra : mS → Option (Int32 × mS)} {σ : zS} {o : Nat} (hP : zP σ o) (hra : zRA_X6_atom (xl X) (xD X) (xt X) σ o ra f9 w9) {M : mS} {Rt : Int32 × mS} (h : g_X6_atom ra M = some Rt) : zG X (zQ X (.inl (eI Rt.1)) (pM σ o Rt.2)) 4 0 [(0, zA (some o))] [] (pM σ o M) := by
  unfold g_X6_atom at h
  refine z_aload_n hX 0 rfl rfl dX6_atom_0 (m_getI hX fl_X6_22_5 mSc_10 dX6_atom_1 (z_iconst hX (v := (-1)) (by decide) dX6_atom_4 ?_))
  refine z_icmp_eq (tgt := 10) hX h dX6_atom_5 (by decide) (fun h => ?_) (fun h => ?_)
  · refine z_aload_n hX 0 rfl rfl dX6_atom_10 ?_
    refine m_cNU hX (rest := []) h (fun r9 M9 e9 => z_runV hX lk_X6_64 (c_X6_skip hX.tr hP e9) (ci := 5) zc9_5 pM_cl ⟨by omega, by omega⟩ rfl (Nat.le_of_ble_eq_true rfl) dX6_atom_11 rfl) (fun _ M2 h => ?_)
    refine z_aload_n hX 0 rfl rfl dX6_atom_14 (m_getI hX fl_X6_54_5 mSc_9 dX6_atom_15 ?_)
    refine z_nmI h (fun x3 h => ?_)
    refine z_istore_n (L' := [(0, zA (some o)), (1, zI x3)]) hX rfl rfl (by decide) dX6_atom_18 (z_aload_n hX 0 rfl rfl dX6_atom_19 ?_)
    refine m_ldcS (i := 14) hX st_X6_170 (by decide) dX6_atom_20 (fun a4 ha_a4 => ?_)
    refine m_cNI hX (rest := []) h (fun r9 M9 e9 => z_runV hX lk_X6_81 (c_X6_has hX.tr hP ha_a4 e9) (ci := 5) zc9_5 pM_cl ⟨by omega, by omega⟩ rfl (Nat.le_of_ble_eq_true rfl) dX6_atom_22 rfl) (fun x5 M6 h => ?_)
    refine z_istore_n (L' := [(0, zA (some o)), (1, zI x3), (2, zI x5)]) hX rfl rfl (by decide) dX6_atom_25 (z_iload_n hX 2 rfl rfl dX6_atom_26 ?_)
    refine z_if_ne (tgt := 44) hX h dX6_atom_27 (by decide) (fun h => ?_) (fun h => ?_)
    · exact z_sub [0, 1, 2] rfl (m_X6_atom_44 hX hP hra  h)
    · refine z_aload_n hX 0 rfl rfl dX6_atom_30 (z_bipush hX (v := 40) (by decide) dX6_atom_31 ?_)
      refine m_cNI hX (rest := []) h (fun r9 M9 e9 => z_runV hX lk_X6_131 (c_X6_isSign hX.tr hP e9) (ci := 5) zc9_5 pM_cl ⟨by omega, by omega⟩ rfl (Nat.le_of_ble_eq_true rfl) dX6_atom_33 rfl) (fun x21 M22 h => ?_)
      refine z_if_ne (tgt := 44) hX h dX6_atom_36 (by decide) (fun h => ?_) (fun h => ?_)
      · exact z_sub [0, 1, 2] rfl (m_X6_atom_44 hX hP hra  h)
      · refine z_aload_n hX 0 rfl rfl dX6_atom_39 ?_
        refine m_cNI hX (rest := []) h (fun r9 M9 e9 => z_runV hX lk_X6_172 (c_X6_plain hX.tr hP e9) (ci := 5) zc9_5 pM_cl ⟨by omega, by omega⟩ rfl (Nat.le_of_ble_eq_true rfl) dX6_atom_40 rfl) (fun x23 M24 h => ?_)
        obtain ⟨n9, h⟩ := zbo_inv h
        obtain rfl := Option.some.inj h
        exact z_zretT hX n9 dX6_atom_43
  · refine z_iconst hX (v := 0) (by decide) dX6_atom_8 ?_
    obtain rfl := Option.some.inj h
    exact z_zretT (r := 0) hX (by decide) dX6_atom_9

theorem c_X6_atom {l : Launch} {D : va_G} {tys : zTy} (hl : l.stackTraces = false) {ra : mS → Option (Int32 × mS)} {f9 w9 : Nat} {σ : zS} {o : Nat} (hP : zP σ o) (hra : zRA_X6_atom l D tys σ o ra f9 w9) {M : mS} {Rt : Int32 × mS} (h : g_X6_atom ra M = some Rt) : zM l D tys yX6_atom (ws_ yX6_atom cX6_atom 4 (Option.some Jvm.ClassFile.FieldType.boolean)) (f9 + 9) (w9 + 213) [zA (some o)] (pM σ o M) (.inl (eI Rt.1)) (pM σ o Rt.2) :=
  zM_in hl rfl (Nat.le_of_ble_eq_true rfl) (fun p e R s m args below meth c hX => z_L rfl (m_X6_atom hX hP hra h))
def g_X6_atomD : Nat → mS → Option (Int32 × mS)
  | 0 => fun _ => none
  | n + 1 => fun M => g_X6_atom (g_X6_atomD n) M
theorem c_X6_atomD {l : Launch} {D : va_G} {tys : zTy} (hl : l.stackTraces = false) {σ : zS} {o : Nat} (hP : zP σ o) : ∀ n : Nat, zRA_X6_atom l D tys σ o (g_X6_atomD n) (9 * n) (213 * n)
  | 0 => fun _ _ h => nomatch h
  | n + 1 => fun _ _ h => c_X6_atom hl hP (c_X6_atomD hl hP n) h
def g_X6_lawLine_57 (v1 : Int32) (t0 : Int32) (M : mS) : Option (Unit × mS) :=
  if ¬ (M.1 10) = (-1) then
    some ((), M)
  else
    if t0 = 0 then
      some ((), M)
    else
      if ¬ (M.1 16) = (-1) then
        some ((), M)
      else
        zl (mset M 16 v1) fun M9 =>
        some ((), M9)

set_option maxHeartbeats 4000000 in
theorem m_X6_lawLine_57 {X : zX} (hX : zOk X RX6 cX6_lawLine 3 89 2109 (Option.none : Option Jvm.ClassFile.FieldType) "lawLine" []) {σ : zS} {o : Nat} (hP : zP σ o) {Rt : Unit × mS} {v1 : Int32} {t0 : Int32} {M : mS} (h : g_X6_lawLine_57 v1 t0 M = some Rt) : zG X (zQ X (.inl (eU Rt.1)) (pM σ o Rt.2)) 3 57 [(0, zA (some o)), (1, zI v1)] [zI t0] (pM σ o M) := by
  unfold g_X6_lawLine_57 at h
  refine z_istore_n (L' := [(0, zA (some o)), (1, zI v1), (2, zI t0)]) hX rfl rfl (by decide) dX6_lawLine_57 (z_aload_n hX 0 rfl rfl dX6_lawLine_58 (m_getI hX fl_X6_22_5 mSc_10 dX6_lawLine_59 (z_iconst hX (v := (-1)) (by decide) dX6_lawLine_62 ?_)))
  refine z_icmp_ne (tgt := 83) hX h dX6_lawLine_63 (by decide) (fun h => ?_) (fun h => ?_)
  · obtain rfl := Option.some.inj h
    exact z_vret hX dX6_lawLine_83
  · refine z_iload_n hX 2 rfl rfl dX6_lawLine_66 ?_
    refine z_if_eq (tgt := 83) hX h dX6_lawLine_67 (by decide) (fun h => ?_) (fun h => ?_)
    · obtain rfl := Option.some.inj h
      exact z_vret hX dX6_lawLine_83
    · refine z_aload_n hX 0 rfl rfl dX6_lawLine_70 (m_getI hX fl_X6_193_5 mSc_16 dX6_lawLine_71 (z_iconst hX (v := (-1)) (by decide) dX6_lawLine_74 ?_))
      refine z_icmp_ne (tgt := 83) hX h dX6_lawLine_75 (by decide) (fun h => ?_) (fun h => ?_)
      · obtain rfl := Option.some.inj h
        exact z_vret hX dX6_lawLine_83
      · refine z_aload_n hX 0 rfl rfl dX6_lawLine_78 (z_iload_n hX 1 rfl rfl dX6_lawLine_79 ?_)
        refine m_putI hX hP fp_X6_193_5 mSc_16 h dX6_lawLine_80 (fun M9 h => ?_)
        obtain rfl := Option.some.inj h
        exact z_vret hX dX6_lawLine_83

def g_X6_lawLine_52 (v1 : Int32) (M : mS) : Option (Unit × mS) :=
  g_X6_lawLine_57 v1 1 M

set_option maxHeartbeats 4000000 in
theorem m_X6_lawLine_52 {X : zX} (hX : zOk X RX6 cX6_lawLine 3 89 2109 (Option.none : Option Jvm.ClassFile.FieldType) "lawLine" []) {σ : zS} {o : Nat} (hP : zP σ o) {Rt : Unit × mS} {v1 : Int32} {M : mS} (h : g_X6_lawLine_52 v1 M = some Rt) : zG X (zQ X (.inl (eU Rt.1)) (pM σ o Rt.2)) 3 52 [(0, zA (some o)), (1, zI v1)] [] (pM σ o M) := by
  unfold g_X6_lawLine_52 at h
  refine z_iconst hX (v := 1) (by decide) dX6_lawLine_52 (z_goto (tgt := 57) hX dX6_lawLine_53 (by decide) ?_)
  exact z_sub [0, 1] rfl (m_X6_lawLine_57 hX hP  h)

def g_X6_lawLine (M : mS) : Option (Unit × mS) :=
  zb2 (g_X6_has 12 M) fun x2 M3 =>
  if ¬ x2 = 0 then
    zb2 (g_X6_figures 0 99 3 M3) fun x4 M5 =>
    if (M5.1 10) = (-1) then
      zb2 (g_X6_has 13 M5) fun x7 M8 =>
      if x7 = 0 then
        g_X6_lawLine_52 x4 M8
      else
        zb2 (g_X6_some (g_X6_atomD 9) M8) fun x10 M11 =>
        if x10 = 0 then
          g_X6_lawLine_57 x4 0 M11
        else
          g_X6_lawLine_52 x4 M11
    else
      some ((), M5)
  else
    zb2 (g_X6_wrong (M3.1 9) M3) fun _ M13 =>
    some ((), M13)

set_option maxHeartbeats 4000000 in
theorem m_X6_lawLine {X : zX} (hX : zOk X RX6 cX6_lawLine 3 89 2109 (Option.none : Option Jvm.ClassFile.FieldType) "lawLine" []) {σ : zS} {o : Nat} (hP : zP σ o) {M : mS} {Rt : Unit × mS} (h : g_X6_lawLine M = some Rt) : zG X (zQ X (.inl (eU Rt.1)) (pM σ o Rt.2)) 3 0 [(0, zA (some o))] [] (pM σ o M) := by
  unfold g_X6_lawLine at h
  refine z_aload_n hX 0 rfl rfl dX6_lawLine_0 ?_
  refine m_ldcS (i := 12) hX st_X6_189 (by decide) dX6_lawLine_1 (fun a1 ha_a1 => ?_)
  refine m_cNI hX (rest := []) h (fun r9 M9 e9 => z_runV hX lk_X6_81 (c_X6_has hX.tr hP ha_a1 e9) (ci := 5) zc9_5 pM_cl ⟨Nat.le_of_ble_eq_true rfl, Nat.le_of_ble_eq_true rfl⟩ rfl (Nat.le_of_ble_eq_true rfl) dX6_lawLine_3 rfl) (fun x2 M3 h => ?_)
  refine z_if_ne (tgt := 18) hX h dX6_lawLine_6 (by decide) (fun h => ?_) (fun h => ?_)
  · refine z_aload_n hX 0 rfl rfl dX6_lawLine_18 (z_iconst hX (v := 0) (by decide) dX6_lawLine_19 (z_bipush hX (v := 99) (by decide) dX6_lawLine_20 (z_iconst hX (v := 3) (by decide) dX6_lawLine_22 ?_)))
    refine m_cNI hX (rest := []) h (fun r9 M9 e9 => z_runV hX lk_X6_85 (c_X6_figures hX.tr hP e9) (ci := 5) zc9_5 pM_cl ⟨Nat.le_of_ble_eq_true rfl, Nat.le_of_ble_eq_true rfl⟩ rfl (Nat.le_of_ble_eq_true rfl) dX6_lawLine_23 rfl) (fun x4 M5 h => ?_)
    refine z_istore_n (L' := [(0, zA (some o)), (1, zI x4)]) hX rfl rfl (by decide) dX6_lawLine_26 (z_aload_n hX 0 rfl rfl dX6_lawLine_27 (m_getI hX fl_X6_22_5 mSc_10 dX6_lawLine_28 (z_iconst hX (v := (-1)) (by decide) dX6_lawLine_31 ?_)))
    refine z_icmp_eq (tgt := 36) hX h dX6_lawLine_32 (by decide) (fun h => ?_) (fun h => ?_)
    · refine z_aload_n hX 0 rfl rfl dX6_lawLine_36 ?_
      refine m_ldcS (i := 13) hX st_X6_191 (by decide) dX6_lawLine_37 (fun a6 ha_a6 => ?_)
      refine m_cNI hX (rest := []) h (fun r9 M9 e9 => z_runV hX lk_X6_81 (c_X6_has hX.tr hP ha_a6 e9) (ci := 5) zc9_5 pM_cl ⟨Nat.le_of_ble_eq_true rfl, Nat.le_of_ble_eq_true rfl⟩ rfl (Nat.le_of_ble_eq_true rfl) dX6_lawLine_39 rfl) (fun x7 M8 h => ?_)
      refine z_if_eq (tgt := 52) hX h dX6_lawLine_42 (by decide) (fun h => ?_) (fun h => ?_)
      · exact z_sub [0, 1] rfl (m_X6_lawLine_52 hX hP  h)
      · refine z_aload_n hX 0 rfl rfl dX6_lawLine_45 ?_
        refine m_cNI hX (rest := []) h (fun r9 M9 e9 => z_runV hX lk_X6_179 (c_X6_some hX.tr hP (c_X6_atomD hX.tr hP 9) e9) (ci := 5) zc9_5 pM_cl ⟨Nat.le_of_ble_eq_true rfl, Nat.le_of_ble_eq_true rfl⟩ rfl (Nat.le_of_ble_eq_true rfl) dX6_lawLine_46 rfl) (fun x10 M11 h => ?_)
        refine z_if_eq (tgt := 56) hX h dX6_lawLine_49 (by decide) (fun h => ?_) (fun h => ?_)
        · refine z_iconst hX (v := 0) (by decide) dX6_lawLine_56 ?_
          exact z_sub [0, 1] rfl (m_X6_lawLine_57 hX hP  h)
        · exact z_sub [0, 1] rfl (m_X6_lawLine_52 hX hP  h)
    · obtain rfl := Option.some.inj h
      exact z_vret hX dX6_lawLine_35
  · refine z_aload_n hX 0 rfl rfl dX6_lawLine_9 (z_aload_n hX 0 rfl rfl dX6_lawLine_10 (m_getI hX fl_X6_54_5 mSc_9 dX6_lawLine_11 ?_))
    refine m_cNU hX (rest := []) h (fun r9 M9 e9 => z_runV hX lk_X6_77 (c_X6_wrong hX.tr hP e9) (ci := 5) zc9_5 pM_cl ⟨Nat.le_of_ble_eq_true rfl, Nat.le_of_ble_eq_true rfl⟩ rfl (Nat.le_of_ble_eq_true rfl) dX6_lawLine_14 rfl) (fun _ M13 h => ?_)
    obtain rfl := Option.some.inj h
    exact z_vret hX dX6_lawLine_17

theorem c_X6_lawLine {l : Launch} {D : va_G} {tys : zTy} (hl : l.stackTraces = false) {σ : zS} {o : Nat} (hP : zP σ o) {M : mS} {Rt : Unit × mS} (h : g_X6_lawLine M = some Rt) : zM l D tys yX6_lawLine (ws_ yX6_lawLine cX6_lawLine 3 (Option.none : Option Jvm.ClassFile.FieldType)) 89 2109 [zA (some o)] (pM σ o M) (.inl (eU Rt.1)) (pM σ o Rt.2) :=
  zM_in hl rfl (Nat.le_of_ble_eq_true rfl) (fun p e R s m args below meth c hX => z_L rfl (m_X6_lawLine hX hP h))
def g_X6_must (p1 : Nat) (M : mS) : Option (Unit × mS) :=
  if ¬ (M.1 10) = (-1) then
    some ((), M)
  else
    zb2 (g_X6_has p1 M) fun x1 M2 =>
    if ¬ x1 = 0 then
      some ((), M2)
    else
      zb2 (g_X6_wrong (M2.1 9) M2) fun _ M4 =>
      some ((), M4)

set_option maxHeartbeats 4000000 in
theorem m_X6_must {X : zX} (hX : zOk X RX6 cX6_must 2 6 148 (Option.none : Option Jvm.ClassFile.FieldType) "must" []) {σ : zS} {o : Nat} (hP : zP σ o) {p1 : Nat} {w1 : Nat} (ha_w1 : zLa σ p1 w1) {M : mS} {Rt : Unit × mS} (h : g_X6_must p1 M = some Rt) : zG X (zQ X (.inl (eU Rt.1)) (pM σ o Rt.2)) 2 0 [(0, zA (some o)), (1, zA (some w1))] [] (pM σ o M) := by
  unfold g_X6_must at h
  refine z_aload_n hX 0 rfl rfl dX6_must_0 (m_getI hX fl_X6_22_5 mSc_10 dX6_must_1 (z_iconst hX (v := (-1)) (by decide) dX6_must_4 ?_))
  refine z_icmp_ne (tgt := 24) hX h dX6_must_5 (by decide) (fun h => ?_) (fun h => ?_)
  · obtain rfl := Option.some.inj h
    exact z_vret hX dX6_must_24
  · refine z_aload_n hX 0 rfl rfl dX6_must_8 (z_aload_n hX 1 rfl rfl dX6_must_9 ?_)
    refine m_cNI hX (rest := []) h (fun r9 M9 e9 => z_runV hX lk_X6_81 (c_X6_has hX.tr hP ha_w1 e9) (ci := 5) zc9_5 pM_cl ⟨Nat.le_of_ble_eq_true rfl, Nat.le_of_ble_eq_true rfl⟩ rfl (Nat.le_of_ble_eq_true rfl) dX6_must_10 rfl) (fun x1 M2 h => ?_)
    refine z_if_ne (tgt := 24) hX h dX6_must_13 (by decide) (fun h => ?_) (fun h => ?_)
    · obtain rfl := Option.some.inj h
      exact z_vret hX dX6_must_24
    · refine z_aload_n hX 0 rfl rfl dX6_must_16 (z_aload_n hX 0 rfl rfl dX6_must_17 (m_getI hX fl_X6_54_5 mSc_9 dX6_must_18 ?_))
      refine m_cNU hX (rest := []) h (fun r9 M9 e9 => z_runV hX lk_X6_77 (c_X6_wrong hX.tr hP e9) (ci := 5) zc9_5 pM_cl ⟨Nat.le_of_ble_eq_true rfl, Nat.le_of_ble_eq_true rfl⟩ rfl (Nat.le_of_ble_eq_true rfl) dX6_must_21 rfl) (fun _ M4 h => ?_)
      obtain rfl := Option.some.inj h
      exact z_vret hX dX6_must_24

theorem c_X6_must {l : Launch} {D : va_G} {tys : zTy} (hl : l.stackTraces = false) {σ : zS} {o : Nat} (hP : zP σ o) {p1 : Nat} {w1 : Nat} (ha_w1 : zLa σ p1 w1) {M : mS} {Rt : Unit × mS} (h : g_X6_must p1 M = some Rt) : zM l D tys yX6_must (ws_ yX6_must cX6_must 2 (Option.none : Option Jvm.ClassFile.FieldType)) 6 148 [zA (some o), zA (some w1)] (pM σ o M) (.inl (eU Rt.1)) (pM σ o Rt.2) :=
  zM_in hl rfl (Nat.le_of_ble_eq_true rfl) (fun p e R s m args below meth c hX => z_L rfl (m_X6_must hX hP ha_w1 h))
def g_X6_comes_77 (v1 : Int32) (v3 : Int32) (v4 : Int32) (t0 : Int32) (M : mS) : Option (Unit × mS) :=
  if (M.1 10) = (-1) then
    (mL M 0 2).bind fun x10 =>
    zl (20 + (4 * x10)) fun x11 =>
    (mSt M 0 (x11 + 0) v1).bind fun M12 =>
    (mSt M12 0 (x11 + 1) v3).bind fun M13 =>
    (mSt M13 0 (x11 + 2) v4).bind fun M14 =>
    (mSt M14 0 (x11 + 3) t0).bind fun M15 =>
    (mL M15 0 2).bind fun x16 =>
    (mSt M15 0 2 (x16 + 1)).bind fun M17 =>
    some ((), M17)
  else
    some ((), M)

set_option maxHeartbeats 4000000 in
theorem m_X6_comes_77 {X : zX} (hX : zOk X RX6 cX6_comes 7 7 169 (Option.none : Option Jvm.ClassFile.FieldType) "comes" []) {σ : zS} {o : Nat} (hP : zP σ o) {Rt : Unit × mS} {v1 : Int32} {v3 : Int32} {v4 : Int32} {t0 : Int32} {M : mS} (h : g_X6_comes_77 v1 v3 v4 t0 M = some Rt) : zG X (zQ X (.inl (eU Rt.1)) (pM σ o Rt.2)) 7 77 [(0, zA (some o)), (1, zI v1), (3, zI v3), (4, zI v4)] [zI t0] (pM σ o M) := by
  unfold g_X6_comes_77 at h
  refine z_istore (L' := [(0, zA (some o)), (1, zI v1), (3, zI v3), (4, zI v4), (5, zI t0)]) hX rfl (by decide) dX6_comes_77 (z_aload_n hX 0 rfl rfl dX6_comes_79 (m_getI hX fl_X6_22_5 mSc_10 dX6_comes_80 (z_iconst hX (v := (-1)) (by decide) dX6_comes_83 ?_)))
  refine z_icmp_eq (tgt := 88) hX h dX6_comes_84 (by decide) (fun h => ?_) (fun h => ?_)
  · refine z_bipush hX (v := 20) (by decide) dX6_comes_88 (z_iconst hX (v := 4) (by decide) dX6_comes_90 (z_aload_n hX 0 rfl rfl dX6_comes_91 (m_getA hX fl_X6_7_5 mAr_1 dX6_comes_92 (z_iconst hX (v := 2) (by decide) dX6_comes_95 ?_))))
    refine m_iald hX (j := 0) (by decide) h dX6_comes_96 (fun x10 h => ?_)
    refine z_imul hX dX6_comes_97 (z_iadd hX dX6_comes_98 ?_)
    refine z_nmI h (fun x11 h => ?_)
    refine z_istore (L' := [(0, zA (some o)), (1, zI v1), (3, zI v3), (4, zI v4), (5, zI t0), (6, zI x11)]) hX rfl (by decide) dX6_comes_99 (z_aload_n hX 0 rfl rfl dX6_comes_101 (m_getA hX fl_X6_7_5 mAr_1 dX6_comes_102 (z_iload hX 5 rfl dX6_comes_105 (z_iconst hX (v := 0) (by decide) dX6_comes_107 (z_iadd hX dX6_comes_108 (z_iload_n hX 1 rfl rfl dX6_comes_109 ?_))))))
    refine m_iast hX hP (j := 0) (by decide) h dX6_comes_110 (fun M12 h => ?_)
    refine z_aload_n hX 0 rfl rfl dX6_comes_111 (m_getA hX fl_X6_7_5 mAr_1 dX6_comes_112 (z_iload hX 5 rfl dX6_comes_115 (z_iconst hX (v := 1) (by decide) dX6_comes_117 (z_iadd hX dX6_comes_118 (z_iload_n hX 2 rfl rfl dX6_comes_119 ?_)))))
    refine m_iast hX hP (j := 0) (by decide) h dX6_comes_120 (fun M13 h => ?_)
    refine z_aload_n hX 0 rfl rfl dX6_comes_121 (m_getA hX fl_X6_7_5 mAr_1 dX6_comes_122 (z_iload hX 5 rfl dX6_comes_125 (z_iconst hX (v := 2) (by decide) dX6_comes_127 (z_iadd hX dX6_comes_128 (z_iload hX 3 rfl dX6_comes_129 ?_)))))
    refine m_iast hX hP (j := 0) (by decide) h dX6_comes_131 (fun M14 h => ?_)
    refine z_aload_n hX 0 rfl rfl dX6_comes_132 (m_getA hX fl_X6_7_5 mAr_1 dX6_comes_133 (z_iload hX 5 rfl dX6_comes_136 (z_iconst hX (v := 3) (by decide) dX6_comes_138 (z_iadd hX dX6_comes_139 (z_iload hX 4 rfl dX6_comes_140 ?_)))))
    refine m_iast hX hP (j := 0) (by decide) h dX6_comes_142 (fun M15 h => ?_)
    refine z_aload_n hX 0 rfl rfl dX6_comes_143 (m_getA hX fl_X6_7_5 mAr_1 dX6_comes_144 (z_iconst hX (v := 2) (by decide) dX6_comes_147 (z_dup2 hX rfl rfl dX6_comes_148 ?_)))
    refine m_iald hX (j := 0) (by decide) h dX6_comes_149 (fun x16 h => ?_)
    refine z_iconst hX (v := 1) (by decide) dX6_comes_150 (z_iadd hX dX6_comes_151 ?_)
    refine m_iast hX hP (j := 0) (by decide) h dX6_comes_152 (fun M17 h => ?_)
    obtain rfl := Option.some.inj h
    exact z_vret hX dX6_comes_153
  · obtain rfl := Option.some.inj h
    exact z_vret hX dX6_comes_87

def g_X6_comes_75 (v1 : Int32) (v3 : Int32) (v4 : Int32) (M : mS) : Option (Unit × mS) :=
  g_X6_comes_77 v1 v3 v4 50 M

set_option maxHeartbeats 4000000 in
theorem m_X6_comes_75 {X : zX} (hX : zOk X RX6 cX6_comes 7 7 169 (Option.none : Option Jvm.ClassFile.FieldType) "comes" []) {σ : zS} {o : Nat} (hP : zP σ o) {Rt : Unit × mS} {v1 : Int32} {v3 : Int32} {v4 : Int32} {M : mS} (h : g_X6_comes_75 v1 v3 v4 M = some Rt) : zG X (zQ X (.inl (eU Rt.1)) (pM σ o Rt.2)) 7 75 [(0, zA (some o)), (1, zI v1), (3, zI v3), (4, zI v4)] [] (pM σ o M) := by
  unfold g_X6_comes_75 at h
  refine z_bipush hX (v := 50) (by decide) dX6_comes_75 ?_
  exact z_sub [0, 1, 2, 3] rfl (m_X6_comes_77 hX hP  h)

def g_X6_comes_16 (v1 : Int32) (M : mS) : Option (Unit × mS) :=
  zb2 (g_X6_figures 0 99 3 M) fun x2 M3 =>
  zb2 (g_X6_must 9 M3) fun _ M6 =>
  (mL M6 0 1).bind fun x7 =>
  zb2 (g_X6_figures 0 (x7 - 1) 3 M6) fun x8 M9 =>
  if ¬ (M9.1 10) = (-1) then
    g_X6_comes_75 v1 x2 x8 M9
  else
    zb2 (g_X6_has 10 M9) fun x19 M20 =>
    if x19 = 0 then
      g_X6_comes_75 v1 x2 x8 M20
    else
      zb2 (g_X6_figures 0 100 3 M20) fun x21 M22 =>
      g_X6_comes_77 v1 x2 x8 x21 M22

set_option maxHeartbeats 4000000 in
theorem m_X6_comes_16 {X : zX} (hX : zOk X RX6 cX6_comes 7 7 169 (Option.none : Option Jvm.ClassFile.FieldType) "comes" []) {σ : zS} {o : Nat} (hP : zP σ o) {Rt : Unit × mS} {v1 : Int32} {M : mS} (h : g_X6_comes_16 v1 M = some Rt) : zG X (zQ X (.inl (eU Rt.1)) (pM σ o Rt.2)) 7 16 [(0, zA (some o)), (1, zI v1)] [] (pM σ o M) := by
  unfold g_X6_comes_16 at h
  refine z_aload_n hX 0 rfl rfl dX6_comes_16 (z_iconst hX (v := 0) (by decide) dX6_comes_17 (z_bipush hX (v := 99) (by decide) dX6_comes_18 (z_iconst hX (v := 3) (by decide) dX6_comes_20 ?_)))
  refine m_cNI hX (rest := []) h (fun r9 M9 e9 => z_runV hX lk_X6_85 (c_X6_figures hX.tr hP e9) (ci := 5) zc9_5 pM_cl ⟨Nat.le_of_ble_eq_true rfl, Nat.le_of_ble_eq_true rfl⟩ rfl (Nat.le_of_ble_eq_true rfl) dX6_comes_21 rfl) (fun x2 M3 h => ?_)
  refine z_istore_n (L' := [(0, zA (some o)), (1, zI v1), (3, zI x2)]) hX rfl rfl (by decide) dX6_comes_24 (z_aload_n hX 0 rfl rfl dX6_comes_25 ?_)
  refine m_ldcS (i := 9) hX st_X6_89 (by decide) dX6_comes_26 (fun a4 ha_a4 => ?_)
  refine m_cNU hX (rest := []) h (fun r9 M9 e9 => z_runV hX lk_X6_91 (c_X6_must hX.tr hP ha_a4 e9) (ci := 5) zc9_5 pM_cl ⟨Nat.le_of_ble_eq_true rfl, Nat.le_of_ble_eq_true rfl⟩ rfl (Nat.le_of_ble_eq_true rfl) dX6_comes_28 rfl) (fun _ M6 h => ?_)
  refine z_aload_n hX 0 rfl rfl dX6_comes_31 (z_iconst hX (v := 0) (by decide) dX6_comes_32 (z_aload_n hX 0 rfl rfl dX6_comes_33 (m_getA hX fl_X6_7_5 mAr_1 dX6_comes_34 (z_iconst hX (v := 1) (by decide) dX6_comes_37 ?_))))
  refine m_iald hX (j := 0) (by decide) h dX6_comes_38 (fun x7 h => ?_)
  refine z_iconst hX (v := 1) (by decide) dX6_comes_39 (z_isub hX dX6_comes_40 (z_iconst hX (v := 3) (by decide) dX6_comes_41 ?_))
  refine m_cNI hX (rest := []) h (fun r9 M9 e9 => z_runV hX lk_X6_85 (c_X6_figures hX.tr hP e9) (ci := 5) zc9_5 pM_cl ⟨Nat.le_of_ble_eq_true rfl, Nat.le_of_ble_eq_true rfl⟩ rfl (Nat.le_of_ble_eq_true rfl) dX6_comes_42 rfl) (fun x8 M9 h => ?_)
  refine z_istore (L' := [(0, zA (some o)), (1, zI v1), (3, zI x2), (4, zI x8)]) hX rfl (by decide) dX6_comes_45 (z_aload_n hX 0 rfl rfl dX6_comes_47 (m_getI hX fl_X6_22_5 mSc_10 dX6_comes_48 (z_iconst hX (v := (-1)) (by decide) dX6_comes_51 ?_)))
  refine z_icmp_ne (tgt := 75) hX h dX6_comes_52 (by decide) (fun h => ?_) (fun h => ?_)
  · exact z_sub [0, 1, 2, 3] rfl (m_X6_comes_75 hX hP  h)
  · refine z_aload_n hX 0 rfl rfl dX6_comes_55 ?_
    refine m_ldcS (i := 10) hX st_X6_95 (by decide) dX6_comes_56 (fun a18 ha_a18 => ?_)
    refine m_cNI hX (rest := []) h (fun r9 M9 e9 => z_runV hX lk_X6_81 (c_X6_has hX.tr hP ha_a18 e9) (ci := 5) zc9_5 pM_cl ⟨Nat.le_of_ble_eq_true rfl, Nat.le_of_ble_eq_true rfl⟩ rfl (Nat.le_of_ble_eq_true rfl) dX6_comes_58 rfl) (fun x19 M20 h => ?_)
    refine z_if_eq (tgt := 75) hX h dX6_comes_61 (by decide) (fun h => ?_) (fun h => ?_)
    · exact z_sub [0, 1, 2, 3] rfl (m_X6_comes_75 hX hP  h)
    · refine z_aload_n hX 0 rfl rfl dX6_comes_64 (z_iconst hX (v := 0) (by decide) dX6_comes_65 (z_bipush hX (v := 100) (by decide) dX6_comes_66 (z_iconst hX (v := 3) (by decide) dX6_comes_68 ?_)))
      refine m_cNI hX (rest := []) h (fun r9 M9 e9 => z_runV hX lk_X6_85 (c_X6_figures hX.tr hP e9) (ci := 5) zc9_5 pM_cl ⟨Nat.le_of_ble_eq_true rfl, Nat.le_of_ble_eq_true rfl⟩ rfl (Nat.le_of_ble_eq_true rfl) dX6_comes_69 rfl) (fun x21 M22 h => ?_)
      refine z_goto (tgt := 77) hX dX6_comes_72 (by decide) ?_
      exact z_sub [0, 1, 2, 3] rfl (m_X6_comes_77 hX hP  h)

def g_X6_comes (p1 : Int32) (p2 : Int32) (M : mS) : Option (Unit × mS) :=
  (mL M 0 2).bind fun x1 =>
  if ¬ x1 = 12 then
    g_X6_comes_16 p1 M
  else
    zb2 (g_X6_wrong p2 M) fun _ M24 =>
    g_X6_comes_16 p1 M24

set_option maxHeartbeats 4000000 in
theorem m_X6_comes {X : zX} (hX : zOk X RX6 cX6_comes 7 7 169 (Option.none : Option Jvm.ClassFile.FieldType) "comes" []) {σ : zS} {o : Nat} (hP : zP σ o) {p1 : Int32} {p2 : Int32} {M : mS} {Rt : Unit × mS} (h : g_X6_comes p1 p2 M = some Rt) : zG X (zQ X (.inl (eU Rt.1)) (pM σ o Rt.2)) 7 0 [(0, zA (some o)), (1, zI p1), (2, zI p2)] [] (pM σ o M) := by
  unfold g_X6_comes at h
  refine z_aload_n hX 0 rfl rfl dX6_comes_0 (m_getA hX fl_X6_7_5 mAr_1 dX6_comes_1 (z_iconst hX (v := 2) (by decide) dX6_comes_4 ?_))
  refine m_iald hX (j := 0) (by decide) h dX6_comes_5 (fun x1 h => ?_)
  refine z_bipush hX (v := 12) (by decide) dX6_comes_6 ?_
  refine z_icmp_ne (tgt := 16) hX h dX6_comes_8 (by decide) (fun h => ?_) (fun h => ?_)
  · exact z_sub [0, 1] rfl (m_X6_comes_16 hX hP  h)
  · refine z_aload_n hX 0 rfl rfl dX6_comes_11 (z_iload_n hX 2 rfl rfl dX6_comes_12 ?_)
    refine m_cNU hX (rest := []) h (fun r9 M9 e9 => z_runV hX lk_X6_77 (c_X6_wrong hX.tr hP e9) (ci := 5) zc9_5 pM_cl ⟨Nat.le_of_ble_eq_true rfl, Nat.le_of_ble_eq_true rfl⟩ rfl (Nat.le_of_ble_eq_true rfl) dX6_comes_13 rfl) (fun _ M24 h => ?_)
    exact z_sub [0, 1] rfl (m_X6_comes_16 hX hP  h)

theorem c_X6_comes {l : Launch} {D : va_G} {tys : zTy} (hl : l.stackTraces = false) {σ : zS} {o : Nat} (hP : zP σ o) {p1 : Int32} {p2 : Int32} {M : mS} {Rt : Unit × mS} (h : g_X6_comes p1 p2 M = some Rt) : zM l D tys yX6_comes (ws_ yX6_comes cX6_comes 7 (Option.none : Option Jvm.ClassFile.FieldType)) 7 169 [zA (some o), zI p1, zI p2] (pM σ o M) (.inl (eU Rt.1)) (pM σ o Rt.2) :=
  zM_in hl rfl (Nat.le_of_ble_eq_true rfl) (fun p e R s m args below meth c hX => z_L rfl (m_X6_comes hX hP h))
def g_X6_peopleLine_326 (M : mS) : Option (Unit × mS) :=
  zb2 (g_X6_figures 1 99999 5 M) fun x34 M35 =>
  zb2 (g_X6_must 11 M35) fun _ M38 =>
  zb2 (g_X6_figures 0 999 3 M38) fun x39 M40 =>
  if (M40.1 10) = (-1) then
    (mL M40 0 5).bind fun x41 =>
    (mSt M40 0 (98 + (2 * x41)) x34).bind fun M42 =>
    (mL M42 0 5).bind fun x43 =>
    (mSt M42 0 ((98 + (2 * x43)) + 1) x39).bind fun M44 =>
    (mL M44 0 5).bind fun x45 =>
    (mSt M44 0 5 (x45 + 1)).bind fun M46 =>
    some ((), M46)
  else
    some ((), M40)

set_option maxHeartbeats 4000000 in
theorem m_X6_peopleLine_326 {X : zX} (hX : zOk X RX6 cX6_peopleLine 4 8 195 (Option.none : Option Jvm.ClassFile.FieldType) "peopleLine" []) {σ : zS} {o : Nat} (hP : zP σ o) {Rt : Unit × mS} {M : mS} (h : g_X6_peopleLine_326 M = some Rt) : zG X (zQ X (.inl (eU Rt.1)) (pM σ o Rt.2)) 4 326 [(0, zA (some o))] [] (pM σ o M) := by
  unfold g_X6_peopleLine_326 at h
  refine z_aload_n hX 0 rfl rfl dX6_peopleLine_326 (z_iconst hX (v := 1) (by decide) dX6_peopleLine_327 (z_ldc hX (v := 99999) q1950 dX6_peopleLine_328 (z_iconst hX (v := 5) (by decide) dX6_peopleLine_330 ?_)))
  refine m_cNI hX (rest := []) h (fun r9 M9 e9 => z_runV hX lk_X6_85 (c_X6_figures hX.tr hP e9) (ci := 5) zc9_5 pM_cl ⟨Nat.le_of_ble_eq_true rfl, Nat.le_of_ble_eq_true rfl⟩ rfl (Nat.le_of_ble_eq_true rfl) dX6_peopleLine_331 rfl) (fun x34 M35 h => ?_)
  refine z_istore_n (L' := [(0, zA (some o)), (2, zI x34)]) hX rfl rfl (by decide) dX6_peopleLine_334 (z_aload_n hX 0 rfl rfl dX6_peopleLine_335 ?_)
  refine m_ldcS (i := 11) hX st_X6_120 (by decide) dX6_peopleLine_336 (fun a36 ha_a36 => ?_)
  refine m_cNU hX (rest := []) h (fun r9 M9 e9 => z_runV hX lk_X6_91 (c_X6_must hX.tr hP ha_a36 e9) (ci := 5) zc9_5 pM_cl ⟨Nat.le_of_ble_eq_true rfl, Nat.le_of_ble_eq_true rfl⟩ rfl (Nat.le_of_ble_eq_true rfl) dX6_peopleLine_338 rfl) (fun _ M38 h => ?_)
  refine z_aload_n hX 0 rfl rfl dX6_peopleLine_341 (z_iconst hX (v := 0) (by decide) dX6_peopleLine_342 (z_sipush hX (v := 999) (by decide) dX6_peopleLine_343 (z_iconst hX (v := 3) (by decide) dX6_peopleLine_346 ?_)))
  refine m_cNI hX (rest := []) h (fun r9 M9 e9 => z_runV hX lk_X6_85 (c_X6_figures hX.tr hP e9) (ci := 5) zc9_5 pM_cl ⟨Nat.le_of_ble_eq_true rfl, Nat.le_of_ble_eq_true rfl⟩ rfl (Nat.le_of_ble_eq_true rfl) dX6_peopleLine_347 rfl) (fun x39 M40 h => ?_)
  refine z_istore_n (L' := [(0, zA (some o)), (2, zI x34), (3, zI x39)]) hX rfl rfl (by decide) dX6_peopleLine_350 (z_aload_n hX 0 rfl rfl dX6_peopleLine_351 (m_getI hX fl_X6_22_5 mSc_10 dX6_peopleLine_352 (z_iconst hX (v := (-1)) (by decide) dX6_peopleLine_355 ?_)))
  refine z_icmp_eq (tgt := 360) hX h dX6_peopleLine_356 (by decide) (fun h => ?_) (fun h => ?_)
  · refine z_aload_n hX 0 rfl rfl dX6_peopleLine_360 (m_getA hX fl_X6_7_5 mAr_1 dX6_peopleLine_361 (z_bipush hX (v := 98) (by decide) dX6_peopleLine_364 (z_iconst hX (v := 2) (by decide) dX6_peopleLine_366 (z_aload_n hX 0 rfl rfl dX6_peopleLine_367 (m_getA hX fl_X6_7_5 mAr_1 dX6_peopleLine_368 (z_iconst hX (v := 5) (by decide) dX6_peopleLine_371 ?_))))))
    refine m_iald hX (j := 0) (by decide) h dX6_peopleLine_372 (fun x41 h => ?_)
    refine z_imul hX dX6_peopleLine_373 (z_iadd hX dX6_peopleLine_374 (z_iload_n hX 1 rfl rfl dX6_peopleLine_375 ?_))
    refine m_iast hX hP (j := 0) (by decide) h dX6_peopleLine_376 (fun M42 h => ?_)
    refine z_aload_n hX 0 rfl rfl dX6_peopleLine_377 (m_getA hX fl_X6_7_5 mAr_1 dX6_peopleLine_378 (z_bipush hX (v := 98) (by decide) dX6_peopleLine_381 (z_iconst hX (v := 2) (by decide) dX6_peopleLine_383 (z_aload_n hX 0 rfl rfl dX6_peopleLine_384 (m_getA hX fl_X6_7_5 mAr_1 dX6_peopleLine_385 (z_iconst hX (v := 5) (by decide) dX6_peopleLine_388 ?_))))))
    refine m_iald hX (j := 0) (by decide) h dX6_peopleLine_389 (fun x43 h => ?_)
    refine z_imul hX dX6_peopleLine_390 (z_iadd hX dX6_peopleLine_391 (z_iconst hX (v := 1) (by decide) dX6_peopleLine_392 (z_iadd hX dX6_peopleLine_393 (z_iload_n hX 2 rfl rfl dX6_peopleLine_394 ?_))))
    refine m_iast hX hP (j := 0) (by decide) h dX6_peopleLine_395 (fun M44 h => ?_)
    refine z_aload_n hX 0 rfl rfl dX6_peopleLine_396 (m_getA hX fl_X6_7_5 mAr_1 dX6_peopleLine_397 (z_iconst hX (v := 5) (by decide) dX6_peopleLine_400 (z_dup2 hX rfl rfl dX6_peopleLine_401 ?_)))
    refine m_iald hX (j := 0) (by decide) h dX6_peopleLine_402 (fun x45 h => ?_)
    refine z_iconst hX (v := 1) (by decide) dX6_peopleLine_403 (z_iadd hX dX6_peopleLine_404 ?_)
    refine m_iast hX hP (j := 0) (by decide) h dX6_peopleLine_405 (fun M46 h => ?_)
    refine z_goto (tgt := 417) hX dX6_peopleLine_406 (by decide) ?_
    obtain rfl := Option.some.inj h
    exact z_vret hX dX6_peopleLine_417
  · obtain rfl := Option.some.inj h
    exact z_vret hX dX6_peopleLine_359

def g_X6_peopleLine_177 (M : mS) : Option (Unit × mS) :=
  zb2 (g_X6_figures 1 99 3 M) fun x56 M57 =>
  if (M57.1 10) = (-1) then
    (mL M57 0 3).bind fun x58 =>
    zl (68 + (3 * x58)) fun x59 =>
    (mSt M57 0 (x59 + 0) x56).bind fun M60 =>
    (mSt M60 0 (x59 + 1) 0).bind fun M61 =>
    (mSt M61 0 (x59 + 2) 0).bind fun M62 =>
    (mL M62 0 3).bind fun x63 =>
    (mSt M62 0 3 (x63 + 1)).bind fun M64 =>
    some ((), M64)
  else
    some ((), M57)

set_option maxHeartbeats 4000000 in
theorem m_X6_peopleLine_177 {X : zX} (hX : zOk X RX6 cX6_peopleLine 4 8 195 (Option.none : Option Jvm.ClassFile.FieldType) "peopleLine" []) {σ : zS} {o : Nat} (hP : zP σ o) {Rt : Unit × mS} {M : mS} (h : g_X6_peopleLine_177 M = some Rt) : zG X (zQ X (.inl (eU Rt.1)) (pM σ o Rt.2)) 4 177 [(0, zA (some o))] [] (pM σ o M) := by
  unfold g_X6_peopleLine_177 at h
  refine z_aload_n hX 0 rfl rfl dX6_peopleLine_177 (z_iconst hX (v := 1) (by decide) dX6_peopleLine_178 (z_bipush hX (v := 99) (by decide) dX6_peopleLine_179 (z_iconst hX (v := 3) (by decide) dX6_peopleLine_181 ?_)))
  refine m_cNI hX (rest := []) h (fun r9 M9 e9 => z_runV hX lk_X6_85 (c_X6_figures hX.tr hP e9) (ci := 5) zc9_5 pM_cl ⟨Nat.le_of_ble_eq_true rfl, Nat.le_of_ble_eq_true rfl⟩ rfl (Nat.le_of_ble_eq_true rfl) dX6_peopleLine_182 rfl) (fun x56 M57 h => ?_)
  refine z_istore_n (L' := [(0, zA (some o)), (2, zI x56)]) hX rfl rfl (by decide) dX6_peopleLine_185 (z_aload_n hX 0 rfl rfl dX6_peopleLine_186 (m_getI hX fl_X6_22_5 mSc_10 dX6_peopleLine_187 (z_iconst hX (v := (-1)) (by decide) dX6_peopleLine_190 ?_)))
  refine z_icmp_eq (tgt := 195) hX h dX6_peopleLine_191 (by decide) (fun h => ?_) (fun h => ?_)
  · refine z_bipush hX (v := 68) (by decide) dX6_peopleLine_195 (z_iconst hX (v := 3) (by decide) dX6_peopleLine_197 (z_aload_n hX 0 rfl rfl dX6_peopleLine_198 (m_getA hX fl_X6_7_5 mAr_1 dX6_peopleLine_199 (z_iconst hX (v := 3) (by decide) dX6_peopleLine_202 ?_))))
    refine m_iald hX (j := 0) (by decide) h dX6_peopleLine_203 (fun x58 h => ?_)
    refine z_imul hX dX6_peopleLine_204 (z_iadd hX dX6_peopleLine_205 ?_)
    refine z_nmI h (fun x59 h => ?_)
    refine z_istore_n (L' := [(0, zA (some o)), (2, zI x56), (3, zI x59)]) hX rfl rfl (by decide) dX6_peopleLine_206 (z_aload_n hX 0 rfl rfl dX6_peopleLine_207 (m_getA hX fl_X6_7_5 mAr_1 dX6_peopleLine_208 (z_iload_n hX 2 rfl rfl dX6_peopleLine_211 (z_iconst hX (v := 0) (by decide) dX6_peopleLine_212 (z_iadd hX dX6_peopleLine_213 (z_iload_n hX 1 rfl rfl dX6_peopleLine_214 ?_))))))
    refine m_iast hX hP (j := 0) (by decide) h dX6_peopleLine_215 (fun M60 h => ?_)
    refine z_aload_n hX 0 rfl rfl dX6_peopleLine_216 (m_getA hX fl_X6_7_5 mAr_1 dX6_peopleLine_217 (z_iload_n hX 2 rfl rfl dX6_peopleLine_220 (z_iconst hX (v := 1) (by decide) dX6_peopleLine_221 (z_iadd hX dX6_peopleLine_222 (z_iconst hX (v := 0) (by decide) dX6_peopleLine_223 ?_)))))
    refine m_iast hX hP (j := 0) (by decide) h dX6_peopleLine_224 (fun M61 h => ?_)
    refine z_aload_n hX 0 rfl rfl dX6_peopleLine_225 (m_getA hX fl_X6_7_5 mAr_1 dX6_peopleLine_226 (z_iload_n hX 2 rfl rfl dX6_peopleLine_229 (z_iconst hX (v := 2) (by decide) dX6_peopleLine_230 (z_iadd hX dX6_peopleLine_231 (z_iconst hX (v := 0) (by decide) dX6_peopleLine_232 ?_)))))
    refine m_iast hX hP (j := 0) (by decide) h dX6_peopleLine_233 (fun M62 h => ?_)
    refine z_aload_n hX 0 rfl rfl dX6_peopleLine_234 (m_getA hX fl_X6_7_5 mAr_1 dX6_peopleLine_235 (z_iconst hX (v := 3) (by decide) dX6_peopleLine_238 (z_dup2 hX rfl rfl dX6_peopleLine_239 ?_)))
    refine m_iald hX (j := 0) (by decide) h dX6_peopleLine_240 (fun x63 h => ?_)
    refine z_iconst hX (v := 1) (by decide) dX6_peopleLine_241 (z_iadd hX dX6_peopleLine_242 ?_)
    refine m_iast hX hP (j := 0) (by decide) h dX6_peopleLine_243 (fun M64 h => ?_)
    refine z_goto (tgt := 417) hX dX6_peopleLine_244 (by decide) ?_
    obtain rfl := Option.some.inj h
    exact z_vret hX dX6_peopleLine_417
  · obtain rfl := Option.some.inj h
    exact z_vret hX dX6_peopleLine_194

def g_X6_peopleLine_34 (M : mS) : Option (Unit × mS) :=
  zb2 (g_X6_figures 0 99999 5 M) fun x76 M77 =>
  if (M77.1 10) = (-1) then
    (mL M77 0 1).bind fun x78 =>
    (mSt M77 0 (12 + x78) x76).bind fun M79 =>
    (mL M79 0 1).bind fun x80 =>
    (mSt M79 0 1 (x80 + 1)).bind fun M81 =>
    some ((), M81)
  else
    some ((), M77)

set_option maxHeartbeats 4000000 in
theorem m_X6_peopleLine_34 {X : zX} (hX : zOk X RX6 cX6_peopleLine 4 8 195 (Option.none : Option Jvm.ClassFile.FieldType) "peopleLine" []) {σ : zS} {o : Nat} (hP : zP σ o) {Rt : Unit × mS} {M : mS} (h : g_X6_peopleLine_34 M = some Rt) : zG X (zQ X (.inl (eU Rt.1)) (pM σ o Rt.2)) 4 34 [(0, zA (some o))] [] (pM σ o M) := by
  unfold g_X6_peopleLine_34 at h
  refine z_aload_n hX 0 rfl rfl dX6_peopleLine_34 (z_iconst hX (v := 0) (by decide) dX6_peopleLine_35 (z_ldc hX (v := 99999) q1950 dX6_peopleLine_36 (z_iconst hX (v := 5) (by decide) dX6_peopleLine_38 ?_)))
  refine m_cNI hX (rest := []) h (fun r9 M9 e9 => z_runV hX lk_X6_85 (c_X6_figures hX.tr hP e9) (ci := 5) zc9_5 pM_cl ⟨Nat.le_of_ble_eq_true rfl, Nat.le_of_ble_eq_true rfl⟩ rfl (Nat.le_of_ble_eq_true rfl) dX6_peopleLine_39 rfl) (fun x76 M77 h => ?_)
  refine z_istore_n (L' := [(0, zA (some o)), (2, zI x76)]) hX rfl rfl (by decide) dX6_peopleLine_42 (z_aload_n hX 0 rfl rfl dX6_peopleLine_43 (m_getI hX fl_X6_22_5 mSc_10 dX6_peopleLine_44 (z_iconst hX (v := (-1)) (by decide) dX6_peopleLine_47 ?_)))
  refine z_icmp_eq (tgt := 52) hX h dX6_peopleLine_48 (by decide) (fun h => ?_) (fun h => ?_)
  · refine z_aload_n hX 0 rfl rfl dX6_peopleLine_52 (m_getA hX fl_X6_7_5 mAr_1 dX6_peopleLine_53 (z_bipush hX (v := 12) (by decide) dX6_peopleLine_56 (z_aload_n hX 0 rfl rfl dX6_peopleLine_58 (m_getA hX fl_X6_7_5 mAr_1 dX6_peopleLine_59 (z_iconst hX (v := 1) (by decide) dX6_peopleLine_62 ?_)))))
    refine m_iald hX (j := 0) (by decide) h dX6_peopleLine_63 (fun x78 h => ?_)
    refine z_iadd hX dX6_peopleLine_64 (z_iload_n hX 1 rfl rfl dX6_peopleLine_65 ?_)
    refine m_iast hX hP (j := 0) (by decide) h dX6_peopleLine_66 (fun M79 h => ?_)
    refine z_aload_n hX 0 rfl rfl dX6_peopleLine_67 (m_getA hX fl_X6_7_5 mAr_1 dX6_peopleLine_68 (z_iconst hX (v := 1) (by decide) dX6_peopleLine_71 (z_dup2 hX rfl rfl dX6_peopleLine_72 ?_)))
    refine m_iald hX (j := 0) (by decide) h dX6_peopleLine_73 (fun x80 h => ?_)
    refine z_iconst hX (v := 1) (by decide) dX6_peopleLine_74 (z_iadd hX dX6_peopleLine_75 ?_)
    refine m_iast hX hP (j := 0) (by decide) h dX6_peopleLine_76 (fun M81 h => ?_)
    refine z_goto (tgt := 417) hX dX6_peopleLine_77 (by decide) ?_
    obtain rfl := Option.some.inj h
    exact z_vret hX dX6_peopleLine_417
  · obtain rfl := Option.some.inj h
    exact z_vret hX dX6_peopleLine_51

def g_X6_peopleLine (M : mS) : Option (Unit × mS) :=
  zb2 (g_X6_skip M) fun _ M2 =>
  zl (M2.1 9) fun x3 =>
  zb2 (g_X6_has 0 M2) fun x5 M6 =>
  if x5 = 0 then
    zb2 (g_X6_has 1 M6) fun x8 M9 =>
    if x8 = 0 then
      zb2 (g_X6_has 2 M9) fun x11 M12 =>
      if x11 = 0 then
        zb2 (g_X6_has 3 M12) fun x14 M15 =>
        if x14 = 0 then
          zb2 (g_X6_has 4 M15) fun x17 M18 =>
          if x17 = 0 then
            zb2 (g_X6_has 5 M18) fun x20 M21 =>
            if x20 = 0 then
              zb2 (g_X6_has 6 M21) fun x23 M24 =>
              if x23 = 0 then
                zb2 (g_X6_has 7 M24) fun x26 M27 =>
                if x26 = 0 then
                  zb2 (g_X6_has 8 M27) fun x29 M30 =>
                  if x29 = 0 then
                    zb2 (g_X6_wrong (M30.1 9) M30) fun _ M32 =>
                    some ((), M32)
                  else
                    (mL M30 0 5).bind fun x33 =>
                    if ¬ x33 = 12 then
                      g_X6_peopleLine_326 M30
                    else
                      zb2 (g_X6_wrong x3 M30) fun _ M48 =>
                      g_X6_peopleLine_326 M48
                else
                  zb2 (g_X6_figures 0 3 3 M27) fun x49 M50 =>
                  (mSt M50 0 7 x49).bind fun M51 =>
                  some ((), M51)
              else
                zb2 (g_X6_figures 1 999 3 M24) fun x52 M53 =>
                (mSt M53 0 6 x52).bind fun M54 =>
                some ((), M54)
            else
              (mL M21 0 3).bind fun x55 =>
              if ¬ x55 = 10 then
                g_X6_peopleLine_177 M21
              else
                zb2 (g_X6_wrong x3 M21) fun _ M66 =>
                g_X6_peopleLine_177 M66
          else
            zb2 (g_X6_comes 3 x3 M18) fun _ M68 =>
            some ((), M68)
        else
          zb2 (g_X6_comes 2 x3 M15) fun _ M70 =>
          some ((), M70)
      else
        zb2 (g_X6_comes 1 x3 M12) fun _ M72 =>
        some ((), M72)
    else
      zb2 (g_X6_comes 0 x3 M9) fun _ M74 =>
      some ((), M74)
  else
    (mL M6 0 1).bind fun x75 =>
    if ¬ x75 = 8 then
      g_X6_peopleLine_34 M6
    else
      zb2 (g_X6_wrong x3 M6) fun _ M83 =>
      g_X6_peopleLine_34 M83

set_option maxHeartbeats 4000000 in
theorem m_X6_peopleLine {X : zX} (hX : zOk X RX6 cX6_peopleLine 4 8 195 (Option.none : Option Jvm.ClassFile.FieldType) "peopleLine" []) {σ : zS} {o : Nat} (hP : zP σ o) {M : mS} {Rt : Unit × mS} (h : g_X6_peopleLine M = some Rt) : zG X (zQ X (.inl (eU Rt.1)) (pM σ o Rt.2)) 4 0 [(0, zA (some o))] [] (pM σ o M) := by
  unfold g_X6_peopleLine at h
  refine z_aload_n hX 0 rfl rfl dX6_peopleLine_0 ?_
  refine m_cNU hX (rest := []) h (fun r9 M9 e9 => z_runV hX lk_X6_64 (c_X6_skip hX.tr hP e9) (ci := 5) zc9_5 pM_cl ⟨Nat.le_of_ble_eq_true rfl, Nat.le_of_ble_eq_true rfl⟩ rfl (Nat.le_of_ble_eq_true rfl) dX6_peopleLine_1 rfl) (fun _ M2 h => ?_)
  refine z_aload_n hX 0 rfl rfl dX6_peopleLine_4 (m_getI hX fl_X6_54_5 mSc_9 dX6_peopleLine_5 ?_)
  refine z_nmI h (fun x3 h => ?_)
  refine z_istore_n (L' := [(0, zA (some o)), (1, zI x3)]) hX rfl rfl (by decide) dX6_peopleLine_8 (z_aload_n hX 0 rfl rfl dX6_peopleLine_9 ?_)
  refine m_ldcS (i := 0) hX st_X6_97 (by decide) dX6_peopleLine_10 (fun a4 ha_a4 => ?_)
  refine m_cNI hX (rest := []) h (fun r9 M9 e9 => z_runV hX lk_X6_81 (c_X6_has hX.tr hP ha_a4 e9) (ci := 5) zc9_5 pM_cl ⟨Nat.le_of_ble_eq_true rfl, Nat.le_of_ble_eq_true rfl⟩ rfl (Nat.le_of_ble_eq_true rfl) dX6_peopleLine_12 rfl) (fun x5 M6 h => ?_)
  refine z_if_eq (tgt := 80) hX h dX6_peopleLine_15 (by decide) (fun h => ?_) (fun h => ?_)
  · refine z_aload_n hX 0 rfl rfl dX6_peopleLine_80 ?_
    refine m_ldcS (i := 1) hX st_X6_100 (by decide) dX6_peopleLine_81 (fun a7 ha_a7 => ?_)
    refine m_cNI hX (rest := []) h (fun r9 M9 e9 => z_runV hX lk_X6_81 (c_X6_has hX.tr hP ha_a7 e9) (ci := 5) zc9_5 pM_cl ⟨Nat.le_of_ble_eq_true rfl, Nat.le_of_ble_eq_true rfl⟩ rfl (Nat.le_of_ble_eq_true rfl) dX6_peopleLine_83 rfl) (fun x8 M9 h => ?_)
    refine z_if_eq (tgt := 98) hX h dX6_peopleLine_86 (by decide) (fun h => ?_) (fun h => ?_)
    · refine z_aload_n hX 0 rfl rfl dX6_peopleLine_98 ?_
      refine m_ldcS (i := 2) hX st_X6_106 (by decide) dX6_peopleLine_99 (fun a10 ha_a10 => ?_)
      refine m_cNI hX (rest := []) h (fun r9 M9 e9 => z_runV hX lk_X6_81 (c_X6_has hX.tr hP ha_a10 e9) (ci := 5) zc9_5 pM_cl ⟨Nat.le_of_ble_eq_true rfl, Nat.le_of_ble_eq_true rfl⟩ rfl (Nat.le_of_ble_eq_true rfl) dX6_peopleLine_101 rfl) (fun x11 M12 h => ?_)
      refine z_if_eq (tgt := 116) hX h dX6_peopleLine_104 (by decide) (fun h => ?_) (fun h => ?_)
      · refine z_aload_n hX 0 rfl rfl dX6_peopleLine_116 ?_
        refine m_ldcS (i := 3) hX st_X6_108 (by decide) dX6_peopleLine_117 (fun a13 ha_a13 => ?_)
        refine m_cNI hX (rest := []) h (fun r9 M9 e9 => z_runV hX lk_X6_81 (c_X6_has hX.tr hP ha_a13 e9) (ci := 5) zc9_5 pM_cl ⟨Nat.le_of_ble_eq_true rfl, Nat.le_of_ble_eq_true rfl⟩ rfl (Nat.le_of_ble_eq_true rfl) dX6_peopleLine_119 rfl) (fun x14 M15 h => ?_)
        refine z_if_eq (tgt := 134) hX h dX6_peopleLine_122 (by decide) (fun h => ?_) (fun h => ?_)
        · refine z_aload_n hX 0 rfl rfl dX6_peopleLine_134 ?_
          refine m_ldcS (i := 4) hX st_X6_110 (by decide) dX6_peopleLine_135 (fun a16 ha_a16 => ?_)
          refine m_cNI hX (rest := []) h (fun r9 M9 e9 => z_runV hX lk_X6_81 (c_X6_has hX.tr hP ha_a16 e9) (ci := 5) zc9_5 pM_cl ⟨Nat.le_of_ble_eq_true rfl, Nat.le_of_ble_eq_true rfl⟩ rfl (Nat.le_of_ble_eq_true rfl) dX6_peopleLine_137 rfl) (fun x17 M18 h => ?_)
          refine z_if_eq (tgt := 152) hX h dX6_peopleLine_140 (by decide) (fun h => ?_) (fun h => ?_)
          · refine z_aload_n hX 0 rfl rfl dX6_peopleLine_152 ?_
            refine m_ldcS (i := 5) hX st_X6_112 (by decide) dX6_peopleLine_153 (fun a19 ha_a19 => ?_)
            refine m_cNI hX (rest := []) h (fun r9 M9 e9 => z_runV hX lk_X6_81 (c_X6_has hX.tr hP ha_a19 e9) (ci := 5) zc9_5 pM_cl ⟨Nat.le_of_ble_eq_true rfl, Nat.le_of_ble_eq_true rfl⟩ rfl (Nat.le_of_ble_eq_true rfl) dX6_peopleLine_155 rfl) (fun x20 M21 h => ?_)
            refine z_if_eq (tgt := 247) hX h dX6_peopleLine_158 (by decide) (fun h => ?_) (fun h => ?_)
            · refine z_aload_n hX 0 rfl rfl dX6_peopleLine_247 ?_
              refine m_ldcS (i := 6) hX st_X6_114 (by decide) dX6_peopleLine_248 (fun a22 ha_a22 => ?_)
              refine m_cNI hX (rest := []) h (fun r9 M9 e9 => z_runV hX lk_X6_81 (c_X6_has hX.tr hP ha_a22 e9) (ci := 5) zc9_5 pM_cl ⟨Nat.le_of_ble_eq_true rfl, Nat.le_of_ble_eq_true rfl⟩ rfl (Nat.le_of_ble_eq_true rfl) dX6_peopleLine_250 rfl) (fun x23 M24 h => ?_)
              refine z_if_eq (tgt := 275) hX h dX6_peopleLine_253 (by decide) (fun h => ?_) (fun h => ?_)
              · refine z_aload_n hX 0 rfl rfl dX6_peopleLine_275 ?_
                refine m_ldcS (i := 7) hX st_X6_116 (by decide) dX6_peopleLine_276 (fun a25 ha_a25 => ?_)
                refine m_cNI hX (rest := []) h (fun r9 M9 e9 => z_runV hX lk_X6_81 (c_X6_has hX.tr hP ha_a25 e9) (ci := 5) zc9_5 pM_cl ⟨Nat.le_of_ble_eq_true rfl, Nat.le_of_ble_eq_true rfl⟩ rfl (Nat.le_of_ble_eq_true rfl) dX6_peopleLine_278 rfl) (fun x26 M27 h => ?_)
                refine z_if_eq (tgt := 301) hX h dX6_peopleLine_281 (by decide) (fun h => ?_) (fun h => ?_)
                · refine z_aload_n hX 0 rfl rfl dX6_peopleLine_301 ?_
                  refine m_ldcS (i := 8) hX st_X6_118 (by decide) dX6_peopleLine_302 (fun a28 ha_a28 => ?_)
                  refine m_cNI hX (rest := []) h (fun r9 M9 e9 => z_runV hX lk_X6_81 (c_X6_has hX.tr hP ha_a28 e9) (ci := 5) zc9_5 pM_cl ⟨Nat.le_of_ble_eq_true rfl, Nat.le_of_ble_eq_true rfl⟩ rfl (Nat.le_of_ble_eq_true rfl) dX6_peopleLine_304 rfl) (fun x29 M30 h => ?_)
                  refine z_if_eq (tgt := 409) hX h dX6_peopleLine_307 (by decide) (fun h => ?_) (fun h => ?_)
                  · refine z_aload_n hX 0 rfl rfl dX6_peopleLine_409 (z_aload_n hX 0 rfl rfl dX6_peopleLine_410 (m_getI hX fl_X6_54_5 mSc_9 dX6_peopleLine_411 ?_))
                    refine m_cNU hX (rest := []) h (fun r9 M9 e9 => z_runV hX lk_X6_77 (c_X6_wrong hX.tr hP e9) (ci := 5) zc9_5 pM_cl ⟨Nat.le_of_ble_eq_true rfl, Nat.le_of_ble_eq_true rfl⟩ rfl (Nat.le_of_ble_eq_true rfl) dX6_peopleLine_414 rfl) (fun _ M32 h => ?_)
                    obtain rfl := Option.some.inj h
                    exact z_vret hX dX6_peopleLine_417
                  · refine z_aload_n hX 0 rfl rfl dX6_peopleLine_310 (m_getA hX fl_X6_7_5 mAr_1 dX6_peopleLine_311 (z_iconst hX (v := 5) (by decide) dX6_peopleLine_314 ?_))
                    refine m_iald hX (j := 0) (by decide) h dX6_peopleLine_315 (fun x33 h => ?_)
                    refine z_bipush hX (v := 12) (by decide) dX6_peopleLine_316 ?_
                    refine z_icmp_ne (tgt := 326) hX h dX6_peopleLine_318 (by decide) (fun h => ?_) (fun h => ?_)
                    · exact z_sub [0] rfl (m_X6_peopleLine_326 hX hP  h)
                    · refine z_aload_n hX 0 rfl rfl dX6_peopleLine_321 (z_iload_n hX 1 rfl rfl dX6_peopleLine_322 ?_)
                      refine m_cNU hX (rest := []) h (fun r9 M9 e9 => z_runV hX lk_X6_77 (c_X6_wrong hX.tr hP e9) (ci := 5) zc9_5 pM_cl ⟨Nat.le_of_ble_eq_true rfl, Nat.le_of_ble_eq_true rfl⟩ rfl (Nat.le_of_ble_eq_true rfl) dX6_peopleLine_323 rfl) (fun _ M48 h => ?_)
                      exact z_sub [0] rfl (m_X6_peopleLine_326 hX hP  h)
                · refine z_aload_n hX 0 rfl rfl dX6_peopleLine_284 (m_getA hX fl_X6_7_5 mAr_1 dX6_peopleLine_285 (z_bipush hX (v := 7) (by decide) dX6_peopleLine_288 (z_aload_n hX 0 rfl rfl dX6_peopleLine_290 (z_iconst hX (v := 0) (by decide) dX6_peopleLine_291 (z_iconst hX (v := 3) (by decide) dX6_peopleLine_292 (z_iconst hX (v := 3) (by decide) dX6_peopleLine_293 ?_))))))
                  refine m_cNI hX (rest := [zI 7, zA (some (o + 1))]) h (fun r9 M9 e9 => z_runV hX lk_X6_85 (c_X6_figures hX.tr hP e9) (ci := 5) zc9_5 pM_cl ⟨Nat.le_of_ble_eq_true rfl, Nat.le_of_ble_eq_true rfl⟩ rfl (Nat.le_of_ble_eq_true rfl) dX6_peopleLine_294 rfl) (fun x49 M50 h => ?_)
                  refine m_iast hX hP (j := 0) (by decide) h dX6_peopleLine_297 (fun M51 h => ?_)
                  refine z_goto (tgt := 417) hX dX6_peopleLine_298 (by decide) ?_
                  obtain rfl := Option.some.inj h
                  exact z_vret hX dX6_peopleLine_417
              · refine z_aload_n hX 0 rfl rfl dX6_peopleLine_256 (m_getA hX fl_X6_7_5 mAr_1 dX6_peopleLine_257 (z_bipush hX (v := 6) (by decide) dX6_peopleLine_260 (z_aload_n hX 0 rfl rfl dX6_peopleLine_262 (z_iconst hX (v := 1) (by decide) dX6_peopleLine_263 (z_sipush hX (v := 999) (by decide) dX6_peopleLine_264 (z_iconst hX (v := 3) (by decide) dX6_peopleLine_267 ?_))))))
                refine m_cNI hX (rest := [zI 6, zA (some (o + 1))]) h (fun r9 M9 e9 => z_runV hX lk_X6_85 (c_X6_figures hX.tr hP e9) (ci := 5) zc9_5 pM_cl ⟨Nat.le_of_ble_eq_true rfl, Nat.le_of_ble_eq_true rfl⟩ rfl (Nat.le_of_ble_eq_true rfl) dX6_peopleLine_268 rfl) (fun x52 M53 h => ?_)
                refine m_iast hX hP (j := 0) (by decide) h dX6_peopleLine_271 (fun M54 h => ?_)
                refine z_goto (tgt := 417) hX dX6_peopleLine_272 (by decide) ?_
                obtain rfl := Option.some.inj h
                exact z_vret hX dX6_peopleLine_417
            · refine z_aload_n hX 0 rfl rfl dX6_peopleLine_161 (m_getA hX fl_X6_7_5 mAr_1 dX6_peopleLine_162 (z_iconst hX (v := 3) (by decide) dX6_peopleLine_165 ?_))
              refine m_iald hX (j := 0) (by decide) h dX6_peopleLine_166 (fun x55 h => ?_)
              refine z_bipush hX (v := 10) (by decide) dX6_peopleLine_167 ?_
              refine z_icmp_ne (tgt := 177) hX h dX6_peopleLine_169 (by decide) (fun h => ?_) (fun h => ?_)
              · exact z_sub [0] rfl (m_X6_peopleLine_177 hX hP  h)
              · refine z_aload_n hX 0 rfl rfl dX6_peopleLine_172 (z_iload_n hX 1 rfl rfl dX6_peopleLine_173 ?_)
                refine m_cNU hX (rest := []) h (fun r9 M9 e9 => z_runV hX lk_X6_77 (c_X6_wrong hX.tr hP e9) (ci := 5) zc9_5 pM_cl ⟨Nat.le_of_ble_eq_true rfl, Nat.le_of_ble_eq_true rfl⟩ rfl (Nat.le_of_ble_eq_true rfl) dX6_peopleLine_174 rfl) (fun _ M66 h => ?_)
                exact z_sub [0] rfl (m_X6_peopleLine_177 hX hP  h)
          · refine z_aload_n hX 0 rfl rfl dX6_peopleLine_143 (z_iconst hX (v := 3) (by decide) dX6_peopleLine_144 (z_iload_n hX 1 rfl rfl dX6_peopleLine_145 ?_))
            refine m_cNU hX (rest := []) h (fun r9 M9 e9 => z_runV hX lk_X6_102 (c_X6_comes hX.tr hP e9) (ci := 5) zc9_5 pM_cl ⟨Nat.le_of_ble_eq_true rfl, Nat.le_of_ble_eq_true rfl⟩ rfl (Nat.le_of_ble_eq_true rfl) dX6_peopleLine_146 rfl) (fun _ M68 h => ?_)
            refine z_goto (tgt := 417) hX dX6_peopleLine_149 (by decide) ?_
            obtain rfl := Option.some.inj h
            exact z_vret hX dX6_peopleLine_417
        · refine z_aload_n hX 0 rfl rfl dX6_peopleLine_125 (z_iconst hX (v := 2) (by decide) dX6_peopleLine_126 (z_iload_n hX 1 rfl rfl dX6_peopleLine_127 ?_))
          refine m_cNU hX (rest := []) h (fun r9 M9 e9 => z_runV hX lk_X6_102 (c_X6_comes hX.tr hP e9) (ci := 5) zc9_5 pM_cl ⟨Nat.le_of_ble_eq_true rfl, Nat.le_of_ble_eq_true rfl⟩ rfl (Nat.le_of_ble_eq_true rfl) dX6_peopleLine_128 rfl) (fun _ M70 h => ?_)
          refine z_goto (tgt := 417) hX dX6_peopleLine_131 (by decide) ?_
          obtain rfl := Option.some.inj h
          exact z_vret hX dX6_peopleLine_417
      · refine z_aload_n hX 0 rfl rfl dX6_peopleLine_107 (z_iconst hX (v := 1) (by decide) dX6_peopleLine_108 (z_iload_n hX 1 rfl rfl dX6_peopleLine_109 ?_))
        refine m_cNU hX (rest := []) h (fun r9 M9 e9 => z_runV hX lk_X6_102 (c_X6_comes hX.tr hP e9) (ci := 5) zc9_5 pM_cl ⟨Nat.le_of_ble_eq_true rfl, Nat.le_of_ble_eq_true rfl⟩ rfl (Nat.le_of_ble_eq_true rfl) dX6_peopleLine_110 rfl) (fun _ M72 h => ?_)
        refine z_goto (tgt := 417) hX dX6_peopleLine_113 (by decide) ?_
        obtain rfl := Option.some.inj h
        exact z_vret hX dX6_peopleLine_417
    · refine z_aload_n hX 0 rfl rfl dX6_peopleLine_89 (z_iconst hX (v := 0) (by decide) dX6_peopleLine_90 (z_iload_n hX 1 rfl rfl dX6_peopleLine_91 ?_))
      refine m_cNU hX (rest := []) h (fun r9 M9 e9 => z_runV hX lk_X6_102 (c_X6_comes hX.tr hP e9) (ci := 5) zc9_5 pM_cl ⟨Nat.le_of_ble_eq_true rfl, Nat.le_of_ble_eq_true rfl⟩ rfl (Nat.le_of_ble_eq_true rfl) dX6_peopleLine_92 rfl) (fun _ M74 h => ?_)
      refine z_goto (tgt := 417) hX dX6_peopleLine_95 (by decide) ?_
      obtain rfl := Option.some.inj h
      exact z_vret hX dX6_peopleLine_417
  · refine z_aload_n hX 0 rfl rfl dX6_peopleLine_18 (m_getA hX fl_X6_7_5 mAr_1 dX6_peopleLine_19 (z_iconst hX (v := 1) (by decide) dX6_peopleLine_22 ?_))
    refine m_iald hX (j := 0) (by decide) h dX6_peopleLine_23 (fun x75 h => ?_)
    refine z_bipush hX (v := 8) (by decide) dX6_peopleLine_24 ?_
    refine z_icmp_ne (tgt := 34) hX h dX6_peopleLine_26 (by decide) (fun h => ?_) (fun h => ?_)
    · exact z_sub [0] rfl (m_X6_peopleLine_34 hX hP  h)
    · refine z_aload_n hX 0 rfl rfl dX6_peopleLine_29 (z_iload_n hX 1 rfl rfl dX6_peopleLine_30 ?_)
      refine m_cNU hX (rest := []) h (fun r9 M9 e9 => z_runV hX lk_X6_77 (c_X6_wrong hX.tr hP e9) (ci := 5) zc9_5 pM_cl ⟨Nat.le_of_ble_eq_true rfl, Nat.le_of_ble_eq_true rfl⟩ rfl (Nat.le_of_ble_eq_true rfl) dX6_peopleLine_31 rfl) (fun _ M83 h => ?_)
      exact z_sub [0] rfl (m_X6_peopleLine_34 hX hP  h)

theorem c_X6_peopleLine {l : Launch} {D : va_G} {tys : zTy} (hl : l.stackTraces = false) {σ : zS} {o : Nat} (hP : zP σ o) {M : mS} {Rt : Unit × mS} (h : g_X6_peopleLine M = some Rt) : zM l D tys yX6_peopleLine (ws_ yX6_peopleLine cX6_peopleLine 4 (Option.none : Option Jvm.ClassFile.FieldType)) 8 195 [zA (some o)] (pM σ o M) (.inl (eU Rt.1)) (pM σ o Rt.2) :=
  zM_in hl rfl (Nat.le_of_ble_eq_true rfl) (fun p e R s m args below meth c hX => z_L rfl (m_X6_peopleLine hX hP h))
def g_X6_read_106 (rec23 : Int32 → Int32 → mS → Option (Int32 × mS)) (v1 : Int32) (v3 : Int32) (M : mS) : Option (Int32 × mS) :=
  rec23 0 v3 M

set_option maxHeartbeats 4000000 in
theorem m_X6_read_106 {X : zX} (hX : zOk X RX6 cX6_read 4 90 2131 (Option.some Jvm.ClassFile.FieldType.int) "read" []) {σ : zS} {o : Nat} (hP : zP σ o) {Rt : Int32 × mS} {rec23 : Int32 → Int32 → mS → Option (Int32 × mS)} {v1 : Int32} {v3 : Int32} (hrec23 : ∀ (v2 : Int32) (v3 : Int32) (M : mS), rec23 v2 v3 M = some Rt → zG X (zQ X (.inl (eI Rt.1)) (pM σ o Rt.2)) 4 23 [(0, zA (some o)), (1, zI v1), (2, zI v2), (3, zI v3)] [] (pM σ o M)) {M : mS} (h : g_X6_read_106 rec23 v1 v3 M = some Rt) : zG X (zQ X (.inl (eI Rt.1)) (pM σ o Rt.2)) 4 106 [(0, zA (some o)), (1, zI v1), (3, zI v3)] [] (pM σ o M) := by
  unfold g_X6_read_106 at h
  refine z_iconst hX (v := 0) (by decide) dX6_read_106 (z_istore_n (L' := [(0, zA (some o)), (1, zI v1), (2, zI 0), (3, zI v3)]) hX rfl rfl (by decide) dX6_read_107 (z_goto (tgt := 23) hX dX6_read_108 (by decide) ?_))
  exact z_sub [0, 1, 2, 3] rfl (hrec23 _ _ _ h)

def g_X6_read_80 (rec23 : Int32 → Int32 → mS → Option (Int32 × mS)) (v1 : Int32) (v2 : Int32) (v3 : Int32) (M : mS) : Option (Int32 × mS) :=
  zl (v3 + 1) fun x7 =>
  zb2 (g_X6_skip M) fun _ M9 =>
  if ¬ (M9.1 10) = (-1) then
    g_X6_read_106 rec23 v1 x7 M9
  else
    if ¬ (M9.1 9) = (M9.1 8) then
      zb2 (g_X6_isSign 59 M9) fun x10 M11 =>
      if x10 = 0 then
        zb2 (g_X6_wrong (M11.1 9) M11) fun _ M13 =>
        rec23 v2 x7 M13
      else
        zl (mset M11 9 ((M11.1 9) + 1)) fun M14 =>
        rec23 v2 x7 M14
    else
      g_X6_read_106 rec23 v1 x7 M9

set_option maxHeartbeats 4000000 in
theorem m_X6_read_80 {X : zX} (hX : zOk X RX6 cX6_read 4 90 2131 (Option.some Jvm.ClassFile.FieldType.int) "read" []) {σ : zS} {o : Nat} (hP : zP σ o) {Rt : Int32 × mS} {rec23 : Int32 → Int32 → mS → Option (Int32 × mS)} {v1 : Int32} {v2 : Int32} {v3 : Int32} (hrec23 : ∀ (v2 : Int32) (v3 : Int32) (M : mS), rec23 v2 v3 M = some Rt → zG X (zQ X (.inl (eI Rt.1)) (pM σ o Rt.2)) 4 23 [(0, zA (some o)), (1, zI v1), (2, zI v2), (3, zI v3)] [] (pM σ o M)) {M : mS} (h : g_X6_read_80 rec23 v1 v2 v3 M = some Rt) : zG X (zQ X (.inl (eI Rt.1)) (pM σ o Rt.2)) 4 80 [(0, zA (some o)), (1, zI v1), (2, zI v2), (3, zI v3)] [] (pM σ o M) := by
  unfold g_X6_read_80 at h
  refine z_iinc hX (j := 3) h rfl (by decide) (by decide) dX6_read_80 (fun x7 h => z_L (L' := [(0, zA (some o)), (1, zI v1), (2, zI v2), (3, zI x7)]) rfl ?_)
  refine z_aload_n hX 0 rfl rfl dX6_read_83 ?_
  refine m_cNU hX (rest := []) h (fun r9 M9 e9 => z_runV hX lk_X6_64 (c_X6_skip hX.tr hP e9) (ci := 5) zc9_5 pM_cl ⟨Nat.le_of_ble_eq_true rfl, Nat.le_of_ble_eq_true rfl⟩ rfl (Nat.le_of_ble_eq_true rfl) dX6_read_84 rfl) (fun _ M9 h => ?_)
  refine z_aload_n hX 0 rfl rfl dX6_read_87 (m_getI hX fl_X6_22_5 mSc_10 dX6_read_88 (z_iconst hX (v := (-1)) (by decide) dX6_read_91 ?_))
  refine z_icmp_ne (tgt := 106) hX h dX6_read_92 (by decide) (fun h => ?_) (fun h => ?_)
  · exact z_sub [0, 1, 3] rfl (m_X6_read_106 hX hP hrec23 h)
  · refine z_aload_n hX 0 rfl rfl dX6_read_95 (m_getI hX fl_X6_54_5 mSc_9 dX6_read_96 (z_aload_n hX 0 rfl rfl dX6_read_99 (m_getI hX fl_X6_57_5 mSc_8 dX6_read_100 ?_)))
    refine z_icmp_ne (tgt := 111) hX h dX6_read_103 (by decide) (fun h => ?_) (fun h => ?_)
    · refine z_aload_n hX 0 rfl rfl dX6_read_111 (z_bipush hX (v := 59) (by decide) dX6_read_112 ?_)
      refine m_cNI hX (rest := []) h (fun r9 M9 e9 => z_runV hX lk_X6_131 (c_X6_isSign hX.tr hP e9) (ci := 5) zc9_5 pM_cl ⟨Nat.le_of_ble_eq_true rfl, Nat.le_of_ble_eq_true rfl⟩ rfl (Nat.le_of_ble_eq_true rfl) dX6_read_114 rfl) (fun x10 M11 h => ?_)
      refine z_if_eq (tgt := 133) hX h dX6_read_117 (by decide) (fun h => ?_) (fun h => ?_)
      · refine z_aload_n hX 0 rfl rfl dX6_read_133 (z_aload_n hX 0 rfl rfl dX6_read_134 (m_getI hX fl_X6_54_5 mSc_9 dX6_read_135 ?_))
        refine m_cNU hX (rest := []) h (fun r9 M9 e9 => z_runV hX lk_X6_77 (c_X6_wrong hX.tr hP e9) (ci := 5) zc9_5 pM_cl ⟨Nat.le_of_ble_eq_true rfl, Nat.le_of_ble_eq_true rfl⟩ rfl (Nat.le_of_ble_eq_true rfl) dX6_read_138 rfl) (fun _ M13 h => ?_)
        refine z_goto (tgt := 23) hX dX6_read_141 (by decide) ?_
        exact z_sub [0, 1, 2, 3] rfl (hrec23 _ _ _ h)
      · refine z_aload_n hX 0 rfl rfl dX6_read_120 (z_dup hX rfl dX6_read_121 (m_getI hX fl_X6_54_5 mSc_9 dX6_read_122 (z_iconst hX (v := 1) (by decide) dX6_read_125 (z_iadd hX dX6_read_126 ?_))))
        refine m_putI hX hP fp_X6_54_5 mSc_9 h dX6_read_127 (fun M14 h => ?_)
        refine z_goto (tgt := 23) hX dX6_read_130 (by decide) ?_
        exact z_sub [0, 1, 2, 3] rfl (hrec23 _ _ _ h)
    · exact z_sub [0, 1, 3] rfl (m_X6_read_106 hX hP hrec23 h)

def g_X6_read_51 (rec23 : Int32 → Int32 → mS → Option (Int32 × mS)) (v1 : Int32) (v2 : Int32) (v3 : Int32) (t0 : Int32) (t1 : Int32) (M : mS) : Option (Int32 × mS) :=
  if ¬ t0 = t1 then
    if v1 = 0 then
      zb2 (g_X6_peopleLine M) fun _ M6 =>
      g_X6_read_80 rec23 v1 v2 v3 M6
    else
      zb2 (g_X6_lawLine M) fun _ M16 =>
      g_X6_read_80 rec23 v1 v2 v3 M16
  else
    zb2 (g_X6_wrong (M.1 9) M) fun _ M18 =>
    g_X6_read_80 rec23 v1 v2 v3 M18

set_option maxHeartbeats 4000000 in
theorem m_X6_read_51 {X : zX} (hX : zOk X RX6 cX6_read 4 90 2131 (Option.some Jvm.ClassFile.FieldType.int) "read" []) {σ : zS} {o : Nat} (hP : zP σ o) {Rt : Int32 × mS} {rec23 : Int32 → Int32 → mS → Option (Int32 × mS)} {v1 : Int32} {v2 : Int32} {v3 : Int32} (hrec23 : ∀ (v2 : Int32) (v3 : Int32) (M : mS), rec23 v2 v3 M = some Rt → zG X (zQ X (.inl (eI Rt.1)) (pM σ o Rt.2)) 4 23 [(0, zA (some o)), (1, zI v1), (2, zI v2), (3, zI v3)] [] (pM σ o M)) {t0 : Int32} {t1 : Int32} {M : mS} (h : g_X6_read_51 rec23 v1 v2 v3 t0 t1 M = some Rt) : zG X (zQ X (.inl (eI Rt.1)) (pM σ o Rt.2)) 4 51 [(0, zA (some o)), (1, zI v1), (2, zI v2), (3, zI v3)] [zI t1, zI t0] (pM σ o M) := by
  unfold g_X6_read_51 at h
  refine z_icmp_ne (tgt := 65) hX h dX6_read_51 (by decide) (fun h => ?_) (fun h => ?_)
  · refine z_iload_n hX 1 rfl rfl dX6_read_65 ?_
    refine z_if_eq (tgt := 76) hX h dX6_read_66 (by decide) (fun h => ?_) (fun h => ?_)
    · refine z_aload_n hX 0 rfl rfl dX6_read_76 ?_
      refine m_cNU hX (rest := []) h (fun r9 M9 e9 => z_runV hX lk_X6_128 (c_X6_peopleLine hX.tr hP e9) (ci := 5) zc9_5 pM_cl ⟨Nat.le_of_ble_eq_true rfl, Nat.le_of_ble_eq_true rfl⟩ rfl (Nat.le_of_ble_eq_true rfl) dX6_read_77 rfl) (fun _ M6 h => ?_)
      exact z_sub [0, 1, 2, 3] rfl (m_X6_read_80 hX hP hrec23 h)
    · refine z_aload_n hX 0 rfl rfl dX6_read_69 ?_
      refine m_cNU hX (rest := []) h (fun r9 M9 e9 => z_runV hX lk_X6_125 (c_X6_lawLine hX.tr hP e9) (ci := 5) zc9_5 pM_cl ⟨Nat.le_of_ble_eq_true rfl, Nat.le_of_ble_eq_true rfl⟩ rfl (Nat.le_of_ble_eq_true rfl) dX6_read_70 rfl) (fun _ M16 h => ?_)
      refine z_goto (tgt := 80) hX dX6_read_73 (by decide) ?_
      exact z_sub [0, 1, 2, 3] rfl (m_X6_read_80 hX hP hrec23 h)
  · refine z_aload_n hX 0 rfl rfl dX6_read_54 (z_aload_n hX 0 rfl rfl dX6_read_55 (m_getI hX fl_X6_54_5 mSc_9 dX6_read_56 ?_))
    refine m_cNU hX (rest := []) h (fun r9 M9 e9 => z_runV hX lk_X6_77 (c_X6_wrong hX.tr hP e9) (ci := 5) zc9_5 pM_cl ⟨Nat.le_of_ble_eq_true rfl, Nat.le_of_ble_eq_true rfl⟩ rfl (Nat.le_of_ble_eq_true rfl) dX6_read_59 rfl) (fun _ M18 h => ?_)
    refine z_goto (tgt := 80) hX dX6_read_62 (by decide) ?_
    exact z_sub [0, 1, 2, 3] rfl (m_X6_read_80 hX hP hrec23 h)

def g_X6_read_23_b (v1 : Int32) (rec23 : Int32 → Int32 → mS → Option (Int32 × mS)) (v2 : Int32) (v3 : Int32) (M : mS) : Option (Int32 × mS) :=
  if v2 = 0 then
    some (v3, M)
  else
    if ¬ (M.1 10) = (-1) then
      some (v3, M)
    else
      zb2 (g_X6_skip M) fun _ M4 =>
      if v1 = 0 then
        g_X6_read_51 rec23 v1 v2 v3 v3 14 M4
      else
        g_X6_read_51 rec23 v1 v2 v3 v3 12 M4

def g_X6_read_23 (v1 : Int32) : Int32 → Int32 → mS → Option (Int32 × mS) := zlp2 (g_X6_read_23_b v1) NN
set_option maxHeartbeats 4000000 in
theorem m_X6_read_23_b {X : zX} (hX : zOk X RX6 cX6_read 4 90 2131 (Option.some Jvm.ClassFile.FieldType.int) "read" []) {σ : zS} {o : Nat} (hP : zP σ o) {Rt : Int32 × mS} {v1 : Int32} {rec23 : Int32 → Int32 → mS → Option (Int32 × mS)} (hrec23 : ∀ (v2 : Int32) (v3 : Int32) (M : mS), rec23 v2 v3 M = some Rt → zG X (zQ X (.inl (eI Rt.1)) (pM σ o Rt.2)) 4 23 [(0, zA (some o)), (1, zI v1), (2, zI v2), (3, zI v3)] [] (pM σ o M)) {v2 : Int32} {v3 : Int32} {M : mS} (h : g_X6_read_23_b v1 rec23 v2 v3 M = some Rt) : zG X (zQ X (.inl (eI Rt.1)) (pM σ o Rt.2)) 4 23 [(0, zA (some o)), (1, zI v1), (2, zI v2), (3, zI v3)] [] (pM σ o M) := by
  unfold g_X6_read_23_b at h
  refine z_iload_n hX 2 rfl rfl dX6_read_23 ?_
  refine z_if_eq (tgt := 144) hX h dX6_read_24 (by decide) (fun h => ?_) (fun h => ?_)
  · refine z_iload_n hX 3 rfl rfl dX6_read_144 ?_
    obtain rfl := Option.some.inj h
    exact z_iret hX dX6_read_145
  · refine z_aload_n hX 0 rfl rfl dX6_read_27 (m_getI hX fl_X6_22_5 mSc_10 dX6_read_28 (z_iconst hX (v := (-1)) (by decide) dX6_read_31 ?_))
    refine z_icmp_ne (tgt := 144) hX h dX6_read_32 (by decide) (fun h => ?_) (fun h => ?_)
    · refine z_iload_n hX 3 rfl rfl dX6_read_144 ?_
      obtain rfl := Option.some.inj h
      exact z_iret hX dX6_read_145
    · refine z_aload_n hX 0 rfl rfl dX6_read_35 ?_
      refine m_cNU hX (rest := []) h (fun r9 M9 e9 => z_runV hX lk_X6_64 (c_X6_skip hX.tr hP e9) (ci := 5) zc9_5 pM_cl ⟨Nat.le_of_ble_eq_true rfl, Nat.le_of_ble_eq_true rfl⟩ rfl (Nat.le_of_ble_eq_true rfl) dX6_read_36 rfl) (fun _ M4 h => ?_)
      refine z_iload_n hX 3 rfl rfl dX6_read_39 (z_iload_n hX 1 rfl rfl dX6_read_40 ?_)
      refine z_if_eq (tgt := 49) hX h dX6_read_41 (by decide) (fun h => ?_) (fun h => ?_)
      · refine z_bipush hX (v := 14) (by decide) dX6_read_49 ?_
        exact z_sub [0, 1, 2, 3] rfl (m_X6_read_51 hX hP hrec23 h)
      · refine z_bipush hX (v := 12) (by decide) dX6_read_44 (z_goto (tgt := 51) hX dX6_read_46 (by decide) ?_)
        exact z_sub [0, 1, 2, 3] rfl (m_X6_read_51 hX hP hrec23 h)

theorem m_X6_read_23 {X : zX} (hX : zOk X RX6 cX6_read 4 90 2131 (Option.some Jvm.ClassFile.FieldType.int) "read" []) {σ : zS} {o : Nat} (hP : zP σ o) {Rt : Int32 × mS} {v1 : Int32} {v2 : Int32} {v3 : Int32} {M : mS} (h : g_X6_read_23 v1 v2 v3 M = some Rt) : zG X (zQ X (.inl (eI Rt.1)) (pM σ o Rt.2)) 4 23 [(0, zA (some o)), (1, zI v1), (2, zI v2), (3, zI v3)] [] (pM σ o M) :=
  zlp2_ok (P := fun v2 v3 M => zG X (zQ X (.inl (eI Rt.1)) (pM σ o Rt.2)) 4 23 [(0, zA (some o)), (1, zI v1), (2, zI v2), (3, zI v3)] [] (pM σ o M)) (fun rec hr v2 v3 M h => m_X6_read_23_b hX hP hr h) NN v2 v3 M h
def g_X6_read_20 (v1 : Int32) (t0 : Int32) (M : mS) : Option (Int32 × mS) :=
  g_X6_read_23 v1 t0 0 M

set_option maxHeartbeats 4000000 in
theorem m_X6_read_20 {X : zX} (hX : zOk X RX6 cX6_read 4 90 2131 (Option.some Jvm.ClassFile.FieldType.int) "read" []) {σ : zS} {o : Nat} (hP : zP σ o) {Rt : Int32 × mS} {v1 : Int32} {t0 : Int32} {M : mS} (h : g_X6_read_20 v1 t0 M = some Rt) : zG X (zQ X (.inl (eI Rt.1)) (pM σ o Rt.2)) 4 20 [(0, zA (some o)), (1, zI v1)] [zI t0] (pM σ o M) := by
  unfold g_X6_read_20 at h
  refine z_istore_n (L' := [(0, zA (some o)), (1, zI v1), (2, zI t0)]) hX rfl rfl (by decide) dX6_read_20 (z_iconst hX (v := 0) (by decide) dX6_read_21 (z_istore_n (L' := [(0, zA (some o)), (1, zI v1), (2, zI t0), (3, zI 0)]) hX rfl rfl (by decide) dX6_read_22 ?_))
  exact z_sub [0, 1, 2, 3] rfl (m_X6_read_23 hX hP  h)

def g_X6_read (p1 : Int32) (M : mS) : Option (Int32 × mS) :=
  zb2 (g_X6_skip M) fun _ M2 =>
  if (M2.1 8) ≤ (M2.1 9) then
    g_X6_read_20 p1 0 M2
  else
    g_X6_read_20 p1 1 M2

set_option maxHeartbeats 4000000 in
theorem m_X6_read {X : zX} (hX : zOk X RX6 cX6_read 4 90 2131 (Option.some Jvm.ClassFile.FieldType.int) "read" []) {σ : zS} {o : Nat} (hP : zP σ o) {p1 : Int32} {M : mS} {Rt : Int32 × mS} (h : g_X6_read p1 M = some Rt) : zG X (zQ X (.inl (eI Rt.1)) (pM σ o Rt.2)) 4 0 [(0, zA (some o)), (1, zI p1)] [] (pM σ o M) := by
  unfold g_X6_read at h
  refine z_aload_n hX 0 rfl rfl dX6_read_0 ?_
  refine m_cNU hX (rest := []) h (fun r9 M9 e9 => z_runV hX lk_X6_64 (c_X6_skip hX.tr hP e9) (ci := 5) zc9_5 pM_cl ⟨Nat.le_of_ble_eq_true rfl, Nat.le_of_ble_eq_true rfl⟩ rfl (Nat.le_of_ble_eq_true rfl) dX6_read_1 rfl) (fun _ M2 h => ?_)
  refine z_aload_n hX 0 rfl rfl dX6_read_4 (m_getI hX fl_X6_54_5 mSc_9 dX6_read_5 (z_aload_n hX 0 rfl rfl dX6_read_8 (m_getI hX fl_X6_57_5 mSc_8 dX6_read_9 ?_)))
  refine z_icmp_ge (tgt := 19) hX h dX6_read_12 (by decide) (fun h => ?_) (fun h => ?_)
  · refine z_iconst hX (v := 0) (by decide) dX6_read_19 ?_
    exact z_sub [0, 1] rfl (m_X6_read_20 hX hP  h)
  · refine z_iconst hX (v := 1) (by decide) dX6_read_15 (z_goto (tgt := 20) hX dX6_read_16 (by decide) ?_)
    exact z_sub [0, 1] rfl (m_X6_read_20 hX hP  h)

theorem c_X6_read {l : Launch} {D : va_G} {tys : zTy} (hl : l.stackTraces = false) {σ : zS} {o : Nat} (hP : zP σ o) {p1 : Int32} {M : mS} {Rt : Int32 × mS} (h : g_X6_read p1 M = some Rt) : zM l D tys yX6_read (ws_ yX6_read cX6_read 4 (Option.some Jvm.ClassFile.FieldType.int)) 90 2131 [zA (some o), zI p1] (pM σ o M) (.inl (eI Rt.1)) (pM σ o Rt.2) :=
  zM_in hl rfl (Nat.le_of_ble_eq_true rfl) (fun p e R s m args below meth c hX => z_L rfl (m_X6_read hX hP h))
def g_X6_people_78_b (rec78 : Int32 → mS → Option (Int32 × mS)) (v1 : Int32) (M : mS) : Option (Int32 × mS) :=
  if 542 ≤ v1 then
    some ((0 : Int32), M)
  else
    (mL M 2 v1).bind fun x10 =>
    (mSt M 0 v1 x10).bind fun M11 =>
    zl (v1 + 1) fun x12 =>
    rec78 x12 M11

def g_X6_people_78 : Int32 → mS → Option (Int32 × mS) := zlp1 (g_X6_people_78_b) NN
set_option maxHeartbeats 4000000 in
theorem m_X6_people_78_b {X : zX} (hX : zOk X RX6 cX6_people 2 91 2154 (Option.some Jvm.ClassFile.FieldType.int) "people" []) {σ : zS} {o : Nat} (hP : zP σ o) {Rt : Int32 × mS} {rec78 : Int32 → mS → Option (Int32 × mS)} (hrec78 : ∀ (v1 : Int32) (M : mS), rec78 v1 M = some Rt → zG X (zQ X (.inl (eI Rt.1)) (pM σ o Rt.2)) 2 78 [(0, zA (some o)), (1, zI v1)] [] (pM σ o M)) {v1 : Int32} {M : mS} (h : g_X6_people_78_b rec78 v1 M = some Rt) : zG X (zQ X (.inl (eI Rt.1)) (pM σ o Rt.2)) 2 78 [(0, zA (some o)), (1, zI v1)] [] (pM σ o M) := by
  unfold g_X6_people_78_b at h
  refine z_iload_n hX 1 rfl rfl dX6_people_78 (z_sipush hX (v := 542) (by decide) dX6_people_79 ?_)
  refine z_icmp_ge (tgt := 103) hX h dX6_people_82 (by decide) (fun h => ?_) (fun h => ?_)
  · refine z_iconst hX (v := 0) (by decide) dX6_people_103 ?_
    obtain rfl := Option.some.inj h
    exact z_iret hX dX6_people_104
  · refine z_aload_n hX 0 rfl rfl dX6_people_85 (m_getA hX fl_X6_7_5 mAr_1 dX6_people_86 (z_iload_n hX 1 rfl rfl dX6_people_89 (z_aload_n hX 0 rfl rfl dX6_people_90 (m_getA hX fl_X6_16_5 mAr_4 dX6_people_91 (z_iload_n hX 1 rfl rfl dX6_people_94 ?_)))))
    refine m_iald hX (j := 2) (by decide) h dX6_people_95 (fun x10 h => ?_)
    refine m_iast hX hP (j := 0) (by decide) h dX6_people_96 (fun M11 h => ?_)
    refine z_iinc hX (j := 1) h rfl (by decide) (by decide) dX6_people_97 (fun x12 h => z_L (L' := [(0, zA (some o)), (1, zI x12)]) rfl ?_)
    refine z_goto (tgt := 78) hX dX6_people_100 (by decide) ?_
    exact z_sub [0, 1] rfl (hrec78 _ _ h)

theorem m_X6_people_78 {X : zX} (hX : zOk X RX6 cX6_people 2 91 2154 (Option.some Jvm.ClassFile.FieldType.int) "people" []) {σ : zS} {o : Nat} (hP : zP σ o) {Rt : Int32 × mS} {v1 : Int32} {M : mS} (h : g_X6_people_78 v1 M = some Rt) : zG X (zQ X (.inl (eI Rt.1)) (pM σ o Rt.2)) 2 78 [(0, zA (some o)), (1, zI v1)] [] (pM σ o M) :=
  zlp1_ok (P := fun v1 M => zG X (zQ X (.inl (eI Rt.1)) (pM σ o Rt.2)) 2 78 [(0, zA (some o)), (1, zI v1)] [] (pM σ o M)) (fun rec hr v1 M h => m_X6_people_78_b hX hP hr h) NN v1 M h
def g_X6_people_66 (t1 : Int32) (M : mS) : Option (Int32 × mS) :=
  zl (mset M 0 t1) fun M6 =>
  if (M6.1 0) ≤ 0 then
    (mL M6 0 0).bind fun x7 =>
    (mSt M6 0 0 (x7 + 1)).bind fun M8 =>
    (mL M8 0 0).bind fun x9 =>
    some (x9, M8)
  else
    g_X6_people_78 0 M6

set_option maxHeartbeats 4000000 in
theorem m_X6_people_66 {X : zX} (hX : zOk X RX6 cX6_people 2 91 2154 (Option.some Jvm.ClassFile.FieldType.int) "people" []) {σ : zS} {o : Nat} (hP : zP σ o) {Rt : Int32 × mS} {t1 : Int32} {M : mS} (h : g_X6_people_66 t1 M = some Rt) : zG X (zQ X (.inl (eI Rt.1)) (pM σ o Rt.2)) 2 66 [(0, zA (some o))] [zI t1, zA (some o)] (pM σ o M) := by
  unfold g_X6_people_66 at h
  refine m_putI hX hP fp_X6_41_5 mSc_0 h dX6_people_66 (fun M6 h => ?_)
  refine z_aload_n hX 0 rfl rfl dX6_people_69 (m_getI hX fl_X6_41_5 mSc_0 dX6_people_70 ?_)
  refine z_if_le (tgt := 105) hX h dX6_people_73 (by decide) (fun h => ?_) (fun h => ?_)
  · refine z_aload_n hX 0 rfl rfl dX6_people_105 (m_getA hX fl_X6_7_5 mAr_1 dX6_people_106 (z_iconst hX (v := 0) (by decide) dX6_people_109 (z_dup2 hX rfl rfl dX6_people_110 ?_)))
    refine m_iald hX (j := 0) (by decide) h dX6_people_111 (fun x7 h => ?_)
    refine z_iconst hX (v := 1) (by decide) dX6_people_112 (z_iadd hX dX6_people_113 ?_)
    refine m_iast hX hP (j := 0) (by decide) h dX6_people_114 (fun M8 h => ?_)
    refine z_aload_n hX 0 rfl rfl dX6_people_115 (m_getA hX fl_X6_7_5 mAr_1 dX6_people_116 (z_iconst hX (v := 0) (by decide) dX6_people_119 ?_))
    refine m_iald hX (j := 0) (by decide) h dX6_people_120 (fun x9 h => ?_)
    obtain rfl := Option.some.inj h
    exact z_iret hX dX6_people_121
  · refine z_iconst hX (v := 0) (by decide) dX6_people_76 (z_istore_n (L' := [(0, zA (some o)), (1, zI 0)]) hX rfl rfl (by decide) dX6_people_77 ?_)
    exact z_sub [0, 1] rfl (m_X6_people_78 hX hP  h)

def g_X6_people_2_b (rec2 : Int32 → mS → Option (Int32 × mS)) (v1 : Int32) (M : mS) : Option (Int32 × mS) :=
  if 542 ≤ v1 then
    zb2 (g_X6_begins M) fun _ M2 =>
    zb2 (g_X6_read 0 M2) fun x3 M4 =>
    if (M4.1 10) = (-1) then
      (mL M4 0 0).bind fun x5 =>
      if ¬ x5 = 10 then
        g_X6_people_66  0 M4
      else
        g_X6_people_66  2 M4
    else
      g_X6_people_66  1 M4
  else
    (mL M 0 v1).bind fun x13 =>
    (mSt M 2 v1 x13).bind fun M14 =>
    zl (v1 + 1) fun x15 =>
    rec2 x15 M14

def g_X6_people_2 : Int32 → mS → Option (Int32 × mS) := zlp1 (g_X6_people_2_b) NN
set_option maxHeartbeats 4000000 in
theorem m_X6_people_2_b {X : zX} (hX : zOk X RX6 cX6_people 2 91 2154 (Option.some Jvm.ClassFile.FieldType.int) "people" []) {σ : zS} {o : Nat} (hP : zP σ o) {Rt : Int32 × mS} {rec2 : Int32 → mS → Option (Int32 × mS)} (hrec2 : ∀ (v1 : Int32) (M : mS), rec2 v1 M = some Rt → zG X (zQ X (.inl (eI Rt.1)) (pM σ o Rt.2)) 2 2 [(0, zA (some o)), (1, zI v1)] [] (pM σ o M)) {v1 : Int32} {M : mS} (h : g_X6_people_2_b rec2 v1 M = some Rt) : zG X (zQ X (.inl (eI Rt.1)) (pM σ o Rt.2)) 2 2 [(0, zA (some o)), (1, zI v1)] [] (pM σ o M) := by
  unfold g_X6_people_2_b at h
  refine z_iload_n hX 1 rfl rfl dX6_people_2 (z_sipush hX (v := 542) (by decide) dX6_people_3 ?_)
  refine z_icmp_ge (tgt := 27) hX h dX6_people_6 (by decide) (fun h => ?_) (fun h => ?_)
  · refine z_aload_n hX 0 rfl rfl dX6_people_27 ?_
    refine m_cNU hX (rest := []) h (fun r9 M9 e9 => z_runV hX lk_X6_135 (c_X6_begins hX.tr hP e9) (ci := 5) zc9_5 pM_cl ⟨Nat.le_of_ble_eq_true rfl, Nat.le_of_ble_eq_true rfl⟩ rfl (Nat.le_of_ble_eq_true rfl) dX6_people_28 rfl) (fun _ M2 h => ?_)
    refine z_aload_n hX 0 rfl rfl dX6_people_31 (z_iconst hX (v := 0) (by decide) dX6_people_32 ?_)
    refine m_cNI hX (rest := []) h (fun r9 M9 e9 => z_runV hX lk_X6_138 (c_X6_read hX.tr hP e9) (ci := 5) zc9_5 pM_cl ⟨Nat.le_of_ble_eq_true rfl, Nat.le_of_ble_eq_true rfl⟩ rfl (Nat.le_of_ble_eq_true rfl) dX6_people_33 rfl) (fun x3 M4 h => ?_)
    refine z_pop hX rfl dX6_people_36 (z_aload_n hX 0 rfl rfl dX6_people_37 (z_aload_n hX 0 rfl rfl dX6_people_38 (m_getI hX fl_X6_22_5 mSc_10 dX6_people_39 (z_iconst hX (v := (-1)) (by decide) dX6_people_42 ?_))))
    refine z_icmp_eq (tgt := 50) hX h dX6_people_43 (by decide) (fun h => ?_) (fun h => ?_)
    · refine z_aload_n hX 0 rfl rfl dX6_people_50 (m_getA hX fl_X6_7_5 mAr_1 dX6_people_51 (z_iconst hX (v := 0) (by decide) dX6_people_54 ?_))
      refine m_iald hX (j := 0) (by decide) h dX6_people_55 (fun x5 h => ?_)
      refine z_bipush hX (v := 10) (by decide) dX6_people_56 ?_
      refine z_icmp_ne (tgt := 65) hX h dX6_people_58 (by decide) (fun h => ?_) (fun h => ?_)
      · refine z_iconst hX (v := 0) (by decide) dX6_people_65 ?_
        exact z_sub [0] rfl (m_X6_people_66 hX hP  h)
      · refine z_iconst hX (v := 2) (by decide) dX6_people_61 (z_goto (tgt := 66) hX dX6_people_62 (by decide) ?_)
        exact z_sub [0] rfl (m_X6_people_66 hX hP  h)
    · refine z_iconst hX (v := 1) (by decide) dX6_people_46 (z_goto (tgt := 66) hX dX6_people_47 (by decide) ?_)
      exact z_sub [0] rfl (m_X6_people_66 hX hP  h)
  · refine z_aload_n hX 0 rfl rfl dX6_people_9 (m_getA hX fl_X6_16_5 mAr_4 dX6_people_10 (z_iload_n hX 1 rfl rfl dX6_people_13 (z_aload_n hX 0 rfl rfl dX6_people_14 (m_getA hX fl_X6_7_5 mAr_1 dX6_people_15 (z_iload_n hX 1 rfl rfl dX6_people_18 ?_)))))
    refine m_iald hX (j := 0) (by decide) h dX6_people_19 (fun x13 h => ?_)
    refine m_iast hX hP (j := 2) (by decide) h dX6_people_20 (fun M14 h => ?_)
    refine z_iinc hX (j := 1) h rfl (by decide) (by decide) dX6_people_21 (fun x15 h => z_L (L' := [(0, zA (some o)), (1, zI x15)]) rfl ?_)
    refine z_goto (tgt := 2) hX dX6_people_24 (by decide) ?_
    exact z_sub [0, 1] rfl (hrec2 _ _ h)

theorem m_X6_people_2 {X : zX} (hX : zOk X RX6 cX6_people 2 91 2154 (Option.some Jvm.ClassFile.FieldType.int) "people" []) {σ : zS} {o : Nat} (hP : zP σ o) {Rt : Int32 × mS} {v1 : Int32} {M : mS} (h : g_X6_people_2 v1 M = some Rt) : zG X (zQ X (.inl (eI Rt.1)) (pM σ o Rt.2)) 2 2 [(0, zA (some o)), (1, zI v1)] [] (pM σ o M) :=
  zlp1_ok (P := fun v1 M => zG X (zQ X (.inl (eI Rt.1)) (pM σ o Rt.2)) 2 2 [(0, zA (some o)), (1, zI v1)] [] (pM σ o M)) (fun rec hr v1 M h => m_X6_people_2_b hX hP hr h) NN v1 M h
def g_X6_people (M : mS) : Option (Int32 × mS) :=
  g_X6_people_2 0 M

set_option maxHeartbeats 4000000 in
theorem m_X6_people {X : zX} (hX : zOk X RX6 cX6_people 2 91 2154 (Option.some Jvm.ClassFile.FieldType.int) "people" []) {σ : zS} {o : Nat} (hP : zP σ o) {M : mS} {Rt : Int32 × mS} (h : g_X6_people M = some Rt) : zG X (zQ X (.inl (eI Rt.1)) (pM σ o Rt.2)) 2 0 [(0, zA (some o))] [] (pM σ o M) := by
  unfold g_X6_people at h
  refine z_iconst hX (v := 0) (by decide) dX6_people_0 (z_istore_n (L' := [(0, zA (some o)), (1, zI 0)]) hX rfl rfl (by decide) dX6_people_1 ?_)
  exact z_sub [0, 1] rfl (m_X6_people_2 hX hP  h)

theorem c_X6_people {l : Launch} {D : va_G} {tys : zTy} (hl : l.stackTraces = false) {σ : zS} {o : Nat} (hP : zP σ o) {M : mS} {Rt : Int32 × mS} (h : g_X6_people M = some Rt) : zM l D tys yX6_people (ws_ yX6_people cX6_people 2 (Option.some Jvm.ClassFile.FieldType.int)) 91 2154 [zA (some o)] (pM σ o M) (.inl (eI Rt.1)) (pM σ o Rt.2) :=
  zM_in hl rfl (Nat.le_of_ble_eq_true rfl) (fun p e R s m args below meth c hX => z_L rfl (m_X6_people hX hP h))
def g_X6_law_62_b (v1 : Int32) (rec62 : Int32 → mS → Option (Int32 × mS)) (v2 : Int32) (M : mS) : Option (Int32 × mS) :=
  if (M.1 8) ≤ v2 then
    some (v1, M)
  else
    (mL M 3 v2).bind fun x9 =>
    (mSt M 0 (542 + v2) x9).bind fun M10 =>
    zl (v2 + 1) fun x11 =>
    rec62 x11 M10

def g_X6_law_62 (v1 : Int32) : Int32 → mS → Option (Int32 × mS) := zlp1 (g_X6_law_62_b v1) NN
set_option maxHeartbeats 4000000 in
theorem m_X6_law_62_b {X : zX} (hX : zOk X RX6 cX6_law 3 91 2154 (Option.some Jvm.ClassFile.FieldType.int) "law" []) {σ : zS} {o : Nat} (hP : zP σ o) {Rt : Int32 × mS} {v1 : Int32} {rec62 : Int32 → mS → Option (Int32 × mS)} (hrec62 : ∀ (v2 : Int32) (M : mS), rec62 v2 M = some Rt → zG X (zQ X (.inl (eI Rt.1)) (pM σ o Rt.2)) 3 62 [(0, zA (some o)), (1, zI v1), (2, zI v2)] [] (pM σ o M)) {v2 : Int32} {M : mS} (h : g_X6_law_62_b v1 rec62 v2 M = some Rt) : zG X (zQ X (.inl (eI Rt.1)) (pM σ o Rt.2)) 3 62 [(0, zA (some o)), (1, zI v1), (2, zI v2)] [] (pM σ o M) := by
  unfold g_X6_law_62_b at h
  refine z_iload_n hX 2 rfl rfl dX6_law_62 (z_aload_n hX 0 rfl rfl dX6_law_63 (m_getI hX fl_X6_57_5 mSc_8 dX6_law_64 ?_))
  refine z_icmp_ge (tgt := 92) hX h dX6_law_67 (by decide) (fun h => ?_) (fun h => ?_)
  · refine z_iload_n hX 1 rfl rfl dX6_law_92 ?_
    obtain rfl := Option.some.inj h
    exact z_iret hX dX6_law_93
  · refine z_aload_n hX 0 rfl rfl dX6_law_70 (m_getA hX fl_X6_7_5 mAr_1 dX6_law_71 (z_sipush hX (v := 542) (by decide) dX6_law_74 (z_iload_n hX 2 rfl rfl dX6_law_77 (z_iadd hX dX6_law_78 (z_aload_n hX 0 rfl rfl dX6_law_79 (m_getA hX fl_X6_19_5 mAr_5 dX6_law_80 (z_iload_n hX 2 rfl rfl dX6_law_83 ?_)))))))
    refine m_iald hX (j := 3) (by decide) h dX6_law_84 (fun x9 h => ?_)
    refine m_iast hX hP (j := 0) (by decide) h dX6_law_85 (fun M10 h => ?_)
    refine z_iinc hX (j := 2) h rfl (by decide) (by decide) dX6_law_86 (fun x11 h => z_L (L' := [(0, zA (some o)), (1, zI v1), (2, zI x11)]) rfl ?_)
    refine z_goto (tgt := 62) hX dX6_law_89 (by decide) ?_
    exact z_sub [0, 1, 2] rfl (hrec62 _ _ h)

theorem m_X6_law_62 {X : zX} (hX : zOk X RX6 cX6_law 3 91 2154 (Option.some Jvm.ClassFile.FieldType.int) "law" []) {σ : zS} {o : Nat} (hP : zP σ o) {Rt : Int32 × mS} {v1 : Int32} {v2 : Int32} {M : mS} (h : g_X6_law_62 v1 v2 M = some Rt) : zG X (zQ X (.inl (eI Rt.1)) (pM σ o Rt.2)) 3 62 [(0, zA (some o)), (1, zI v1), (2, zI v2)] [] (pM σ o M) :=
  zlp1_ok (P := fun v2 M => zG X (zQ X (.inl (eI Rt.1)) (pM σ o Rt.2)) 3 62 [(0, zA (some o)), (1, zI v1), (2, zI v2)] [] (pM σ o M)) (fun rec hr v2 M h => m_X6_law_62_b hX hP hr h) NN v2 M h
def g_X6_law_29 (v1 : Int32) (t1 : Int32) (M : mS) : Option (Int32 × mS) :=
  zl (mset M 0 t1) fun M6 =>
  if (M6.1 0) ≤ 0 then
    (mSt M6 0 10 v1).bind fun M7 =>
    (mSt M7 0 11 (M7.1 8)).bind fun M8 =>
    g_X6_law_62 v1 0 M8
  else
    some ((0 : Int32), M6)

set_option maxHeartbeats 4000000 in
theorem m_X6_law_29 {X : zX} (hX : zOk X RX6 cX6_law 3 91 2154 (Option.some Jvm.ClassFile.FieldType.int) "law" []) {σ : zS} {o : Nat} (hP : zP σ o) {Rt : Int32 × mS} {v1 : Int32} {t1 : Int32} {M : mS} (h : g_X6_law_29 v1 t1 M = some Rt) : zG X (zQ X (.inl (eI Rt.1)) (pM σ o Rt.2)) 3 29 [(0, zA (some o)), (1, zI v1)] [zI t1, zA (some o)] (pM σ o M) := by
  unfold g_X6_law_29 at h
  refine m_putI hX hP fp_X6_41_5 mSc_0 h dX6_law_29 (fun M6 h => ?_)
  refine z_aload_n hX 0 rfl rfl dX6_law_32 (m_getI hX fl_X6_41_5 mSc_0 dX6_law_33 ?_)
  refine z_if_le (tgt := 41) hX h dX6_law_36 (by decide) (fun h => ?_) (fun h => ?_)
  · refine z_aload_n hX 0 rfl rfl dX6_law_41 (m_getA hX fl_X6_7_5 mAr_1 dX6_law_42 (z_bipush hX (v := 10) (by decide) dX6_law_45 (z_iload_n hX 1 rfl rfl dX6_law_47 ?_)))
    refine m_iast hX hP (j := 0) (by decide) h dX6_law_48 (fun M7 h => ?_)
    refine z_aload_n hX 0 rfl rfl dX6_law_49 (m_getA hX fl_X6_7_5 mAr_1 dX6_law_50 (z_bipush hX (v := 11) (by decide) dX6_law_53 (z_aload_n hX 0 rfl rfl dX6_law_55 (m_getI hX fl_X6_57_5 mSc_8 dX6_law_56 ?_))))
    refine m_iast hX hP (j := 0) (by decide) h dX6_law_59 (fun M8 h => ?_)
    refine z_iconst hX (v := 0) (by decide) dX6_law_60 (z_istore_n (L' := [(0, zA (some o)), (1, zI v1), (2, zI 0)]) hX rfl rfl (by decide) dX6_law_61 ?_)
    exact z_sub [0, 1, 2] rfl (m_X6_law_62 hX hP  h)
  · refine z_iconst hX (v := 0) (by decide) dX6_law_39 ?_
    obtain rfl := Option.some.inj h
    exact z_iret hX dX6_law_40

def g_X6_law (M : mS) : Option (Int32 × mS) :=
  zb2 (g_X6_begins M) fun _ M2 =>
  zl (mset M2 16 (-1)) fun M3 =>
  zb2 (g_X6_read 1 M3) fun x4 M5 =>
  if (M5.1 10) = (-1) then
    g_X6_law_29 x4 0 M5
  else
    g_X6_law_29 x4 1 M5

set_option maxHeartbeats 4000000 in
theorem m_X6_law {X : zX} (hX : zOk X RX6 cX6_law 3 91 2154 (Option.some Jvm.ClassFile.FieldType.int) "law" []) {σ : zS} {o : Nat} (hP : zP σ o) {M : mS} {Rt : Int32 × mS} (h : g_X6_law M = some Rt) : zG X (zQ X (.inl (eI Rt.1)) (pM σ o Rt.2)) 3 0 [(0, zA (some o))] [] (pM σ o M) := by
  unfold g_X6_law at h
  refine z_aload_n hX 0 rfl rfl dX6_law_0 ?_
  refine m_cNU hX (rest := []) h (fun r9 M9 e9 => z_runV hX lk_X6_135 (c_X6_begins hX.tr hP e9) (ci := 5) zc9_5 pM_cl ⟨Nat.le_of_ble_eq_true rfl, Nat.le_of_ble_eq_true rfl⟩ rfl (Nat.le_of_ble_eq_true rfl) dX6_law_1 rfl) (fun _ M2 h => ?_)
  refine z_aload_n hX 0 rfl rfl dX6_law_4 (z_iconst hX (v := (-1)) (by decide) dX6_law_5 ?_)
  refine m_putI hX hP fp_X6_193_5 mSc_16 h dX6_law_6 (fun M3 h => ?_)
  refine z_aload_n hX 0 rfl rfl dX6_law_9 (z_iconst hX (v := 1) (by decide) dX6_law_10 ?_)
  refine m_cNI hX (rest := []) h (fun r9 M9 e9 => z_runV hX lk_X6_138 (c_X6_read hX.tr hP e9) (ci := 5) zc9_5 pM_cl ⟨Nat.le_of_ble_eq_true rfl, Nat.le_of_ble_eq_true rfl⟩ rfl (Nat.le_of_ble_eq_true rfl) dX6_law_11 rfl) (fun x4 M5 h => ?_)
  refine z_istore_n (L' := [(0, zA (some o)), (1, zI x4)]) hX rfl rfl (by decide) dX6_law_14 (z_aload_n hX 0 rfl rfl dX6_law_15 (z_aload_n hX 0 rfl rfl dX6_law_16 (m_getI hX fl_X6_22_5 mSc_10 dX6_law_17 (z_iconst hX (v := (-1)) (by decide) dX6_law_20 ?_))))
  refine z_icmp_eq (tgt := 28) hX h dX6_law_21 (by decide) (fun h => ?_) (fun h => ?_)
  · refine z_iconst hX (v := 0) (by decide) dX6_law_28 ?_
    exact z_sub [0, 1] rfl (m_X6_law_29 hX hP  h)
  · refine z_iconst hX (v := 1) (by decide) dX6_law_24 (z_goto (tgt := 29) hX dX6_law_25 (by decide) ?_)
    exact z_sub [0, 1] rfl (m_X6_law_29 hX hP  h)

theorem c_X6_law {l : Launch} {D : va_G} {tys : zTy} (hl : l.stackTraces = false) {σ : zS} {o : Nat} (hP : zP σ o) {M : mS} {Rt : Int32 × mS} (h : g_X6_law M = some Rt) : zM l D tys yX6_law (ws_ yX6_law cX6_law 3 (Option.some Jvm.ClassFile.FieldType.int)) 91 2154 [zA (some o)] (pM σ o M) (.inl (eI Rt.1)) (pM σ o Rt.2) :=
  zM_in hl rfl (Nat.le_of_ble_eq_true rfl) (fun p e R s m args below meth c hX => z_L rfl (m_X6_law hX hP h))
def g_X6_fault (M : mS) : Option (Int32 × mS) :=
  zl (mset M 0 0) fun M1 =>
  some (M1.1 10, M1)

set_option maxHeartbeats 4000000 in
theorem m_X6_fault {X : zX} (hX : zOk X RX6 cX6_fault 1 1 40 (Option.some Jvm.ClassFile.FieldType.int) "fault" []) {σ : zS} {o : Nat} (hP : zP σ o) {M : mS} {Rt : Int32 × mS} (h : g_X6_fault M = some Rt) : zG X (zQ X (.inl (eI Rt.1)) (pM σ o Rt.2)) 1 0 [(0, zA (some o))] [] (pM σ o M) := by
  unfold g_X6_fault at h
  refine z_aload_n hX 0 rfl rfl dX6_fault_0 (z_iconst hX (v := 0) (by decide) dX6_fault_1 ?_)
  refine m_putI hX hP fp_X6_41_5 mSc_0 h dX6_fault_2 (fun M1 h => ?_)
  refine z_aload_n hX 0 rfl rfl dX6_fault_5 (m_getI hX fl_X6_22_5 mSc_10 dX6_fault_6 ?_)
  obtain rfl := Option.some.inj h
  exact z_iret hX dX6_fault_9

theorem c_X6_fault {l : Launch} {D : va_G} {tys : zTy} (hl : l.stackTraces = false) {σ : zS} {o : Nat} (hP : zP σ o) {M : mS} {Rt : Int32 × mS} (h : g_X6_fault M = some Rt) : zM l D tys yX6_fault (ws_ yX6_fault cX6_fault 1 (Option.some Jvm.ClassFile.FieldType.int)) 1 40 [zA (some o)] (pM σ o M) (.inl (eI Rt.1)) (pM σ o Rt.2) :=
  zM_in hl rfl (Nat.le_of_ble_eq_true rfl) (fun p e R s m args below meth c hX => z_L rfl (m_X6_fault hX hP h))
def g_X6_isHouse (p1 : Int32) (M : mS) : Option (Int32 × mS) :=
  (mL M 0 1).bind fun x1 =>
  zb2 (g_X6_isIn p1 0 (x1 - 1) M) fun x2 M3 =>
  zbo x2 (some (x2, M3))

set_option maxHeartbeats 4000000 in
theorem m_X6_isHouse {X : zX} (hX : zOk X RX6 cX6_isHouse 2 2 62 (Option.some Jvm.ClassFile.FieldType.boolean) "isHouse" []) {σ : zS} {o : Nat} (hP : zP σ o) {p1 : Int32} {M : mS} {Rt : Int32 × mS} (h : g_X6_isHouse p1 M = some Rt) : zG X (zQ X (.inl (eI Rt.1)) (pM σ o Rt.2)) 2 0 [(0, zA (some o)), (1, zI p1)] [] (pM σ o M) := by
  unfold g_X6_isHouse at h
  refine z_iload_n hX 1 rfl rfl dX6_isHouse_0 (z_iconst hX (v := 0) (by decide) dX6_isHouse_1 (z_aload_n hX 0 rfl rfl dX6_isHouse_2 (m_getA hX fl_X6_7_5 mAr_1 dX6_isHouse_3 (z_iconst hX (v := 1) (by decide) dX6_isHouse_6 ?_))))
  refine m_iald hX (j := 0) (by decide) h dX6_isHouse_7 (fun x1 h => ?_)
  refine z_iconst hX (v := 1) (by decide) dX6_isHouse_8 (z_isub hX dX6_isHouse_9 ?_)
  refine m_cNI hX (rest := []) h (fun r9 M9 e9 => z_runS hX lk_X6_44 (c_X6_isIn hX.tr hP e9) ⟨Nat.le_of_ble_eq_true rfl, Nat.le_of_ble_eq_true rfl⟩ rfl (Nat.le_of_ble_eq_true rfl) dX6_isHouse_10 rfl) (fun x2 M3 h => ?_)
  obtain ⟨n9, h⟩ := zbo_inv h
  obtain rfl := Option.some.inj h
  exact z_zretT hX n9 dX6_isHouse_13

theorem c_X6_isHouse {l : Launch} {D : va_G} {tys : zTy} (hl : l.stackTraces = false) {σ : zS} {o : Nat} (hP : zP σ o) {p1 : Int32} {M : mS} {Rt : Int32 × mS} (h : g_X6_isHouse p1 M = some Rt) : zM l D tys yX6_isHouse (ws_ yX6_isHouse cX6_isHouse 2 (Option.some Jvm.ClassFile.FieldType.boolean)) 2 62 [zA (some o), zI p1] (pM σ o M) (.inl (eI Rt.1)) (pM σ o Rt.2) :=
  zM_in hl rfl (Nat.le_of_ble_eq_true rfl) (fun p e R s m args below meth c hX => z_L rfl (m_X6_isHouse hX hP h))
def g_X6_ofWalker (p1 : Int32) (p2 : Int32) (M : mS) : Option (Int32 × mS) :=
  (mL M 0 ((20 + (4 * p1)) + p2)).bind fun x1 =>
  some (x1, M)

set_option maxHeartbeats 4000000 in
theorem m_X6_ofWalker {X : zX} (hX : zOk X RX6 cX6_ofWalker 3 1 40 (Option.some Jvm.ClassFile.FieldType.int) "ofWalker" []) {σ : zS} {o : Nat} (hP : zP σ o) {p1 : Int32} {p2 : Int32} {M : mS} {Rt : Int32 × mS} (h : g_X6_ofWalker p1 p2 M = some Rt) : zG X (zQ X (.inl (eI Rt.1)) (pM σ o Rt.2)) 3 0 [(0, zA (some o)), (1, zI p1), (2, zI p2)] [] (pM σ o M) := by
  unfold g_X6_ofWalker at h
  refine z_aload_n hX 0 rfl rfl dX6_ofWalker_0 (m_getA hX fl_X6_7_5 mAr_1 dX6_ofWalker_1 (z_bipush hX (v := 20) (by decide) dX6_ofWalker_4 (z_iconst hX (v := 4) (by decide) dX6_ofWalker_6 (z_iload_n hX 1 rfl rfl dX6_ofWalker_7 (z_imul hX dX6_ofWalker_8 (z_iadd hX dX6_ofWalker_9 (z_iload_n hX 2 rfl rfl dX6_ofWalker_10 (z_iadd hX dX6_ofWalker_11 ?_))))))))
  refine m_iald hX (j := 0) (by decide) h dX6_ofWalker_12 (fun x1 h => ?_)
  obtain rfl := Option.some.inj h
  exact z_iret hX dX6_ofWalker_13

theorem c_X6_ofWalker {l : Launch} {D : va_G} {tys : zTy} (hl : l.stackTraces = false) {σ : zS} {o : Nat} (hP : zP σ o) {p1 : Int32} {p2 : Int32} {M : mS} {Rt : Int32 × mS} (h : g_X6_ofWalker p1 p2 M = some Rt) : zM l D tys yX6_ofWalker (ws_ yX6_ofWalker cX6_ofWalker 3 (Option.some Jvm.ClassFile.FieldType.int)) 1 40 [zA (some o), zI p1, zI p2] (pM σ o M) (.inl (eI Rt.1)) (pM σ o Rt.2) :=
  zM_in hl rfl (Nat.le_of_ble_eq_true rfl) (fun p e R s m args below meth c hX => z_L rfl (m_X6_ofWalker hX hP h))
def g_X6_ofEntry (p1 : Int32) (p2 : Int32) (M : mS) : Option (Int32 × mS) :=
  (mL M 0 ((122 + (7 * p1)) + p2)).bind fun x1 =>
  some (x1, M)

set_option maxHeartbeats 4000000 in
theorem m_X6_ofEntry {X : zX} (hX : zOk X RX6 cX6_ofEntry 3 1 40 (Option.some Jvm.ClassFile.FieldType.int) "ofEntry" []) {σ : zS} {o : Nat} (hP : zP σ o) {p1 : Int32} {p2 : Int32} {M : mS} {Rt : Int32 × mS} (h : g_X6_ofEntry p1 p2 M = some Rt) : zG X (zQ X (.inl (eI Rt.1)) (pM σ o Rt.2)) 3 0 [(0, zA (some o)), (1, zI p1), (2, zI p2)] [] (pM σ o M) := by
  unfold g_X6_ofEntry at h
  refine z_aload_n hX 0 rfl rfl dX6_ofEntry_0 (m_getA hX fl_X6_7_5 mAr_1 dX6_ofEntry_1 (z_bipush hX (v := 122) (by decide) dX6_ofEntry_4 (z_bipush hX (v := 7) (by decide) dX6_ofEntry_6 (z_iload_n hX 1 rfl rfl dX6_ofEntry_8 (z_imul hX dX6_ofEntry_9 (z_iadd hX dX6_ofEntry_10 (z_iload_n hX 2 rfl rfl dX6_ofEntry_11 (z_iadd hX dX6_ofEntry_12 ?_))))))))
  refine m_iald hX (j := 0) (by decide) h dX6_ofEntry_13 (fun x1 h => ?_)
  obtain rfl := Option.some.inj h
  exact z_iret hX dX6_ofEntry_14

theorem c_X6_ofEntry {l : Launch} {D : va_G} {tys : zTy} (hl : l.stackTraces = false) {σ : zS} {o : Nat} (hP : zP σ o) {p1 : Int32} {p2 : Int32} {M : mS} {Rt : Int32 × mS} (h : g_X6_ofEntry p1 p2 M = some Rt) : zM l D tys yX6_ofEntry (ws_ yX6_ofEntry cX6_ofEntry 3 (Option.some Jvm.ClassFile.FieldType.int)) 1 40 [zA (some o), zI p1, zI p2] (pM σ o M) (.inl (eI Rt.1)) (pM σ o Rt.2) :=
  zM_in hl rfl (Nat.le_of_ble_eq_true rfl) (fun p e R s m args below meth c hX => z_L rfl (m_X6_ofEntry hX hP h))
def g_X6_beadsOf_30 (rec4 : Int32 → Int32 → mS → Option (Int32 × mS)) (v1 : Int32) (v3 : Int32) (t0 : Int32) (t1 : Int32) (M : mS) : Option (Int32 × mS) :=
  zl (t0 + t1) fun x4 =>
  zl (v3 + 1) fun x5 =>
  rec4 x4 x5 M

set_option maxHeartbeats 4000000 in
theorem m_X6_beadsOf_30 {X : zX} (hX : zOk X RX6 cX6_beadsOf 4 2 62 (Option.some Jvm.ClassFile.FieldType.int) "beadsOf" []) {σ : zS} {o : Nat} (hP : zP σ o) {Rt : Int32 × mS} {rec4 : Int32 → Int32 → mS → Option (Int32 × mS)} {v1 : Int32} {v3 : Int32} (hrec4 : ∀ (v2 : Int32) (v3 : Int32) (M : mS), rec4 v2 v3 M = some Rt → zG X (zQ X (.inl (eI Rt.1)) (pM σ o Rt.2)) 4 4 [(0, zA (some o)), (1, zI v1), (2, zI v2), (3, zI v3)] [] (pM σ o M)) {t0 : Int32} {t1 : Int32} {M : mS} (h : g_X6_beadsOf_30 rec4 v1 v3 t0 t1 M = some Rt) : zG X (zQ X (.inl (eI Rt.1)) (pM σ o Rt.2)) 4 30 [(0, zA (some o)), (1, zI v1), (3, zI v3)] [zI t1, zI t0] (pM σ o M) := by
  unfold g_X6_beadsOf_30 at h
  refine z_iadd hX dX6_beadsOf_30 ?_
  refine z_nmI h (fun x4 h => ?_)
  refine z_istore_n (L' := [(0, zA (some o)), (1, zI v1), (2, zI x4), (3, zI v3)]) hX rfl rfl (by decide) dX6_beadsOf_31 ?_
  refine z_iinc hX (j := 3) h rfl (by decide) (by decide) dX6_beadsOf_32 (fun x5 h => z_L (L' := [(0, zA (some o)), (1, zI v1), (2, zI x4), (3, zI x5)]) rfl ?_)
  refine z_goto (tgt := 4) hX dX6_beadsOf_35 (by decide) ?_
  exact z_sub [0, 1, 2, 3] rfl (hrec4 _ _ _ h)

def g_X6_beadsOf_4_b (v1 : Int32) (rec4 : Int32 → Int32 → mS → Option (Int32 × mS)) (v2 : Int32) (v3 : Int32) (M : mS) : Option (Int32 × mS) :=
  (mL M 0 4).bind fun x1 =>
  if x1 ≤ v3 then
    some (v2, M)
  else
    zb2 (g_X6_ofEntry v3 2 M) fun x2 M3 =>
    if ¬ x2 = v1 then
      g_X6_beadsOf_30 rec4 v1 v3 v2 0 M3
    else
      g_X6_beadsOf_30 rec4 v1 v3 v2 1 M3

def g_X6_beadsOf_4 (v1 : Int32) : Int32 → Int32 → mS → Option (Int32 × mS) := zlp2 (g_X6_beadsOf_4_b v1) NN
set_option maxHeartbeats 4000000 in
theorem m_X6_beadsOf_4_b {X : zX} (hX : zOk X RX6 cX6_beadsOf 4 2 62 (Option.some Jvm.ClassFile.FieldType.int) "beadsOf" []) {σ : zS} {o : Nat} (hP : zP σ o) {Rt : Int32 × mS} {v1 : Int32} {rec4 : Int32 → Int32 → mS → Option (Int32 × mS)} (hrec4 : ∀ (v2 : Int32) (v3 : Int32) (M : mS), rec4 v2 v3 M = some Rt → zG X (zQ X (.inl (eI Rt.1)) (pM σ o Rt.2)) 4 4 [(0, zA (some o)), (1, zI v1), (2, zI v2), (3, zI v3)] [] (pM σ o M)) {v2 : Int32} {v3 : Int32} {M : mS} (h : g_X6_beadsOf_4_b v1 rec4 v2 v3 M = some Rt) : zG X (zQ X (.inl (eI Rt.1)) (pM σ o Rt.2)) 4 4 [(0, zA (some o)), (1, zI v1), (2, zI v2), (3, zI v3)] [] (pM σ o M) := by
  unfold g_X6_beadsOf_4_b at h
  refine z_iload_n hX 3 rfl rfl dX6_beadsOf_4 (z_aload_n hX 0 rfl rfl dX6_beadsOf_5 (m_getA hX fl_X6_7_5 mAr_1 dX6_beadsOf_6 (z_iconst hX (v := 4) (by decide) dX6_beadsOf_9 ?_)))
  refine m_iald hX (j := 0) (by decide) h dX6_beadsOf_10 (fun x1 h => ?_)
  refine z_icmp_ge (tgt := 38) hX h dX6_beadsOf_11 (by decide) (fun h => ?_) (fun h => ?_)
  · refine z_iload_n hX 2 rfl rfl dX6_beadsOf_38 ?_
    obtain rfl := Option.some.inj h
    exact z_iret hX dX6_beadsOf_39
  · refine z_iload_n hX 2 rfl rfl dX6_beadsOf_14 (z_aload_n hX 0 rfl rfl dX6_beadsOf_15 (z_iload_n hX 3 rfl rfl dX6_beadsOf_16 (z_iconst hX (v := 2) (by decide) dX6_beadsOf_17 ?_)))
    refine m_cNI hX (rest := [zI v2]) h (fun r9 M9 e9 => z_runV hX lk_X6_196 (c_X6_ofEntry hX.tr hP e9) (ci := 5) zc9_5 pM_cl ⟨Nat.le_of_ble_eq_true rfl, Nat.le_of_ble_eq_true rfl⟩ rfl (Nat.le_of_ble_eq_true rfl) dX6_beadsOf_18 rfl) (fun x2 M3 h => ?_)
    refine z_iload_n hX 1 rfl rfl dX6_beadsOf_21 ?_
    refine z_icmp_ne (tgt := 29) hX h dX6_beadsOf_22 (by decide) (fun h => ?_) (fun h => ?_)
    · refine z_iconst hX (v := 0) (by decide) dX6_beadsOf_29 ?_
      exact z_sub [0, 1, 3] rfl (m_X6_beadsOf_30 hX hP hrec4 h)
    · refine z_iconst hX (v := 1) (by decide) dX6_beadsOf_25 (z_goto (tgt := 30) hX dX6_beadsOf_26 (by decide) ?_)
      exact z_sub [0, 1, 3] rfl (m_X6_beadsOf_30 hX hP hrec4 h)

theorem m_X6_beadsOf_4 {X : zX} (hX : zOk X RX6 cX6_beadsOf 4 2 62 (Option.some Jvm.ClassFile.FieldType.int) "beadsOf" []) {σ : zS} {o : Nat} (hP : zP σ o) {Rt : Int32 × mS} {v1 : Int32} {v2 : Int32} {v3 : Int32} {M : mS} (h : g_X6_beadsOf_4 v1 v2 v3 M = some Rt) : zG X (zQ X (.inl (eI Rt.1)) (pM σ o Rt.2)) 4 4 [(0, zA (some o)), (1, zI v1), (2, zI v2), (3, zI v3)] [] (pM σ o M) :=
  zlp2_ok (P := fun v2 v3 M => zG X (zQ X (.inl (eI Rt.1)) (pM σ o Rt.2)) 4 4 [(0, zA (some o)), (1, zI v1), (2, zI v2), (3, zI v3)] [] (pM σ o M)) (fun rec hr v2 v3 M h => m_X6_beadsOf_4_b hX hP hr h) NN v2 v3 M h
def g_X6_beadsOf (p1 : Int32) (M : mS) : Option (Int32 × mS) :=
  g_X6_beadsOf_4 p1 0 0 M

set_option maxHeartbeats 4000000 in
theorem m_X6_beadsOf {X : zX} (hX : zOk X RX6 cX6_beadsOf 4 2 62 (Option.some Jvm.ClassFile.FieldType.int) "beadsOf" []) {σ : zS} {o : Nat} (hP : zP σ o) {p1 : Int32} {M : mS} {Rt : Int32 × mS} (h : g_X6_beadsOf p1 M = some Rt) : zG X (zQ X (.inl (eI Rt.1)) (pM σ o Rt.2)) 4 0 [(0, zA (some o)), (1, zI p1)] [] (pM σ o M) := by
  unfold g_X6_beadsOf at h
  refine z_iconst hX (v := 0) (by decide) dX6_beadsOf_0 (z_istore_n (L' := [(0, zA (some o)), (1, zI p1), (2, zI 0)]) hX rfl rfl (by decide) dX6_beadsOf_1 (z_iconst hX (v := 0) (by decide) dX6_beadsOf_2 (z_istore_n (L' := [(0, zA (some o)), (1, zI p1), (2, zI 0), (3, zI 0)]) hX rfl rfl (by decide) dX6_beadsOf_3 ?_)))
  exact z_sub [0, 1, 2, 3] rfl (m_X6_beadsOf_4 hX hP  h)

theorem c_X6_beadsOf {l : Launch} {D : va_G} {tys : zTy} (hl : l.stackTraces = false) {σ : zS} {o : Nat} (hP : zP σ o) {p1 : Int32} {M : mS} {Rt : Int32 × mS} (h : g_X6_beadsOf p1 M = some Rt) : zM l D tys yX6_beadsOf (ws_ yX6_beadsOf cX6_beadsOf 4 (Option.some Jvm.ClassFile.FieldType.int)) 2 62 [zA (some o), zI p1] (pM σ o M) (.inl (eI Rt.1)) (pM σ o Rt.2) :=
  zM_in hl rfl (Nat.le_of_ble_eq_true rfl) (fun p e R s m args below meth c hX => z_L rfl (m_X6_beadsOf hX hP h))
def g_X6_house_72 (rec44 : Int32 → Int32 → mS → Option (Int32 × mS)) (v1 : Int32) (v2 : Int32) (v4 : Int32) (t0 : Int32) (t1 : Int32) (M : mS) : Option (Int32 × mS) :=
  zl (t0 + t1) fun x12 =>
  zl (v4 + 1) fun x13 =>
  rec44 x12 x13 M

set_option maxHeartbeats 4000000 in
theorem m_X6_house_72 {X : zX} (hX : zOk X RX6 cX6_house 5 3 85 (Option.some Jvm.ClassFile.FieldType.int) "house" []) {σ : zS} {o : Nat} (hP : zP σ o) {Rt : Int32 × mS} {rec44 : Int32 → Int32 → mS → Option (Int32 × mS)} {v1 : Int32} {v2 : Int32} {v4 : Int32} (hrec44 : ∀ (v3 : Int32) (v4 : Int32) (M : mS), rec44 v3 v4 M = some Rt → zG X (zQ X (.inl (eI Rt.1)) (pM σ o Rt.2)) 5 44 [(0, zA (some o)), (1, zI v1), (2, zI v2), (3, zI v3), (4, zI v4)] [] (pM σ o M)) {t0 : Int32} {t1 : Int32} {M : mS} (h : g_X6_house_72 rec44 v1 v2 v4 t0 t1 M = some Rt) : zG X (zQ X (.inl (eI Rt.1)) (pM σ o Rt.2)) 5 72 [(0, zA (some o)), (1, zI v1), (2, zI v2), (4, zI v4)] [zI t1, zI t0] (pM σ o M) := by
  unfold g_X6_house_72 at h
  refine z_iadd hX dX6_house_72 ?_
  refine z_nmI h (fun x12 h => ?_)
  refine z_istore_n (L' := [(0, zA (some o)), (1, zI v1), (2, zI v2), (3, zI x12), (4, zI v4)]) hX rfl rfl (by decide) dX6_house_73 ?_
  refine z_iinc hX (j := 4) h rfl (by decide) (by decide) dX6_house_74 (fun x13 h => z_L (L' := [(0, zA (some o)), (1, zI v1), (2, zI v2), (3, zI x12), (4, zI x13)]) rfl ?_)
  refine z_goto (tgt := 44) hX dX6_house_77 (by decide) ?_
  exact z_sub [0, 1, 2, 3, 4] rfl (hrec44 _ _ _ h)

def g_X6_house_44_b (v1 : Int32) (v2 : Int32) (rec44 : Int32 → Int32 → mS → Option (Int32 × mS)) (v3 : Int32) (v4 : Int32) (M : mS) : Option (Int32 × mS) :=
  (mL M 0 2).bind fun x6 =>
  if x6 ≤ v4 then
    if ¬ v2 = 0 then
      if ¬ v2 = 1 then
        zb2 (g_X6_beadsOf v1 M) fun x7 M8 =>
        some (x7, M8)
      else
        some (v3, M)
    else
      (mL M 0 (12 + v1)).bind fun x9 =>
      some (x9, M)
  else
    zb2 (g_X6_ofWalker v4 2 M) fun x10 M11 =>
    if ¬ x10 = v1 then
      g_X6_house_72 rec44 v1 v2 v4 v3 0 M11
    else
      g_X6_house_72 rec44 v1 v2 v4 v3 1 M11

def g_X6_house_44 (v1 : Int32) (v2 : Int32) : Int32 → Int32 → mS → Option (Int32 × mS) := zlp2 (g_X6_house_44_b v1 v2) NN
set_option maxHeartbeats 4000000 in
theorem m_X6_house_44_b {X : zX} (hX : zOk X RX6 cX6_house 5 3 85 (Option.some Jvm.ClassFile.FieldType.int) "house" []) {σ : zS} {o : Nat} (hP : zP σ o) {Rt : Int32 × mS} {v1 : Int32} {v2 : Int32} {rec44 : Int32 → Int32 → mS → Option (Int32 × mS)} (hrec44 : ∀ (v3 : Int32) (v4 : Int32) (M : mS), rec44 v3 v4 M = some Rt → zG X (zQ X (.inl (eI Rt.1)) (pM σ o Rt.2)) 5 44 [(0, zA (some o)), (1, zI v1), (2, zI v2), (3, zI v3), (4, zI v4)] [] (pM σ o M)) {v3 : Int32} {v4 : Int32} {M : mS} (h : g_X6_house_44_b v1 v2 rec44 v3 v4 M = some Rt) : zG X (zQ X (.inl (eI Rt.1)) (pM σ o Rt.2)) 5 44 [(0, zA (some o)), (1, zI v1), (2, zI v2), (3, zI v3), (4, zI v4)] [] (pM σ o M) := by
  unfold g_X6_house_44_b at h
  refine z_iload hX 4 rfl dX6_house_44 (z_aload_n hX 0 rfl rfl dX6_house_46 (m_getA hX fl_X6_7_5 mAr_1 dX6_house_47 (z_iconst hX (v := 2) (by decide) dX6_house_50 ?_)))
  refine m_iald hX (j := 0) (by decide) h dX6_house_51 (fun x6 h => ?_)
  refine z_icmp_ge (tgt := 80) hX h dX6_house_52 (by decide) (fun h => ?_) (fun h => ?_)
  · refine z_iload_n hX 2 rfl rfl dX6_house_80 ?_
    refine z_if_ne (tgt := 96) hX h dX6_house_81 (by decide) (fun h => ?_) (fun h => ?_)
    · refine z_iload_n hX 2 rfl rfl dX6_house_96 (z_iconst hX (v := 1) (by decide) dX6_house_97 ?_)
      refine z_icmp_ne (tgt := 105) hX h dX6_house_98 (by decide) (fun h => ?_) (fun h => ?_)
      · refine z_aload_n hX 0 rfl rfl dX6_house_105 (z_iload_n hX 1 rfl rfl dX6_house_106 ?_)
        refine m_cNI hX (rest := []) h (fun r9 M9 e9 => z_runV hX lk_X6_206 (c_X6_beadsOf hX.tr hP e9) (ci := 5) zc9_5 pM_cl ⟨Nat.le_of_ble_eq_true rfl, Nat.le_of_ble_eq_true rfl⟩ rfl (Nat.le_of_ble_eq_true rfl) dX6_house_107 rfl) (fun x7 M8 h => ?_)
        obtain rfl := Option.some.inj h
        exact z_iret hX dX6_house_110
      · refine z_iload_n hX 3 rfl rfl dX6_house_101 (z_goto (tgt := 110) hX dX6_house_102 (by decide) ?_)
        obtain rfl := Option.some.inj h
        exact z_iret hX dX6_house_110
    · refine z_aload_n hX 0 rfl rfl dX6_house_84 (m_getA hX fl_X6_7_5 mAr_1 dX6_house_85 (z_bipush hX (v := 12) (by decide) dX6_house_88 (z_iload_n hX 1 rfl rfl dX6_house_90 (z_iadd hX dX6_house_91 ?_))))
      refine m_iald hX (j := 0) (by decide) h dX6_house_92 (fun x9 h => ?_)
      refine z_goto (tgt := 110) hX dX6_house_93 (by decide) ?_
      obtain rfl := Option.some.inj h
      exact z_iret hX dX6_house_110
  · refine z_iload_n hX 3 rfl rfl dX6_house_55 (z_aload_n hX 0 rfl rfl dX6_house_56 (z_iload hX 4 rfl dX6_house_57 (z_iconst hX (v := 2) (by decide) dX6_house_59 ?_)))
    refine m_cNI hX (rest := [zI v3]) h (fun r9 M9 e9 => z_runV hX lk_X6_203 (c_X6_ofWalker hX.tr hP e9) (ci := 5) zc9_5 pM_cl ⟨Nat.le_of_ble_eq_true rfl, Nat.le_of_ble_eq_true rfl⟩ rfl (Nat.le_of_ble_eq_true rfl) dX6_house_60 rfl) (fun x10 M11 h => ?_)
    refine z_iload_n hX 1 rfl rfl dX6_house_63 ?_
    refine z_icmp_ne (tgt := 71) hX h dX6_house_64 (by decide) (fun h => ?_) (fun h => ?_)
    · refine z_iconst hX (v := 0) (by decide) dX6_house_71 ?_
      exact z_sub [0, 1, 2, 4] rfl (m_X6_house_72 hX hP hrec44 h)
    · refine z_iconst hX (v := 1) (by decide) dX6_house_67 (z_goto (tgt := 72) hX dX6_house_68 (by decide) ?_)
      exact z_sub [0, 1, 2, 4] rfl (m_X6_house_72 hX hP hrec44 h)

theorem m_X6_house_44 {X : zX} (hX : zOk X RX6 cX6_house 5 3 85 (Option.some Jvm.ClassFile.FieldType.int) "house" []) {σ : zS} {o : Nat} (hP : zP σ o) {Rt : Int32 × mS} {v1 : Int32} {v2 : Int32} {v3 : Int32} {v4 : Int32} {M : mS} (h : g_X6_house_44 v1 v2 v3 v4 M = some Rt) : zG X (zQ X (.inl (eI Rt.1)) (pM σ o Rt.2)) 5 44 [(0, zA (some o)), (1, zI v1), (2, zI v2), (3, zI v3), (4, zI v4)] [] (pM σ o M) :=
  zlp2_ok (P := fun v3 v4 M => zG X (zQ X (.inl (eI Rt.1)) (pM σ o Rt.2)) 5 44 [(0, zA (some o)), (1, zI v1), (2, zI v2), (3, zI v3), (4, zI v4)] [] (pM σ o M)) (fun rec hr v3 v4 M h => m_X6_house_44_b hX hP hr h) NN v3 v4 M h
def g_X6_house_27 (v1 : Int32) (v2 : Int32) (t1 : Int32) (M : mS) : Option (Int32 × mS) :=
  zl (mset M 0 t1) fun M5 =>
  if (M5.1 0) ≤ 0 then
    g_X6_house_44 v1 v2 0 0 M5
  else
    some ((0 : Int32), M5)

set_option maxHeartbeats 4000000 in
theorem m_X6_house_27 {X : zX} (hX : zOk X RX6 cX6_house 5 3 85 (Option.some Jvm.ClassFile.FieldType.int) "house" []) {σ : zS} {o : Nat} (hP : zP σ o) {Rt : Int32 × mS} {v1 : Int32} {v2 : Int32} {t1 : Int32} {M : mS} (h : g_X6_house_27 v1 v2 t1 M = some Rt) : zG X (zQ X (.inl (eI Rt.1)) (pM σ o Rt.2)) 5 27 [(0, zA (some o)), (1, zI v1), (2, zI v2)] [zI t1, zA (some o)] (pM σ o M) := by
  unfold g_X6_house_27 at h
  refine m_putI hX hP fp_X6_41_5 mSc_0 h dX6_house_27 (fun M5 h => ?_)
  refine z_aload_n hX 0 rfl rfl dX6_house_30 (m_getI hX fl_X6_41_5 mSc_0 dX6_house_31 ?_)
  refine z_if_le (tgt := 39) hX h dX6_house_34 (by decide) (fun h => ?_) (fun h => ?_)
  · refine z_iconst hX (v := 0) (by decide) dX6_house_39 (z_istore_n (L' := [(0, zA (some o)), (1, zI v1), (2, zI v2), (3, zI 0)]) hX rfl rfl (by decide) dX6_house_40 (z_iconst hX (v := 0) (by decide) dX6_house_41 (z_istore (L' := [(0, zA (some o)), (1, zI v1), (2, zI v2), (3, zI 0), (4, zI 0)]) hX rfl (by decide) dX6_house_42 ?_)))
    exact z_sub [0, 1, 2, 3, 4] rfl (m_X6_house_44 hX hP  h)
  · refine z_iconst hX (v := 0) (by decide) dX6_house_37 ?_
    obtain rfl := Option.some.inj h
    exact z_iret hX dX6_house_38

def g_X6_house (p1 : Int32) (p2 : Int32) (M : mS) : Option (Int32 × mS) :=
  zb2 (g_X6_isHouse p1 M) fun x1 M2 =>
  if ¬ x1 = 0 then
    zb2 (g_X6_isIn p2 0 2 M2) fun x3 M4 =>
    if ¬ x3 = 0 then
      g_X6_house_27 p1 p2 0 M4
    else
      g_X6_house_27 p1 p2 2 M4
  else
    g_X6_house_27 p1 p2 1 M2

set_option maxHeartbeats 4000000 in
theorem m_X6_house {X : zX} (hX : zOk X RX6 cX6_house 5 3 85 (Option.some Jvm.ClassFile.FieldType.int) "house" []) {σ : zS} {o : Nat} (hP : zP σ o) {p1 : Int32} {p2 : Int32} {M : mS} {Rt : Int32 × mS} (h : g_X6_house p1 p2 M = some Rt) : zG X (zQ X (.inl (eI Rt.1)) (pM σ o Rt.2)) 5 0 [(0, zA (some o)), (1, zI p1), (2, zI p2)] [] (pM σ o M) := by
  unfold g_X6_house at h
  refine z_aload_n hX 0 rfl rfl dX6_house_0 (z_aload_n hX 0 rfl rfl dX6_house_1 (z_iload_n hX 1 rfl rfl dX6_house_2 ?_))
  refine m_cNI hX (rest := [zA (some o)]) h (fun r9 M9 e9 => z_runV hX lk_X6_200 (c_X6_isHouse hX.tr hP e9) (ci := 5) zc9_5 pM_cl ⟨Nat.le_of_ble_eq_true rfl, Nat.le_of_ble_eq_true rfl⟩ rfl (Nat.le_of_ble_eq_true rfl) dX6_house_3 rfl) (fun x1 M2 h => ?_)
  refine z_if_ne (tgt := 13) hX h dX6_house_6 (by decide) (fun h => ?_) (fun h => ?_)
  · refine z_iload_n hX 2 rfl rfl dX6_house_13 (z_iconst hX (v := 0) (by decide) dX6_house_14 (z_iconst hX (v := 2) (by decide) dX6_house_15 ?_))
    refine m_cNI hX (rest := [zA (some o)]) h (fun r9 M9 e9 => z_runS hX lk_X6_44 (c_X6_isIn hX.tr hP e9) ⟨Nat.le_of_ble_eq_true rfl, Nat.le_of_ble_eq_true rfl⟩ rfl (Nat.le_of_ble_eq_true rfl) dX6_house_16 rfl) (fun x3 M4 h => ?_)
    refine z_if_ne (tgt := 26) hX h dX6_house_19 (by decide) (fun h => ?_) (fun h => ?_)
    · refine z_iconst hX (v := 0) (by decide) dX6_house_26 ?_
      exact z_sub [0, 1, 2] rfl (m_X6_house_27 hX hP  h)
    · refine z_iconst hX (v := 2) (by decide) dX6_house_22 (z_goto (tgt := 27) hX dX6_house_23 (by decide) ?_)
      exact z_sub [0, 1, 2] rfl (m_X6_house_27 hX hP  h)
  · refine z_iconst hX (v := 1) (by decide) dX6_house_9 (z_goto (tgt := 27) hX dX6_house_10 (by decide) ?_)
    exact z_sub [0, 1, 2] rfl (m_X6_house_27 hX hP  h)

theorem c_X6_house {l : Launch} {D : va_G} {tys : zTy} (hl : l.stackTraces = false) {σ : zS} {o : Nat} (hP : zP σ o) {p1 : Int32} {p2 : Int32} {M : mS} {Rt : Int32 × mS} (h : g_X6_house p1 p2 M = some Rt) : zM l D tys yX6_house (ws_ yX6_house cX6_house 5 (Option.some Jvm.ClassFile.FieldType.int)) 3 85 [zA (some o), zI p1, zI p2] (pM σ o M) (.inl (eI Rt.1)) (pM σ o Rt.2) :=
  zM_in hl rfl (Nat.le_of_ble_eq_true rfl) (fun p e R s m args below meth c hX => z_L rfl (m_X6_house hX hP h))
def g_X6_isWalker (p1 : Int32) (M : mS) : Option (Int32 × mS) :=
  (mL M 0 2).bind fun x1 =>
  zb2 (g_X6_isIn p1 0 (x1 - 1) M) fun x2 M3 =>
  zbo x2 (some (x2, M3))

set_option maxHeartbeats 4000000 in
theorem m_X6_isWalker {X : zX} (hX : zOk X RX6 cX6_isWalker 2 2 62 (Option.some Jvm.ClassFile.FieldType.boolean) "isWalker" []) {σ : zS} {o : Nat} (hP : zP σ o) {p1 : Int32} {M : mS} {Rt : Int32 × mS} (h : g_X6_isWalker p1 M = some Rt) : zG X (zQ X (.inl (eI Rt.1)) (pM σ o Rt.2)) 2 0 [(0, zA (some o)), (1, zI p1)] [] (pM σ o M) := by
  unfold g_X6_isWalker at h
  refine z_iload_n hX 1 rfl rfl dX6_isWalker_0 (z_iconst hX (v := 0) (by decide) dX6_isWalker_1 (z_aload_n hX 0 rfl rfl dX6_isWalker_2 (m_getA hX fl_X6_7_5 mAr_1 dX6_isWalker_3 (z_iconst hX (v := 2) (by decide) dX6_isWalker_6 ?_))))
  refine m_iald hX (j := 0) (by decide) h dX6_isWalker_7 (fun x1 h => ?_)
  refine z_iconst hX (v := 1) (by decide) dX6_isWalker_8 (z_isub hX dX6_isWalker_9 ?_)
  refine m_cNI hX (rest := []) h (fun r9 M9 e9 => z_runS hX lk_X6_44 (c_X6_isIn hX.tr hP e9) ⟨Nat.le_of_ble_eq_true rfl, Nat.le_of_ble_eq_true rfl⟩ rfl (Nat.le_of_ble_eq_true rfl) dX6_isWalker_10 rfl) (fun x2 M3 h => ?_)
  obtain ⟨n9, h⟩ := zbo_inv h
  obtain rfl := Option.some.inj h
  exact z_zretT hX n9 dX6_isWalker_13

theorem c_X6_isWalker {l : Launch} {D : va_G} {tys : zTy} (hl : l.stackTraces = false) {σ : zS} {o : Nat} (hP : zP σ o) {p1 : Int32} {M : mS} {Rt : Int32 × mS} (h : g_X6_isWalker p1 M = some Rt) : zM l D tys yX6_isWalker (ws_ yX6_isWalker cX6_isWalker 2 (Option.some Jvm.ClassFile.FieldType.boolean)) 2 62 [zA (some o), zI p1] (pM σ o M) (.inl (eI Rt.1)) (pM σ o Rt.2) :=
  zM_in hl rfl (Nat.le_of_ble_eq_true rfl) (fun p e R s m args below meth c hX => z_L rfl (m_X6_isWalker hX hP h))
def g_X6_walker_86 (rec56 : Int32 → Int32 → mS → Option (Int32 × mS)) (v1 : Int32) (v3 : Int32) (v4 : Int32) (M : mS) : Option (Int32 × mS) :=
  zl (v4 + 1) fun x9 =>
  rec56 v3 x9 M

set_option maxHeartbeats 4000000 in
theorem m_X6_walker_86 {X : zX} (hX : zOk X RX6 cX6_walker 5 3 83 (Option.some Jvm.ClassFile.FieldType.int) "walker" []) {σ : zS} {o : Nat} (hP : zP σ o) {Rt : Int32 × mS} {rec56 : Int32 → Int32 → mS → Option (Int32 × mS)} {v1 : Int32} {v3 : Int32} {v4 : Int32} (hrec56 : ∀ (v3 : Int32) (v4 : Int32) (M : mS), rec56 v3 v4 M = some Rt → zG X (zQ X (.inl (eI Rt.1)) (pM σ o Rt.2)) 5 56 [(0, zA (some o)), (1, zI v1), (3, zI v3), (4, zI v4)] [] (pM σ o M)) {M : mS} (h : g_X6_walker_86 rec56 v1 v3 v4 M = some Rt) : zG X (zQ X (.inl (eI Rt.1)) (pM σ o Rt.2)) 5 86 [(0, zA (some o)), (1, zI v1), (3, zI v3), (4, zI v4)] [] (pM σ o M) := by
  unfold g_X6_walker_86 at h
  refine z_iinc hX (j := 3) h rfl (by decide) (by decide) dX6_walker_86 (fun x9 h => z_L (L' := [(0, zA (some o)), (1, zI v1), (3, zI v3), (4, zI x9)]) rfl ?_)
  refine z_goto (tgt := 56) hX dX6_walker_89 (by decide) ?_
  exact z_sub [0, 1, 2, 3] rfl (hrec56 _ _ _ h)

def g_X6_walker_56_b (v1 : Int32) (rec56 : Int32 → Int32 → mS → Option (Int32 × mS)) (v3 : Int32) (v4 : Int32) (M : mS) : Option (Int32 × mS) :=
  (mL M 0 4).bind fun x6 =>
  if x6 ≤ v4 then
    some (v3, M)
  else
    zb2 (g_X6_ofEntry v4 1 M) fun x7 M8 =>
    if ¬ x7 = v1 then
      g_X6_walker_86 rec56 v1 v3 v4 M8
    else
      zb2 (g_X6_ofEntry v4 0 M8) fun x10 M11 =>
      g_X6_walker_86 rec56 v1 x10 v4 M11

def g_X6_walker_56 (v1 : Int32) : Int32 → Int32 → mS → Option (Int32 × mS) := zlp2 (g_X6_walker_56_b v1) NN
set_option maxHeartbeats 4000000 in
theorem m_X6_walker_56_b {X : zX} (hX : zOk X RX6 cX6_walker 5 3 83 (Option.some Jvm.ClassFile.FieldType.int) "walker" []) {σ : zS} {o : Nat} (hP : zP σ o) {Rt : Int32 × mS} {v1 : Int32} {rec56 : Int32 → Int32 → mS → Option (Int32 × mS)} (hrec56 : ∀ (v3 : Int32) (v4 : Int32) (M : mS), rec56 v3 v4 M = some Rt → zG X (zQ X (.inl (eI Rt.1)) (pM σ o Rt.2)) 5 56 [(0, zA (some o)), (1, zI v1), (3, zI v3), (4, zI v4)] [] (pM σ o M)) {v3 : Int32} {v4 : Int32} {M : mS} (h : g_X6_walker_56_b v1 rec56 v3 v4 M = some Rt) : zG X (zQ X (.inl (eI Rt.1)) (pM σ o Rt.2)) 5 56 [(0, zA (some o)), (1, zI v1), (3, zI v3), (4, zI v4)] [] (pM σ o M) := by
  unfold g_X6_walker_56_b at h
  refine z_iload hX 3 rfl dX6_walker_56 (z_aload_n hX 0 rfl rfl dX6_walker_58 (m_getA hX fl_X6_7_5 mAr_1 dX6_walker_59 (z_iconst hX (v := 4) (by decide) dX6_walker_62 ?_)))
  refine m_iald hX (j := 0) (by decide) h dX6_walker_63 (fun x6 h => ?_)
  refine z_icmp_ge (tgt := 92) hX h dX6_walker_64 (by decide) (fun h => ?_) (fun h => ?_)
  · refine z_iload_n hX 2 rfl rfl dX6_walker_92 ?_
    obtain rfl := Option.some.inj h
    exact z_iret hX dX6_walker_93
  · refine z_aload_n hX 0 rfl rfl dX6_walker_67 (z_iload hX 3 rfl dX6_walker_68 (z_iconst hX (v := 1) (by decide) dX6_walker_70 ?_))
    refine m_cNI hX (rest := []) h (fun r9 M9 e9 => z_runV hX lk_X6_196 (c_X6_ofEntry hX.tr hP e9) (ci := 5) zc9_5 pM_cl ⟨Nat.le_of_ble_eq_true rfl, Nat.le_of_ble_eq_true rfl⟩ rfl (Nat.le_of_ble_eq_true rfl) dX6_walker_71 rfl) (fun x7 M8 h => ?_)
    refine z_iload_n hX 1 rfl rfl dX6_walker_74 ?_
    refine z_icmp_ne (tgt := 86) hX h dX6_walker_75 (by decide) (fun h => ?_) (fun h => ?_)
    · exact z_sub [0, 1, 2, 3] rfl (m_X6_walker_86 hX hP hrec56 h)
    · refine z_aload_n hX 0 rfl rfl dX6_walker_78 (z_iload hX 3 rfl dX6_walker_79 (z_iconst hX (v := 0) (by decide) dX6_walker_81 ?_))
      refine m_cNI hX (rest := []) h (fun r9 M9 e9 => z_runV hX lk_X6_196 (c_X6_ofEntry hX.tr hP e9) (ci := 5) zc9_5 pM_cl ⟨Nat.le_of_ble_eq_true rfl, Nat.le_of_ble_eq_true rfl⟩ rfl (Nat.le_of_ble_eq_true rfl) dX6_walker_82 rfl) (fun x10 M11 h => ?_)
      refine z_istore_n (L' := [(0, zA (some o)), (1, zI v1), (3, zI x10), (4, zI v4)]) hX rfl rfl (by decide) dX6_walker_85 ?_
      exact z_sub [0, 1, 2, 3] rfl (m_X6_walker_86 hX hP hrec56 h)

theorem m_X6_walker_56 {X : zX} (hX : zOk X RX6 cX6_walker 5 3 83 (Option.some Jvm.ClassFile.FieldType.int) "walker" []) {σ : zS} {o : Nat} (hP : zP σ o) {Rt : Int32 × mS} {v1 : Int32} {v3 : Int32} {v4 : Int32} {M : mS} (h : g_X6_walker_56 v1 v3 v4 M = some Rt) : zG X (zQ X (.inl (eI Rt.1)) (pM σ o Rt.2)) 5 56 [(0, zA (some o)), (1, zI v1), (3, zI v3), (4, zI v4)] [] (pM σ o M) :=
  zlp2_ok (P := fun v3 v4 M => zG X (zQ X (.inl (eI Rt.1)) (pM σ o Rt.2)) 5 56 [(0, zA (some o)), (1, zI v1), (3, zI v3), (4, zI v4)] [] (pM σ o M)) (fun rec hr v3 v4 M h => m_X6_walker_56_b hX hP hr h) NN v3 v4 M h
def g_X6_walker_27 (v1 : Int32) (v2 : Int32) (t1 : Int32) (M : mS) : Option (Int32 × mS) :=
  zl (mset M 0 t1) fun M5 =>
  if (M5.1 0) ≤ 0 then
    if 4 ≤ v2 then
      g_X6_walker_56 v1 (-1) 0 M5
    else
      zb2 (g_X6_ofWalker v1 v2 M5) fun x12 M13 =>
      some (x12, M13)
  else
    some ((0 : Int32), M5)

set_option maxHeartbeats 4000000 in
theorem m_X6_walker_27 {X : zX} (hX : zOk X RX6 cX6_walker 5 3 83 (Option.some Jvm.ClassFile.FieldType.int) "walker" []) {σ : zS} {o : Nat} (hP : zP σ o) {Rt : Int32 × mS} {v1 : Int32} {v2 : Int32} {t1 : Int32} {M : mS} (h : g_X6_walker_27 v1 v2 t1 M = some Rt) : zG X (zQ X (.inl (eI Rt.1)) (pM σ o Rt.2)) 5 27 [(0, zA (some o)), (1, zI v1), (2, zI v2)] [zI t1, zA (some o)] (pM σ o M) := by
  unfold g_X6_walker_27 at h
  refine m_putI hX hP fp_X6_41_5 mSc_0 h dX6_walker_27 (fun M5 h => ?_)
  refine z_aload_n hX 0 rfl rfl dX6_walker_30 (m_getI hX fl_X6_41_5 mSc_0 dX6_walker_31 ?_)
  refine z_if_le (tgt := 39) hX h dX6_walker_34 (by decide) (fun h => ?_) (fun h => ?_)
  · refine z_iload_n hX 2 rfl rfl dX6_walker_39 (z_iconst hX (v := 4) (by decide) dX6_walker_40 ?_)
    refine z_icmp_ge (tgt := 51) hX h dX6_walker_41 (by decide) (fun h => ?_) (fun h => ?_)
    · refine z_iconst hX (v := (-1)) (by decide) dX6_walker_51 (z_istore_n (L' := [(0, zA (some o)), (1, zI v1), (2, zI v2), (3, zI (-1))]) hX rfl rfl (by decide) dX6_walker_52 (z_iconst hX (v := 0) (by decide) dX6_walker_53 (z_istore (L' := [(0, zA (some o)), (1, zI v1), (2, zI v2), (3, zI (-1)), (4, zI 0)]) hX rfl (by decide) dX6_walker_54 ?_)))
      exact z_sub [0, 1, 3, 4] rfl (m_X6_walker_56 hX hP  h)
    · refine z_aload_n hX 0 rfl rfl dX6_walker_44 (z_iload_n hX 1 rfl rfl dX6_walker_45 (z_iload_n hX 2 rfl rfl dX6_walker_46 ?_))
      refine m_cNI hX (rest := []) h (fun r9 M9 e9 => z_runV hX lk_X6_203 (c_X6_ofWalker hX.tr hP e9) (ci := 5) zc9_5 pM_cl ⟨Nat.le_of_ble_eq_true rfl, Nat.le_of_ble_eq_true rfl⟩ rfl (Nat.le_of_ble_eq_true rfl) dX6_walker_47 rfl) (fun x12 M13 h => ?_)
      obtain rfl := Option.some.inj h
      exact z_iret hX dX6_walker_50
  · refine z_iconst hX (v := 0) (by decide) dX6_walker_37 ?_
    obtain rfl := Option.some.inj h
    exact z_iret hX dX6_walker_38

def g_X6_walker (p1 : Int32) (p2 : Int32) (M : mS) : Option (Int32 × mS) :=
  zb2 (g_X6_isWalker p1 M) fun x1 M2 =>
  if ¬ x1 = 0 then
    zb2 (g_X6_isIn p2 0 4 M2) fun x3 M4 =>
    if ¬ x3 = 0 then
      g_X6_walker_27 p1 p2 0 M4
    else
      g_X6_walker_27 p1 p2 2 M4
  else
    g_X6_walker_27 p1 p2 1 M2

set_option maxHeartbeats 4000000 in
theorem m_X6_walker {X : zX} (hX : zOk X RX6 cX6_walker 5 3 83 (Option.some Jvm.ClassFile.FieldType.int) "walker" []) {σ : zS} {o : Nat} (hP : zP σ o) {p1 : Int32} {p2 : Int32} {M : mS} {Rt : Int32 × mS} (h : g_X6_walker p1 p2 M = some Rt) : zG X (zQ X (.inl (eI Rt.1)) (pM σ o Rt.2)) 5 0 [(0, zA (some o)), (1, zI p1), (2, zI p2)] [] (pM σ o M) := by
  unfold g_X6_walker at h
  refine z_aload_n hX 0 rfl rfl dX6_walker_0 (z_aload_n hX 0 rfl rfl dX6_walker_1 (z_iload_n hX 1 rfl rfl dX6_walker_2 ?_))
  refine m_cNI hX (rest := [zA (some o)]) h (fun r9 M9 e9 => z_runV hX lk_X6_209 (c_X6_isWalker hX.tr hP e9) (ci := 5) zc9_5 pM_cl ⟨Nat.le_of_ble_eq_true rfl, Nat.le_of_ble_eq_true rfl⟩ rfl (Nat.le_of_ble_eq_true rfl) dX6_walker_3 rfl) (fun x1 M2 h => ?_)
  refine z_if_ne (tgt := 13) hX h dX6_walker_6 (by decide) (fun h => ?_) (fun h => ?_)
  · refine z_iload_n hX 2 rfl rfl dX6_walker_13 (z_iconst hX (v := 0) (by decide) dX6_walker_14 (z_iconst hX (v := 4) (by decide) dX6_walker_15 ?_))
    refine m_cNI hX (rest := [zA (some o)]) h (fun r9 M9 e9 => z_runS hX lk_X6_44 (c_X6_isIn hX.tr hP e9) ⟨Nat.le_of_ble_eq_true rfl, Nat.le_of_ble_eq_true rfl⟩ rfl (Nat.le_of_ble_eq_true rfl) dX6_walker_16 rfl) (fun x3 M4 h => ?_)
    refine z_if_ne (tgt := 26) hX h dX6_walker_19 (by decide) (fun h => ?_) (fun h => ?_)
    · refine z_iconst hX (v := 0) (by decide) dX6_walker_26 ?_
      exact z_sub [0, 1, 2] rfl (m_X6_walker_27 hX hP  h)
    · refine z_iconst hX (v := 2) (by decide) dX6_walker_22 (z_goto (tgt := 27) hX dX6_walker_23 (by decide) ?_)
      exact z_sub [0, 1, 2] rfl (m_X6_walker_27 hX hP  h)
  · refine z_iconst hX (v := 1) (by decide) dX6_walker_9 (z_goto (tgt := 27) hX dX6_walker_10 (by decide) ?_)
    exact z_sub [0, 1, 2] rfl (m_X6_walker_27 hX hP  h)

theorem c_X6_walker {l : Launch} {D : va_G} {tys : zTy} (hl : l.stackTraces = false) {σ : zS} {o : Nat} (hP : zP σ o) {p1 : Int32} {p2 : Int32} {M : mS} {Rt : Int32 × mS} (h : g_X6_walker p1 p2 M = some Rt) : zM l D tys yX6_walker (ws_ yX6_walker cX6_walker 5 (Option.some Jvm.ClassFile.FieldType.int)) 3 83 [zA (some o), zI p1, zI p2] (pM σ o M) (.inl (eI Rt.1)) (pM σ o Rt.2) :=
  zM_in hl rfl (Nat.le_of_ble_eq_true rfl) (fun p e R s m args below meth c hX => z_L rfl (m_X6_walker hX hP h))
def g_X6_isTurn (p1 : Int32) (M : mS) : Option (Int32 × mS) :=
  (mL M 0 3).bind fun x1 =>
  zb2 (g_X6_isIn p1 0 (x1 - 1) M) fun x2 M3 =>
  zbo x2 (some (x2, M3))

set_option maxHeartbeats 4000000 in
theorem m_X6_isTurn {X : zX} (hX : zOk X RX6 cX6_isTurn 2 2 62 (Option.some Jvm.ClassFile.FieldType.boolean) "isTurn" []) {σ : zS} {o : Nat} (hP : zP σ o) {p1 : Int32} {M : mS} {Rt : Int32 × mS} (h : g_X6_isTurn p1 M = some Rt) : zG X (zQ X (.inl (eI Rt.1)) (pM σ o Rt.2)) 2 0 [(0, zA (some o)), (1, zI p1)] [] (pM σ o M) := by
  unfold g_X6_isTurn at h
  refine z_iload_n hX 1 rfl rfl dX6_isTurn_0 (z_iconst hX (v := 0) (by decide) dX6_isTurn_1 (z_aload_n hX 0 rfl rfl dX6_isTurn_2 (m_getA hX fl_X6_7_5 mAr_1 dX6_isTurn_3 (z_iconst hX (v := 3) (by decide) dX6_isTurn_6 ?_))))
  refine m_iald hX (j := 0) (by decide) h dX6_isTurn_7 (fun x1 h => ?_)
  refine z_iconst hX (v := 1) (by decide) dX6_isTurn_8 (z_isub hX dX6_isTurn_9 ?_)
  refine m_cNI hX (rest := []) h (fun r9 M9 e9 => z_runS hX lk_X6_44 (c_X6_isIn hX.tr hP e9) ⟨Nat.le_of_ble_eq_true rfl, Nat.le_of_ble_eq_true rfl⟩ rfl (Nat.le_of_ble_eq_true rfl) dX6_isTurn_10 rfl) (fun x2 M3 h => ?_)
  obtain ⟨n9, h⟩ := zbo_inv h
  obtain rfl := Option.some.inj h
  exact z_zretT hX n9 dX6_isTurn_13

theorem c_X6_isTurn {l : Launch} {D : va_G} {tys : zTy} (hl : l.stackTraces = false) {σ : zS} {o : Nat} (hP : zP σ o) {p1 : Int32} {M : mS} {Rt : Int32 × mS} (h : g_X6_isTurn p1 M = some Rt) : zM l D tys yX6_isTurn (ws_ yX6_isTurn cX6_isTurn 2 (Option.some Jvm.ClassFile.FieldType.boolean)) 2 62 [zA (some o), zI p1] (pM σ o M) (.inl (eI Rt.1)) (pM σ o Rt.2) :=
  zM_in hl rfl (Nat.le_of_ble_eq_true rfl) (fun p e R s m args below meth c hX => z_L rfl (m_X6_isTurn hX hP h))
def g_X6_ofTurn (p1 : Int32) (p2 : Int32) (M : mS) : Option (Int32 × mS) :=
  (mL M 0 ((68 + (3 * p1)) + p2)).bind fun x1 =>
  some (x1, M)

set_option maxHeartbeats 4000000 in
theorem m_X6_ofTurn {X : zX} (hX : zOk X RX6 cX6_ofTurn 3 1 40 (Option.some Jvm.ClassFile.FieldType.int) "ofTurn" []) {σ : zS} {o : Nat} (hP : zP σ o) {p1 : Int32} {p2 : Int32} {M : mS} {Rt : Int32 × mS} (h : g_X6_ofTurn p1 p2 M = some Rt) : zG X (zQ X (.inl (eI Rt.1)) (pM σ o Rt.2)) 3 0 [(0, zA (some o)), (1, zI p1), (2, zI p2)] [] (pM σ o M) := by
  unfold g_X6_ofTurn at h
  refine z_aload_n hX 0 rfl rfl dX6_ofTurn_0 (m_getA hX fl_X6_7_5 mAr_1 dX6_ofTurn_1 (z_bipush hX (v := 68) (by decide) dX6_ofTurn_4 (z_iconst hX (v := 3) (by decide) dX6_ofTurn_6 (z_iload_n hX 1 rfl rfl dX6_ofTurn_7 (z_imul hX dX6_ofTurn_8 (z_iadd hX dX6_ofTurn_9 (z_iload_n hX 2 rfl rfl dX6_ofTurn_10 (z_iadd hX dX6_ofTurn_11 ?_))))))))
  refine m_iald hX (j := 0) (by decide) h dX6_ofTurn_12 (fun x1 h => ?_)
  obtain rfl := Option.some.inj h
  exact z_iret hX dX6_ofTurn_13

theorem c_X6_ofTurn {l : Launch} {D : va_G} {tys : zTy} (hl : l.stackTraces = false) {σ : zS} {o : Nat} (hP : zP σ o) {p1 : Int32} {p2 : Int32} {M : mS} {Rt : Int32 × mS} (h : g_X6_ofTurn p1 p2 M = some Rt) : zM l D tys yX6_ofTurn (ws_ yX6_ofTurn cX6_ofTurn 3 (Option.some Jvm.ClassFile.FieldType.int)) 1 40 [zA (some o), zI p1, zI p2] (pM σ o M) (.inl (eI Rt.1)) (pM σ o Rt.2) :=
  zM_in hl rfl (Nat.le_of_ble_eq_true rfl) (fun p e R s m args below meth c hX => z_L rfl (m_X6_ofTurn hX hP h))
def g_X6_missedOf_35 (rec9 : Int32 → Int32 → mS → Option (Int32 × mS)) (v1 : Int32) (v3 : Int32) (t0 : Int32) (t1 : Int32) (M : mS) : Option (Int32 × mS) :=
  zl (t0 + t1) fun x8 =>
  zl (v3 + 1) fun x9 =>
  rec9 x8 x9 M

set_option maxHeartbeats 4000000 in
theorem m_X6_missedOf_35 {X : zX} (hX : zOk X RX6 cX6_missedOf 4 2 62 (Option.some Jvm.ClassFile.FieldType.int) "missedOf" []) {σ : zS} {o : Nat} (hP : zP σ o) {Rt : Int32 × mS} {rec9 : Int32 → Int32 → mS → Option (Int32 × mS)} {v1 : Int32} {v3 : Int32} (hrec9 : ∀ (v2 : Int32) (v3 : Int32) (M : mS), rec9 v2 v3 M = some Rt → zG X (zQ X (.inl (eI Rt.1)) (pM σ o Rt.2)) 4 9 [(0, zA (some o)), (1, zI v1), (2, zI v2), (3, zI v3)] [] (pM σ o M)) {t0 : Int32} {t1 : Int32} {M : mS} (h : g_X6_missedOf_35 rec9 v1 v3 t0 t1 M = some Rt) : zG X (zQ X (.inl (eI Rt.1)) (pM σ o Rt.2)) 4 35 [(0, zA (some o)), (1, zI v1), (3, zI v3)] [zI t1, zI t0] (pM σ o M) := by
  unfold g_X6_missedOf_35 at h
  refine z_iadd hX dX6_missedOf_35 ?_
  refine z_nmI h (fun x8 h => ?_)
  refine z_istore_n (L' := [(0, zA (some o)), (1, zI v1), (2, zI x8), (3, zI v3)]) hX rfl rfl (by decide) dX6_missedOf_36 ?_
  refine z_iinc hX (j := 3) h rfl (by decide) (by decide) dX6_missedOf_37 (fun x9 h => z_L (L' := [(0, zA (some o)), (1, zI v1), (2, zI x8), (3, zI x9)]) rfl ?_)
  refine z_goto (tgt := 9) hX dX6_missedOf_40 (by decide) ?_
  exact z_sub [0, 1, 2, 3] rfl (hrec9 _ _ _ h)

def g_X6_missedOf_9_b (v1 : Int32) (rec9 : Int32 → Int32 → mS → Option (Int32 × mS)) (v2 : Int32) (v3 : Int32) (M : mS) : Option (Int32 × mS) :=
  (mL M 0 4).bind fun x3 =>
  if x3 ≤ v3 then
    zb2 (g_X6_ofTurn v1 1 M) fun x4 M5 =>
    some (v2 - x4, M5)
  else
    zb2 (g_X6_ofEntry v3 3 M) fun x6 M7 =>
    if x6 ≤ v1 then
      g_X6_missedOf_35 rec9 v1 v3 v2 0 M7
    else
      g_X6_missedOf_35 rec9 v1 v3 v2 1 M7

def g_X6_missedOf_9 (v1 : Int32) : Int32 → Int32 → mS → Option (Int32 × mS) := zlp2 (g_X6_missedOf_9_b v1) NN
set_option maxHeartbeats 4000000 in
theorem m_X6_missedOf_9_b {X : zX} (hX : zOk X RX6 cX6_missedOf 4 2 62 (Option.some Jvm.ClassFile.FieldType.int) "missedOf" []) {σ : zS} {o : Nat} (hP : zP σ o) {Rt : Int32 × mS} {v1 : Int32} {rec9 : Int32 → Int32 → mS → Option (Int32 × mS)} (hrec9 : ∀ (v2 : Int32) (v3 : Int32) (M : mS), rec9 v2 v3 M = some Rt → zG X (zQ X (.inl (eI Rt.1)) (pM σ o Rt.2)) 4 9 [(0, zA (some o)), (1, zI v1), (2, zI v2), (3, zI v3)] [] (pM σ o M)) {v2 : Int32} {v3 : Int32} {M : mS} (h : g_X6_missedOf_9_b v1 rec9 v2 v3 M = some Rt) : zG X (zQ X (.inl (eI Rt.1)) (pM σ o Rt.2)) 4 9 [(0, zA (some o)), (1, zI v1), (2, zI v2), (3, zI v3)] [] (pM σ o M) := by
  unfold g_X6_missedOf_9_b at h
  refine z_iload_n hX 3 rfl rfl dX6_missedOf_9 (z_aload_n hX 0 rfl rfl dX6_missedOf_10 (m_getA hX fl_X6_7_5 mAr_1 dX6_missedOf_11 (z_iconst hX (v := 4) (by decide) dX6_missedOf_14 ?_)))
  refine m_iald hX (j := 0) (by decide) h dX6_missedOf_15 (fun x3 h => ?_)
  refine z_icmp_ge (tgt := 43) hX h dX6_missedOf_16 (by decide) (fun h => ?_) (fun h => ?_)
  · refine z_iload_n hX 2 rfl rfl dX6_missedOf_43 (z_aload_n hX 0 rfl rfl dX6_missedOf_44 (z_iload_n hX 1 rfl rfl dX6_missedOf_45 (z_iconst hX (v := 1) (by decide) dX6_missedOf_46 ?_)))
    refine m_cNI hX (rest := [zI v2]) h (fun r9 M9 e9 => z_runV hX lk_X6_212 (c_X6_ofTurn hX.tr hP e9) (ci := 5) zc9_5 pM_cl ⟨Nat.le_of_ble_eq_true rfl, Nat.le_of_ble_eq_true rfl⟩ rfl (Nat.le_of_ble_eq_true rfl) dX6_missedOf_47 rfl) (fun x4 M5 h => ?_)
    refine z_isub hX dX6_missedOf_50 ?_
    obtain rfl := Option.some.inj h
    exact z_iret hX dX6_missedOf_51
  · refine z_iload_n hX 2 rfl rfl dX6_missedOf_19 (z_aload_n hX 0 rfl rfl dX6_missedOf_20 (z_iload_n hX 3 rfl rfl dX6_missedOf_21 (z_iconst hX (v := 3) (by decide) dX6_missedOf_22 ?_)))
    refine m_cNI hX (rest := [zI v2]) h (fun r9 M9 e9 => z_runV hX lk_X6_196 (c_X6_ofEntry hX.tr hP e9) (ci := 5) zc9_5 pM_cl ⟨Nat.le_of_ble_eq_true rfl, Nat.le_of_ble_eq_true rfl⟩ rfl (Nat.le_of_ble_eq_true rfl) dX6_missedOf_23 rfl) (fun x6 M7 h => ?_)
    refine z_iload_n hX 1 rfl rfl dX6_missedOf_26 ?_
    refine z_icmp_le (tgt := 34) hX h dX6_missedOf_27 (by decide) (fun h => ?_) (fun h => ?_)
    · refine z_iconst hX (v := 0) (by decide) dX6_missedOf_34 ?_
      exact z_sub [0, 1, 3] rfl (m_X6_missedOf_35 hX hP hrec9 h)
    · refine z_iconst hX (v := 1) (by decide) dX6_missedOf_30 (z_goto (tgt := 35) hX dX6_missedOf_31 (by decide) ?_)
      exact z_sub [0, 1, 3] rfl (m_X6_missedOf_35 hX hP hrec9 h)

theorem m_X6_missedOf_9 {X : zX} (hX : zOk X RX6 cX6_missedOf 4 2 62 (Option.some Jvm.ClassFile.FieldType.int) "missedOf" []) {σ : zS} {o : Nat} (hP : zP σ o) {Rt : Int32 × mS} {v1 : Int32} {v2 : Int32} {v3 : Int32} {M : mS} (h : g_X6_missedOf_9 v1 v2 v3 M = some Rt) : zG X (zQ X (.inl (eI Rt.1)) (pM σ o Rt.2)) 4 9 [(0, zA (some o)), (1, zI v1), (2, zI v2), (3, zI v3)] [] (pM σ o M) :=
  zlp2_ok (P := fun v2 v3 M => zG X (zQ X (.inl (eI Rt.1)) (pM σ o Rt.2)) 4 9 [(0, zA (some o)), (1, zI v1), (2, zI v2), (3, zI v3)] [] (pM σ o M)) (fun rec hr v2 v3 M h => m_X6_missedOf_9_b hX hP hr h) NN v2 v3 M h
def g_X6_missedOf (p1 : Int32) (M : mS) : Option (Int32 × mS) :=
  zb2 (g_X6_ofTurn p1 2 M) fun x1 M2 =>
  g_X6_missedOf_9 p1 0 x1 M2

set_option maxHeartbeats 4000000 in
theorem m_X6_missedOf {X : zX} (hX : zOk X RX6 cX6_missedOf 4 2 62 (Option.some Jvm.ClassFile.FieldType.int) "missedOf" []) {σ : zS} {o : Nat} (hP : zP σ o) {p1 : Int32} {M : mS} {Rt : Int32 × mS} (h : g_X6_missedOf p1 M = some Rt) : zG X (zQ X (.inl (eI Rt.1)) (pM σ o Rt.2)) 4 0 [(0, zA (some o)), (1, zI p1)] [] (pM σ o M) := by
  unfold g_X6_missedOf at h
  refine z_iconst hX (v := 0) (by decide) dX6_missedOf_0 (z_istore_n (L' := [(0, zA (some o)), (1, zI p1), (2, zI 0)]) hX rfl rfl (by decide) dX6_missedOf_1 (z_aload_n hX 0 rfl rfl dX6_missedOf_2 (z_iload_n hX 1 rfl rfl dX6_missedOf_3 (z_iconst hX (v := 2) (by decide) dX6_missedOf_4 ?_))))
  refine m_cNI hX (rest := []) h (fun r9 M9 e9 => z_runV hX lk_X6_212 (c_X6_ofTurn hX.tr hP e9) (ci := 5) zc9_5 pM_cl ⟨Nat.le_of_ble_eq_true rfl, Nat.le_of_ble_eq_true rfl⟩ rfl (Nat.le_of_ble_eq_true rfl) dX6_missedOf_5 rfl) (fun x1 M2 h => ?_)
  refine z_istore_n (L' := [(0, zA (some o)), (1, zI p1), (2, zI 0), (3, zI x1)]) hX rfl rfl (by decide) dX6_missedOf_8 ?_
  exact z_sub [0, 1, 2, 3] rfl (m_X6_missedOf_9 hX hP  h)

theorem c_X6_missedOf {l : Launch} {D : va_G} {tys : zTy} (hl : l.stackTraces = false) {σ : zS} {o : Nat} (hP : zP σ o) {p1 : Int32} {M : mS} {Rt : Int32 × mS} (h : g_X6_missedOf p1 M = some Rt) : zM l D tys yX6_missedOf (ws_ yX6_missedOf cX6_missedOf 4 (Option.some Jvm.ClassFile.FieldType.int)) 2 62 [zA (some o), zI p1] (pM σ o M) (.inl (eI Rt.1)) (pM σ o Rt.2) :=
  zM_in hl rfl (Nat.le_of_ble_eq_true rfl) (fun p e R s m args below meth c hX => z_L rfl (m_X6_missedOf hX hP h))
def g_X6_turn_27 (v1 : Int32) (v2 : Int32) (t1 : Int32) (M : mS) : Option (Int32 × mS) :=
  zl (mset M 0 t1) fun M5 =>
  if (M5.1 0) ≤ 0 then
    if ¬ v2 = 2 then
      zb2 (g_X6_ofTurn v1 v2 M5) fun x6 M7 =>
      some (x6, M7)
    else
      zb2 (g_X6_missedOf v1 M5) fun x8 M9 =>
      some (x8, M9)
  else
    some ((0 : Int32), M5)

set_option maxHeartbeats 4000000 in
theorem m_X6_turn_27 {X : zX} (hX : zOk X RX6 cX6_turn 3 3 85 (Option.some Jvm.ClassFile.FieldType.int) "turn" []) {σ : zS} {o : Nat} (hP : zP σ o) {Rt : Int32 × mS} {v1 : Int32} {v2 : Int32} {t1 : Int32} {M : mS} (h : g_X6_turn_27 v1 v2 t1 M = some Rt) : zG X (zQ X (.inl (eI Rt.1)) (pM σ o Rt.2)) 3 27 [(0, zA (some o)), (1, zI v1), (2, zI v2)] [zI t1, zA (some o)] (pM σ o M) := by
  unfold g_X6_turn_27 at h
  refine m_putI hX hP fp_X6_41_5 mSc_0 h dX6_turn_27 (fun M5 h => ?_)
  refine z_aload_n hX 0 rfl rfl dX6_turn_30 (m_getI hX fl_X6_41_5 mSc_0 dX6_turn_31 ?_)
  refine z_if_le (tgt := 39) hX h dX6_turn_34 (by decide) (fun h => ?_) (fun h => ?_)
  · refine z_iload_n hX 2 rfl rfl dX6_turn_39 (z_iconst hX (v := 2) (by decide) dX6_turn_40 ?_)
    refine z_icmp_ne (tgt := 52) hX h dX6_turn_41 (by decide) (fun h => ?_) (fun h => ?_)
    · refine z_aload_n hX 0 rfl rfl dX6_turn_52 (z_iload_n hX 1 rfl rfl dX6_turn_53 (z_iload_n hX 2 rfl rfl dX6_turn_54 ?_))
      refine m_cNI hX (rest := []) h (fun r9 M9 e9 => z_runV hX lk_X6_212 (c_X6_ofTurn hX.tr hP e9) (ci := 5) zc9_5 pM_cl ⟨Nat.le_of_ble_eq_true rfl, Nat.le_of_ble_eq_true rfl⟩ rfl (Nat.le_of_ble_eq_true rfl) dX6_turn_55 rfl) (fun x6 M7 h => ?_)
      obtain rfl := Option.some.inj h
      exact z_iret hX dX6_turn_58
    · refine z_aload_n hX 0 rfl rfl dX6_turn_44 (z_iload_n hX 1 rfl rfl dX6_turn_45 ?_)
      refine m_cNI hX (rest := []) h (fun r9 M9 e9 => z_runV hX lk_X6_218 (c_X6_missedOf hX.tr hP e9) (ci := 5) zc9_5 pM_cl ⟨Nat.le_of_ble_eq_true rfl, Nat.le_of_ble_eq_true rfl⟩ rfl (Nat.le_of_ble_eq_true rfl) dX6_turn_46 rfl) (fun x8 M9 h => ?_)
      refine z_goto (tgt := 58) hX dX6_turn_49 (by decide) ?_
      obtain rfl := Option.some.inj h
      exact z_iret hX dX6_turn_58
  · refine z_iconst hX (v := 0) (by decide) dX6_turn_37 ?_
    obtain rfl := Option.some.inj h
    exact z_iret hX dX6_turn_38

def g_X6_turn (p1 : Int32) (p2 : Int32) (M : mS) : Option (Int32 × mS) :=
  zb2 (g_X6_isTurn p1 M) fun x1 M2 =>
  if ¬ x1 = 0 then
    zb2 (g_X6_isIn p2 0 2 M2) fun x3 M4 =>
    if ¬ x3 = 0 then
      g_X6_turn_27 p1 p2 0 M4
    else
      g_X6_turn_27 p1 p2 2 M4
  else
    g_X6_turn_27 p1 p2 1 M2

set_option maxHeartbeats 4000000 in
theorem m_X6_turn {X : zX} (hX : zOk X RX6 cX6_turn 3 3 85 (Option.some Jvm.ClassFile.FieldType.int) "turn" []) {σ : zS} {o : Nat} (hP : zP σ o) {p1 : Int32} {p2 : Int32} {M : mS} {Rt : Int32 × mS} (h : g_X6_turn p1 p2 M = some Rt) : zG X (zQ X (.inl (eI Rt.1)) (pM σ o Rt.2)) 3 0 [(0, zA (some o)), (1, zI p1), (2, zI p2)] [] (pM σ o M) := by
  unfold g_X6_turn at h
  refine z_aload_n hX 0 rfl rfl dX6_turn_0 (z_aload_n hX 0 rfl rfl dX6_turn_1 (z_iload_n hX 1 rfl rfl dX6_turn_2 ?_))
  refine m_cNI hX (rest := [zA (some o)]) h (fun r9 M9 e9 => z_runV hX lk_X6_215 (c_X6_isTurn hX.tr hP e9) (ci := 5) zc9_5 pM_cl ⟨Nat.le_of_ble_eq_true rfl, Nat.le_of_ble_eq_true rfl⟩ rfl (Nat.le_of_ble_eq_true rfl) dX6_turn_3 rfl) (fun x1 M2 h => ?_)
  refine z_if_ne (tgt := 13) hX h dX6_turn_6 (by decide) (fun h => ?_) (fun h => ?_)
  · refine z_iload_n hX 2 rfl rfl dX6_turn_13 (z_iconst hX (v := 0) (by decide) dX6_turn_14 (z_iconst hX (v := 2) (by decide) dX6_turn_15 ?_))
    refine m_cNI hX (rest := [zA (some o)]) h (fun r9 M9 e9 => z_runS hX lk_X6_44 (c_X6_isIn hX.tr hP e9) ⟨Nat.le_of_ble_eq_true rfl, Nat.le_of_ble_eq_true rfl⟩ rfl (Nat.le_of_ble_eq_true rfl) dX6_turn_16 rfl) (fun x3 M4 h => ?_)
    refine z_if_ne (tgt := 26) hX h dX6_turn_19 (by decide) (fun h => ?_) (fun h => ?_)
    · refine z_iconst hX (v := 0) (by decide) dX6_turn_26 ?_
      exact z_sub [0, 1, 2] rfl (m_X6_turn_27 hX hP  h)
    · refine z_iconst hX (v := 2) (by decide) dX6_turn_22 (z_goto (tgt := 27) hX dX6_turn_23 (by decide) ?_)
      exact z_sub [0, 1, 2] rfl (m_X6_turn_27 hX hP  h)
  · refine z_iconst hX (v := 1) (by decide) dX6_turn_9 (z_goto (tgt := 27) hX dX6_turn_10 (by decide) ?_)
    exact z_sub [0, 1, 2] rfl (m_X6_turn_27 hX hP  h)

theorem c_X6_turn {l : Launch} {D : va_G} {tys : zTy} (hl : l.stackTraces = false) {σ : zS} {o : Nat} (hP : zP σ o) {p1 : Int32} {p2 : Int32} {M : mS} {Rt : Int32 × mS} (h : g_X6_turn p1 p2 M = some Rt) : zM l D tys yX6_turn (ws_ yX6_turn cX6_turn 3 (Option.some Jvm.ClassFile.FieldType.int)) 3 85 [zA (some o), zI p1, zI p2] (pM σ o M) (.inl (eI Rt.1)) (pM σ o Rt.2) :=
  zM_in hl rfl (Nat.le_of_ble_eq_true rfl) (fun p e R s m args below meth c hX => z_L rfl (m_X6_turn hX hP h))
def g_X6_isEntry (p1 : Int32) (M : mS) : Option (Int32 × mS) :=
  (mL M 0 4).bind fun x1 =>
  zb2 (g_X6_isIn p1 0 (x1 - 1) M) fun x2 M3 =>
  zbo x2 (some (x2, M3))

set_option maxHeartbeats 4000000 in
theorem m_X6_isEntry {X : zX} (hX : zOk X RX6 cX6_isEntry 2 2 62 (Option.some Jvm.ClassFile.FieldType.boolean) "isEntry" []) {σ : zS} {o : Nat} (hP : zP σ o) {p1 : Int32} {M : mS} {Rt : Int32 × mS} (h : g_X6_isEntry p1 M = some Rt) : zG X (zQ X (.inl (eI Rt.1)) (pM σ o Rt.2)) 2 0 [(0, zA (some o)), (1, zI p1)] [] (pM σ o M) := by
  unfold g_X6_isEntry at h
  refine z_iload_n hX 1 rfl rfl dX6_isEntry_0 (z_iconst hX (v := 0) (by decide) dX6_isEntry_1 (z_aload_n hX 0 rfl rfl dX6_isEntry_2 (m_getA hX fl_X6_7_5 mAr_1 dX6_isEntry_3 (z_iconst hX (v := 4) (by decide) dX6_isEntry_6 ?_))))
  refine m_iald hX (j := 0) (by decide) h dX6_isEntry_7 (fun x1 h => ?_)
  refine z_iconst hX (v := 1) (by decide) dX6_isEntry_8 (z_isub hX dX6_isEntry_9 ?_)
  refine m_cNI hX (rest := []) h (fun r9 M9 e9 => z_runS hX lk_X6_44 (c_X6_isIn hX.tr hP e9) ⟨Nat.le_of_ble_eq_true rfl, Nat.le_of_ble_eq_true rfl⟩ rfl (Nat.le_of_ble_eq_true rfl) dX6_isEntry_10 rfl) (fun x2 M3 h => ?_)
  obtain ⟨n9, h⟩ := zbo_inv h
  obtain rfl := Option.some.inj h
  exact z_zretT hX n9 dX6_isEntry_13

theorem c_X6_isEntry {l : Launch} {D : va_G} {tys : zTy} (hl : l.stackTraces = false) {σ : zS} {o : Nat} (hP : zP σ o) {p1 : Int32} {M : mS} {Rt : Int32 × mS} (h : g_X6_isEntry p1 M = some Rt) : zM l D tys yX6_isEntry (ws_ yX6_isEntry cX6_isEntry 2 (Option.some Jvm.ClassFile.FieldType.boolean)) 2 62 [zA (some o), zI p1] (pM σ o M) (.inl (eI Rt.1)) (pM σ o Rt.2) :=
  zM_in hl rfl (Nat.le_of_ble_eq_true rfl) (fun p e R s m args below meth c hX => z_L rfl (m_X6_isEntry hX hP h))
def g_X6_entry_59 (v1 : Int32) (v2 : Int32) (M : mS) : Option (Int32 × mS) :=
  zb2 (g_X6_ofEntry v1 v2 M) fun x8 M9 =>
  some (x8, M9)

set_option maxHeartbeats 4000000 in
theorem m_X6_entry_59 {X : zX} (hX : zOk X RX6 cX6_entry 3 3 83 (Option.some Jvm.ClassFile.FieldType.int) "entry" []) {σ : zS} {o : Nat} (hP : zP σ o) {Rt : Int32 × mS} {v1 : Int32} {v2 : Int32} {M : mS} (h : g_X6_entry_59 v1 v2 M = some Rt) : zG X (zQ X (.inl (eI Rt.1)) (pM σ o Rt.2)) 3 59 [(0, zA (some o)), (1, zI v1), (2, zI v2)] [] (pM σ o M) := by
  unfold g_X6_entry_59 at h
  refine z_aload_n hX 0 rfl rfl dX6_entry_59 (z_iload_n hX 1 rfl rfl dX6_entry_60 (z_iload_n hX 2 rfl rfl dX6_entry_61 ?_))
  refine m_cNI hX (rest := []) h (fun r9 M9 e9 => z_runV hX lk_X6_196 (c_X6_ofEntry hX.tr hP e9) (ci := 5) zc9_5 pM_cl ⟨Nat.le_of_ble_eq_true rfl, Nat.le_of_ble_eq_true rfl⟩ rfl (Nat.le_of_ble_eq_true rfl) dX6_entry_62 rfl) (fun x8 M9 h => ?_)
  obtain rfl := Option.some.inj h
  exact z_iret hX dX6_entry_65

def g_X6_entry_27 (v1 : Int32) (v2 : Int32) (t1 : Int32) (M : mS) : Option (Int32 × mS) :=
  zl (mset M 0 t1) fun M5 =>
  if (M5.1 0) ≤ 0 then
    zb2 (g_X6_ofEntry v1 6 M5) fun x6 M7 =>
    if ¬ x6 = 1 then
      g_X6_entry_59 v1 v2 M7
    else
      if 5 ≤ v2 then
        g_X6_entry_59 v1 v2 M7
      else
        some (((-1) : Int32), M7)
  else
    some ((0 : Int32), M5)

set_option maxHeartbeats 4000000 in
theorem m_X6_entry_27 {X : zX} (hX : zOk X RX6 cX6_entry 3 3 83 (Option.some Jvm.ClassFile.FieldType.int) "entry" []) {σ : zS} {o : Nat} (hP : zP σ o) {Rt : Int32 × mS} {v1 : Int32} {v2 : Int32} {t1 : Int32} {M : mS} (h : g_X6_entry_27 v1 v2 t1 M = some Rt) : zG X (zQ X (.inl (eI Rt.1)) (pM σ o Rt.2)) 3 27 [(0, zA (some o)), (1, zI v1), (2, zI v2)] [zI t1, zA (some o)] (pM σ o M) := by
  unfold g_X6_entry_27 at h
  refine m_putI hX hP fp_X6_41_5 mSc_0 h dX6_entry_27 (fun M5 h => ?_)
  refine z_aload_n hX 0 rfl rfl dX6_entry_30 (m_getI hX fl_X6_41_5 mSc_0 dX6_entry_31 ?_)
  refine z_if_le (tgt := 39) hX h dX6_entry_34 (by decide) (fun h => ?_) (fun h => ?_)
  · refine z_aload_n hX 0 rfl rfl dX6_entry_39 (z_iload_n hX 1 rfl rfl dX6_entry_40 (z_bipush hX (v := 6) (by decide) dX6_entry_41 ?_))
    refine m_cNI hX (rest := []) h (fun r9 M9 e9 => z_runV hX lk_X6_196 (c_X6_ofEntry hX.tr hP e9) (ci := 5) zc9_5 pM_cl ⟨Nat.le_of_ble_eq_true rfl, Nat.le_of_ble_eq_true rfl⟩ rfl (Nat.le_of_ble_eq_true rfl) dX6_entry_43 rfl) (fun x6 M7 h => ?_)
    refine z_iconst hX (v := 1) (by decide) dX6_entry_46 ?_
    refine z_icmp_ne (tgt := 59) hX h dX6_entry_47 (by decide) (fun h => ?_) (fun h => ?_)
    · exact z_sub [0, 1, 2] rfl (m_X6_entry_59 hX hP  h)
    · refine z_iload_n hX 2 rfl rfl dX6_entry_50 (z_iconst hX (v := 5) (by decide) dX6_entry_51 ?_)
      refine z_icmp_ge (tgt := 59) hX h dX6_entry_52 (by decide) (fun h => ?_) (fun h => ?_)
      · exact z_sub [0, 1, 2] rfl (m_X6_entry_59 hX hP  h)
      · refine z_iconst hX (v := (-1)) (by decide) dX6_entry_55 (z_goto (tgt := 65) hX dX6_entry_56 (by decide) ?_)
        obtain rfl := Option.some.inj h
        exact z_iret hX dX6_entry_65
  · refine z_iconst hX (v := 0) (by decide) dX6_entry_37 ?_
    obtain rfl := Option.some.inj h
    exact z_iret hX dX6_entry_38

def g_X6_entry (p1 : Int32) (p2 : Int32) (M : mS) : Option (Int32 × mS) :=
  zb2 (g_X6_isEntry p1 M) fun x1 M2 =>
  if ¬ x1 = 0 then
    zb2 (g_X6_isIn p2 0 5 M2) fun x3 M4 =>
    if ¬ x3 = 0 then
      g_X6_entry_27 p1 p2 0 M4
    else
      g_X6_entry_27 p1 p2 2 M4
  else
    g_X6_entry_27 p1 p2 1 M2

set_option maxHeartbeats 4000000 in
theorem m_X6_entry {X : zX} (hX : zOk X RX6 cX6_entry 3 3 83 (Option.some Jvm.ClassFile.FieldType.int) "entry" []) {σ : zS} {o : Nat} (hP : zP σ o) {p1 : Int32} {p2 : Int32} {M : mS} {Rt : Int32 × mS} (h : g_X6_entry p1 p2 M = some Rt) : zG X (zQ X (.inl (eI Rt.1)) (pM σ o Rt.2)) 3 0 [(0, zA (some o)), (1, zI p1), (2, zI p2)] [] (pM σ o M) := by
  unfold g_X6_entry at h
  refine z_aload_n hX 0 rfl rfl dX6_entry_0 (z_aload_n hX 0 rfl rfl dX6_entry_1 (z_iload_n hX 1 rfl rfl dX6_entry_2 ?_))
  refine m_cNI hX (rest := [zA (some o)]) h (fun r9 M9 e9 => z_runV hX lk_X6_221 (c_X6_isEntry hX.tr hP e9) (ci := 5) zc9_5 pM_cl ⟨Nat.le_of_ble_eq_true rfl, Nat.le_of_ble_eq_true rfl⟩ rfl (Nat.le_of_ble_eq_true rfl) dX6_entry_3 rfl) (fun x1 M2 h => ?_)
  refine z_if_ne (tgt := 13) hX h dX6_entry_6 (by decide) (fun h => ?_) (fun h => ?_)
  · refine z_iload_n hX 2 rfl rfl dX6_entry_13 (z_iconst hX (v := 0) (by decide) dX6_entry_14 (z_iconst hX (v := 5) (by decide) dX6_entry_15 ?_))
    refine m_cNI hX (rest := [zA (some o)]) h (fun r9 M9 e9 => z_runS hX lk_X6_44 (c_X6_isIn hX.tr hP e9) ⟨Nat.le_of_ble_eq_true rfl, Nat.le_of_ble_eq_true rfl⟩ rfl (Nat.le_of_ble_eq_true rfl) dX6_entry_16 rfl) (fun x3 M4 h => ?_)
    refine z_if_ne (tgt := 26) hX h dX6_entry_19 (by decide) (fun h => ?_) (fun h => ?_)
    · refine z_iconst hX (v := 0) (by decide) dX6_entry_26 ?_
      exact z_sub [0, 1, 2] rfl (m_X6_entry_27 hX hP  h)
    · refine z_iconst hX (v := 2) (by decide) dX6_entry_22 (z_goto (tgt := 27) hX dX6_entry_23 (by decide) ?_)
      exact z_sub [0, 1, 2] rfl (m_X6_entry_27 hX hP  h)
  · refine z_iconst hX (v := 1) (by decide) dX6_entry_9 (z_goto (tgt := 27) hX dX6_entry_10 (by decide) ?_)
    exact z_sub [0, 1, 2] rfl (m_X6_entry_27 hX hP  h)

theorem c_X6_entry {l : Launch} {D : va_G} {tys : zTy} (hl : l.stackTraces = false) {σ : zS} {o : Nat} (hP : zP σ o) {p1 : Int32} {p2 : Int32} {M : mS} {Rt : Int32 × mS} (h : g_X6_entry p1 p2 M = some Rt) : zM l D tys yX6_entry (ws_ yX6_entry cX6_entry 3 (Option.some Jvm.ClassFile.FieldType.int)) 3 83 [zA (some o), zI p1, zI p2] (pM σ o M) (.inl (eI Rt.1)) (pM σ o Rt.2) :=
  zM_in hl rfl (Nat.le_of_ble_eq_true rfl) (fun p e R s m args below meth c hX => z_L rfl (m_X6_entry hX hP h))
def g_X6_refuses (p1 : Int32) (p2 : Int32) (p3 : Int32) (M : mS) : Option (Int32 × mS) :=
  zb2 (g_X6_isWalker p1 M) fun x1 M2 =>
  if x1 = 0 then
    some ((1 : Int32), M2)
  else
    zb2 (g_X6_isHouse p2 M2) fun x3 M4 =>
    if ¬ x3 = 0 then
      (mL M4 0 3).bind fun x5 =>
      zb2 (g_X6_isIn p3 1 x5 M4) fun x6 M7 =>
      if ¬ x6 = 0 then
        some ((0 : Int32), M7)
      else
        some ((2 : Int32), M7)
    else
      some ((1 : Int32), M4)

set_option maxHeartbeats 4000000 in
theorem m_X6_refuses {X : zX} (hX : zOk X RX6 cX6_refuses 4 3 83 (Option.some Jvm.ClassFile.FieldType.int) "refuses" []) {σ : zS} {o : Nat} (hP : zP σ o) {p1 : Int32} {p2 : Int32} {p3 : Int32} {M : mS} {Rt : Int32 × mS} (h : g_X6_refuses p1 p2 p3 M = some Rt) : zG X (zQ X (.inl (eI Rt.1)) (pM σ o Rt.2)) 4 0 [(0, zA (some o)), (1, zI p1), (2, zI p2), (3, zI p3)] [] (pM σ o M) := by
  unfold g_X6_refuses at h
  refine z_aload_n hX 0 rfl rfl dX6_refuses_0 (z_iload_n hX 1 rfl rfl dX6_refuses_1 ?_)
  refine m_cNI hX (rest := []) h (fun r9 M9 e9 => z_runV hX lk_X6_209 (c_X6_isWalker hX.tr hP e9) (ci := 5) zc9_5 pM_cl ⟨Nat.le_of_ble_eq_true rfl, Nat.le_of_ble_eq_true rfl⟩ rfl (Nat.le_of_ble_eq_true rfl) dX6_refuses_2 rfl) (fun x1 M2 h => ?_)
  refine z_if_eq (tgt := 16) hX h dX6_refuses_5 (by decide) (fun h => ?_) (fun h => ?_)
  · refine z_iconst hX (v := 1) (by decide) dX6_refuses_16 (z_goto (tgt := 39) hX dX6_refuses_17 (by decide) ?_)
    obtain rfl := Option.some.inj h
    exact z_iret hX dX6_refuses_39
  · refine z_aload_n hX 0 rfl rfl dX6_refuses_8 (z_iload_n hX 2 rfl rfl dX6_refuses_9 ?_)
    refine m_cNI hX (rest := []) h (fun r9 M9 e9 => z_runV hX lk_X6_200 (c_X6_isHouse hX.tr hP e9) (ci := 5) zc9_5 pM_cl ⟨Nat.le_of_ble_eq_true rfl, Nat.le_of_ble_eq_true rfl⟩ rfl (Nat.le_of_ble_eq_true rfl) dX6_refuses_10 rfl) (fun x3 M4 h => ?_)
    refine z_if_ne (tgt := 20) hX h dX6_refuses_13 (by decide) (fun h => ?_) (fun h => ?_)
    · refine z_iload_n hX 3 rfl rfl dX6_refuses_20 (z_iconst hX (v := 1) (by decide) dX6_refuses_21 (z_aload_n hX 0 rfl rfl dX6_refuses_22 (m_getA hX fl_X6_7_5 mAr_1 dX6_refuses_23 (z_iconst hX (v := 3) (by decide) dX6_refuses_26 ?_))))
      refine m_iald hX (j := 0) (by decide) h dX6_refuses_27 (fun x5 h => ?_)
      refine m_cNI hX (rest := []) h (fun r9 M9 e9 => z_runS hX lk_X6_44 (c_X6_isIn hX.tr hP e9) ⟨Nat.le_of_ble_eq_true rfl, Nat.le_of_ble_eq_true rfl⟩ rfl (Nat.le_of_ble_eq_true rfl) dX6_refuses_28 rfl) (fun x6 M7 h => ?_)
      refine z_if_ne (tgt := 38) hX h dX6_refuses_31 (by decide) (fun h => ?_) (fun h => ?_)
      · refine z_iconst hX (v := 0) (by decide) dX6_refuses_38 ?_
        obtain rfl := Option.some.inj h
        exact z_iret hX dX6_refuses_39
      · refine z_iconst hX (v := 2) (by decide) dX6_refuses_34 (z_goto (tgt := 39) hX dX6_refuses_35 (by decide) ?_)
        obtain rfl := Option.some.inj h
        exact z_iret hX dX6_refuses_39
    · refine z_iconst hX (v := 1) (by decide) dX6_refuses_16 (z_goto (tgt := 39) hX dX6_refuses_17 (by decide) ?_)
      obtain rfl := Option.some.inj h
      exact z_iret hX dX6_refuses_39

theorem c_X6_refuses {l : Launch} {D : va_G} {tys : zTy} (hl : l.stackTraces = false) {σ : zS} {o : Nat} (hP : zP σ o) {p1 : Int32} {p2 : Int32} {p3 : Int32} {M : mS} {Rt : Int32 × mS} (h : g_X6_refuses p1 p2 p3 M = some Rt) : zM l D tys yX6_refuses (ws_ yX6_refuses cX6_refuses 4 (Option.some Jvm.ClassFile.FieldType.int)) 3 83 [zA (some o), zI p1, zI p2, zI p3] (pM σ o M) (.inl (eI Rt.1)) (pM σ o Rt.2) :=
  zM_in hl rfl (Nat.le_of_ble_eq_true rfl) (fun p e R s m args below meth c hX => z_L rfl (m_X6_refuses hX hP h))
def g_X6_pacesOf_4_b (v1 : Int32) (rec4 : Int32 → Int32 → mS → Option (Int32 × mS)) (v2 : Int32) (v3 : Int32) (M : mS) : Option (Int32 × mS) :=
  if v1 ≤ v3 then
    some (v2, M)
  else
    zb2 (g_X6_ofTurn v3 0 M) fun x1 M2 =>
    zl (v2 + x1) fun x3 =>
    zl (v3 + 1) fun x4 =>
    rec4 x3 x4 M2

def g_X6_pacesOf_4 (v1 : Int32) : Int32 → Int32 → mS → Option (Int32 × mS) := zlp2 (g_X6_pacesOf_4_b v1) NN
set_option maxHeartbeats 4000000 in
theorem m_X6_pacesOf_4_b {X : zX} (hX : zOk X RX6 cX6_pacesOf 4 2 62 (Option.some Jvm.ClassFile.FieldType.int) "pacesOf" []) {σ : zS} {o : Nat} (hP : zP σ o) {Rt : Int32 × mS} {v1 : Int32} {rec4 : Int32 → Int32 → mS → Option (Int32 × mS)} (hrec4 : ∀ (v2 : Int32) (v3 : Int32) (M : mS), rec4 v2 v3 M = some Rt → zG X (zQ X (.inl (eI Rt.1)) (pM σ o Rt.2)) 4 4 [(0, zA (some o)), (1, zI v1), (2, zI v2), (3, zI v3)] [] (pM σ o M)) {v2 : Int32} {v3 : Int32} {M : mS} (h : g_X6_pacesOf_4_b v1 rec4 v2 v3 M = some Rt) : zG X (zQ X (.inl (eI Rt.1)) (pM σ o Rt.2)) 4 4 [(0, zA (some o)), (1, zI v1), (2, zI v2), (3, zI v3)] [] (pM σ o M) := by
  unfold g_X6_pacesOf_4_b at h
  refine z_iload_n hX 3 rfl rfl dX6_pacesOf_4 (z_iload_n hX 1 rfl rfl dX6_pacesOf_5 ?_)
  refine z_icmp_ge (tgt := 24) hX h dX6_pacesOf_6 (by decide) (fun h => ?_) (fun h => ?_)
  · refine z_iload_n hX 2 rfl rfl dX6_pacesOf_24 ?_
    obtain rfl := Option.some.inj h
    exact z_iret hX dX6_pacesOf_25
  · refine z_iload_n hX 2 rfl rfl dX6_pacesOf_9 (z_aload_n hX 0 rfl rfl dX6_pacesOf_10 (z_iload_n hX 3 rfl rfl dX6_pacesOf_11 (z_iconst hX (v := 0) (by decide) dX6_pacesOf_12 ?_)))
    refine m_cNI hX (rest := [zI v2]) h (fun r9 M9 e9 => z_runV hX lk_X6_212 (c_X6_ofTurn hX.tr hP e9) (ci := 5) zc9_5 pM_cl ⟨Nat.le_of_ble_eq_true rfl, Nat.le_of_ble_eq_true rfl⟩ rfl (Nat.le_of_ble_eq_true rfl) dX6_pacesOf_13 rfl) (fun x1 M2 h => ?_)
    refine z_iadd hX dX6_pacesOf_16 ?_
    refine z_nmI h (fun x3 h => ?_)
    refine z_istore_n (L' := [(0, zA (some o)), (1, zI v1), (2, zI x3), (3, zI v3)]) hX rfl rfl (by decide) dX6_pacesOf_17 ?_
    refine z_iinc hX (j := 3) h rfl (by decide) (by decide) dX6_pacesOf_18 (fun x4 h => z_L (L' := [(0, zA (some o)), (1, zI v1), (2, zI x3), (3, zI x4)]) rfl ?_)
    refine z_goto (tgt := 4) hX dX6_pacesOf_21 (by decide) ?_
    exact z_sub [0, 1, 2, 3] rfl (hrec4 _ _ _ h)

theorem m_X6_pacesOf_4 {X : zX} (hX : zOk X RX6 cX6_pacesOf 4 2 62 (Option.some Jvm.ClassFile.FieldType.int) "pacesOf" []) {σ : zS} {o : Nat} (hP : zP σ o) {Rt : Int32 × mS} {v1 : Int32} {v2 : Int32} {v3 : Int32} {M : mS} (h : g_X6_pacesOf_4 v1 v2 v3 M = some Rt) : zG X (zQ X (.inl (eI Rt.1)) (pM σ o Rt.2)) 4 4 [(0, zA (some o)), (1, zI v1), (2, zI v2), (3, zI v3)] [] (pM σ o M) :=
  zlp2_ok (P := fun v2 v3 M => zG X (zQ X (.inl (eI Rt.1)) (pM σ o Rt.2)) 4 4 [(0, zA (some o)), (1, zI v1), (2, zI v2), (3, zI v3)] [] (pM σ o M)) (fun rec hr v2 v3 M h => m_X6_pacesOf_4_b hX hP hr h) NN v2 v3 M h
def g_X6_pacesOf (p1 : Int32) (M : mS) : Option (Int32 × mS) :=
  g_X6_pacesOf_4 p1 0 0 M

set_option maxHeartbeats 4000000 in
theorem m_X6_pacesOf {X : zX} (hX : zOk X RX6 cX6_pacesOf 4 2 62 (Option.some Jvm.ClassFile.FieldType.int) "pacesOf" []) {σ : zS} {o : Nat} (hP : zP σ o) {p1 : Int32} {M : mS} {Rt : Int32 × mS} (h : g_X6_pacesOf p1 M = some Rt) : zG X (zQ X (.inl (eI Rt.1)) (pM σ o Rt.2)) 4 0 [(0, zA (some o)), (1, zI p1)] [] (pM σ o M) := by
  unfold g_X6_pacesOf at h
  refine z_iconst hX (v := 0) (by decide) dX6_pacesOf_0 (z_istore_n (L' := [(0, zA (some o)), (1, zI p1), (2, zI 0)]) hX rfl rfl (by decide) dX6_pacesOf_1 (z_iconst hX (v := 0) (by decide) dX6_pacesOf_2 (z_istore_n (L' := [(0, zA (some o)), (1, zI p1), (2, zI 0), (3, zI 0)]) hX rfl rfl (by decide) dX6_pacesOf_3 ?_)))
  exact z_sub [0, 1, 2, 3] rfl (m_X6_pacesOf_4 hX hP  h)

theorem c_X6_pacesOf {l : Launch} {D : va_G} {tys : zTy} (hl : l.stackTraces = false) {σ : zS} {o : Nat} (hP : zP σ o) {p1 : Int32} {M : mS} {Rt : Int32 × mS} (h : g_X6_pacesOf p1 M = some Rt) : zM l D tys yX6_pacesOf (ws_ yX6_pacesOf cX6_pacesOf 4 (Option.some Jvm.ClassFile.FieldType.int)) 2 62 [zA (some o), zI p1] (pM σ o M) (.inl (eI Rt.1)) (pM σ o Rt.2) :=
  zM_in hl rfl (Nat.le_of_ble_eq_true rfl) (fun p e R s m args below meth c hX => z_L rfl (m_X6_pacesOf hX hP h))
def g_X6_countsOf_189 (v5 : Int32) (v6 : Int32) (M : mS) : Option (Int32 × mS) :=
  some ((v5 * v6) / 10, M)

set_option maxHeartbeats 4000000 in
theorem m_X6_countsOf_189 {X : zX} (hX : zOk X RX6 cX6_countsOf 8 91 2154 (Option.some Jvm.ClassFile.FieldType.int) "countsOf" []) {σ : zS} {o : Nat} (hP : zP σ o) {Rt : Int32 × mS} {v5 : Int32} {v6 : Int32} {M : mS} (h : g_X6_countsOf_189 v5 v6 M = some Rt) : zG X (zQ X (.inl (eI Rt.1)) (pM σ o Rt.2)) 8 189 [(5, zI v5), (6, zI v6)] [] (pM σ o M) := by
  unfold g_X6_countsOf_189 at h
  refine z_iload hX 0 rfl dX6_countsOf_189 (z_iload hX 1 rfl dX6_countsOf_191 (z_imul hX dX6_countsOf_193 (z_bipush hX (v := 10) (by decide) dX6_countsOf_194 (z_idivK hX (by decide) dX6_countsOf_196 ?_))))
  obtain rfl := Option.some.inj h
  exact z_iret hX dX6_countsOf_197

def g_X6_countsOf_187 (v5 : Int32) (t0 : Int32) (M : mS) : Option (Int32 × mS) :=
  g_X6_countsOf_189 v5 t0 M

set_option maxHeartbeats 4000000 in
theorem m_X6_countsOf_187 {X : zX} (hX : zOk X RX6 cX6_countsOf 8 91 2154 (Option.some Jvm.ClassFile.FieldType.int) "countsOf" []) {σ : zS} {o : Nat} (hP : zP σ o) {Rt : Int32 × mS} {v5 : Int32} {t0 : Int32} {M : mS} (h : g_X6_countsOf_187 v5 t0 M = some Rt) : zG X (zQ X (.inl (eI Rt.1)) (pM σ o Rt.2)) 8 187 [(5, zI v5)] [zI t0] (pM σ o M) := by
  unfold g_X6_countsOf_187 at h
  refine z_istore (L' := [(5, zI v5), (6, zI t0)]) hX rfl (by decide) dX6_countsOf_187 ?_
  exact z_sub [0, 1] rfl (m_X6_countsOf_189 hX hP  h)

def g_X6_countsOf_112 (v5 : Int32) (t1 : Int32) (M : mS) : Option (Int32 × mS) :=
  (mPZ M 15 t1).bind fun M17 =>
  zl (M17.1 10) fun x18 =>
  zl (mset M17 10 (-1)) fun M19 =>
  zl (mset M19 7 542) fun M20 =>
  (mL M20 0 11).bind fun x21 =>
  zl (mset M20 8 x21) fun M22 =>
  zl (mset M22 9 0) fun M23 =>
  zl (mset M23 11 0) fun M24 =>
  zl (mset M24 16 (-1)) fun M25 =>
  zb2 (g_X6_read 1 M25) fun x26 M27 =>
  zl (mset M27 10 x18) fun M28 =>
  if ¬ (M28.1 16) = (-1) then
    g_X6_countsOf_187 v5 (M28.1 16) M28
  else
    g_X6_countsOf_187 v5 0 M28

set_option maxHeartbeats 4000000 in
theorem m_X6_countsOf_112 {X : zX} (hX : zOk X RX6 cX6_countsOf 8 91 2154 (Option.some Jvm.ClassFile.FieldType.int) "countsOf" []) {σ : zS} {o : Nat} (hP : zP σ o) {Rt : Int32 × mS} {v5 : Int32} {t1 : Int32} {M : mS} (h : g_X6_countsOf_112 v5 t1 M = some Rt) : zG X (zQ X (.inl (eI Rt.1)) (pM σ o Rt.2)) 8 112 [(0, zA (some o)), (5, zI v5)] [zI t1, zA (some o)] (pM σ o M) := by
  unfold g_X6_countsOf_112 at h
  refine m_putZ hX hP fp_X6_164_5 mSc_15 h dX6_countsOf_112 (fun M17 h => ?_)
  refine z_aload_n hX 0 rfl rfl dX6_countsOf_115 (m_getI hX fl_X6_22_5 mSc_10 dX6_countsOf_116 ?_)
  refine z_nmI h (fun x18 h => ?_)
  refine z_istore (L' := [(0, zA (some o)), (5, zI v5), (7, zI x18)]) hX rfl (by decide) dX6_countsOf_119 (z_aload_n hX 0 rfl rfl dX6_countsOf_121 (z_iconst hX (v := (-1)) (by decide) dX6_countsOf_122 ?_))
  refine m_putI hX hP fp_X6_22_5 mSc_10 h dX6_countsOf_123 (fun M19 h => ?_)
  refine z_aload_n hX 0 rfl rfl dX6_countsOf_126 (z_sipush hX (v := 542) (by decide) dX6_countsOf_127 ?_)
  refine m_putI hX hP fp_X6_51_5 mSc_7 h dX6_countsOf_130 (fun M20 h => ?_)
  refine z_aload_n hX 0 rfl rfl dX6_countsOf_133 (z_aload_n hX 0 rfl rfl dX6_countsOf_134 (m_getA hX fl_X6_7_5 mAr_1 dX6_countsOf_135 (z_bipush hX (v := 11) (by decide) dX6_countsOf_138 ?_)))
  refine m_iald hX (j := 0) (by decide) h dX6_countsOf_140 (fun x21 h => ?_)
  refine m_putI hX hP fp_X6_57_5 mSc_8 h dX6_countsOf_141 (fun M22 h => ?_)
  refine z_aload_n hX 0 rfl rfl dX6_countsOf_144 (z_iconst hX (v := 0) (by decide) dX6_countsOf_145 ?_)
  refine m_putI hX hP fp_X6_54_5 mSc_9 h dX6_countsOf_146 (fun M23 h => ?_)
  refine z_aload_n hX 0 rfl rfl dX6_countsOf_149 (z_iconst hX (v := 0) (by decide) dX6_countsOf_150 ?_)
  refine m_putI hX hP fp_X6_122_5 mSc_11 h dX6_countsOf_151 (fun M24 h => ?_)
  refine z_aload_n hX 0 rfl rfl dX6_countsOf_154 (z_iconst hX (v := (-1)) (by decide) dX6_countsOf_155 ?_)
  refine m_putI hX hP fp_X6_193_5 mSc_16 h dX6_countsOf_156 (fun M25 h => ?_)
  refine z_aload_n hX 0 rfl rfl dX6_countsOf_159 (z_iconst hX (v := 1) (by decide) dX6_countsOf_160 ?_)
  refine m_cNI hX (rest := []) h (fun r9 M9 e9 => z_runV hX lk_X6_138 (c_X6_read hX.tr hP e9) (ci := 5) zc9_5 pM_cl ⟨Nat.le_of_ble_eq_true rfl, Nat.le_of_ble_eq_true rfl⟩ rfl (Nat.le_of_ble_eq_true rfl) dX6_countsOf_161 rfl) (fun x26 M27 h => ?_)
  refine z_pop hX rfl dX6_countsOf_164 (z_aload_n hX 0 rfl rfl dX6_countsOf_165 (z_iload hX 2 rfl dX6_countsOf_166 ?_))
  refine m_putI hX hP fp_X6_22_5 mSc_10 h dX6_countsOf_168 (fun M28 h => ?_)
  refine z_aload_n hX 0 rfl rfl dX6_countsOf_171 (m_getI hX fl_X6_193_5 mSc_16 dX6_countsOf_172 (z_iconst hX (v := (-1)) (by decide) dX6_countsOf_175 ?_))
  refine z_icmp_ne (tgt := 183) hX h dX6_countsOf_176 (by decide) (fun h => ?_) (fun h => ?_)
  · refine z_aload_n hX 0 rfl rfl dX6_countsOf_183 (m_getI hX fl_X6_193_5 mSc_16 dX6_countsOf_184 ?_)
    exact z_sub [1] rfl (m_X6_countsOf_187 hX hP  h)
  · refine z_iconst hX (v := 0) (by decide) dX6_countsOf_179 (z_goto (tgt := 187) hX dX6_countsOf_180 (by decide) ?_)
    exact z_sub [1] rfl (m_X6_countsOf_187 hX hP  h)

def g_X6_countsOf_55 (v1 : Int32) (v2 : Int32) (v4 : Int32) (v5 : Int32) (t1 : Int32) (t2 : Int32) (M : mS) : Option (Int32 × mS) :=
  (mSt M 4 t1 t2).bind fun M7 =>
  (mSt M7 4 2 v5).bind fun M8 =>
  (mL M8 0 8).bind fun x9 =>
  (mSt M8 4 3 (x9 - x9 / 7 * 7)).bind fun M10 =>
  zb2 (g_X6_ofWalker v1 0 M10) fun x11 M12 =>
  zl (mset M12 13 x11) fun M13 =>
  (mPZ M13 14 v4).bind fun M14 =>
  zb2 (g_X6_ofWalker v1 2 M14) fun x15 M16 =>
  if ¬ x15 = v2 then
    g_X6_countsOf_112 v5 0 M16
  else
    g_X6_countsOf_112 v5 1 M16

set_option maxHeartbeats 4000000 in
theorem m_X6_countsOf_55 {X : zX} (hX : zOk X RX6 cX6_countsOf 8 91 2154 (Option.some Jvm.ClassFile.FieldType.int) "countsOf" []) {σ : zS} {o : Nat} (hP : zP σ o) {Rt : Int32 × mS} {v1 : Int32} {v2 : Int32} {v4 : Int32} {v5 : Int32} {t1 : Int32} {t2 : Int32} {M : mS} (h : g_X6_countsOf_55 v1 v2 v4 v5 t1 t2 M = some Rt) : zG X (zQ X (.inl (eI Rt.1)) (pM σ o Rt.2)) 8 55 [(0, zA (some o)), (1, zI v1), (2, zI v2), (4, zI v4), (5, zI v5)] [zI t2, zI t1, zA (some (o + 5))] (pM σ o M) := by
  unfold g_X6_countsOf_55 at h
  refine m_iast hX hP (j := 4) (by decide) h dX6_countsOf_55 (fun M7 h => ?_)
  refine z_aload_n hX 0 rfl rfl dX6_countsOf_56 (m_getA hX fl_X6_26_5 mAr_12 dX6_countsOf_57 (z_iconst hX (v := 2) (by decide) dX6_countsOf_60 (z_iload hX 4 rfl dX6_countsOf_61 ?_)))
  refine m_iast hX hP (j := 4) (by decide) h dX6_countsOf_63 (fun M8 h => ?_)
  refine z_aload_n hX 0 rfl rfl dX6_countsOf_64 (m_getA hX fl_X6_26_5 mAr_12 dX6_countsOf_65 (z_iconst hX (v := 3) (by decide) dX6_countsOf_68 (z_aload_n hX 0 rfl rfl dX6_countsOf_69 (m_getA hX fl_X6_7_5 mAr_1 dX6_countsOf_70 (z_bipush hX (v := 8) (by decide) dX6_countsOf_73 ?_)))))
  refine m_iald hX (j := 0) (by decide) h dX6_countsOf_75 (fun x9 h => ?_)
  refine z_bipush hX (v := 7) (by decide) dX6_countsOf_76 (z_iremK hX (by decide) dX6_countsOf_78 ?_)
  refine m_iast hX hP (j := 4) (by decide) h dX6_countsOf_79 (fun M10 h => ?_)
  refine z_aload_n hX 0 rfl rfl dX6_countsOf_80 (z_aload_n hX 0 rfl rfl dX6_countsOf_81 (z_iload_n hX 1 rfl rfl dX6_countsOf_82 (z_iconst hX (v := 0) (by decide) dX6_countsOf_83 ?_)))
  refine m_cNI hX (rest := [zA (some o)]) h (fun r9 M9 e9 => z_runV hX lk_X6_203 (c_X6_ofWalker hX.tr hP e9) (ci := 5) zc9_5 pM_cl ⟨Nat.le_of_ble_eq_true rfl, Nat.le_of_ble_eq_true rfl⟩ rfl (Nat.le_of_ble_eq_true rfl) dX6_countsOf_84 rfl) (fun x11 M12 h => ?_)
  refine m_putI hX hP fp_X6_153_5 mSc_13 h dX6_countsOf_87 (fun M13 h => ?_)
  refine z_aload_n hX 0 rfl rfl dX6_countsOf_90 (z_iload hX 3 rfl dX6_countsOf_91 ?_)
  refine m_putZ hX hP fp_X6_158_5 mSc_14 h dX6_countsOf_93 (fun M14 h => ?_)
  refine z_aload_n hX 0 rfl rfl dX6_countsOf_96 (z_aload_n hX 0 rfl rfl dX6_countsOf_97 (z_iload_n hX 1 rfl rfl dX6_countsOf_98 (z_iconst hX (v := 2) (by decide) dX6_countsOf_99 ?_)))
  refine m_cNI hX (rest := [zA (some o)]) h (fun r9 M9 e9 => z_runV hX lk_X6_203 (c_X6_ofWalker hX.tr hP e9) (ci := 5) zc9_5 pM_cl ⟨Nat.le_of_ble_eq_true rfl, Nat.le_of_ble_eq_true rfl⟩ rfl (Nat.le_of_ble_eq_true rfl) dX6_countsOf_100 rfl) (fun x15 M16 h => ?_)
  refine z_iload_n hX 2 rfl rfl dX6_countsOf_103 ?_
  refine z_icmp_ne (tgt := 111) hX h dX6_countsOf_104 (by decide) (fun h => ?_) (fun h => ?_)
  · refine z_iconst hX (v := 0) (by decide) dX6_countsOf_111 ?_
    exact z_sub [0, 4] rfl (m_X6_countsOf_112 hX hP  h)
  · refine z_iconst hX (v := 1) (by decide) dX6_countsOf_107 (z_goto (tgt := 112) hX dX6_countsOf_108 (by decide) ?_)
    exact z_sub [0, 4] rfl (m_X6_countsOf_112 hX hP  h)

def g_X6_countsOf (p1 : Int32) (p2 : Int32) (p3 : Int32) (p4 : Int32) (M : mS) : Option (Int32 × mS) :=
  zb2 (g_X6_pacesOf p3 M) fun x1 M2 =>
  (mL M2 0 10).bind fun x3 =>
  if x3 = (-1) then
    g_X6_countsOf_189 x1 10 M2
  else
    zb2 (g_X6_ofWalker p1 1 M2) fun x4 M5 =>
    (mSt M5 4 0 x4).bind fun M6 =>
    if p3 ≤ 0 then
      g_X6_countsOf_55 p1 p2 p4 x1 1 0 M6
    else
      zb2 (g_X6_ofTurn (p3 - 1) 1 M6) fun x29 M30 =>
      g_X6_countsOf_55 p1 p2 p4 x1 1 x29 M30

set_option maxHeartbeats 4000000 in
theorem m_X6_countsOf {X : zX} (hX : zOk X RX6 cX6_countsOf 8 91 2154 (Option.some Jvm.ClassFile.FieldType.int) "countsOf" []) {σ : zS} {o : Nat} (hP : zP σ o) {p1 : Int32} {p2 : Int32} {p3 : Int32} {p4 : Int32} {M : mS} {Rt : Int32 × mS} (h : g_X6_countsOf p1 p2 p3 p4 M = some Rt) : zG X (zQ X (.inl (eI Rt.1)) (pM σ o Rt.2)) 8 0 [(0, zA (some o)), (1, zI p1), (2, zI p2), (3, zI p3), (4, zI p4)] [] (pM σ o M) := by
  unfold g_X6_countsOf at h
  refine z_aload_n hX 0 rfl rfl dX6_countsOf_0 (z_iload_n hX 3 rfl rfl dX6_countsOf_1 ?_)
  refine m_cNI hX (rest := []) h (fun r9 M9 e9 => z_runV hX lk_X6_224 (c_X6_pacesOf hX.tr hP e9) (ci := 5) zc9_5 pM_cl ⟨Nat.le_of_ble_eq_true rfl, Nat.le_of_ble_eq_true rfl⟩ rfl (Nat.le_of_ble_eq_true rfl) dX6_countsOf_2 rfl) (fun x1 M2 h => ?_)
  refine z_istore (L' := [(0, zA (some o)), (1, zI p1), (2, zI p2), (3, zI p3), (4, zI p4), (5, zI x1)]) hX rfl (by decide) dX6_countsOf_5 (z_bipush hX (v := 10) (by decide) dX6_countsOf_7 (z_istore (L' := [(0, zA (some o)), (1, zI p1), (2, zI p2), (3, zI p3), (4, zI p4), (5, zI x1), (6, zI 10)]) hX rfl (by decide) dX6_countsOf_9 (z_aload_n hX 0 rfl rfl dX6_countsOf_11 (m_getA hX fl_X6_7_5 mAr_1 dX6_countsOf_12 (z_bipush hX (v := 10) (by decide) dX6_countsOf_15 ?_)))))
  refine m_iald hX (j := 0) (by decide) h dX6_countsOf_17 (fun x3 h => ?_)
  refine z_iconst hX (v := (-1)) (by decide) dX6_countsOf_18 ?_
  refine z_icmp_eq (tgt := 189) hX h dX6_countsOf_19 (by decide) (fun h => ?_) (fun h => ?_)
  · exact z_sub [5, 6] rfl (m_X6_countsOf_189 hX hP  h)
  · refine z_aload_n hX 0 rfl rfl dX6_countsOf_22 (m_getA hX fl_X6_26_5 mAr_12 dX6_countsOf_23 (z_iconst hX (v := 0) (by decide) dX6_countsOf_26 (z_aload_n hX 0 rfl rfl dX6_countsOf_27 (z_iload_n hX 1 rfl rfl dX6_countsOf_28 (z_iconst hX (v := 1) (by decide) dX6_countsOf_29 ?_)))))
    refine m_cNI hX (rest := [zI 0, zA (some (o + 5))]) h (fun r9 M9 e9 => z_runV hX lk_X6_203 (c_X6_ofWalker hX.tr hP e9) (ci := 5) zc9_5 pM_cl ⟨Nat.le_of_ble_eq_true rfl, Nat.le_of_ble_eq_true rfl⟩ rfl (Nat.le_of_ble_eq_true rfl) dX6_countsOf_30 rfl) (fun x4 M5 h => ?_)
    refine m_iast hX hP (j := 4) (by decide) h dX6_countsOf_33 (fun M6 h => ?_)
    refine z_aload_n hX 0 rfl rfl dX6_countsOf_34 (m_getA hX fl_X6_26_5 mAr_12 dX6_countsOf_35 (z_iconst hX (v := 1) (by decide) dX6_countsOf_38 (z_iload_n hX 3 rfl rfl dX6_countsOf_39 ?_)))
    refine z_if_le (tgt := 54) hX h dX6_countsOf_40 (by decide) (fun h => ?_) (fun h => ?_)
    · refine z_iconst hX (v := 0) (by decide) dX6_countsOf_54 ?_
      exact z_sub [0, 1, 2, 4, 5] rfl (m_X6_countsOf_55 hX hP  h)
    · refine z_aload_n hX 0 rfl rfl dX6_countsOf_43 (z_iload_n hX 3 rfl rfl dX6_countsOf_44 (z_iconst hX (v := 1) (by decide) dX6_countsOf_45 (z_isub hX dX6_countsOf_46 (z_iconst hX (v := 1) (by decide) dX6_countsOf_47 ?_))))
      refine m_cNI hX (rest := [zI 1, zA (some (o + 5))]) h (fun r9 M9 e9 => z_runV hX lk_X6_212 (c_X6_ofTurn hX.tr hP e9) (ci := 5) zc9_5 pM_cl ⟨Nat.le_of_ble_eq_true rfl, Nat.le_of_ble_eq_true rfl⟩ rfl (Nat.le_of_ble_eq_true rfl) dX6_countsOf_48 rfl) (fun x29 M30 h => ?_)
      refine z_goto (tgt := 55) hX dX6_countsOf_51 (by decide) ?_
      exact z_sub [0, 1, 2, 4, 5] rfl (m_X6_countsOf_55 hX hP  h)

theorem c_X6_countsOf {l : Launch} {D : va_G} {tys : zTy} (hl : l.stackTraces = false) {σ : zS} {o : Nat} (hP : zP σ o) {p1 : Int32} {p2 : Int32} {p3 : Int32} {p4 : Int32} {M : mS} {Rt : Int32 × mS} (h : g_X6_countsOf p1 p2 p3 p4 M = some Rt) : zM l D tys yX6_countsOf (ws_ yX6_countsOf cX6_countsOf 8 (Option.some Jvm.ClassFile.FieldType.int)) 91 2154 [zA (some o), zI p1, zI p2, zI p3, zI p4] (pM σ o M) (.inl (eI Rt.1)) (pM σ o Rt.2) :=
  zM_in hl rfl (Nat.le_of_ble_eq_true rfl) (fun p e R s m args below meth c hX => z_L rfl (m_X6_countsOf hX hP h))
def g_X6_counts (p1 : Int32) (p2 : Int32) (p3 : Int32) (p4 : Int32) (M : mS) : Option (Int32 × mS) :=
  zb2 (g_X6_refuses p1 p2 p3 M) fun x1 M2 =>
  zl (mset M2 0 x1) fun M3 =>
  if (M3.1 0) ≤ 0 then
    zb2 (g_X6_countsOf p1 p2 p3 p4 M3) fun x4 M5 =>
    some (x4, M5)
  else
    some ((0 : Int32), M3)

set_option maxHeartbeats 4000000 in
theorem m_X6_counts {X : zX} (hX : zOk X RX6 cX6_counts 5 92 2181 (Option.some Jvm.ClassFile.FieldType.int) "counts" []) {σ : zS} {o : Nat} (hP : zP σ o) {p1 : Int32} {p2 : Int32} {p3 : Int32} {p4 : Int32} {M : mS} {Rt : Int32 × mS} (h : g_X6_counts p1 p2 p3 p4 M = some Rt) : zG X (zQ X (.inl (eI Rt.1)) (pM σ o Rt.2)) 5 0 [(0, zA (some o)), (1, zI p1), (2, zI p2), (3, zI p3), (4, zI p4)] [] (pM σ o M) := by
  unfold g_X6_counts at h
  refine z_aload_n hX 0 rfl rfl dX6_counts_0 (z_aload_n hX 0 rfl rfl dX6_counts_1 (z_iload_n hX 1 rfl rfl dX6_counts_2 (z_iload_n hX 2 rfl rfl dX6_counts_3 (z_iload_n hX 3 rfl rfl dX6_counts_4 ?_))))
  refine m_cNI hX (rest := [zA (some o)]) h (fun r9 M9 e9 => z_runV hX lk_X6_227 (c_X6_refuses hX.tr hP e9) (ci := 5) zc9_5 pM_cl ⟨Nat.le_of_ble_eq_true rfl, Nat.le_of_ble_eq_true rfl⟩ rfl (Nat.le_of_ble_eq_true rfl) dX6_counts_5 rfl) (fun x1 M2 h => ?_)
  refine m_putI hX hP fp_X6_41_5 mSc_0 h dX6_counts_8 (fun M3 h => ?_)
  refine z_aload_n hX 0 rfl rfl dX6_counts_11 (m_getI hX fl_X6_41_5 mSc_0 dX6_counts_12 ?_)
  refine z_if_le (tgt := 20) hX h dX6_counts_15 (by decide) (fun h => ?_) (fun h => ?_)
  · refine z_aload_n hX 0 rfl rfl dX6_counts_20 (z_iload_n hX 1 rfl rfl dX6_counts_21 (z_iload_n hX 2 rfl rfl dX6_counts_22 (z_iload_n hX 3 rfl rfl dX6_counts_23 (z_iload hX 4 rfl dX6_counts_24 ?_))))
    refine m_cNI hX (rest := []) h (fun r9 M9 e9 => z_runV hX lk_X6_230 (c_X6_countsOf hX.tr hP e9) (ci := 5) zc9_5 pM_cl ⟨Nat.le_of_ble_eq_true rfl, Nat.le_of_ble_eq_true rfl⟩ rfl (Nat.le_of_ble_eq_true rfl) dX6_counts_26 rfl) (fun x4 M5 h => ?_)
    obtain rfl := Option.some.inj h
    exact z_iret hX dX6_counts_29
  · refine z_iconst hX (v := 0) (by decide) dX6_counts_18 ?_
    obtain rfl := Option.some.inj h
    exact z_iret hX dX6_counts_19

theorem c_X6_counts {l : Launch} {D : va_G} {tys : zTy} (hl : l.stackTraces = false) {σ : zS} {o : Nat} (hP : zP σ o) {p1 : Int32} {p2 : Int32} {p3 : Int32} {p4 : Int32} {M : mS} {Rt : Int32 × mS} (h : g_X6_counts p1 p2 p3 p4 M = some Rt) : zM l D tys yX6_counts (ws_ yX6_counts cX6_counts 5 (Option.some Jvm.ClassFile.FieldType.int)) 92 2181 [zA (some o), zI p1, zI p2, zI p3, zI p4] (pM σ o M) (.inl (eI Rt.1)) (pM σ o Rt.2) :=
  zM_in hl rfl (Nat.le_of_ble_eq_true rfl) (fun p e R s m args below meth c hX => z_L rfl (m_X6_counts hX hP h))
def g_X6_mayWalk_135 (rec50 : Int32 → mS → Option (Int32 × mS)) (v1 : Int32) (v3 : Int32) (v4 : Int32) (M : mS) : Option (Int32 × mS) :=
  zl (v4 + 1) fun x9 =>
  rec50 x9 M

set_option maxHeartbeats 4000000 in
theorem m_X6_mayWalk_135 {X : zX} (hX : zOk X RX6 cX6_mayWalk 6 2 62 (Option.some Jvm.ClassFile.FieldType.boolean) "mayWalk" []) {σ : zS} {o : Nat} (hP : zP σ o) {Rt : Int32 × mS} {rec50 : Int32 → mS → Option (Int32 × mS)} {v1 : Int32} {v3 : Int32} {v4 : Int32} (hrec50 : ∀ (v4 : Int32) (M : mS), rec50 v4 M = some Rt → zG X (zQ X (.inl (eI Rt.1)) (pM σ o Rt.2)) 6 50 [(0, zA (some o)), (1, zI v1), (3, zI v3), (4, zI v4)] [] (pM σ o M)) {M : mS} (h : g_X6_mayWalk_135 rec50 v1 v3 v4 M = some Rt) : zG X (zQ X (.inl (eI Rt.1)) (pM σ o Rt.2)) 6 135 [(0, zA (some o)), (1, zI v1), (3, zI v3), (4, zI v4)] [] (pM σ o M) := by
  unfold g_X6_mayWalk_135 at h
  refine z_iinc hX (j := 3) h rfl (by decide) (by decide) dX6_mayWalk_135 (fun x9 h => z_L (L' := [(0, zA (some o)), (1, zI v1), (3, zI v3), (4, zI x9)]) rfl ?_)
  refine z_goto (tgt := 50) hX dX6_mayWalk_138 (by decide) ?_
  exact z_sub [0, 1, 2, 3] rfl (hrec50 _ _ h)

def g_X6_mayWalk_130 (rec50 : Int32 → mS → Option (Int32 × mS)) (v1 : Int32) (v3 : Int32) (v4 : Int32) (t0 : Int32) (t1 : Int32) (M : mS) : Option (Int32 × mS) :=
  if ¬ t0 = t1 then
    g_X6_mayWalk_135 rec50 v1 v3 v4 M
  else
    some ((0 : Int32), M)

set_option maxHeartbeats 4000000 in
theorem m_X6_mayWalk_130 {X : zX} (hX : zOk X RX6 cX6_mayWalk 6 2 62 (Option.some Jvm.ClassFile.FieldType.boolean) "mayWalk" []) {σ : zS} {o : Nat} (hP : zP σ o) {Rt : Int32 × mS} {rec50 : Int32 → mS → Option (Int32 × mS)} {v1 : Int32} {v3 : Int32} {v4 : Int32} (hrec50 : ∀ (v4 : Int32) (M : mS), rec50 v4 M = some Rt → zG X (zQ X (.inl (eI Rt.1)) (pM σ o Rt.2)) 6 50 [(0, zA (some o)), (1, zI v1), (3, zI v3), (4, zI v4)] [] (pM σ o M)) {t0 : Int32} {t1 : Int32} {M : mS} (h : g_X6_mayWalk_130 rec50 v1 v3 v4 t0 t1 M = some Rt) : zG X (zQ X (.inl (eI Rt.1)) (pM σ o Rt.2)) 6 130 [(0, zA (some o)), (1, zI v1), (3, zI v3), (4, zI v4)] [zI t1, zI t0] (pM σ o M) := by
  unfold g_X6_mayWalk_130 at h
  refine z_icmp_ne (tgt := 135) hX h dX6_mayWalk_130 (by decide) (fun h => ?_) (fun h => ?_)
  · exact z_sub [0, 1, 2, 3] rfl (m_X6_mayWalk_135 hX hP hrec50 h)
  · refine z_iconst hX (v := 0) (by decide) dX6_mayWalk_133 ?_
    obtain rfl := Option.some.inj h
    exact z_zretT (r := 0) hX (by decide) dX6_mayWalk_134

def g_X6_mayWalk_109 (rec50 : Int32 → mS → Option (Int32 × mS)) (v1 : Int32) (v3 : Int32) (v4 : Int32) (v5 : Int32) (M : mS) : Option (Int32 × mS) :=
  if ¬ v5 = 0 then
    g_X6_mayWalk_135 rec50 v1 v3 v4 M
  else
    zb2 (g_X6_ofEntry v4 4 M) fun x10 M11 =>
    if v3 = 0 then
      g_X6_mayWalk_130 rec50 v1 v3 v4 x10 0 M11
    else
      g_X6_mayWalk_130 rec50 v1 v3 v4 x10 1 M11

set_option maxHeartbeats 4000000 in
theorem m_X6_mayWalk_109 {X : zX} (hX : zOk X RX6 cX6_mayWalk 6 2 62 (Option.some Jvm.ClassFile.FieldType.boolean) "mayWalk" []) {σ : zS} {o : Nat} (hP : zP σ o) {Rt : Int32 × mS} {rec50 : Int32 → mS → Option (Int32 × mS)} {v1 : Int32} {v3 : Int32} {v4 : Int32} {v5 : Int32} (hrec50 : ∀ (v4 : Int32) (M : mS), rec50 v4 M = some Rt → zG X (zQ X (.inl (eI Rt.1)) (pM σ o Rt.2)) 6 50 [(0, zA (some o)), (1, zI v1), (3, zI v3), (4, zI v4)] [] (pM σ o M)) {M : mS} (h : g_X6_mayWalk_109 rec50 v1 v3 v4 v5 M = some Rt) : zG X (zQ X (.inl (eI Rt.1)) (pM σ o Rt.2)) 6 109 [(0, zA (some o)), (1, zI v1), (3, zI v3), (4, zI v4), (5, zI v5)] [] (pM σ o M) := by
  unfold g_X6_mayWalk_109 at h
  refine z_iload hX 4 rfl dX6_mayWalk_109 ?_
  refine z_if_ne (tgt := 135) hX h dX6_mayWalk_111 (by decide) (fun h => ?_) (fun h => ?_)
  · exact z_sub [0, 1, 2, 3] rfl (m_X6_mayWalk_135 hX hP hrec50 h)
  · refine z_aload_n hX 0 rfl rfl dX6_mayWalk_114 (z_iload hX 3 rfl dX6_mayWalk_115 (z_iconst hX (v := 4) (by decide) dX6_mayWalk_117 ?_))
    refine m_cNI hX (rest := []) h (fun r9 M9 e9 => z_runV hX lk_X6_196 (c_X6_ofEntry hX.tr hP e9) (ci := 5) zc9_5 pM_cl ⟨Nat.le_of_ble_eq_true rfl, Nat.le_of_ble_eq_true rfl⟩ rfl (Nat.le_of_ble_eq_true rfl) dX6_mayWalk_118 rfl) (fun x10 M11 h => ?_)
    refine z_iload_n hX 2 rfl rfl dX6_mayWalk_121 ?_
    refine z_if_eq (tgt := 129) hX h dX6_mayWalk_122 (by decide) (fun h => ?_) (fun h => ?_)
    · refine z_iconst hX (v := 0) (by decide) dX6_mayWalk_129 ?_
      exact z_sub [0, 1, 2, 3] rfl (m_X6_mayWalk_130 hX hP hrec50 h)
    · refine z_iconst hX (v := 1) (by decide) dX6_mayWalk_125 (z_goto (tgt := 130) hX dX6_mayWalk_126 (by decide) ?_)
      exact z_sub [0, 1, 2, 3] rfl (m_X6_mayWalk_130 hX hP hrec50 h)

def g_X6_mayWalk_50_b (v1 : Int32) (v3 : Int32) (rec50 : Int32 → mS → Option (Int32 × mS)) (v4 : Int32) (M : mS) : Option (Int32 × mS) :=
  (mL M 0 4).bind fun x2 =>
  if x2 ≤ v4 then
    some ((1 : Int32), M)
  else
    zb2 (g_X6_ofEntry v4 1 M) fun x3 M4 =>
    if x3 = v1 then
      (mL M4 0 8).bind fun x5 =>
      zb2 (g_X6_ofEntry v4 0 M4) fun x6 M7 =>
      zl (x5 - x6) fun x8 =>
      if x8 ≤ 0 then
        g_X6_mayWalk_109 rec50 v1 v3 v4 x8 M7
      else
        (mL M7 0 7).bind fun x12 =>
        if x8 ≤ x12 then
          some ((0 : Int32), M7)
        else
          g_X6_mayWalk_109 rec50 v1 v3 v4 x8 M7
    else
      g_X6_mayWalk_135 rec50 v1 v3 v4 M4

def g_X6_mayWalk_50 (v1 : Int32) (v3 : Int32) : Int32 → mS → Option (Int32 × mS) := zlp1 (g_X6_mayWalk_50_b v1 v3) NN
set_option maxHeartbeats 4000000 in
theorem m_X6_mayWalk_50_b {X : zX} (hX : zOk X RX6 cX6_mayWalk 6 2 62 (Option.some Jvm.ClassFile.FieldType.boolean) "mayWalk" []) {σ : zS} {o : Nat} (hP : zP σ o) {Rt : Int32 × mS} {v1 : Int32} {v3 : Int32} {rec50 : Int32 → mS → Option (Int32 × mS)} (hrec50 : ∀ (v4 : Int32) (M : mS), rec50 v4 M = some Rt → zG X (zQ X (.inl (eI Rt.1)) (pM σ o Rt.2)) 6 50 [(0, zA (some o)), (1, zI v1), (3, zI v3), (4, zI v4)] [] (pM σ o M)) {v4 : Int32} {M : mS} (h : g_X6_mayWalk_50_b v1 v3 rec50 v4 M = some Rt) : zG X (zQ X (.inl (eI Rt.1)) (pM σ o Rt.2)) 6 50 [(0, zA (some o)), (1, zI v1), (3, zI v3), (4, zI v4)] [] (pM σ o M) := by
  unfold g_X6_mayWalk_50_b at h
  refine z_iload hX 3 rfl dX6_mayWalk_50 (z_aload_n hX 0 rfl rfl dX6_mayWalk_52 (m_getA hX fl_X6_7_5 mAr_1 dX6_mayWalk_53 (z_iconst hX (v := 4) (by decide) dX6_mayWalk_56 ?_)))
  refine m_iald hX (j := 0) (by decide) h dX6_mayWalk_57 (fun x2 h => ?_)
  refine z_icmp_ge (tgt := 141) hX h dX6_mayWalk_58 (by decide) (fun h => ?_) (fun h => ?_)
  · refine z_iconst hX (v := 1) (by decide) dX6_mayWalk_141 ?_
    obtain rfl := Option.some.inj h
    exact z_zretT (r := 1) hX (by decide) dX6_mayWalk_142
  · refine z_aload_n hX 0 rfl rfl dX6_mayWalk_61 (z_iload hX 3 rfl dX6_mayWalk_62 (z_iconst hX (v := 1) (by decide) dX6_mayWalk_64 ?_))
    refine m_cNI hX (rest := []) h (fun r9 M9 e9 => z_runV hX lk_X6_196 (c_X6_ofEntry hX.tr hP e9) (ci := 5) zc9_5 pM_cl ⟨Nat.le_of_ble_eq_true rfl, Nat.le_of_ble_eq_true rfl⟩ rfl (Nat.le_of_ble_eq_true rfl) dX6_mayWalk_65 rfl) (fun x3 M4 h => ?_)
    refine z_iload_n hX 1 rfl rfl dX6_mayWalk_68 ?_
    refine z_icmp_eq (tgt := 75) hX h dX6_mayWalk_69 (by decide) (fun h => ?_) (fun h => ?_)
    · refine z_aload_n hX 0 rfl rfl dX6_mayWalk_75 (m_getA hX fl_X6_7_5 mAr_1 dX6_mayWalk_76 (z_bipush hX (v := 8) (by decide) dX6_mayWalk_79 ?_))
      refine m_iald hX (j := 0) (by decide) h dX6_mayWalk_81 (fun x5 h => ?_)
      refine z_aload_n hX 0 rfl rfl dX6_mayWalk_82 (z_iload hX 3 rfl dX6_mayWalk_83 (z_iconst hX (v := 0) (by decide) dX6_mayWalk_85 ?_))
      refine m_cNI hX (rest := [zI x5]) h (fun r9 M9 e9 => z_runV hX lk_X6_196 (c_X6_ofEntry hX.tr hP e9) (ci := 5) zc9_5 pM_cl ⟨Nat.le_of_ble_eq_true rfl, Nat.le_of_ble_eq_true rfl⟩ rfl (Nat.le_of_ble_eq_true rfl) dX6_mayWalk_86 rfl) (fun x6 M7 h => ?_)
      refine z_isub hX dX6_mayWalk_89 ?_
      refine z_nmI h (fun x8 h => ?_)
      refine z_istore (L' := [(0, zA (some o)), (1, zI v1), (3, zI v3), (4, zI v4), (5, zI x8)]) hX rfl (by decide) dX6_mayWalk_90 (z_iload hX 4 rfl dX6_mayWalk_92 ?_)
      refine z_if_le (tgt := 109) hX h dX6_mayWalk_94 (by decide) (fun h => ?_) (fun h => ?_)
      · exact z_sub [0, 1, 2, 3, 4] rfl (m_X6_mayWalk_109 hX hP hrec50 h)
      · refine z_iload hX 4 rfl dX6_mayWalk_97 (z_aload_n hX 0 rfl rfl dX6_mayWalk_99 (m_getA hX fl_X6_7_5 mAr_1 dX6_mayWalk_100 (z_bipush hX (v := 7) (by decide) dX6_mayWalk_103 ?_)))
        refine m_iald hX (j := 0) (by decide) h dX6_mayWalk_105 (fun x12 h => ?_)
        refine z_icmp_le (tgt := 133) hX h dX6_mayWalk_106 (by decide) (fun h => ?_) (fun h => ?_)
        · refine z_iconst hX (v := 0) (by decide) dX6_mayWalk_133 ?_
          obtain rfl := Option.some.inj h
          exact z_zretT (r := 0) hX (by decide) dX6_mayWalk_134
        · exact z_sub [0, 1, 2, 3, 4] rfl (m_X6_mayWalk_109 hX hP hrec50 h)
    · refine z_goto (tgt := 135) hX dX6_mayWalk_72 (by decide) ?_
      exact z_sub [0, 1, 2, 3] rfl (m_X6_mayWalk_135 hX hP hrec50 h)

theorem m_X6_mayWalk_50 {X : zX} (hX : zOk X RX6 cX6_mayWalk 6 2 62 (Option.some Jvm.ClassFile.FieldType.boolean) "mayWalk" []) {σ : zS} {o : Nat} (hP : zP σ o) {Rt : Int32 × mS} {v1 : Int32} {v3 : Int32} {v4 : Int32} {M : mS} (h : g_X6_mayWalk_50 v1 v3 v4 M = some Rt) : zG X (zQ X (.inl (eI Rt.1)) (pM σ o Rt.2)) 6 50 [(0, zA (some o)), (1, zI v1), (3, zI v3), (4, zI v4)] [] (pM σ o M) :=
  zlp1_ok (P := fun v4 M => zG X (zQ X (.inl (eI Rt.1)) (pM σ o Rt.2)) 6 50 [(0, zA (some o)), (1, zI v1), (3, zI v3), (4, zI v4)] [] (pM σ o M)) (fun rec hr v4 M h => m_X6_mayWalk_50_b hX hP hr h) NN v4 M h
def g_X6_mayWalk_16_b (v1 : Int32) (v2 : Int32) (v3 : Int32) (rec16 : Int32 → mS → Option (Int32 × mS)) (v4 : Int32) (M : mS) : Option (Int32 × mS) :=
  if v2 ≤ v4 then
    g_X6_mayWalk_50 v1 v3 0 M
  else
    zb2 (g_X6_ofTurn v4 1 M) fun x13 M14 =>
    (mL M14 0 6).bind fun x15 =>
    if x13 < x15 then
      zl (v4 + 1) fun x16 =>
      rec16 x16 M14
    else
      some ((0 : Int32), M14)

def g_X6_mayWalk_16 (v1 : Int32) (v2 : Int32) (v3 : Int32) : Int32 → mS → Option (Int32 × mS) := zlp1 (g_X6_mayWalk_16_b v1 v2 v3) NN
set_option maxHeartbeats 4000000 in
theorem m_X6_mayWalk_16_b {X : zX} (hX : zOk X RX6 cX6_mayWalk 6 2 62 (Option.some Jvm.ClassFile.FieldType.boolean) "mayWalk" []) {σ : zS} {o : Nat} (hP : zP σ o) {Rt : Int32 × mS} {v1 : Int32} {v2 : Int32} {v3 : Int32} {rec16 : Int32 → mS → Option (Int32 × mS)} (hrec16 : ∀ (v4 : Int32) (M : mS), rec16 v4 M = some Rt → zG X (zQ X (.inl (eI Rt.1)) (pM σ o Rt.2)) 6 16 [(0, zA (some o)), (1, zI v1), (2, zI v2), (3, zI v3), (4, zI v4)] [] (pM σ o M)) {v4 : Int32} {M : mS} (h : g_X6_mayWalk_16_b v1 v2 v3 rec16 v4 M = some Rt) : zG X (zQ X (.inl (eI Rt.1)) (pM σ o Rt.2)) 6 16 [(0, zA (some o)), (1, zI v1), (2, zI v2), (3, zI v3), (4, zI v4)] [] (pM σ o M) := by
  unfold g_X6_mayWalk_16_b at h
  refine z_iload hX 4 rfl dX6_mayWalk_16 (z_iload_n hX 2 rfl rfl dX6_mayWalk_18 ?_)
  refine z_icmp_ge (tgt := 47) hX h dX6_mayWalk_19 (by decide) (fun h => ?_) (fun h => ?_)
  · refine z_iconst hX (v := 0) (by decide) dX6_mayWalk_47 (z_istore (L' := [(0, zA (some o)), (1, zI v1), (2, zI v2), (3, zI v3), (4, zI 0)]) hX rfl (by decide) dX6_mayWalk_48 ?_)
    exact z_sub [0, 1, 3, 4] rfl (m_X6_mayWalk_50 hX hP  h)
  · refine z_aload_n hX 0 rfl rfl dX6_mayWalk_22 (z_iload hX 4 rfl dX6_mayWalk_23 (z_iconst hX (v := 1) (by decide) dX6_mayWalk_25 ?_))
    refine m_cNI hX (rest := []) h (fun r9 M9 e9 => z_runV hX lk_X6_212 (c_X6_ofTurn hX.tr hP e9) (ci := 5) zc9_5 pM_cl ⟨Nat.le_of_ble_eq_true rfl, Nat.le_of_ble_eq_true rfl⟩ rfl (Nat.le_of_ble_eq_true rfl) dX6_mayWalk_26 rfl) (fun x13 M14 h => ?_)
    refine z_aload_n hX 0 rfl rfl dX6_mayWalk_29 (m_getA hX fl_X6_7_5 mAr_1 dX6_mayWalk_30 (z_bipush hX (v := 6) (by decide) dX6_mayWalk_33 ?_))
    refine m_iald hX (j := 0) (by decide) h dX6_mayWalk_35 (fun x15 h => ?_)
    refine z_icmp_lt (tgt := 41) hX h dX6_mayWalk_36 (by decide) (fun h => ?_) (fun h => ?_)
    · refine z_iinc hX (j := 4) h rfl (by decide) (by decide) dX6_mayWalk_41 (fun x16 h => z_L (L' := [(0, zA (some o)), (1, zI v1), (2, zI v2), (3, zI v3), (4, zI x16)]) rfl ?_)
      refine z_goto (tgt := 16) hX dX6_mayWalk_44 (by decide) ?_
      exact z_sub [0, 1, 2, 3, 4] rfl (hrec16 _ _ h)
    · refine z_iconst hX (v := 0) (by decide) dX6_mayWalk_39 ?_
      obtain rfl := Option.some.inj h
      exact z_zretT (r := 0) hX (by decide) dX6_mayWalk_40

theorem m_X6_mayWalk_16 {X : zX} (hX : zOk X RX6 cX6_mayWalk 6 2 62 (Option.some Jvm.ClassFile.FieldType.boolean) "mayWalk" []) {σ : zS} {o : Nat} (hP : zP σ o) {Rt : Int32 × mS} {v1 : Int32} {v2 : Int32} {v3 : Int32} {v4 : Int32} {M : mS} (h : g_X6_mayWalk_16 v1 v2 v3 v4 M = some Rt) : zG X (zQ X (.inl (eI Rt.1)) (pM σ o Rt.2)) 6 16 [(0, zA (some o)), (1, zI v1), (2, zI v2), (3, zI v3), (4, zI v4)] [] (pM σ o M) :=
  zlp1_ok (P := fun v4 M => zG X (zQ X (.inl (eI Rt.1)) (pM σ o Rt.2)) 6 16 [(0, zA (some o)), (1, zI v1), (2, zI v2), (3, zI v3), (4, zI v4)] [] (pM σ o M)) (fun rec hr v4 M h => m_X6_mayWalk_16_b hX hP hr h) NN v4 M h
def g_X6_mayWalk (p1 : Int32) (p2 : Int32) (p3 : Int32) (M : mS) : Option (Int32 × mS) :=
  (mL M 0 4).bind fun x1 =>
  if ¬ x1 = 60 then
    g_X6_mayWalk_16 p1 p2 p3 0 M
  else
    some ((0 : Int32), M)

set_option maxHeartbeats 4000000 in
theorem m_X6_mayWalk {X : zX} (hX : zOk X RX6 cX6_mayWalk 6 2 62 (Option.some Jvm.ClassFile.FieldType.boolean) "mayWalk" []) {σ : zS} {o : Nat} (hP : zP σ o) {p1 : Int32} {p2 : Int32} {p3 : Int32} {M : mS} {Rt : Int32 × mS} (h : g_X6_mayWalk p1 p2 p3 M = some Rt) : zG X (zQ X (.inl (eI Rt.1)) (pM σ o Rt.2)) 6 0 [(0, zA (some o)), (1, zI p1), (2, zI p2), (3, zI p3)] [] (pM σ o M) := by
  unfold g_X6_mayWalk at h
  refine z_aload_n hX 0 rfl rfl dX6_mayWalk_0 (m_getA hX fl_X6_7_5 mAr_1 dX6_mayWalk_1 (z_iconst hX (v := 4) (by decide) dX6_mayWalk_4 ?_))
  refine m_iald hX (j := 0) (by decide) h dX6_mayWalk_5 (fun x1 h => ?_)
  refine z_bipush hX (v := 60) (by decide) dX6_mayWalk_6 ?_
  refine z_icmp_ne (tgt := 13) hX h dX6_mayWalk_8 (by decide) (fun h => ?_) (fun h => ?_)
  · refine z_iconst hX (v := 0) (by decide) dX6_mayWalk_13 (z_istore (L' := [(0, zA (some o)), (1, zI p1), (2, zI p2), (3, zI p3), (4, zI 0)]) hX rfl (by decide) dX6_mayWalk_14 ?_)
    exact z_sub [0, 1, 2, 3, 4] rfl (m_X6_mayWalk_16 hX hP  h)
  · refine z_iconst hX (v := 0) (by decide) dX6_mayWalk_11 ?_
    obtain rfl := Option.some.inj h
    exact z_zretT (r := 0) hX (by decide) dX6_mayWalk_12

theorem c_X6_mayWalk {l : Launch} {D : va_G} {tys : zTy} (hl : l.stackTraces = false) {σ : zS} {o : Nat} (hP : zP σ o) {p1 : Int32} {p2 : Int32} {p3 : Int32} {M : mS} {Rt : Int32 × mS} (h : g_X6_mayWalk p1 p2 p3 M = some Rt) : zM l D tys yX6_mayWalk (ws_ yX6_mayWalk cX6_mayWalk 6 (Option.some Jvm.ClassFile.FieldType.boolean)) 2 62 [zA (some o), zI p1, zI p2, zI p3] (pM σ o M) (.inl (eI Rt.1)) (pM σ o Rt.2) :=
  zM_in hl rfl (Nat.le_of_ble_eq_true rfl) (fun p e R s m args below meth c hX => z_L rfl (m_X6_mayWalk hX hP h))
def g_X6_walks_169_b (v3 : Int32) (v5 : Int32) (rec169 : Int32 → mS → Option (Int32 × mS)) (v7 : Int32) (M : mS) : Option (Int32 × mS) :=
  if v3 ≤ v7 then
    some (v5, M)
  else
    (mL M 0 ((68 + (3 * v7)) + 1)).bind fun x19 =>
    (mSt M 0 ((68 + (3 * v7)) + 1) (x19 + 1)).bind fun M20 =>
    zl (v7 + 1) fun x21 =>
    rec169 x21 M20

def g_X6_walks_169 (v3 : Int32) (v5 : Int32) : Int32 → mS → Option (Int32 × mS) := zlp1 (g_X6_walks_169_b v3 v5) NN
set_option maxHeartbeats 4000000 in
theorem m_X6_walks_169_b {X : zX} (hX : zOk X RX6 cX6_walks 8 92 2181 (Option.some Jvm.ClassFile.FieldType.int) "walks" []) {σ : zS} {o : Nat} (hP : zP σ o) {Rt : Int32 × mS} {v3 : Int32} {v5 : Int32} {rec169 : Int32 → mS → Option (Int32 × mS)} (hrec169 : ∀ (v7 : Int32) (M : mS), rec169 v7 M = some Rt → zG X (zQ X (.inl (eI Rt.1)) (pM σ o Rt.2)) 8 169 [(0, zA (some o)), (3, zI v3), (5, zI v5), (7, zI v7)] [] (pM σ o M)) {v7 : Int32} {M : mS} (h : g_X6_walks_169_b v3 v5 rec169 v7 M = some Rt) : zG X (zQ X (.inl (eI Rt.1)) (pM σ o Rt.2)) 8 169 [(0, zA (some o)), (3, zI v3), (5, zI v5), (7, zI v7)] [] (pM σ o M) := by
  unfold g_X6_walks_169_b at h
  refine z_iload hX 3 rfl dX6_walks_169 (z_iload_n hX 1 rfl rfl dX6_walks_171 ?_)
  refine z_icmp_ge (tgt := 199) hX h dX6_walks_172 (by decide) (fun h => ?_) (fun h => ?_)
  · refine z_iload hX 2 rfl dX6_walks_199 ?_
    obtain rfl := Option.some.inj h
    exact z_iret hX dX6_walks_201
  · refine z_aload_n hX 0 rfl rfl dX6_walks_175 (m_getA hX fl_X6_7_5 mAr_1 dX6_walks_176 (z_bipush hX (v := 68) (by decide) dX6_walks_179 (z_iconst hX (v := 3) (by decide) dX6_walks_181 (z_iload hX 3 rfl dX6_walks_182 (z_imul hX dX6_walks_184 (z_iadd hX dX6_walks_185 (z_iconst hX (v := 1) (by decide) dX6_walks_186 (z_iadd hX dX6_walks_187 (z_dup2 hX rfl rfl dX6_walks_188 ?_)))))))))
    refine m_iald hX (j := 0) (by decide) h dX6_walks_189 (fun x19 h => ?_)
    refine z_iconst hX (v := 1) (by decide) dX6_walks_190 (z_iadd hX dX6_walks_191 ?_)
    refine m_iast hX hP (j := 0) (by decide) h dX6_walks_192 (fun M20 h => ?_)
    refine z_iinc hX (j := 3) h rfl (by decide) (by decide) dX6_walks_193 (fun x21 h => z_L (L' := [(0, zA (some o)), (3, zI v3), (5, zI v5), (7, zI x21)]) rfl ?_)
    refine z_goto (tgt := 169) hX dX6_walks_196 (by decide) ?_
    exact z_sub [0, 1, 2, 3] rfl (hrec169 _ _ h)

theorem m_X6_walks_169 {X : zX} (hX : zOk X RX6 cX6_walks 8 92 2181 (Option.some Jvm.ClassFile.FieldType.int) "walks" []) {σ : zS} {o : Nat} (hP : zP σ o) {Rt : Int32 × mS} {v3 : Int32} {v5 : Int32} {v7 : Int32} {M : mS} (h : g_X6_walks_169 v3 v5 v7 M = some Rt) : zG X (zQ X (.inl (eI Rt.1)) (pM σ o Rt.2)) 8 169 [(0, zA (some o)), (3, zI v3), (5, zI v5), (7, zI v7)] [] (pM σ o M) :=
  zlp1_ok (P := fun v7 M => zG X (zQ X (.inl (eI Rt.1)) (pM σ o Rt.2)) 8 169 [(0, zA (some o)), (3, zI v3), (5, zI v5), (7, zI v7)] [] (pM σ o M)) (fun rec hr v7 M h => m_X6_walks_169_b hX hP hr h) NN v7 M h
def g_X6_walks_119 (v2 : Int32) (v3 : Int32) (v5 : Int32) (v6 : Int32) (t1 : Int32) (t2 : Int32) (M : mS) : Option (Int32 × mS) :=
  (mSt M 0 t1 t2).bind fun M12 =>
  (mSt M12 0 (v6 + 5) v5).bind fun M13 =>
  (mSt M13 0 (v6 + 6) 0).bind fun M14 =>
  (mL M14 0 4).bind fun x15 =>
  (mSt M14 0 4 (x15 + 1)).bind fun M16 =>
  (mL M16 0 (12 + v2)).bind fun x17 =>
  (mSt M16 0 (12 + v2) (x17 - v5)).bind fun M18 =>
  g_X6_walks_169 v3 v5 0 M18

set_option maxHeartbeats 4000000 in
theorem m_X6_walks_119 {X : zX} (hX : zOk X RX6 cX6_walks 8 92 2181 (Option.some Jvm.ClassFile.FieldType.int) "walks" []) {σ : zS} {o : Nat} (hP : zP σ o) {Rt : Int32 × mS} {v2 : Int32} {v3 : Int32} {v5 : Int32} {v6 : Int32} {t1 : Int32} {t2 : Int32} {M : mS} (h : g_X6_walks_119 v2 v3 v5 v6 t1 t2 M = some Rt) : zG X (zQ X (.inl (eI Rt.1)) (pM σ o Rt.2)) 8 119 [(0, zA (some o)), (2, zI v2), (3, zI v3), (5, zI v5), (6, zI v6)] [zI t2, zI t1, zA (some (o + 1))] (pM σ o M) := by
  unfold g_X6_walks_119 at h
  refine m_iast hX hP (j := 0) (by decide) h dX6_walks_119 (fun M12 h => ?_)
  refine z_aload_n hX 0 rfl rfl dX6_walks_120 (m_getA hX fl_X6_7_5 mAr_1 dX6_walks_121 (z_iload hX 4 rfl dX6_walks_124 (z_iconst hX (v := 5) (by decide) dX6_walks_126 (z_iadd hX dX6_walks_127 (z_iload hX 3 rfl dX6_walks_128 ?_)))))
  refine m_iast hX hP (j := 0) (by decide) h dX6_walks_130 (fun M13 h => ?_)
  refine z_aload_n hX 0 rfl rfl dX6_walks_131 (m_getA hX fl_X6_7_5 mAr_1 dX6_walks_132 (z_iload hX 4 rfl dX6_walks_135 (z_bipush hX (v := 6) (by decide) dX6_walks_137 (z_iadd hX dX6_walks_139 (z_iconst hX (v := 0) (by decide) dX6_walks_140 ?_)))))
  refine m_iast hX hP (j := 0) (by decide) h dX6_walks_141 (fun M14 h => ?_)
  refine z_aload_n hX 0 rfl rfl dX6_walks_142 (m_getA hX fl_X6_7_5 mAr_1 dX6_walks_143 (z_iconst hX (v := 4) (by decide) dX6_walks_146 (z_dup2 hX rfl rfl dX6_walks_147 ?_)))
  refine m_iald hX (j := 0) (by decide) h dX6_walks_148 (fun x15 h => ?_)
  refine z_iconst hX (v := 1) (by decide) dX6_walks_149 (z_iadd hX dX6_walks_150 ?_)
  refine m_iast hX hP (j := 0) (by decide) h dX6_walks_151 (fun M16 h => ?_)
  refine z_aload_n hX 0 rfl rfl dX6_walks_152 (m_getA hX fl_X6_7_5 mAr_1 dX6_walks_153 (z_bipush hX (v := 12) (by decide) dX6_walks_156 (z_iload_n hX 1 rfl rfl dX6_walks_158 (z_iadd hX dX6_walks_159 (z_dup2 hX rfl rfl dX6_walks_160 ?_)))))
  refine m_iald hX (j := 0) (by decide) h dX6_walks_161 (fun x17 h => ?_)
  refine z_iload hX 3 rfl dX6_walks_162 (z_isub hX dX6_walks_164 ?_)
  refine m_iast hX hP (j := 0) (by decide) h dX6_walks_165 (fun M18 h => ?_)
  refine z_iconst hX (v := 0) (by decide) dX6_walks_166 (z_istore (L' := [(0, zA (some o)), (2, zI v2), (3, zI v3), (5, zI v5), (6, zI v6), (7, zI 0)]) hX rfl (by decide) dX6_walks_167 ?_)
  exact z_sub [0, 2, 3, 5] rfl (m_X6_walks_169 hX hP  h)

def g_X6_walks_39 (v1 : Int32) (v2 : Int32) (v3 : Int32) (v4 : Int32) (t0 : Int32) (M : mS) : Option (Int32 × mS) :=
  (mL M 0 4).bind fun x5 =>
  zl (122 + (7 * x5)) fun x6 =>
  (mL M 0 8).bind fun x7 =>
  (mSt M 0 (x6 + 0) x7).bind fun M8 =>
  (mSt M8 0 (x6 + 1) v1).bind fun M9 =>
  (mSt M9 0 (x6 + 2) v2).bind fun M10 =>
  (mSt M10 0 (x6 + 3) v3).bind fun M11 =>
  if v4 = 0 then
    g_X6_walks_119 v2 v3 t0 x6 (x6 + 4) 0 M11
  else
    g_X6_walks_119 v2 v3 t0 x6 (x6 + 4) 1 M11

set_option maxHeartbeats 4000000 in
theorem m_X6_walks_39 {X : zX} (hX : zOk X RX6 cX6_walks 8 92 2181 (Option.some Jvm.ClassFile.FieldType.int) "walks" []) {σ : zS} {o : Nat} (hP : zP σ o) {Rt : Int32 × mS} {v1 : Int32} {v2 : Int32} {v3 : Int32} {v4 : Int32} {t0 : Int32} {M : mS} (h : g_X6_walks_39 v1 v2 v3 v4 t0 M = some Rt) : zG X (zQ X (.inl (eI Rt.1)) (pM σ o Rt.2)) 8 39 [(0, zA (some o)), (1, zI v1), (2, zI v2), (3, zI v3), (4, zI v4)] [zI t0] (pM σ o M) := by
  unfold g_X6_walks_39 at h
  refine z_istore (L' := [(0, zA (some o)), (1, zI v1), (2, zI v2), (3, zI v3), (4, zI v4), (5, zI t0)]) hX rfl (by decide) dX6_walks_39 (z_bipush hX (v := 122) (by decide) dX6_walks_41 (z_bipush hX (v := 7) (by decide) dX6_walks_43 (z_aload_n hX 0 rfl rfl dX6_walks_45 (m_getA hX fl_X6_7_5 mAr_1 dX6_walks_46 (z_iconst hX (v := 4) (by decide) dX6_walks_49 ?_)))))
  refine m_iald hX (j := 0) (by decide) h dX6_walks_50 (fun x5 h => ?_)
  refine z_imul hX dX6_walks_51 (z_iadd hX dX6_walks_52 ?_)
  refine z_nmI h (fun x6 h => ?_)
  refine z_istore (L' := [(0, zA (some o)), (1, zI v1), (2, zI v2), (3, zI v3), (4, zI v4), (5, zI t0), (6, zI x6)]) hX rfl (by decide) dX6_walks_53 (z_aload_n hX 0 rfl rfl dX6_walks_55 (m_getA hX fl_X6_7_5 mAr_1 dX6_walks_56 (z_iload hX 6 rfl dX6_walks_59 (z_iconst hX (v := 0) (by decide) dX6_walks_61 (z_iadd hX dX6_walks_62 (z_aload_n hX 0 rfl rfl dX6_walks_63 (m_getA hX fl_X6_7_5 mAr_1 dX6_walks_64 (z_bipush hX (v := 8) (by decide) dX6_walks_67 ?_))))))))
  refine m_iald hX (j := 0) (by decide) h dX6_walks_69 (fun x7 h => ?_)
  refine m_iast hX hP (j := 0) (by decide) h dX6_walks_70 (fun M8 h => ?_)
  refine z_aload_n hX 0 rfl rfl dX6_walks_71 (m_getA hX fl_X6_7_5 mAr_1 dX6_walks_72 (z_iload hX 6 rfl dX6_walks_75 (z_iconst hX (v := 1) (by decide) dX6_walks_77 (z_iadd hX dX6_walks_78 (z_iload_n hX 1 rfl rfl dX6_walks_79 ?_)))))
  refine m_iast hX hP (j := 0) (by decide) h dX6_walks_80 (fun M9 h => ?_)
  refine z_aload_n hX 0 rfl rfl dX6_walks_81 (m_getA hX fl_X6_7_5 mAr_1 dX6_walks_82 (z_iload hX 6 rfl dX6_walks_85 (z_iconst hX (v := 2) (by decide) dX6_walks_87 (z_iadd hX dX6_walks_88 (z_iload_n hX 2 rfl rfl dX6_walks_89 ?_)))))
  refine m_iast hX hP (j := 0) (by decide) h dX6_walks_90 (fun M10 h => ?_)
  refine z_aload_n hX 0 rfl rfl dX6_walks_91 (m_getA hX fl_X6_7_5 mAr_1 dX6_walks_92 (z_iload hX 6 rfl dX6_walks_95 (z_iconst hX (v := 3) (by decide) dX6_walks_97 (z_iadd hX dX6_walks_98 (z_iload_n hX 3 rfl rfl dX6_walks_99 ?_)))))
  refine m_iast hX hP (j := 0) (by decide) h dX6_walks_100 (fun M11 h => ?_)
  refine z_aload_n hX 0 rfl rfl dX6_walks_101 (m_getA hX fl_X6_7_5 mAr_1 dX6_walks_102 (z_iload hX 6 rfl dX6_walks_105 (z_iconst hX (v := 4) (by decide) dX6_walks_107 (z_iadd hX dX6_walks_108 (z_iload hX 4 rfl dX6_walks_109 ?_)))))
  refine z_if_eq (tgt := 118) hX h dX6_walks_111 (by decide) (fun h => ?_) (fun h => ?_)
  · refine z_iconst hX (v := 0) (by decide) dX6_walks_118 ?_
    exact z_sub [0, 2, 3, 5, 6] rfl (m_X6_walks_119 hX hP  h)
  · refine z_iconst hX (v := 1) (by decide) dX6_walks_114 (z_goto (tgt := 119) hX dX6_walks_115 (by decide) ?_)
    exact z_sub [0, 2, 3, 5, 6] rfl (m_X6_walks_119 hX hP  h)

def g_X6_walks (p1 : Int32) (p2 : Int32) (p3 : Int32) (p4 : Int32) (M : mS) : Option (Int32 × mS) :=
  zb2 (g_X6_countsOf p1 p2 p3 p4 M) fun x1 M2 =>
  (mL M2 0 (12 + p2)).bind fun x3 =>
  if x3 ≤ x1 then
    (mL M2 0 (12 + p2)).bind fun x4 =>
    g_X6_walks_39 p1 p2 p3 p4 x4 M2
  else
    g_X6_walks_39 p1 p2 p3 p4 x1 M2

set_option maxHeartbeats 4000000 in
theorem m_X6_walks {X : zX} (hX : zOk X RX6 cX6_walks 8 92 2181 (Option.some Jvm.ClassFile.FieldType.int) "walks" []) {σ : zS} {o : Nat} (hP : zP σ o) {p1 : Int32} {p2 : Int32} {p3 : Int32} {p4 : Int32} {M : mS} {Rt : Int32 × mS} (h : g_X6_walks p1 p2 p3 p4 M = some Rt) : zG X (zQ X (.inl (eI Rt.1)) (pM σ o Rt.2)) 8 0 [(0, zA (some o)), (1, zI p1), (2, zI p2), (3, zI p3), (4, zI p4)] [] (pM σ o M) := by
  unfold g_X6_walks at h
  refine z_aload_n hX 0 rfl rfl dX6_walks_0 (z_iload_n hX 1 rfl rfl dX6_walks_1 (z_iload_n hX 2 rfl rfl dX6_walks_2 (z_iload_n hX 3 rfl rfl dX6_walks_3 (z_iload hX 4 rfl dX6_walks_4 ?_))))
  refine m_cNI hX (rest := []) h (fun r9 M9 e9 => z_runV hX lk_X6_230 (c_X6_countsOf hX.tr hP e9) (ci := 5) zc9_5 pM_cl ⟨Nat.le_of_ble_eq_true rfl, Nat.le_of_ble_eq_true rfl⟩ rfl (Nat.le_of_ble_eq_true rfl) dX6_walks_6 rfl) (fun x1 M2 h => ?_)
  refine z_istore (L' := [(0, zA (some o)), (1, zI p1), (2, zI p2), (3, zI p3), (4, zI p4), (5, zI x1)]) hX rfl (by decide) dX6_walks_9 (z_iload hX 5 rfl dX6_walks_11 (z_aload_n hX 0 rfl rfl dX6_walks_13 (m_getA hX fl_X6_7_5 mAr_1 dX6_walks_14 (z_bipush hX (v := 12) (by decide) dX6_walks_17 (z_iload_n hX 2 rfl rfl dX6_walks_19 (z_iadd hX dX6_walks_20 ?_))))))
  refine m_iald hX (j := 0) (by decide) h dX6_walks_21 (fun x3 h => ?_)
  refine z_icmp_ge (tgt := 30) hX h dX6_walks_22 (by decide) (fun h => ?_) (fun h => ?_)
  · refine z_aload_n hX 0 rfl rfl dX6_walks_30 (m_getA hX fl_X6_7_5 mAr_1 dX6_walks_31 (z_bipush hX (v := 12) (by decide) dX6_walks_34 (z_iload_n hX 2 rfl rfl dX6_walks_36 (z_iadd hX dX6_walks_37 ?_))))
    refine m_iald hX (j := 0) (by decide) h dX6_walks_38 (fun x4 h => ?_)
    exact z_sub [0, 1, 2, 3, 4] rfl (m_X6_walks_39 hX hP  h)
  · refine z_iload hX 5 rfl dX6_walks_25 (z_goto (tgt := 39) hX dX6_walks_27 (by decide) ?_)
    exact z_sub [0, 1, 2, 3, 4] rfl (m_X6_walks_39 hX hP  h)

theorem c_X6_walks {l : Launch} {D : va_G} {tys : zTy} (hl : l.stackTraces = false) {σ : zS} {o : Nat} (hP : zP σ o) {p1 : Int32} {p2 : Int32} {p3 : Int32} {p4 : Int32} {M : mS} {Rt : Int32 × mS} (h : g_X6_walks p1 p2 p3 p4 M = some Rt) : zM l D tys yX6_walks (ws_ yX6_walks cX6_walks 8 (Option.some Jvm.ClassFile.FieldType.int)) 92 2181 [zA (some o), zI p1, zI p2, zI p3, zI p4] (pM σ o M) (.inl (eI Rt.1)) (pM σ o Rt.2) :=
  zM_in hl rfl (Nat.le_of_ble_eq_true rfl) (fun p e R s m args below meth c hX => z_L rfl (m_X6_walks hX hP h))
def g_X6_walk_34 (v1 : Int32) (v2 : Int32) (v3 : Int32) (v4 : Int32) (M : mS) : Option (Int32 × mS) :=
  if (M.1 0) ≤ 0 then
    zb2 (g_X6_walks v1 v2 v3 v4 M) fun x4 M5 =>
    some (x4, M5)
  else
    some ((0 : Int32), M)

set_option maxHeartbeats 4000000 in
theorem m_X6_walk_34 {X : zX} (hX : zOk X RX6 cX6_walk 5 93 2208 (Option.some Jvm.ClassFile.FieldType.int) "walk" []) {σ : zS} {o : Nat} (hP : zP σ o) {Rt : Int32 × mS} {v1 : Int32} {v2 : Int32} {v3 : Int32} {v4 : Int32} {M : mS} (h : g_X6_walk_34 v1 v2 v3 v4 M = some Rt) : zG X (zQ X (.inl (eI Rt.1)) (pM σ o Rt.2)) 5 34 [(0, zA (some o)), (1, zI v1), (2, zI v2), (3, zI v3), (4, zI v4)] [] (pM σ o M) := by
  unfold g_X6_walk_34 at h
  refine z_aload_n hX 0 rfl rfl dX6_walk_34 (m_getI hX fl_X6_41_5 mSc_0 dX6_walk_35 ?_)
  refine z_if_le (tgt := 43) hX h dX6_walk_38 (by decide) (fun h => ?_) (fun h => ?_)
  · refine z_aload_n hX 0 rfl rfl dX6_walk_43 (z_iload_n hX 1 rfl rfl dX6_walk_44 (z_iload_n hX 2 rfl rfl dX6_walk_45 (z_iload_n hX 3 rfl rfl dX6_walk_46 (z_iload hX 4 rfl dX6_walk_47 ?_))))
    refine m_cNI hX (rest := []) h (fun r9 M9 e9 => z_runV hX lk_X6_238 (c_X6_walks hX.tr hP e9) (ci := 5) zc9_5 pM_cl ⟨Nat.le_of_ble_eq_true rfl, Nat.le_of_ble_eq_true rfl⟩ rfl (Nat.le_of_ble_eq_true rfl) dX6_walk_49 rfl) (fun x4 M5 h => ?_)
    obtain rfl := Option.some.inj h
    exact z_iret hX dX6_walk_52
  · refine z_iconst hX (v := 0) (by decide) dX6_walk_41 ?_
    obtain rfl := Option.some.inj h
    exact z_iret hX dX6_walk_42

def g_X6_walk (p1 : Int32) (p2 : Int32) (p3 : Int32) (p4 : Int32) (M : mS) : Option (Int32 × mS) :=
  zb2 (g_X6_refuses p1 p2 p3 M) fun x1 M2 =>
  zl (mset M2 0 x1) fun M3 =>
  if ¬ (M3.1 0) = 0 then
    g_X6_walk_34 p1 p2 p3 p4 M3
  else
    zb2 (g_X6_mayWalk p1 p3 p4 M3) fun x6 M7 =>
    if ¬ x6 = 0 then
      g_X6_walk_34 p1 p2 p3 p4 M7
    else
      zl (mset M7 0 3) fun M8 =>
      g_X6_walk_34 p1 p2 p3 p4 M8

set_option maxHeartbeats 4000000 in
theorem m_X6_walk {X : zX} (hX : zOk X RX6 cX6_walk 5 93 2208 (Option.some Jvm.ClassFile.FieldType.int) "walk" []) {σ : zS} {o : Nat} (hP : zP σ o) {p1 : Int32} {p2 : Int32} {p3 : Int32} {p4 : Int32} {M : mS} {Rt : Int32 × mS} (h : g_X6_walk p1 p2 p3 p4 M = some Rt) : zG X (zQ X (.inl (eI Rt.1)) (pM σ o Rt.2)) 5 0 [(0, zA (some o)), (1, zI p1), (2, zI p2), (3, zI p3), (4, zI p4)] [] (pM σ o M) := by
  unfold g_X6_walk at h
  refine z_aload_n hX 0 rfl rfl dX6_walk_0 (z_aload_n hX 0 rfl rfl dX6_walk_1 (z_iload_n hX 1 rfl rfl dX6_walk_2 (z_iload_n hX 2 rfl rfl dX6_walk_3 (z_iload_n hX 3 rfl rfl dX6_walk_4 ?_))))
  refine m_cNI hX (rest := [zA (some o)]) h (fun r9 M9 e9 => z_runV hX lk_X6_227 (c_X6_refuses hX.tr hP e9) (ci := 5) zc9_5 pM_cl ⟨Nat.le_of_ble_eq_true rfl, Nat.le_of_ble_eq_true rfl⟩ rfl (Nat.le_of_ble_eq_true rfl) dX6_walk_5 rfl) (fun x1 M2 h => ?_)
  refine m_putI hX hP fp_X6_41_5 mSc_0 h dX6_walk_8 (fun M3 h => ?_)
  refine z_aload_n hX 0 rfl rfl dX6_walk_11 (m_getI hX fl_X6_41_5 mSc_0 dX6_walk_12 ?_)
  refine z_if_ne (tgt := 34) hX h dX6_walk_15 (by decide) (fun h => ?_) (fun h => ?_)
  · exact z_sub [0, 1, 2, 3, 4] rfl (m_X6_walk_34 hX hP  h)
  · refine z_aload_n hX 0 rfl rfl dX6_walk_18 (z_iload_n hX 1 rfl rfl dX6_walk_19 (z_iload_n hX 3 rfl rfl dX6_walk_20 (z_iload hX 4 rfl dX6_walk_21 ?_)))
    refine m_cNI hX (rest := []) h (fun r9 M9 e9 => z_runV hX lk_X6_234 (c_X6_mayWalk hX.tr hP e9) (ci := 5) zc9_5 pM_cl ⟨Nat.le_of_ble_eq_true rfl, Nat.le_of_ble_eq_true rfl⟩ rfl (Nat.le_of_ble_eq_true rfl) dX6_walk_23 rfl) (fun x6 M7 h => ?_)
    refine z_if_ne (tgt := 34) hX h dX6_walk_26 (by decide) (fun h => ?_) (fun h => ?_)
    · exact z_sub [0, 1, 2, 3, 4] rfl (m_X6_walk_34 hX hP  h)
    · refine z_aload_n hX 0 rfl rfl dX6_walk_29 (z_iconst hX (v := 3) (by decide) dX6_walk_30 ?_)
      refine m_putI hX hP fp_X6_41_5 mSc_0 h dX6_walk_31 (fun M8 h => ?_)
      exact z_sub [0, 1, 2, 3, 4] rfl (m_X6_walk_34 hX hP  h)

theorem c_X6_walk {l : Launch} {D : va_G} {tys : zTy} (hl : l.stackTraces = false) {σ : zS} {o : Nat} (hP : zP σ o) {p1 : Int32} {p2 : Int32} {p3 : Int32} {p4 : Int32} {M : mS} {Rt : Int32 × mS} (h : g_X6_walk p1 p2 p3 p4 M = some Rt) : zM l D tys yX6_walk (ws_ yX6_walk cX6_walk 5 (Option.some Jvm.ClassFile.FieldType.int)) 93 2208 [zA (some o), zI p1, zI p2, zI p3, zI p4] (pM σ o M) (.inl (eI Rt.1)) (pM σ o Rt.2) :=
  zM_in hl rfl (Nat.le_of_ble_eq_true rfl) (fun p e R s m args below meth c hX => z_L rfl (m_X6_walk hX hP h))
def g_X6_undo_145 (rec111 : Int32 → mS → Option (Int32 × mS)) (v1 : Int32) (v2 : Int32) (M : mS) : Option (Int32 × mS) :=
  zl (v2 + 1) fun x18 =>
  rec111 x18 M

set_option maxHeartbeats 4000000 in
theorem m_X6_undo_145 {X : zX} (hX : zOk X RX6 cX6_undo 3 2 62 (Option.some Jvm.ClassFile.FieldType.int) "undo" []) {σ : zS} {o : Nat} (hP : zP σ o) {Rt : Int32 × mS} {rec111 : Int32 → mS → Option (Int32 × mS)} {v1 : Int32} {v2 : Int32} (hrec111 : ∀ (v2 : Int32) (M : mS), rec111 v2 M = some Rt → zG X (zQ X (.inl (eI Rt.1)) (pM σ o Rt.2)) 3 111 [(0, zA (some o)), (1, zI v1), (2, zI v2)] [] (pM σ o M)) {M : mS} (h : g_X6_undo_145 rec111 v1 v2 M = some Rt) : zG X (zQ X (.inl (eI Rt.1)) (pM σ o Rt.2)) 3 145 [(0, zA (some o)), (1, zI v1), (2, zI v2)] [] (pM σ o M) := by
  unfold g_X6_undo_145 at h
  refine z_iinc hX (j := 2) h rfl (by decide) (by decide) dX6_undo_145 (fun x18 h => z_L (L' := [(0, zA (some o)), (1, zI v1), (2, zI x18)]) rfl ?_)
  refine z_goto (tgt := 111) hX dX6_undo_148 (by decide) ?_
  exact z_sub [0, 1, 2] rfl (hrec111 _ _ h)

def g_X6_undo_111_b (v1 : Int32) (rec111 : Int32 → mS → Option (Int32 × mS)) (v2 : Int32) (M : mS) : Option (Int32 × mS) :=
  (mL M 0 3).bind fun x15 =>
  if x15 ≤ v2 then
    some (v1, M)
  else
    zb2 (g_X6_ofTurn v2 2 M) fun x16 M17 =>
    if x16 ≤ v1 then
      g_X6_undo_145 rec111 v1 v2 M17
    else
      (mSt M17 0 ((68 + (3 * v2)) + 2) v1).bind fun M19 =>
      g_X6_undo_145 rec111 v1 v2 M19

def g_X6_undo_111 (v1 : Int32) : Int32 → mS → Option (Int32 × mS) := zlp1 (g_X6_undo_111_b v1) NN
set_option maxHeartbeats 4000000 in
theorem m_X6_undo_111_b {X : zX} (hX : zOk X RX6 cX6_undo 3 2 62 (Option.some Jvm.ClassFile.FieldType.int) "undo" []) {σ : zS} {o : Nat} (hP : zP σ o) {Rt : Int32 × mS} {v1 : Int32} {rec111 : Int32 → mS → Option (Int32 × mS)} (hrec111 : ∀ (v2 : Int32) (M : mS), rec111 v2 M = some Rt → zG X (zQ X (.inl (eI Rt.1)) (pM σ o Rt.2)) 3 111 [(0, zA (some o)), (1, zI v1), (2, zI v2)] [] (pM σ o M)) {v2 : Int32} {M : mS} (h : g_X6_undo_111_b v1 rec111 v2 M = some Rt) : zG X (zQ X (.inl (eI Rt.1)) (pM σ o Rt.2)) 3 111 [(0, zA (some o)), (1, zI v1), (2, zI v2)] [] (pM σ o M) := by
  unfold g_X6_undo_111_b at h
  refine z_iload_n hX 2 rfl rfl dX6_undo_111 (z_aload_n hX 0 rfl rfl dX6_undo_112 (m_getA hX fl_X6_7_5 mAr_1 dX6_undo_113 (z_iconst hX (v := 3) (by decide) dX6_undo_116 ?_)))
  refine m_iald hX (j := 0) (by decide) h dX6_undo_117 (fun x15 h => ?_)
  refine z_icmp_ge (tgt := 151) hX h dX6_undo_118 (by decide) (fun h => ?_) (fun h => ?_)
  · refine z_iload_n hX 1 rfl rfl dX6_undo_151 ?_
    obtain rfl := Option.some.inj h
    exact z_iret hX dX6_undo_152
  · refine z_aload_n hX 0 rfl rfl dX6_undo_121 (z_iload_n hX 2 rfl rfl dX6_undo_122 (z_iconst hX (v := 2) (by decide) dX6_undo_123 ?_))
    refine m_cNI hX (rest := []) h (fun r9 M9 e9 => z_runV hX lk_X6_212 (c_X6_ofTurn hX.tr hP e9) (ci := 5) zc9_5 pM_cl ⟨Nat.le_of_ble_eq_true rfl, Nat.le_of_ble_eq_true rfl⟩ rfl (Nat.le_of_ble_eq_true rfl) dX6_undo_124 rfl) (fun x16 M17 h => ?_)
    refine z_iload_n hX 1 rfl rfl dX6_undo_127 ?_
    refine z_icmp_le (tgt := 145) hX h dX6_undo_128 (by decide) (fun h => ?_) (fun h => ?_)
    · exact z_sub [0, 1, 2] rfl (m_X6_undo_145 hX hP hrec111 h)
    · refine z_aload_n hX 0 rfl rfl dX6_undo_131 (m_getA hX fl_X6_7_5 mAr_1 dX6_undo_132 (z_bipush hX (v := 68) (by decide) dX6_undo_135 (z_iconst hX (v := 3) (by decide) dX6_undo_137 (z_iload_n hX 2 rfl rfl dX6_undo_138 (z_imul hX dX6_undo_139 (z_iadd hX dX6_undo_140 (z_iconst hX (v := 2) (by decide) dX6_undo_141 (z_iadd hX dX6_undo_142 (z_iload_n hX 1 rfl rfl dX6_undo_143 ?_)))))))))
      refine m_iast hX hP (j := 0) (by decide) h dX6_undo_144 (fun M19 h => ?_)
      exact z_sub [0, 1, 2] rfl (m_X6_undo_145 hX hP hrec111 h)

theorem m_X6_undo_111 {X : zX} (hX : zOk X RX6 cX6_undo 3 2 62 (Option.some Jvm.ClassFile.FieldType.int) "undo" []) {σ : zS} {o : Nat} (hP : zP σ o) {Rt : Int32 × mS} {v1 : Int32} {v2 : Int32} {M : mS} (h : g_X6_undo_111 v1 v2 M = some Rt) : zG X (zQ X (.inl (eI Rt.1)) (pM σ o Rt.2)) 3 111 [(0, zA (some o)), (1, zI v1), (2, zI v2)] [] (pM σ o M) :=
  zlp1_ok (P := fun v2 M => zG X (zQ X (.inl (eI Rt.1)) (pM σ o Rt.2)) 3 111 [(0, zA (some o)), (1, zI v1), (2, zI v2)] [] (pM σ o M)) (fun rec hr v2 M h => m_X6_undo_111_b hX hP hr h) NN v2 M h
def g_X6_undo_94 (rec56 : Int32 → mS → Option (Int32 × mS)) (v1 : Int32) (v2 : Int32) (t1 : Int32) (t2 : Int32) (t3 : Int32) (M : mS) : Option (Int32 × mS) :=
  (mSt M 0 t1 (t2 - t3)).bind fun M23 =>
  zl (v2 + 1) fun x24 =>
  rec56 x24 M23

set_option maxHeartbeats 4000000 in
theorem m_X6_undo_94 {X : zX} (hX : zOk X RX6 cX6_undo 3 2 62 (Option.some Jvm.ClassFile.FieldType.int) "undo" []) {σ : zS} {o : Nat} (hP : zP σ o) {Rt : Int32 × mS} {rec56 : Int32 → mS → Option (Int32 × mS)} {v1 : Int32} {v2 : Int32} (hrec56 : ∀ (v2 : Int32) (M : mS), rec56 v2 M = some Rt → zG X (zQ X (.inl (eI Rt.1)) (pM σ o Rt.2)) 3 56 [(0, zA (some o)), (1, zI v1), (2, zI v2)] [] (pM σ o M)) {t1 : Int32} {t2 : Int32} {t3 : Int32} {M : mS} (h : g_X6_undo_94 rec56 v1 v2 t1 t2 t3 M = some Rt) : zG X (zQ X (.inl (eI Rt.1)) (pM σ o Rt.2)) 3 94 [(0, zA (some o)), (1, zI v1), (2, zI v2)] [zI t3, zI t2, zI t1, zA (some (o + 1))] (pM σ o M) := by
  unfold g_X6_undo_94 at h
  refine z_isub hX dX6_undo_94 ?_
  refine m_iast hX hP (j := 0) (by decide) h dX6_undo_95 (fun M23 h => ?_)
  refine z_iinc hX (j := 2) h rfl (by decide) (by decide) dX6_undo_96 (fun x24 h => z_L (L' := [(0, zA (some o)), (1, zI v1), (2, zI x24)]) rfl ?_)
  refine z_goto (tgt := 56) hX dX6_undo_99 (by decide) ?_
  exact z_sub [0, 1, 2] rfl (hrec56 _ _ h)

def g_X6_undo_56_b (v1 : Int32) (rec56 : Int32 → mS → Option (Int32 × mS)) (v2 : Int32) (M : mS) : Option (Int32 × mS) :=
  zb2 (g_X6_ofEntry v1 3 M) fun x12 M13 =>
  if x12 ≤ v2 then
    (mSt M13 0 4 v1).bind fun M14 =>
    g_X6_undo_111 v1 0 M14
  else
    (mL M13 0 ((68 + (3 * v2)) + 1)).bind fun x20 =>
    zb2 (g_X6_ofTurn v2 1 M13) fun x21 M22 =>
    if x21 ≤ 0 then
      g_X6_undo_94 rec56 v1 v2 ((68 + (3 * v2)) + 1) x20 0 M22
    else
      g_X6_undo_94 rec56 v1 v2 ((68 + (3 * v2)) + 1) x20 1 M22

def g_X6_undo_56 (v1 : Int32) : Int32 → mS → Option (Int32 × mS) := zlp1 (g_X6_undo_56_b v1) NN
set_option maxHeartbeats 4000000 in
theorem m_X6_undo_56_b {X : zX} (hX : zOk X RX6 cX6_undo 3 2 62 (Option.some Jvm.ClassFile.FieldType.int) "undo" []) {σ : zS} {o : Nat} (hP : zP σ o) {Rt : Int32 × mS} {v1 : Int32} {rec56 : Int32 → mS → Option (Int32 × mS)} (hrec56 : ∀ (v2 : Int32) (M : mS), rec56 v2 M = some Rt → zG X (zQ X (.inl (eI Rt.1)) (pM σ o Rt.2)) 3 56 [(0, zA (some o)), (1, zI v1), (2, zI v2)] [] (pM σ o M)) {v2 : Int32} {M : mS} (h : g_X6_undo_56_b v1 rec56 v2 M = some Rt) : zG X (zQ X (.inl (eI Rt.1)) (pM σ o Rt.2)) 3 56 [(0, zA (some o)), (1, zI v1), (2, zI v2)] [] (pM σ o M) := by
  unfold g_X6_undo_56_b at h
  refine z_iload_n hX 2 rfl rfl dX6_undo_56 (z_aload_n hX 0 rfl rfl dX6_undo_57 (z_iload_n hX 1 rfl rfl dX6_undo_58 (z_iconst hX (v := 3) (by decide) dX6_undo_59 ?_)))
  refine m_cNI hX (rest := [zI v2]) h (fun r9 M9 e9 => z_runV hX lk_X6_196 (c_X6_ofEntry hX.tr hP e9) (ci := 5) zc9_5 pM_cl ⟨Nat.le_of_ble_eq_true rfl, Nat.le_of_ble_eq_true rfl⟩ rfl (Nat.le_of_ble_eq_true rfl) dX6_undo_60 rfl) (fun x12 M13 h => ?_)
  refine z_icmp_ge (tgt := 102) hX h dX6_undo_63 (by decide) (fun h => ?_) (fun h => ?_)
  · refine z_aload_n hX 0 rfl rfl dX6_undo_102 (m_getA hX fl_X6_7_5 mAr_1 dX6_undo_103 (z_iconst hX (v := 4) (by decide) dX6_undo_106 (z_iload_n hX 1 rfl rfl dX6_undo_107 ?_)))
    refine m_iast hX hP (j := 0) (by decide) h dX6_undo_108 (fun M14 h => ?_)
    refine z_iconst hX (v := 0) (by decide) dX6_undo_109 (z_istore_n (L' := [(0, zA (some o)), (1, zI v1), (2, zI 0)]) hX rfl rfl (by decide) dX6_undo_110 ?_)
    exact z_sub [0, 1, 2] rfl (m_X6_undo_111 hX hP  h)
  · refine z_aload_n hX 0 rfl rfl dX6_undo_66 (m_getA hX fl_X6_7_5 mAr_1 dX6_undo_67 (z_bipush hX (v := 68) (by decide) dX6_undo_70 (z_iconst hX (v := 3) (by decide) dX6_undo_72 (z_iload_n hX 2 rfl rfl dX6_undo_73 (z_imul hX dX6_undo_74 (z_iadd hX dX6_undo_75 (z_iconst hX (v := 1) (by decide) dX6_undo_76 (z_iadd hX dX6_undo_77 (z_dup2 hX rfl rfl dX6_undo_78 ?_)))))))))
    refine m_iald hX (j := 0) (by decide) h dX6_undo_79 (fun x20 h => ?_)
    refine z_aload_n hX 0 rfl rfl dX6_undo_80 (z_iload_n hX 2 rfl rfl dX6_undo_81 (z_iconst hX (v := 1) (by decide) dX6_undo_82 ?_))
    refine m_cNI hX (rest := [zI x20, zI ((68 + (3 * v2)) + 1), zA (some (o + 1))]) h (fun r9 M9 e9 => z_runV hX lk_X6_212 (c_X6_ofTurn hX.tr hP e9) (ci := 5) zc9_5 pM_cl ⟨Nat.le_of_ble_eq_true rfl, Nat.le_of_ble_eq_true rfl⟩ rfl (Nat.le_of_ble_eq_true rfl) dX6_undo_83 rfl) (fun x21 M22 h => ?_)
    refine z_if_le (tgt := 93) hX h dX6_undo_86 (by decide) (fun h => ?_) (fun h => ?_)
    · refine z_iconst hX (v := 0) (by decide) dX6_undo_93 ?_
      exact z_sub [0, 1, 2] rfl (m_X6_undo_94 hX hP hrec56 h)
    · refine z_iconst hX (v := 1) (by decide) dX6_undo_89 (z_goto (tgt := 94) hX dX6_undo_90 (by decide) ?_)
      exact z_sub [0, 1, 2] rfl (m_X6_undo_94 hX hP hrec56 h)

theorem m_X6_undo_56 {X : zX} (hX : zOk X RX6 cX6_undo 3 2 62 (Option.some Jvm.ClassFile.FieldType.int) "undo" []) {σ : zS} {o : Nat} (hP : zP σ o) {Rt : Int32 × mS} {v1 : Int32} {v2 : Int32} {M : mS} (h : g_X6_undo_56 v1 v2 M = some Rt) : zG X (zQ X (.inl (eI Rt.1)) (pM σ o Rt.2)) 3 56 [(0, zA (some o)), (1, zI v1), (2, zI v2)] [] (pM σ o M) :=
  zlp1_ok (P := fun v2 M => zG X (zQ X (.inl (eI Rt.1)) (pM σ o Rt.2)) 3 56 [(0, zA (some o)), (1, zI v1), (2, zI v2)] [] (pM σ o M)) (fun rec hr v2 M h => m_X6_undo_56_b hX hP hr h) NN v2 M h
def g_X6_undo (M : mS) : Option (Int32 × mS) :=
  zl (mset M 0 0) fun M1 =>
  (mL M1 0 4).bind fun x2 =>
  zl (x2 - 1) fun x3 =>
  if x3 < 0 then
    some (((-1) : Int32), M1)
  else
    zb2 (g_X6_ofEntry x3 6 M1) fun x4 M5 =>
    if ¬ x4 = 1 then
      zb2 (g_X6_ofEntry x3 2 M5) fun x6 M7 =>
      (mL M7 0 (12 + x6)).bind fun x8 =>
      zb2 (g_X6_ofEntry x3 5 M7) fun x9 M10 =>
      (mSt M10 0 (12 + x6) (x8 + x9)).bind fun M11 =>
      g_X6_undo_56 x3 0 M11
    else
      some (((-1) : Int32), M5)

set_option maxHeartbeats 4000000 in
theorem m_X6_undo {X : zX} (hX : zOk X RX6 cX6_undo 3 2 62 (Option.some Jvm.ClassFile.FieldType.int) "undo" []) {σ : zS} {o : Nat} (hP : zP σ o) {M : mS} {Rt : Int32 × mS} (h : g_X6_undo M = some Rt) : zG X (zQ X (.inl (eI Rt.1)) (pM σ o Rt.2)) 3 0 [(0, zA (some o))] [] (pM σ o M) := by
  unfold g_X6_undo at h
  refine z_aload_n hX 0 rfl rfl dX6_undo_0 (z_iconst hX (v := 0) (by decide) dX6_undo_1 ?_)
  refine m_putI hX hP fp_X6_41_5 mSc_0 h dX6_undo_2 (fun M1 h => ?_)
  refine z_aload_n hX 0 rfl rfl dX6_undo_5 (m_getA hX fl_X6_7_5 mAr_1 dX6_undo_6 (z_iconst hX (v := 4) (by decide) dX6_undo_9 ?_))
  refine m_iald hX (j := 0) (by decide) h dX6_undo_10 (fun x2 h => ?_)
  refine z_iconst hX (v := 1) (by decide) dX6_undo_11 (z_isub hX dX6_undo_12 ?_)
  refine z_nmI h (fun x3 h => ?_)
  refine z_istore_n (L' := [(0, zA (some o)), (1, zI x3)]) hX rfl rfl (by decide) dX6_undo_13 (z_iload_n hX 1 rfl rfl dX6_undo_14 ?_)
  refine z_if_lt (tgt := 29) hX h dX6_undo_15 (by decide) (fun h => ?_) (fun h => ?_)
  · refine z_iconst hX (v := (-1)) (by decide) dX6_undo_29 ?_
    obtain rfl := Option.some.inj h
    exact z_iret hX dX6_undo_30
  · refine z_aload_n hX 0 rfl rfl dX6_undo_18 (z_iload_n hX 1 rfl rfl dX6_undo_19 (z_bipush hX (v := 6) (by decide) dX6_undo_20 ?_))
    refine m_cNI hX (rest := []) h (fun r9 M9 e9 => z_runV hX lk_X6_196 (c_X6_ofEntry hX.tr hP e9) (ci := 5) zc9_5 pM_cl ⟨Nat.le_of_ble_eq_true rfl, Nat.le_of_ble_eq_true rfl⟩ rfl (Nat.le_of_ble_eq_true rfl) dX6_undo_22 rfl) (fun x4 M5 h => ?_)
    refine z_iconst hX (v := 1) (by decide) dX6_undo_25 ?_
    refine z_icmp_ne (tgt := 31) hX h dX6_undo_26 (by decide) (fun h => ?_) (fun h => ?_)
    · refine z_aload_n hX 0 rfl rfl dX6_undo_31 (m_getA hX fl_X6_7_5 mAr_1 dX6_undo_32 (z_bipush hX (v := 12) (by decide) dX6_undo_35 (z_aload_n hX 0 rfl rfl dX6_undo_37 (z_iload_n hX 1 rfl rfl dX6_undo_38 (z_iconst hX (v := 2) (by decide) dX6_undo_39 ?_)))))
      refine m_cNI hX (rest := [zI 12, zA (some (o + 1))]) h (fun r9 M9 e9 => z_runV hX lk_X6_196 (c_X6_ofEntry hX.tr hP e9) (ci := 5) zc9_5 pM_cl ⟨Nat.le_of_ble_eq_true rfl, Nat.le_of_ble_eq_true rfl⟩ rfl (Nat.le_of_ble_eq_true rfl) dX6_undo_40 rfl) (fun x6 M7 h => ?_)
      refine z_iadd hX dX6_undo_43 (z_dup2 hX rfl rfl dX6_undo_44 ?_)
      refine m_iald hX (j := 0) (by decide) h dX6_undo_45 (fun x8 h => ?_)
      refine z_aload_n hX 0 rfl rfl dX6_undo_46 (z_iload_n hX 1 rfl rfl dX6_undo_47 (z_iconst hX (v := 5) (by decide) dX6_undo_48 ?_))
      refine m_cNI hX (rest := [zI x8, zI (12 + x6), zA (some (o + 1))]) h (fun r9 M9 e9 => z_runV hX lk_X6_196 (c_X6_ofEntry hX.tr hP e9) (ci := 5) zc9_5 pM_cl ⟨Nat.le_of_ble_eq_true rfl, Nat.le_of_ble_eq_true rfl⟩ rfl (Nat.le_of_ble_eq_true rfl) dX6_undo_49 rfl) (fun x9 M10 h => ?_)
      refine z_iadd hX dX6_undo_52 ?_
      refine m_iast hX hP (j := 0) (by decide) h dX6_undo_53 (fun M11 h => ?_)
      refine z_iconst hX (v := 0) (by decide) dX6_undo_54 (z_istore_n (L' := [(0, zA (some o)), (1, zI x3), (2, zI 0)]) hX rfl rfl (by decide) dX6_undo_55 ?_)
      exact z_sub [0, 1, 2] rfl (m_X6_undo_56 hX hP  h)
    · refine z_iconst hX (v := (-1)) (by decide) dX6_undo_29 ?_
      obtain rfl := Option.some.inj h
      exact z_iret hX dX6_undo_30

theorem c_X6_undo {l : Launch} {D : va_G} {tys : zTy} (hl : l.stackTraces = false) {σ : zS} {o : Nat} (hP : zP σ o) {M : mS} {Rt : Int32 × mS} (h : g_X6_undo M = some Rt) : zM l D tys yX6_undo (ws_ yX6_undo cX6_undo 3 (Option.some Jvm.ClassFile.FieldType.int)) 2 62 [zA (some o)] (pM σ o M) (.inl (eI Rt.1)) (pM σ o Rt.2) :=
  zM_in hl rfl (Nat.le_of_ble_eq_true rfl) (fun p e R s m args below meth c hX => z_L rfl (m_X6_undo hX hP h))
def g_X6_days_16 (v1 : Int32) (t1 : Int32) (M : mS) : Option (Int32 × mS) :=
  zl (mset M 0 t1) fun M3 =>
  if (M3.1 0) ≤ 0 then
    (mL M3 0 8).bind fun x4 =>
    (mSt M3 0 8 (x4 + v1)).bind fun M5 =>
    (mL M5 0 8).bind fun x6 =>
    some (x6, M5)
  else
    some ((0 : Int32), M3)

set_option maxHeartbeats 4000000 in
theorem m_X6_days_16 {X : zX} (hX : zOk X RX6 cX6_days 2 2 62 (Option.some Jvm.ClassFile.FieldType.int) "days" []) {σ : zS} {o : Nat} (hP : zP σ o) {Rt : Int32 × mS} {v1 : Int32} {t1 : Int32} {M : mS} (h : g_X6_days_16 v1 t1 M = some Rt) : zG X (zQ X (.inl (eI Rt.1)) (pM σ o Rt.2)) 2 16 [(0, zA (some o)), (1, zI v1)] [zI t1, zA (some o)] (pM σ o M) := by
  unfold g_X6_days_16 at h
  refine m_putI hX hP fp_X6_41_5 mSc_0 h dX6_days_16 (fun M3 h => ?_)
  refine z_aload_n hX 0 rfl rfl dX6_days_19 (m_getI hX fl_X6_41_5 mSc_0 dX6_days_20 ?_)
  refine z_if_le (tgt := 28) hX h dX6_days_23 (by decide) (fun h => ?_) (fun h => ?_)
  · refine z_aload_n hX 0 rfl rfl dX6_days_28 (m_getA hX fl_X6_7_5 mAr_1 dX6_days_29 (z_bipush hX (v := 8) (by decide) dX6_days_32 (z_dup2 hX rfl rfl dX6_days_34 ?_)))
    refine m_iald hX (j := 0) (by decide) h dX6_days_35 (fun x4 h => ?_)
    refine z_iload_n hX 1 rfl rfl dX6_days_36 (z_iadd hX dX6_days_37 ?_)
    refine m_iast hX hP (j := 0) (by decide) h dX6_days_38 (fun M5 h => ?_)
    refine z_aload_n hX 0 rfl rfl dX6_days_39 (m_getA hX fl_X6_7_5 mAr_1 dX6_days_40 (z_bipush hX (v := 8) (by decide) dX6_days_43 ?_))
    refine m_iald hX (j := 0) (by decide) h dX6_days_45 (fun x6 h => ?_)
    obtain rfl := Option.some.inj h
    exact z_iret hX dX6_days_46
  · refine z_iconst hX (v := 0) (by decide) dX6_days_26 ?_
    obtain rfl := Option.some.inj h
    exact z_iret hX dX6_days_27

def g_X6_days (p1 : Int32) (M : mS) : Option (Int32 × mS) :=
  zb2 (g_X6_isIn p1 1 99 M) fun x1 M2 =>
  if ¬ x1 = 0 then
    g_X6_days_16 p1 0 M2
  else
    g_X6_days_16 p1 1 M2

set_option maxHeartbeats 4000000 in
theorem m_X6_days {X : zX} (hX : zOk X RX6 cX6_days 2 2 62 (Option.some Jvm.ClassFile.FieldType.int) "days" []) {σ : zS} {o : Nat} (hP : zP σ o) {p1 : Int32} {M : mS} {Rt : Int32 × mS} (h : g_X6_days p1 M = some Rt) : zG X (zQ X (.inl (eI Rt.1)) (pM σ o Rt.2)) 2 0 [(0, zA (some o)), (1, zI p1)] [] (pM σ o M) := by
  unfold g_X6_days at h
  refine z_aload_n hX 0 rfl rfl dX6_days_0 (z_iload_n hX 1 rfl rfl dX6_days_1 (z_iconst hX (v := 1) (by decide) dX6_days_2 (z_bipush hX (v := 99) (by decide) dX6_days_3 ?_)))
  refine m_cNI hX (rest := [zA (some o)]) h (fun r9 M9 e9 => z_runS hX lk_X6_44 (c_X6_isIn hX.tr hP e9) ⟨Nat.le_of_ble_eq_true rfl, Nat.le_of_ble_eq_true rfl⟩ rfl (Nat.le_of_ble_eq_true rfl) dX6_days_5 rfl) (fun x1 M2 h => ?_)
  refine z_if_ne (tgt := 15) hX h dX6_days_8 (by decide) (fun h => ?_) (fun h => ?_)
  · refine z_iconst hX (v := 0) (by decide) dX6_days_15 ?_
    exact z_sub [0, 1] rfl (m_X6_days_16 hX hP  h)
  · refine z_iconst hX (v := 1) (by decide) dX6_days_11 (z_goto (tgt := 16) hX dX6_days_12 (by decide) ?_)
    exact z_sub [0, 1] rfl (m_X6_days_16 hX hP  h)

theorem c_X6_days {l : Launch} {D : va_G} {tys : zTy} (hl : l.stackTraces = false) {σ : zS} {o : Nat} (hP : zP σ o) {p1 : Int32} {M : mS} {Rt : Int32 × mS} (h : g_X6_days p1 M = some Rt) : zM l D tys yX6_days (ws_ yX6_days cX6_days 2 (Option.some Jvm.ClassFile.FieldType.int)) 2 62 [zA (some o), zI p1] (pM σ o M) (.inl (eI Rt.1)) (pM σ o Rt.2) :=
  zM_in hl rfl (Nat.le_of_ble_eq_true rfl) (fun p e R s m args below meth c hX => z_L rfl (m_X6_days hX hP h))
def g_X6_pass_104 (v1 : Int32) (v2 : Int32) (v4 : Int32) (t1 : Int32) (M : mS) : Option (Int32 × mS) :=
  zl (mset M 0 t1) fun M7 =>
  if (M7.1 0) ≤ 0 then
    (mL M7 0 (12 + v1)).bind fun x8 =>
    (mSt M7 0 (12 + v1) (x8 - v4)).bind fun M9 =>
    (mL M9 0 (12 + v2)).bind fun x10 =>
    (mSt M9 0 (12 + v2) (x10 + v4)).bind fun M11 =>
    some (v4, M11)
  else
    some ((0 : Int32), M7)

set_option maxHeartbeats 4000000 in
theorem m_X6_pass_104 {X : zX} (hX : zOk X RX6 cX6_pass 5 3 83 (Option.some Jvm.ClassFile.FieldType.int) "pass" []) {σ : zS} {o : Nat} (hP : zP σ o) {Rt : Int32 × mS} {v1 : Int32} {v2 : Int32} {v4 : Int32} {t1 : Int32} {M : mS} (h : g_X6_pass_104 v1 v2 v4 t1 M = some Rt) : zG X (zQ X (.inl (eI Rt.1)) (pM σ o Rt.2)) 5 104 [(0, zA (some o)), (1, zI v1), (2, zI v2), (4, zI v4)] [zI t1, zA (some o)] (pM σ o M) := by
  unfold g_X6_pass_104 at h
  refine m_putI hX hP fp_X6_41_5 mSc_0 h dX6_pass_104 (fun M7 h => ?_)
  refine z_aload_n hX 0 rfl rfl dX6_pass_107 (m_getI hX fl_X6_41_5 mSc_0 dX6_pass_108 ?_)
  refine z_if_le (tgt := 116) hX h dX6_pass_111 (by decide) (fun h => ?_) (fun h => ?_)
  · refine z_aload_n hX 0 rfl rfl dX6_pass_116 (m_getA hX fl_X6_7_5 mAr_1 dX6_pass_117 (z_bipush hX (v := 12) (by decide) dX6_pass_120 (z_iload_n hX 1 rfl rfl dX6_pass_122 (z_iadd hX dX6_pass_123 (z_dup2 hX rfl rfl dX6_pass_124 ?_)))))
    refine m_iald hX (j := 0) (by decide) h dX6_pass_125 (fun x8 h => ?_)
    refine z_iload hX 3 rfl dX6_pass_126 (z_isub hX dX6_pass_128 ?_)
    refine m_iast hX hP (j := 0) (by decide) h dX6_pass_129 (fun M9 h => ?_)
    refine z_aload_n hX 0 rfl rfl dX6_pass_130 (m_getA hX fl_X6_7_5 mAr_1 dX6_pass_131 (z_bipush hX (v := 12) (by decide) dX6_pass_134 (z_iload_n hX 2 rfl rfl dX6_pass_136 (z_iadd hX dX6_pass_137 (z_dup2 hX rfl rfl dX6_pass_138 ?_)))))
    refine m_iald hX (j := 0) (by decide) h dX6_pass_139 (fun x10 h => ?_)
    refine z_iload hX 3 rfl dX6_pass_140 (z_iadd hX dX6_pass_142 ?_)
    refine m_iast hX hP (j := 0) (by decide) h dX6_pass_143 (fun M11 h => ?_)
    refine z_iload hX 3 rfl dX6_pass_144 ?_
    obtain rfl := Option.some.inj h
    exact z_iret hX dX6_pass_146
  · refine z_iconst hX (v := 0) (by decide) dX6_pass_114 ?_
    obtain rfl := Option.some.inj h
    exact z_iret hX dX6_pass_115

def g_X6_pass_79 (v1 : Int32) (v2 : Int32) (t0 : Int32) (M : mS) : Option (Int32 × mS) :=
  (mL M 0 (12 + v2)).bind fun x6 =>
  if (x6 + t0) ≤ 99999 then
    g_X6_pass_104 v1 v2 t0 0 M
  else
    g_X6_pass_104 v1 v2 t0 3 M

set_option maxHeartbeats 4000000 in
theorem m_X6_pass_79 {X : zX} (hX : zOk X RX6 cX6_pass 5 3 83 (Option.some Jvm.ClassFile.FieldType.int) "pass" []) {σ : zS} {o : Nat} (hP : zP σ o) {Rt : Int32 × mS} {v1 : Int32} {v2 : Int32} {t0 : Int32} {M : mS} (h : g_X6_pass_79 v1 v2 t0 M = some Rt) : zG X (zQ X (.inl (eI Rt.1)) (pM σ o Rt.2)) 5 79 [(0, zA (some o)), (1, zI v1), (2, zI v2)] [zI t0] (pM σ o M) := by
  unfold g_X6_pass_79 at h
  refine z_istore (L' := [(0, zA (some o)), (1, zI v1), (2, zI v2), (4, zI t0)]) hX rfl (by decide) dX6_pass_79 (z_aload_n hX 0 rfl rfl dX6_pass_81 (z_aload_n hX 0 rfl rfl dX6_pass_82 (m_getA hX fl_X6_7_5 mAr_1 dX6_pass_83 (z_bipush hX (v := 12) (by decide) dX6_pass_86 (z_iload_n hX 2 rfl rfl dX6_pass_88 (z_iadd hX dX6_pass_89 ?_))))))
  refine m_iald hX (j := 0) (by decide) h dX6_pass_90 (fun x6 h => ?_)
  refine z_iload hX 3 rfl dX6_pass_91 (z_iadd hX dX6_pass_93 (z_ldc hX (v := 99999) q1950 dX6_pass_94 ?_))
  refine z_icmp_le (tgt := 103) hX h dX6_pass_96 (by decide) (fun h => ?_) (fun h => ?_)
  · refine z_iconst hX (v := 0) (by decide) dX6_pass_103 ?_
    exact z_sub [0, 1, 2, 3] rfl (m_X6_pass_104 hX hP  h)
  · refine z_iconst hX (v := 3) (by decide) dX6_pass_99 (z_goto (tgt := 104) hX dX6_pass_100 (by decide) ?_)
    exact z_sub [0, 1, 2, 3] rfl (m_X6_pass_104 hX hP  h)

def g_X6_pass_41 (v1 : Int32) (v2 : Int32) (v3 : Int32) (t1 : Int32) (M : mS) : Option (Int32 × mS) :=
  zl (mset M 0 t1) fun M3 =>
  if (M3.1 0) ≤ 0 then
    (mL M3 0 (12 + v1)).bind fun x4 =>
    if x4 ≤ v3 then
      (mL M3 0 (12 + v1)).bind fun x5 =>
      g_X6_pass_79 v1 v2 x5 M3
    else
      g_X6_pass_79 v1 v2 v3 M3
  else
    some ((0 : Int32), M3)

set_option maxHeartbeats 4000000 in
theorem m_X6_pass_41 {X : zX} (hX : zOk X RX6 cX6_pass 5 3 83 (Option.some Jvm.ClassFile.FieldType.int) "pass" []) {σ : zS} {o : Nat} (hP : zP σ o) {Rt : Int32 × mS} {v1 : Int32} {v2 : Int32} {v3 : Int32} {t1 : Int32} {M : mS} (h : g_X6_pass_41 v1 v2 v3 t1 M = some Rt) : zG X (zQ X (.inl (eI Rt.1)) (pM σ o Rt.2)) 5 41 [(0, zA (some o)), (1, zI v1), (2, zI v2), (3, zI v3)] [zI t1, zA (some o)] (pM σ o M) := by
  unfold g_X6_pass_41 at h
  refine m_putI hX hP fp_X6_41_5 mSc_0 h dX6_pass_41 (fun M3 h => ?_)
  refine z_aload_n hX 0 rfl rfl dX6_pass_44 (m_getI hX fl_X6_41_5 mSc_0 dX6_pass_45 ?_)
  refine z_if_le (tgt := 53) hX h dX6_pass_48 (by decide) (fun h => ?_) (fun h => ?_)
  · refine z_iload_n hX 3 rfl rfl dX6_pass_53 (z_aload_n hX 0 rfl rfl dX6_pass_54 (m_getA hX fl_X6_7_5 mAr_1 dX6_pass_55 (z_bipush hX (v := 12) (by decide) dX6_pass_58 (z_iload_n hX 1 rfl rfl dX6_pass_60 (z_iadd hX dX6_pass_61 ?_)))))
    refine m_iald hX (j := 0) (by decide) h dX6_pass_62 (fun x4 h => ?_)
    refine z_icmp_ge (tgt := 70) hX h dX6_pass_63 (by decide) (fun h => ?_) (fun h => ?_)
    · refine z_aload_n hX 0 rfl rfl dX6_pass_70 (m_getA hX fl_X6_7_5 mAr_1 dX6_pass_71 (z_bipush hX (v := 12) (by decide) dX6_pass_74 (z_iload_n hX 1 rfl rfl dX6_pass_76 (z_iadd hX dX6_pass_77 ?_))))
      refine m_iald hX (j := 0) (by decide) h dX6_pass_78 (fun x5 h => ?_)
      exact z_sub [0, 1, 2] rfl (m_X6_pass_79 hX hP  h)
    · refine z_iload_n hX 3 rfl rfl dX6_pass_66 (z_goto (tgt := 79) hX dX6_pass_67 (by decide) ?_)
      exact z_sub [0, 1, 2] rfl (m_X6_pass_79 hX hP  h)
  · refine z_iconst hX (v := 0) (by decide) dX6_pass_51 ?_
    obtain rfl := Option.some.inj h
    exact z_iret hX dX6_pass_52

def g_X6_pass_17 (v1 : Int32) (v2 : Int32) (v3 : Int32) (M : mS) : Option (Int32 × mS) :=
  g_X6_pass_41 v1 v2 v3 1 M

set_option maxHeartbeats 4000000 in
theorem m_X6_pass_17 {X : zX} (hX : zOk X RX6 cX6_pass 5 3 83 (Option.some Jvm.ClassFile.FieldType.int) "pass" []) {σ : zS} {o : Nat} (hP : zP σ o) {Rt : Int32 × mS} {v1 : Int32} {v2 : Int32} {v3 : Int32} {M : mS} (h : g_X6_pass_17 v1 v2 v3 M = some Rt) : zG X (zQ X (.inl (eI Rt.1)) (pM σ o Rt.2)) 5 17 [(0, zA (some o)), (1, zI v1), (2, zI v2), (3, zI v3)] [zA (some o)] (pM σ o M) := by
  unfold g_X6_pass_17 at h
  refine z_iconst hX (v := 1) (by decide) dX6_pass_17 (z_goto (tgt := 41) hX dX6_pass_18 (by decide) ?_)
  exact z_sub [0, 1, 2, 3] rfl (m_X6_pass_41 hX hP  h)

def g_X6_pass_36 (v1 : Int32) (v2 : Int32) (v3 : Int32) (M : mS) : Option (Int32 × mS) :=
  g_X6_pass_41 v1 v2 v3 2 M

set_option maxHeartbeats 4000000 in
theorem m_X6_pass_36 {X : zX} (hX : zOk X RX6 cX6_pass 5 3 83 (Option.some Jvm.ClassFile.FieldType.int) "pass" []) {σ : zS} {o : Nat} (hP : zP σ o) {Rt : Int32 × mS} {v1 : Int32} {v2 : Int32} {v3 : Int32} {M : mS} (h : g_X6_pass_36 v1 v2 v3 M = some Rt) : zG X (zQ X (.inl (eI Rt.1)) (pM σ o Rt.2)) 5 36 [(0, zA (some o)), (1, zI v1), (2, zI v2), (3, zI v3)] [zA (some o)] (pM σ o M) := by
  unfold g_X6_pass_36 at h
  refine z_iconst hX (v := 2) (by decide) dX6_pass_36 (z_goto (tgt := 41) hX dX6_pass_37 (by decide) ?_)
  exact z_sub [0, 1, 2, 3] rfl (m_X6_pass_41 hX hP  h)

def g_X6_pass (p1 : Int32) (p2 : Int32) (p3 : Int32) (M : mS) : Option (Int32 × mS) :=
  zb2 (g_X6_isHouse p1 M) fun x1 M2 =>
  if x1 = 0 then
    g_X6_pass_17 p1 p2 p3 M2
  else
    zb2 (g_X6_isHouse p2 M2) fun x12 M13 =>
    if ¬ x12 = 0 then
      if p1 = p2 then
        g_X6_pass_36 p1 p2 p3 M13
      else
        zb2 (g_X6_isIn p3 1 99999 M13) fun x14 M15 =>
        if ¬ x14 = 0 then
          g_X6_pass_41 p1 p2 p3 0 M15
        else
          g_X6_pass_36 p1 p2 p3 M15
    else
      g_X6_pass_17 p1 p2 p3 M13

set_option maxHeartbeats 4000000 in
theorem m_X6_pass {X : zX} (hX : zOk X RX6 cX6_pass 5 3 83 (Option.some Jvm.ClassFile.FieldType.int) "pass" []) {σ : zS} {o : Nat} (hP : zP σ o) {p1 : Int32} {p2 : Int32} {p3 : Int32} {M : mS} {Rt : Int32 × mS} (h : g_X6_pass p1 p2 p3 M = some Rt) : zG X (zQ X (.inl (eI Rt.1)) (pM σ o Rt.2)) 5 0 [(0, zA (some o)), (1, zI p1), (2, zI p2), (3, zI p3)] [] (pM σ o M) := by
  unfold g_X6_pass at h
  refine z_aload_n hX 0 rfl rfl dX6_pass_0 (z_aload_n hX 0 rfl rfl dX6_pass_1 (z_iload_n hX 1 rfl rfl dX6_pass_2 ?_))
  refine m_cNI hX (rest := [zA (some o)]) h (fun r9 M9 e9 => z_runV hX lk_X6_200 (c_X6_isHouse hX.tr hP e9) (ci := 5) zc9_5 pM_cl ⟨Nat.le_of_ble_eq_true rfl, Nat.le_of_ble_eq_true rfl⟩ rfl (Nat.le_of_ble_eq_true rfl) dX6_pass_3 rfl) (fun x1 M2 h => ?_)
  refine z_if_eq (tgt := 17) hX h dX6_pass_6 (by decide) (fun h => ?_) (fun h => ?_)
  · exact z_sub [0, 1, 2, 3] rfl (m_X6_pass_17 hX hP  h)
  · refine z_aload_n hX 0 rfl rfl dX6_pass_9 (z_iload_n hX 2 rfl rfl dX6_pass_10 ?_)
    refine m_cNI hX (rest := [zA (some o)]) h (fun r9 M9 e9 => z_runV hX lk_X6_200 (c_X6_isHouse hX.tr hP e9) (ci := 5) zc9_5 pM_cl ⟨Nat.le_of_ble_eq_true rfl, Nat.le_of_ble_eq_true rfl⟩ rfl (Nat.le_of_ble_eq_true rfl) dX6_pass_11 rfl) (fun x12 M13 h => ?_)
    refine z_if_ne (tgt := 21) hX h dX6_pass_14 (by decide) (fun h => ?_) (fun h => ?_)
    · refine z_iload_n hX 1 rfl rfl dX6_pass_21 (z_iload_n hX 2 rfl rfl dX6_pass_22 ?_)
      refine z_icmp_eq (tgt := 36) hX h dX6_pass_23 (by decide) (fun h => ?_) (fun h => ?_)
      · exact z_sub [0, 1, 2, 3] rfl (m_X6_pass_36 hX hP  h)
      · refine z_iload_n hX 3 rfl rfl dX6_pass_26 (z_iconst hX (v := 1) (by decide) dX6_pass_27 (z_ldc hX (v := 99999) q1950 dX6_pass_28 ?_))
        refine m_cNI hX (rest := [zA (some o)]) h (fun r9 M9 e9 => z_runS hX lk_X6_44 (c_X6_isIn hX.tr hP e9) ⟨Nat.le_of_ble_eq_true rfl, Nat.le_of_ble_eq_true rfl⟩ rfl (Nat.le_of_ble_eq_true rfl) dX6_pass_30 rfl) (fun x14 M15 h => ?_)
        refine z_if_ne (tgt := 40) hX h dX6_pass_33 (by decide) (fun h => ?_) (fun h => ?_)
        · refine z_iconst hX (v := 0) (by decide) dX6_pass_40 ?_
          exact z_sub [0, 1, 2, 3] rfl (m_X6_pass_41 hX hP  h)
        · exact z_sub [0, 1, 2, 3] rfl (m_X6_pass_36 hX hP  h)
    · exact z_sub [0, 1, 2, 3] rfl (m_X6_pass_17 hX hP  h)

theorem c_X6_pass {l : Launch} {D : va_G} {tys : zTy} (hl : l.stackTraces = false) {σ : zS} {o : Nat} (hP : zP σ o) {p1 : Int32} {p2 : Int32} {p3 : Int32} {M : mS} {Rt : Int32 × mS} (h : g_X6_pass p1 p2 p3 M = some Rt) : zM l D tys yX6_pass (ws_ yX6_pass cX6_pass 5 (Option.some Jvm.ClassFile.FieldType.int)) 3 83 [zA (some o), zI p1, zI p2, zI p3] (pM σ o M) (.inl (eI Rt.1)) (pM σ o Rt.2) :=
  zM_in hl rfl (Nat.le_of_ble_eq_true rfl) (fun p e R s m args below meth c hX => z_L rfl (m_X6_pass hX hP h))
def g_X6_marry_138 (rec104 : Int32 → mS → Option (Int32 × mS)) (v1 : Int32) (v2 : Int32) (v3 : Int32) (M : mS) : Option (Int32 × mS) :=
  zl (v3 + 1) fun x12 =>
  rec104 x12 M

set_option maxHeartbeats 4000000 in
theorem m_X6_marry_138 {X : zX} (hX : zOk X RX6 cX6_marry 4 3 83 (Option.some Jvm.ClassFile.FieldType.int) "marry" []) {σ : zS} {o : Nat} (hP : zP σ o) {Rt : Int32 × mS} {rec104 : Int32 → mS → Option (Int32 × mS)} {v1 : Int32} {v2 : Int32} {v3 : Int32} (hrec104 : ∀ (v3 : Int32) (M : mS), rec104 v3 M = some Rt → zG X (zQ X (.inl (eI Rt.1)) (pM σ o Rt.2)) 4 104 [(0, zA (some o)), (1, zI v1), (2, zI v2), (3, zI v3)] [] (pM σ o M)) {M : mS} (h : g_X6_marry_138 rec104 v1 v2 v3 M = some Rt) : zG X (zQ X (.inl (eI Rt.1)) (pM σ o Rt.2)) 4 138 [(0, zA (some o)), (1, zI v1), (2, zI v2), (3, zI v3)] [] (pM σ o M) := by
  unfold g_X6_marry_138 at h
  refine z_iinc hX (j := 3) h rfl (by decide) (by decide) dX6_marry_138 (fun x12 h => z_L (L' := [(0, zA (some o)), (1, zI v1), (2, zI v2), (3, zI x12)]) rfl ?_)
  refine z_goto (tgt := 104) hX dX6_marry_141 (by decide) ?_
  exact z_sub [0, 1, 2, 3] rfl (hrec104 _ _ h)

def g_X6_marry_104_b (v1 : Int32) (v2 : Int32) (rec104 : Int32 → mS → Option (Int32 × mS)) (v3 : Int32) (M : mS) : Option (Int32 × mS) :=
  (mL M 0 2).bind fun x8 =>
  if x8 ≤ v3 then
    (mL M 0 (12 + v1)).bind fun x9 =>
    some (x9, M)
  else
    zb2 (g_X6_ofWalker v3 2 M) fun x10 M11 =>
    if ¬ x10 = v2 then
      g_X6_marry_138 rec104 v1 v2 v3 M11
    else
      (mSt M11 0 ((20 + (4 * v3)) + 2) v1).bind fun M13 =>
      g_X6_marry_138 rec104 v1 v2 v3 M13

def g_X6_marry_104 (v1 : Int32) (v2 : Int32) : Int32 → mS → Option (Int32 × mS) := zlp1 (g_X6_marry_104_b v1 v2) NN
set_option maxHeartbeats 4000000 in
theorem m_X6_marry_104_b {X : zX} (hX : zOk X RX6 cX6_marry 4 3 83 (Option.some Jvm.ClassFile.FieldType.int) "marry" []) {σ : zS} {o : Nat} (hP : zP σ o) {Rt : Int32 × mS} {v1 : Int32} {v2 : Int32} {rec104 : Int32 → mS → Option (Int32 × mS)} (hrec104 : ∀ (v3 : Int32) (M : mS), rec104 v3 M = some Rt → zG X (zQ X (.inl (eI Rt.1)) (pM σ o Rt.2)) 4 104 [(0, zA (some o)), (1, zI v1), (2, zI v2), (3, zI v3)] [] (pM σ o M)) {v3 : Int32} {M : mS} (h : g_X6_marry_104_b v1 v2 rec104 v3 M = some Rt) : zG X (zQ X (.inl (eI Rt.1)) (pM σ o Rt.2)) 4 104 [(0, zA (some o)), (1, zI v1), (2, zI v2), (3, zI v3)] [] (pM σ o M) := by
  unfold g_X6_marry_104_b at h
  refine z_iload_n hX 3 rfl rfl dX6_marry_104 (z_aload_n hX 0 rfl rfl dX6_marry_105 (m_getA hX fl_X6_7_5 mAr_1 dX6_marry_106 (z_iconst hX (v := 2) (by decide) dX6_marry_109 ?_)))
  refine m_iald hX (j := 0) (by decide) h dX6_marry_110 (fun x8 h => ?_)
  refine z_icmp_ge (tgt := 144) hX h dX6_marry_111 (by decide) (fun h => ?_) (fun h => ?_)
  · refine z_aload_n hX 0 rfl rfl dX6_marry_144 (m_getA hX fl_X6_7_5 mAr_1 dX6_marry_145 (z_bipush hX (v := 12) (by decide) dX6_marry_148 (z_iload_n hX 1 rfl rfl dX6_marry_150 (z_iadd hX dX6_marry_151 ?_))))
    refine m_iald hX (j := 0) (by decide) h dX6_marry_152 (fun x9 h => ?_)
    obtain rfl := Option.some.inj h
    exact z_iret hX dX6_marry_153
  · refine z_aload_n hX 0 rfl rfl dX6_marry_114 (z_iload_n hX 3 rfl rfl dX6_marry_115 (z_iconst hX (v := 2) (by decide) dX6_marry_116 ?_))
    refine m_cNI hX (rest := []) h (fun r9 M9 e9 => z_runV hX lk_X6_203 (c_X6_ofWalker hX.tr hP e9) (ci := 5) zc9_5 pM_cl ⟨Nat.le_of_ble_eq_true rfl, Nat.le_of_ble_eq_true rfl⟩ rfl (Nat.le_of_ble_eq_true rfl) dX6_marry_117 rfl) (fun x10 M11 h => ?_)
    refine z_iload_n hX 2 rfl rfl dX6_marry_120 ?_
    refine z_icmp_ne (tgt := 138) hX h dX6_marry_121 (by decide) (fun h => ?_) (fun h => ?_)
    · exact z_sub [0, 1, 2, 3] rfl (m_X6_marry_138 hX hP hrec104 h)
    · refine z_aload_n hX 0 rfl rfl dX6_marry_124 (m_getA hX fl_X6_7_5 mAr_1 dX6_marry_125 (z_bipush hX (v := 20) (by decide) dX6_marry_128 (z_iconst hX (v := 4) (by decide) dX6_marry_130 (z_iload_n hX 3 rfl rfl dX6_marry_131 (z_imul hX dX6_marry_132 (z_iadd hX dX6_marry_133 (z_iconst hX (v := 2) (by decide) dX6_marry_134 (z_iadd hX dX6_marry_135 (z_iload_n hX 1 rfl rfl dX6_marry_136 ?_)))))))))
      refine m_iast hX hP (j := 0) (by decide) h dX6_marry_137 (fun M13 h => ?_)
      exact z_sub [0, 1, 2, 3] rfl (m_X6_marry_138 hX hP hrec104 h)

theorem m_X6_marry_104 {X : zX} (hX : zOk X RX6 cX6_marry 4 3 83 (Option.some Jvm.ClassFile.FieldType.int) "marry" []) {σ : zS} {o : Nat} (hP : zP σ o) {Rt : Int32 × mS} {v1 : Int32} {v2 : Int32} {v3 : Int32} {M : mS} (h : g_X6_marry_104 v1 v2 v3 M = some Rt) : zG X (zQ X (.inl (eI Rt.1)) (pM σ o Rt.2)) 4 104 [(0, zA (some o)), (1, zI v1), (2, zI v2), (3, zI v3)] [] (pM σ o M) :=
  zlp1_ok (P := fun v3 M => zG X (zQ X (.inl (eI Rt.1)) (pM σ o Rt.2)) 4 104 [(0, zA (some o)), (1, zI v1), (2, zI v2), (3, zI v3)] [] (pM σ o M)) (fun rec hr v3 M h => m_X6_marry_104_b hX hP hr h) NN v3 M h
def g_X6_marry_59 (v1 : Int32) (v2 : Int32) (t1 : Int32) (M : mS) : Option (Int32 × mS) :=
  zl (mset M 0 t1) fun M3 =>
  if (M3.1 0) ≤ 0 then
    (mL M3 0 (12 + v1)).bind fun x4 =>
    (mL M3 0 (12 + v2)).bind fun x5 =>
    (mSt M3 0 (12 + v1) (x4 + x5)).bind fun M6 =>
    (mSt M6 0 (12 + v2) 0).bind fun M7 =>
    g_X6_marry_104 v1 v2 0 M7
  else
    some ((0 : Int32), M3)

set_option maxHeartbeats 4000000 in
theorem m_X6_marry_59 {X : zX} (hX : zOk X RX6 cX6_marry 4 3 83 (Option.some Jvm.ClassFile.FieldType.int) "marry" []) {σ : zS} {o : Nat} (hP : zP σ o) {Rt : Int32 × mS} {v1 : Int32} {v2 : Int32} {t1 : Int32} {M : mS} (h : g_X6_marry_59 v1 v2 t1 M = some Rt) : zG X (zQ X (.inl (eI Rt.1)) (pM σ o Rt.2)) 4 59 [(0, zA (some o)), (1, zI v1), (2, zI v2)] [zI t1, zA (some o)] (pM σ o M) := by
  unfold g_X6_marry_59 at h
  refine m_putI hX hP fp_X6_41_5 mSc_0 h dX6_marry_59 (fun M3 h => ?_)
  refine z_aload_n hX 0 rfl rfl dX6_marry_62 (m_getI hX fl_X6_41_5 mSc_0 dX6_marry_63 ?_)
  refine z_if_le (tgt := 71) hX h dX6_marry_66 (by decide) (fun h => ?_) (fun h => ?_)
  · refine z_aload_n hX 0 rfl rfl dX6_marry_71 (m_getA hX fl_X6_7_5 mAr_1 dX6_marry_72 (z_bipush hX (v := 12) (by decide) dX6_marry_75 (z_iload_n hX 1 rfl rfl dX6_marry_77 (z_iadd hX dX6_marry_78 (z_dup2 hX rfl rfl dX6_marry_79 ?_)))))
    refine m_iald hX (j := 0) (by decide) h dX6_marry_80 (fun x4 h => ?_)
    refine z_aload_n hX 0 rfl rfl dX6_marry_81 (m_getA hX fl_X6_7_5 mAr_1 dX6_marry_82 (z_bipush hX (v := 12) (by decide) dX6_marry_85 (z_iload_n hX 2 rfl rfl dX6_marry_87 (z_iadd hX dX6_marry_88 ?_))))
    refine m_iald hX (j := 0) (by decide) h dX6_marry_89 (fun x5 h => ?_)
    refine z_iadd hX dX6_marry_90 ?_
    refine m_iast hX hP (j := 0) (by decide) h dX6_marry_91 (fun M6 h => ?_)
    refine z_aload_n hX 0 rfl rfl dX6_marry_92 (m_getA hX fl_X6_7_5 mAr_1 dX6_marry_93 (z_bipush hX (v := 12) (by decide) dX6_marry_96 (z_iload_n hX 2 rfl rfl dX6_marry_98 (z_iadd hX dX6_marry_99 (z_iconst hX (v := 0) (by decide) dX6_marry_100 ?_)))))
    refine m_iast hX hP (j := 0) (by decide) h dX6_marry_101 (fun M7 h => ?_)
    refine z_iconst hX (v := 0) (by decide) dX6_marry_102 (z_istore_n (L' := [(0, zA (some o)), (1, zI v1), (2, zI v2), (3, zI 0)]) hX rfl rfl (by decide) dX6_marry_103 ?_)
    exact z_sub [0, 1, 2, 3] rfl (m_X6_marry_104 hX hP  h)
  · refine z_iconst hX (v := 0) (by decide) dX6_marry_69 ?_
    obtain rfl := Option.some.inj h
    exact z_iret hX dX6_marry_70

def g_X6_marry_17 (v1 : Int32) (v2 : Int32) (M : mS) : Option (Int32 × mS) :=
  g_X6_marry_59 v1 v2 1 M

set_option maxHeartbeats 4000000 in
theorem m_X6_marry_17 {X : zX} (hX : zOk X RX6 cX6_marry 4 3 83 (Option.some Jvm.ClassFile.FieldType.int) "marry" []) {σ : zS} {o : Nat} (hP : zP σ o) {Rt : Int32 × mS} {v1 : Int32} {v2 : Int32} {M : mS} (h : g_X6_marry_17 v1 v2 M = some Rt) : zG X (zQ X (.inl (eI Rt.1)) (pM σ o Rt.2)) 4 17 [(0, zA (some o)), (1, zI v1), (2, zI v2)] [zA (some o)] (pM σ o M) := by
  unfold g_X6_marry_17 at h
  refine z_iconst hX (v := 1) (by decide) dX6_marry_17 (z_goto (tgt := 59) hX dX6_marry_18 (by decide) ?_)
  exact z_sub [0, 1, 2] rfl (m_X6_marry_59 hX hP  h)

def g_X6_marry (p1 : Int32) (p2 : Int32) (M : mS) : Option (Int32 × mS) :=
  zb2 (g_X6_isHouse p1 M) fun x1 M2 =>
  if x1 = 0 then
    g_X6_marry_17 p1 p2 M2
  else
    zb2 (g_X6_isHouse p2 M2) fun x14 M15 =>
    if ¬ x14 = 0 then
      if ¬ p1 = p2 then
        (mL M15 0 (12 + p1)).bind fun x16 =>
        (mL M15 0 (12 + p2)).bind fun x17 =>
        if (x16 + x17) ≤ 99999 then
          g_X6_marry_59 p1 p2 0 M15
        else
          g_X6_marry_59 p1 p2 3 M15
      else
        g_X6_marry_59 p1 p2 2 M15
    else
      g_X6_marry_17 p1 p2 M15

set_option maxHeartbeats 4000000 in
theorem m_X6_marry {X : zX} (hX : zOk X RX6 cX6_marry 4 3 83 (Option.some Jvm.ClassFile.FieldType.int) "marry" []) {σ : zS} {o : Nat} (hP : zP σ o) {p1 : Int32} {p2 : Int32} {M : mS} {Rt : Int32 × mS} (h : g_X6_marry p1 p2 M = some Rt) : zG X (zQ X (.inl (eI Rt.1)) (pM σ o Rt.2)) 4 0 [(0, zA (some o)), (1, zI p1), (2, zI p2)] [] (pM σ o M) := by
  unfold g_X6_marry at h
  refine z_aload_n hX 0 rfl rfl dX6_marry_0 (z_aload_n hX 0 rfl rfl dX6_marry_1 (z_iload_n hX 1 rfl rfl dX6_marry_2 ?_))
  refine m_cNI hX (rest := [zA (some o)]) h (fun r9 M9 e9 => z_runV hX lk_X6_200 (c_X6_isHouse hX.tr hP e9) (ci := 5) zc9_5 pM_cl ⟨Nat.le_of_ble_eq_true rfl, Nat.le_of_ble_eq_true rfl⟩ rfl (Nat.le_of_ble_eq_true rfl) dX6_marry_3 rfl) (fun x1 M2 h => ?_)
  refine z_if_eq (tgt := 17) hX h dX6_marry_6 (by decide) (fun h => ?_) (fun h => ?_)
  · exact z_sub [0, 1, 2] rfl (m_X6_marry_17 hX hP  h)
  · refine z_aload_n hX 0 rfl rfl dX6_marry_9 (z_iload_n hX 2 rfl rfl dX6_marry_10 ?_)
    refine m_cNI hX (rest := [zA (some o)]) h (fun r9 M9 e9 => z_runV hX lk_X6_200 (c_X6_isHouse hX.tr hP e9) (ci := 5) zc9_5 pM_cl ⟨Nat.le_of_ble_eq_true rfl, Nat.le_of_ble_eq_true rfl⟩ rfl (Nat.le_of_ble_eq_true rfl) dX6_marry_11 rfl) (fun x14 M15 h => ?_)
    refine z_if_ne (tgt := 21) hX h dX6_marry_14 (by decide) (fun h => ?_) (fun h => ?_)
    · refine z_iload_n hX 1 rfl rfl dX6_marry_21 (z_iload_n hX 2 rfl rfl dX6_marry_22 ?_)
      refine z_icmp_ne (tgt := 30) hX h dX6_marry_23 (by decide) (fun h => ?_) (fun h => ?_)
      · refine z_aload_n hX 0 rfl rfl dX6_marry_30 (m_getA hX fl_X6_7_5 mAr_1 dX6_marry_31 (z_bipush hX (v := 12) (by decide) dX6_marry_34 (z_iload_n hX 1 rfl rfl dX6_marry_36 (z_iadd hX dX6_marry_37 ?_))))
        refine m_iald hX (j := 0) (by decide) h dX6_marry_38 (fun x16 h => ?_)
        refine z_aload_n hX 0 rfl rfl dX6_marry_39 (m_getA hX fl_X6_7_5 mAr_1 dX6_marry_40 (z_bipush hX (v := 12) (by decide) dX6_marry_43 (z_iload_n hX 2 rfl rfl dX6_marry_45 (z_iadd hX dX6_marry_46 ?_))))
        refine m_iald hX (j := 0) (by decide) h dX6_marry_47 (fun x17 h => ?_)
        refine z_iadd hX dX6_marry_48 (z_ldc hX (v := 99999) q1950 dX6_marry_49 ?_)
        refine z_icmp_le (tgt := 58) hX h dX6_marry_51 (by decide) (fun h => ?_) (fun h => ?_)
        · refine z_iconst hX (v := 0) (by decide) dX6_marry_58 ?_
          exact z_sub [0, 1, 2] rfl (m_X6_marry_59 hX hP  h)
        · refine z_iconst hX (v := 3) (by decide) dX6_marry_54 (z_goto (tgt := 59) hX dX6_marry_55 (by decide) ?_)
          exact z_sub [0, 1, 2] rfl (m_X6_marry_59 hX hP  h)
      · refine z_iconst hX (v := 2) (by decide) dX6_marry_26 (z_goto (tgt := 59) hX dX6_marry_27 (by decide) ?_)
        exact z_sub [0, 1, 2] rfl (m_X6_marry_59 hX hP  h)
    · exact z_sub [0, 1, 2] rfl (m_X6_marry_17 hX hP  h)

theorem c_X6_marry {l : Launch} {D : va_G} {tys : zTy} (hl : l.stackTraces = false) {σ : zS} {o : Nat} (hP : zP σ o) {p1 : Int32} {p2 : Int32} {M : mS} {Rt : Int32 × mS} (h : g_X6_marry p1 p2 M = some Rt) : zM l D tys yX6_marry (ws_ yX6_marry cX6_marry 4 (Option.some Jvm.ClassFile.FieldType.int)) 3 83 [zA (some o), zI p1, zI p2] (pM σ o M) (.inl (eI Rt.1)) (pM σ o Rt.2) :=
  zM_in hl rfl (Nat.le_of_ble_eq_true rfl) (fun p e R s m args below meth c hX => z_L rfl (m_X6_marry hX hP h))
def g_X6_mend_14 (v1 : Int32) (t1 : Int32) (M : mS) : Option (Int32 × mS) :=
  zl (mset M 0 t1) fun M3 =>
  if (M3.1 0) ≤ 0 then
    zb2 (g_X6_ofTurn v1 1 M3) fun x4 M5 =>
    (mSt M5 0 ((68 + (3 * v1)) + 1) 0).bind fun M6 =>
    (mL M6 0 4).bind fun x7 =>
    (mSt M6 0 ((68 + (3 * v1)) + 2) x7).bind fun M8 =>
    some (x4, M8)
  else
    some ((0 : Int32), M3)

set_option maxHeartbeats 4000000 in
theorem m_X6_mend_14 {X : zX} (hX : zOk X RX6 cX6_mend 3 3 83 (Option.some Jvm.ClassFile.FieldType.int) "mend" []) {σ : zS} {o : Nat} (hP : zP σ o) {Rt : Int32 × mS} {v1 : Int32} {t1 : Int32} {M : mS} (h : g_X6_mend_14 v1 t1 M = some Rt) : zG X (zQ X (.inl (eI Rt.1)) (pM σ o Rt.2)) 3 14 [(0, zA (some o)), (1, zI v1)] [zI t1, zA (some o)] (pM σ o M) := by
  unfold g_X6_mend_14 at h
  refine m_putI hX hP fp_X6_41_5 mSc_0 h dX6_mend_14 (fun M3 h => ?_)
  refine z_aload_n hX 0 rfl rfl dX6_mend_17 (m_getI hX fl_X6_41_5 mSc_0 dX6_mend_18 ?_)
  refine z_if_le (tgt := 26) hX h dX6_mend_21 (by decide) (fun h => ?_) (fun h => ?_)
  · refine z_aload_n hX 0 rfl rfl dX6_mend_26 (z_iload_n hX 1 rfl rfl dX6_mend_27 (z_iconst hX (v := 1) (by decide) dX6_mend_28 ?_))
    refine m_cNI hX (rest := []) h (fun r9 M9 e9 => z_runV hX lk_X6_212 (c_X6_ofTurn hX.tr hP e9) (ci := 5) zc9_5 pM_cl ⟨Nat.le_of_ble_eq_true rfl, Nat.le_of_ble_eq_true rfl⟩ rfl (Nat.le_of_ble_eq_true rfl) dX6_mend_29 rfl) (fun x4 M5 h => ?_)
    refine z_istore_n (L' := [(0, zA (some o)), (1, zI v1), (2, zI x4)]) hX rfl rfl (by decide) dX6_mend_32 (z_aload_n hX 0 rfl rfl dX6_mend_33 (m_getA hX fl_X6_7_5 mAr_1 dX6_mend_34 (z_bipush hX (v := 68) (by decide) dX6_mend_37 (z_iconst hX (v := 3) (by decide) dX6_mend_39 (z_iload_n hX 1 rfl rfl dX6_mend_40 (z_imul hX dX6_mend_41 (z_iadd hX dX6_mend_42 (z_iconst hX (v := 1) (by decide) dX6_mend_43 (z_iadd hX dX6_mend_44 (z_iconst hX (v := 0) (by decide) dX6_mend_45 ?_))))))))))
    refine m_iast hX hP (j := 0) (by decide) h dX6_mend_46 (fun M6 h => ?_)
    refine z_aload_n hX 0 rfl rfl dX6_mend_47 (m_getA hX fl_X6_7_5 mAr_1 dX6_mend_48 (z_bipush hX (v := 68) (by decide) dX6_mend_51 (z_iconst hX (v := 3) (by decide) dX6_mend_53 (z_iload_n hX 1 rfl rfl dX6_mend_54 (z_imul hX dX6_mend_55 (z_iadd hX dX6_mend_56 (z_iconst hX (v := 2) (by decide) dX6_mend_57 (z_iadd hX dX6_mend_58 (z_aload_n hX 0 rfl rfl dX6_mend_59 (m_getA hX fl_X6_7_5 mAr_1 dX6_mend_60 (z_iconst hX (v := 4) (by decide) dX6_mend_63 ?_)))))))))))
    refine m_iald hX (j := 0) (by decide) h dX6_mend_64 (fun x7 h => ?_)
    refine m_iast hX hP (j := 0) (by decide) h dX6_mend_65 (fun M8 h => ?_)
    refine z_iload_n hX 2 rfl rfl dX6_mend_66 ?_
    obtain rfl := Option.some.inj h
    exact z_iret hX dX6_mend_67
  · refine z_iconst hX (v := 0) (by decide) dX6_mend_24 ?_
    obtain rfl := Option.some.inj h
    exact z_iret hX dX6_mend_25

def g_X6_mend (p1 : Int32) (M : mS) : Option (Int32 × mS) :=
  zb2 (g_X6_isTurn p1 M) fun x1 M2 =>
  if ¬ x1 = 0 then
    g_X6_mend_14 p1 0 M2
  else
    g_X6_mend_14 p1 1 M2

set_option maxHeartbeats 4000000 in
theorem m_X6_mend {X : zX} (hX : zOk X RX6 cX6_mend 3 3 83 (Option.some Jvm.ClassFile.FieldType.int) "mend" []) {σ : zS} {o : Nat} (hP : zP σ o) {p1 : Int32} {M : mS} {Rt : Int32 × mS} (h : g_X6_mend p1 M = some Rt) : zG X (zQ X (.inl (eI Rt.1)) (pM σ o Rt.2)) 3 0 [(0, zA (some o)), (1, zI p1)] [] (pM σ o M) := by
  unfold g_X6_mend at h
  refine z_aload_n hX 0 rfl rfl dX6_mend_0 (z_aload_n hX 0 rfl rfl dX6_mend_1 (z_iload_n hX 1 rfl rfl dX6_mend_2 ?_))
  refine m_cNI hX (rest := [zA (some o)]) h (fun r9 M9 e9 => z_runV hX lk_X6_215 (c_X6_isTurn hX.tr hP e9) (ci := 5) zc9_5 pM_cl ⟨Nat.le_of_ble_eq_true rfl, Nat.le_of_ble_eq_true rfl⟩ rfl (Nat.le_of_ble_eq_true rfl) dX6_mend_3 rfl) (fun x1 M2 h => ?_)
  refine z_if_ne (tgt := 13) hX h dX6_mend_6 (by decide) (fun h => ?_) (fun h => ?_)
  · refine z_iconst hX (v := 0) (by decide) dX6_mend_13 ?_
    exact z_sub [0, 1] rfl (m_X6_mend_14 hX hP  h)
  · refine z_iconst hX (v := 1) (by decide) dX6_mend_9 (z_goto (tgt := 14) hX dX6_mend_10 (by decide) ?_)
    exact z_sub [0, 1] rfl (m_X6_mend_14 hX hP  h)

theorem c_X6_mend {l : Launch} {D : va_G} {tys : zTy} (hl : l.stackTraces = false) {σ : zS} {o : Nat} (hP : zP σ o) {p1 : Int32} {M : mS} {Rt : Int32 × mS} (h : g_X6_mend p1 M = some Rt) : zM l D tys yX6_mend (ws_ yX6_mend cX6_mend 3 (Option.some Jvm.ClassFile.FieldType.int)) 3 83 [zA (some o), zI p1] (pM σ o M) (.inl (eI Rt.1)) (pM σ o Rt.2) :=
  zM_in hl rfl (Nat.le_of_ble_eq_true rfl) (fun p e R s m args below meth c hX => z_L rfl (m_X6_mend hX hP h))
def g_X6_worn_29 (v1 : Int32) (v2 : Int32) (t1 : Int32) (M : mS) : Option (Int32 × mS) :=
  zl (mset M 0 t1) fun M5 =>
  if (M5.1 0) ≤ 0 then
    zb2 (g_X6_ofTurn v1 1 M5) fun x6 M7 =>
    (mSt M7 0 ((68 + (3 * v1)) + 1) v2).bind fun M8 =>
    some (x6, M8)
  else
    some ((0 : Int32), M5)

set_option maxHeartbeats 4000000 in
theorem m_X6_worn_29 {X : zX} (hX : zOk X RX6 cX6_worn 4 3 83 (Option.some Jvm.ClassFile.FieldType.int) "worn" []) {σ : zS} {o : Nat} (hP : zP σ o) {Rt : Int32 × mS} {v1 : Int32} {v2 : Int32} {t1 : Int32} {M : mS} (h : g_X6_worn_29 v1 v2 t1 M = some Rt) : zG X (zQ X (.inl (eI Rt.1)) (pM σ o Rt.2)) 4 29 [(0, zA (some o)), (1, zI v1), (2, zI v2)] [zI t1, zA (some o)] (pM σ o M) := by
  unfold g_X6_worn_29 at h
  refine m_putI hX hP fp_X6_41_5 mSc_0 h dX6_worn_29 (fun M5 h => ?_)
  refine z_aload_n hX 0 rfl rfl dX6_worn_32 (m_getI hX fl_X6_41_5 mSc_0 dX6_worn_33 ?_)
  refine z_if_le (tgt := 41) hX h dX6_worn_36 (by decide) (fun h => ?_) (fun h => ?_)
  · refine z_aload_n hX 0 rfl rfl dX6_worn_41 (z_iload_n hX 1 rfl rfl dX6_worn_42 (z_iconst hX (v := 1) (by decide) dX6_worn_43 ?_))
    refine m_cNI hX (rest := []) h (fun r9 M9 e9 => z_runV hX lk_X6_212 (c_X6_ofTurn hX.tr hP e9) (ci := 5) zc9_5 pM_cl ⟨Nat.le_of_ble_eq_true rfl, Nat.le_of_ble_eq_true rfl⟩ rfl (Nat.le_of_ble_eq_true rfl) dX6_worn_44 rfl) (fun x6 M7 h => ?_)
    refine z_istore_n (L' := [(0, zA (some o)), (1, zI v1), (2, zI v2), (3, zI x6)]) hX rfl rfl (by decide) dX6_worn_47 (z_aload_n hX 0 rfl rfl dX6_worn_48 (m_getA hX fl_X6_7_5 mAr_1 dX6_worn_49 (z_bipush hX (v := 68) (by decide) dX6_worn_52 (z_iconst hX (v := 3) (by decide) dX6_worn_54 (z_iload_n hX 1 rfl rfl dX6_worn_55 (z_imul hX dX6_worn_56 (z_iadd hX dX6_worn_57 (z_iconst hX (v := 1) (by decide) dX6_worn_58 (z_iadd hX dX6_worn_59 (z_iload_n hX 2 rfl rfl dX6_worn_60 ?_))))))))))
    refine m_iast hX hP (j := 0) (by decide) h dX6_worn_61 (fun M8 h => ?_)
    refine z_iload_n hX 3 rfl rfl dX6_worn_62 ?_
    obtain rfl := Option.some.inj h
    exact z_iret hX dX6_worn_63
  · refine z_iconst hX (v := 0) (by decide) dX6_worn_39 ?_
    obtain rfl := Option.some.inj h
    exact z_iret hX dX6_worn_40

def g_X6_worn (p1 : Int32) (p2 : Int32) (M : mS) : Option (Int32 × mS) :=
  zb2 (g_X6_isTurn p1 M) fun x1 M2 =>
  if ¬ x1 = 0 then
    zb2 (g_X6_isIn p2 0 999 M2) fun x3 M4 =>
    if ¬ x3 = 0 then
      g_X6_worn_29 p1 p2 0 M4
    else
      g_X6_worn_29 p1 p2 2 M4
  else
    g_X6_worn_29 p1 p2 1 M2

set_option maxHeartbeats 4000000 in
theorem m_X6_worn {X : zX} (hX : zOk X RX6 cX6_worn 4 3 83 (Option.some Jvm.ClassFile.FieldType.int) "worn" []) {σ : zS} {o : Nat} (hP : zP σ o) {p1 : Int32} {p2 : Int32} {M : mS} {Rt : Int32 × mS} (h : g_X6_worn p1 p2 M = some Rt) : zG X (zQ X (.inl (eI Rt.1)) (pM σ o Rt.2)) 4 0 [(0, zA (some o)), (1, zI p1), (2, zI p2)] [] (pM σ o M) := by
  unfold g_X6_worn at h
  refine z_aload_n hX 0 rfl rfl dX6_worn_0 (z_aload_n hX 0 rfl rfl dX6_worn_1 (z_iload_n hX 1 rfl rfl dX6_worn_2 ?_))
  refine m_cNI hX (rest := [zA (some o)]) h (fun r9 M9 e9 => z_runV hX lk_X6_215 (c_X6_isTurn hX.tr hP e9) (ci := 5) zc9_5 pM_cl ⟨Nat.le_of_ble_eq_true rfl, Nat.le_of_ble_eq_true rfl⟩ rfl (Nat.le_of_ble_eq_true rfl) dX6_worn_3 rfl) (fun x1 M2 h => ?_)
  refine z_if_ne (tgt := 13) hX h dX6_worn_6 (by decide) (fun h => ?_) (fun h => ?_)
  · refine z_iload_n hX 2 rfl rfl dX6_worn_13 (z_iconst hX (v := 0) (by decide) dX6_worn_14 (z_sipush hX (v := 999) (by decide) dX6_worn_15 ?_))
    refine m_cNI hX (rest := [zA (some o)]) h (fun r9 M9 e9 => z_runS hX lk_X6_44 (c_X6_isIn hX.tr hP e9) ⟨Nat.le_of_ble_eq_true rfl, Nat.le_of_ble_eq_true rfl⟩ rfl (Nat.le_of_ble_eq_true rfl) dX6_worn_18 rfl) (fun x3 M4 h => ?_)
    refine z_if_ne (tgt := 28) hX h dX6_worn_21 (by decide) (fun h => ?_) (fun h => ?_)
    · refine z_iconst hX (v := 0) (by decide) dX6_worn_28 ?_
      exact z_sub [0, 1, 2] rfl (m_X6_worn_29 hX hP  h)
    · refine z_iconst hX (v := 2) (by decide) dX6_worn_24 (z_goto (tgt := 29) hX dX6_worn_25 (by decide) ?_)
      exact z_sub [0, 1, 2] rfl (m_X6_worn_29 hX hP  h)
  · refine z_iconst hX (v := 1) (by decide) dX6_worn_9 (z_goto (tgt := 29) hX dX6_worn_10 (by decide) ?_)
    exact z_sub [0, 1, 2] rfl (m_X6_worn_29 hX hP  h)

theorem c_X6_worn {l : Launch} {D : va_G} {tys : zTy} (hl : l.stackTraces = false) {σ : zS} {o : Nat} (hP : zP σ o) {p1 : Int32} {p2 : Int32} {M : mS} {Rt : Int32 × mS} (h : g_X6_worn p1 p2 M = some Rt) : zM l D tys yX6_worn (ws_ yX6_worn cX6_worn 4 (Option.some Jvm.ClassFile.FieldType.int)) 3 83 [zA (some o), zI p1, zI p2] (pM σ o M) (.inl (eI Rt.1)) (pM σ o Rt.2) :=
  zM_in hl rfl (Nat.le_of_ble_eq_true rfl) (fun p e R s m args below meth c hX => z_L rfl (m_X6_worn hX hP h))
def g_X6_missed_7_b (rec7 : Int32 → mS → Option (Int32 × mS)) (v1 : Int32) (M : mS) : Option (Int32 × mS) :=
  (mL M 0 3).bind fun x2 =>
  if x2 ≤ v1 then
    some (((-1) : Int32), M)
  else
    zb2 (g_X6_missedOf v1 M) fun x3 M4 =>
    if x3 = 0 then
      zl (v1 + 1) fun x5 =>
      rec7 x5 M4
    else
      some (v1, M4)

def g_X6_missed_7 : Int32 → mS → Option (Int32 × mS) := zlp1 (g_X6_missed_7_b) NN
set_option maxHeartbeats 4000000 in
theorem m_X6_missed_7_b {X : zX} (hX : zOk X RX6 cX6_missed 2 3 85 (Option.some Jvm.ClassFile.FieldType.int) "missed" []) {σ : zS} {o : Nat} (hP : zP σ o) {Rt : Int32 × mS} {rec7 : Int32 → mS → Option (Int32 × mS)} (hrec7 : ∀ (v1 : Int32) (M : mS), rec7 v1 M = some Rt → zG X (zQ X (.inl (eI Rt.1)) (pM σ o Rt.2)) 2 7 [(0, zA (some o)), (1, zI v1)] [] (pM σ o M)) {v1 : Int32} {M : mS} (h : g_X6_missed_7_b rec7 v1 M = some Rt) : zG X (zQ X (.inl (eI Rt.1)) (pM σ o Rt.2)) 2 7 [(0, zA (some o)), (1, zI v1)] [] (pM σ o M) := by
  unfold g_X6_missed_7_b at h
  refine z_iload_n hX 1 rfl rfl dX6_missed_7 (z_aload_n hX 0 rfl rfl dX6_missed_8 (m_getA hX fl_X6_7_5 mAr_1 dX6_missed_9 (z_iconst hX (v := 3) (by decide) dX6_missed_12 ?_)))
  refine m_iald hX (j := 0) (by decide) h dX6_missed_13 (fun x2 h => ?_)
  refine z_icmp_ge (tgt := 33) hX h dX6_missed_14 (by decide) (fun h => ?_) (fun h => ?_)
  · refine z_iconst hX (v := (-1)) (by decide) dX6_missed_33 ?_
    obtain rfl := Option.some.inj h
    exact z_iret hX dX6_missed_34
  · refine z_aload_n hX 0 rfl rfl dX6_missed_17 (z_iload_n hX 1 rfl rfl dX6_missed_18 ?_)
    refine m_cNI hX (rest := []) h (fun r9 M9 e9 => z_runV hX lk_X6_218 (c_X6_missedOf hX.tr hP e9) (ci := 5) zc9_5 pM_cl ⟨Nat.le_of_ble_eq_true rfl, Nat.le_of_ble_eq_true rfl⟩ rfl (Nat.le_of_ble_eq_true rfl) dX6_missed_19 rfl) (fun x3 M4 h => ?_)
    refine z_if_eq (tgt := 27) hX h dX6_missed_22 (by decide) (fun h => ?_) (fun h => ?_)
    · refine z_iinc hX (j := 1) h rfl (by decide) (by decide) dX6_missed_27 (fun x5 h => z_L (L' := [(0, zA (some o)), (1, zI x5)]) rfl ?_)
      refine z_goto (tgt := 7) hX dX6_missed_30 (by decide) ?_
      exact z_sub [0, 1] rfl (hrec7 _ _ h)
    · refine z_iload_n hX 1 rfl rfl dX6_missed_25 ?_
      obtain rfl := Option.some.inj h
      exact z_iret hX dX6_missed_26

theorem m_X6_missed_7 {X : zX} (hX : zOk X RX6 cX6_missed 2 3 85 (Option.some Jvm.ClassFile.FieldType.int) "missed" []) {σ : zS} {o : Nat} (hP : zP σ o) {Rt : Int32 × mS} {v1 : Int32} {M : mS} (h : g_X6_missed_7 v1 M = some Rt) : zG X (zQ X (.inl (eI Rt.1)) (pM σ o Rt.2)) 2 7 [(0, zA (some o)), (1, zI v1)] [] (pM σ o M) :=
  zlp1_ok (P := fun v1 M => zG X (zQ X (.inl (eI Rt.1)) (pM σ o Rt.2)) 2 7 [(0, zA (some o)), (1, zI v1)] [] (pM σ o M)) (fun rec hr v1 M h => m_X6_missed_7_b hX hP hr h) NN v1 M h
def g_X6_missed (M : mS) : Option (Int32 × mS) :=
  zl (mset M 0 0) fun M1 =>
  g_X6_missed_7 0 M1

set_option maxHeartbeats 4000000 in
theorem m_X6_missed {X : zX} (hX : zOk X RX6 cX6_missed 2 3 85 (Option.some Jvm.ClassFile.FieldType.int) "missed" []) {σ : zS} {o : Nat} (hP : zP σ o) {M : mS} {Rt : Int32 × mS} (h : g_X6_missed M = some Rt) : zG X (zQ X (.inl (eI Rt.1)) (pM σ o Rt.2)) 2 0 [(0, zA (some o))] [] (pM σ o M) := by
  unfold g_X6_missed at h
  refine z_aload_n hX 0 rfl rfl dX6_missed_0 (z_iconst hX (v := 0) (by decide) dX6_missed_1 ?_)
  refine m_putI hX hP fp_X6_41_5 mSc_0 h dX6_missed_2 (fun M1 h => ?_)
  refine z_iconst hX (v := 0) (by decide) dX6_missed_5 (z_istore_n (L' := [(0, zA (some o)), (1, zI 0)]) hX rfl rfl (by decide) dX6_missed_6 ?_)
  exact z_sub [0, 1] rfl (m_X6_missed_7 hX hP  h)

theorem c_X6_missed {l : Launch} {D : va_G} {tys : zTy} (hl : l.stackTraces = false) {σ : zS} {o : Nat} (hP : zP σ o) {M : mS} {Rt : Int32 × mS} (h : g_X6_missed M = some Rt) : zM l D tys yX6_missed (ws_ yX6_missed cX6_missed 2 (Option.some Jvm.ClassFile.FieldType.int)) 3 85 [zA (some o)] (pM σ o M) (.inl (eI Rt.1)) (pM σ o Rt.2) :=
  zM_in hl rfl (Nat.le_of_ble_eq_true rfl) (fun p e R s m args below meth c hX => z_L rfl (m_X6_missed hX hP h))
def g_X6_bits_4_b (v0 : Int32) (rec4 : Int32 → Int32 → mS → Option (Int32 × mS)) (v1 : Int32) (v2 : Int32) (M : mS) : Option (Int32 × mS) :=
  if 12 ≤ v2 then
    some (v1, M)
  else
    zl (v1 + ((v0 >>> (v2 &&& 31)) &&& 1)) fun x1 =>
    zl (v2 + 1) fun x2 =>
    rec4 x1 x2 M

def g_X6_bits_4 (v0 : Int32) : Int32 → Int32 → mS → Option (Int32 × mS) := zlp2 (g_X6_bits_4_b v0) NN
set_option maxHeartbeats 4000000 in
theorem m_X6_bits_4_b {X : zX} (hX : zOk X RX6 cX6_bits 3 1 40 (Option.some Jvm.ClassFile.FieldType.int) "bits" []) {σ : zS} {o : Nat} (hP : zP σ o) {Rt : Int32 × mS} {v0 : Int32} {rec4 : Int32 → Int32 → mS → Option (Int32 × mS)} (hrec4 : ∀ (v1 : Int32) (v2 : Int32) (M : mS), rec4 v1 v2 M = some Rt → zG X (zQ X (.inl (eI Rt.1)) (pM σ o Rt.2)) 3 4 [(0, zI v0), (1, zI v1), (2, zI v2)] [] (pM σ o M)) {v1 : Int32} {v2 : Int32} {M : mS} (h : g_X6_bits_4_b v0 rec4 v1 v2 M = some Rt) : zG X (zQ X (.inl (eI Rt.1)) (pM σ o Rt.2)) 3 4 [(0, zI v0), (1, zI v1), (2, zI v2)] [] (pM σ o M) := by
  unfold g_X6_bits_4_b at h
  refine z_iload_n hX 2 rfl rfl dX6_bits_4 (z_bipush hX (v := 12) (by decide) dX6_bits_5 ?_)
  refine z_icmp_ge (tgt := 24) hX h dX6_bits_7 (by decide) (fun h => ?_) (fun h => ?_)
  · refine z_iload_n hX 1 rfl rfl dX6_bits_24 ?_
    obtain rfl := Option.some.inj h
    exact z_iret hX dX6_bits_25
  · refine z_iload_n hX 1 rfl rfl dX6_bits_10 (z_iload_n hX 0 rfl rfl dX6_bits_11 (z_iload_n hX 2 rfl rfl dX6_bits_12 (z_ishr hX dX6_bits_13 (z_iconst hX (v := 1) (by decide) dX6_bits_14 (z_iand hX dX6_bits_15 (z_iadd hX dX6_bits_16 ?_))))))
    refine z_nmI h (fun x1 h => ?_)
    refine z_istore_n (L' := [(0, zI v0), (1, zI x1), (2, zI v2)]) hX rfl rfl (by decide) dX6_bits_17 ?_
    refine z_iinc hX (j := 2) h rfl (by decide) (by decide) dX6_bits_18 (fun x2 h => z_L (L' := [(0, zI v0), (1, zI x1), (2, zI x2)]) rfl ?_)
    refine z_goto (tgt := 4) hX dX6_bits_21 (by decide) ?_
    exact z_sub [0, 1, 2] rfl (hrec4 _ _ _ h)

theorem m_X6_bits_4 {X : zX} (hX : zOk X RX6 cX6_bits 3 1 40 (Option.some Jvm.ClassFile.FieldType.int) "bits" []) {σ : zS} {o : Nat} (hP : zP σ o) {Rt : Int32 × mS} {v0 : Int32} {v1 : Int32} {v2 : Int32} {M : mS} (h : g_X6_bits_4 v0 v1 v2 M = some Rt) : zG X (zQ X (.inl (eI Rt.1)) (pM σ o Rt.2)) 3 4 [(0, zI v0), (1, zI v1), (2, zI v2)] [] (pM σ o M) :=
  zlp2_ok (P := fun v1 v2 M => zG X (zQ X (.inl (eI Rt.1)) (pM σ o Rt.2)) 3 4 [(0, zI v0), (1, zI v1), (2, zI v2)] [] (pM σ o M)) (fun rec hr v1 v2 M h => m_X6_bits_4_b hX hP hr h) NN v1 v2 M h
def g_X6_bits (p1 : Int32) (M : mS) : Option (Int32 × mS) :=
  g_X6_bits_4 p1 0 0 M

set_option maxHeartbeats 4000000 in
theorem m_X6_bits {X : zX} (hX : zOk X RX6 cX6_bits 3 1 40 (Option.some Jvm.ClassFile.FieldType.int) "bits" []) {σ : zS} {o : Nat} (hP : zP σ o) {p1 : Int32} {M : mS} {Rt : Int32 × mS} (h : g_X6_bits p1 M = some Rt) : zG X (zQ X (.inl (eI Rt.1)) (pM σ o Rt.2)) 3 0 [(0, zI p1)] [] (pM σ o M) := by
  unfold g_X6_bits at h
  refine z_iconst hX (v := 0) (by decide) dX6_bits_0 (z_istore_n (L' := [(0, zI p1), (1, zI 0)]) hX rfl rfl (by decide) dX6_bits_1 (z_iconst hX (v := 0) (by decide) dX6_bits_2 (z_istore_n (L' := [(0, zI p1), (1, zI 0), (2, zI 0)]) hX rfl rfl (by decide) dX6_bits_3 ?_)))
  exact z_sub [0, 1, 2] rfl (m_X6_bits_4 hX hP  h)

theorem c_X6_bits {l : Launch} {D : va_G} {tys : zTy} (hl : l.stackTraces = false) {σ : zS} {o : Nat} (hP : zP σ o) {p1 : Int32} {M : mS} {Rt : Int32 × mS} (h : g_X6_bits p1 M = some Rt) : zM l D tys yX6_bits (ws_ yX6_bits cX6_bits 3 (Option.some Jvm.ClassFile.FieldType.int)) 1 40 [zI p1] (pM σ o M) (.inl (eI Rt.1)) (pM σ o Rt.2) :=
  zM_in hl rfl (Nat.le_of_ble_eq_true rfl) (fun p e R s m args below meth c hX => z_L rfl (m_X6_bits hX hP h))
def g_X6_deal_180 (rec34 : Int32 → Int32 → Int32 → mS → Option (Int32 × mS)) (v1 : Int32) (v2 : Int32) (v3 : Int32) (v4 : Int32) (v5 : Int32) (M : mS) : Option (Int32 × mS) :=
  zl (v5 + 1) fun x7 =>
  rec34 v3 v4 x7 M

set_option maxHeartbeats 4000000 in
theorem m_X6_deal_180 {X : zX} (hX : zOk X RX6 cX6_deal 9 3 83 (Option.some Jvm.ClassFile.FieldType.int) "deal" []) {σ : zS} {o : Nat} (hP : zP σ o) {Rt : Int32 × mS} {rec34 : Int32 → Int32 → Int32 → mS → Option (Int32 × mS)} {v1 : Int32} {v2 : Int32} {v3 : Int32} {v4 : Int32} {v5 : Int32} (hrec34 : ∀ (v3 : Int32) (v4 : Int32) (v5 : Int32) (M : mS), rec34 v3 v4 v5 M = some Rt → zG X (zQ X (.inl (eI Rt.1)) (pM σ o Rt.2)) 9 34 [(0, zA (some o)), (1, zI v1), (2, zI v2), (3, zI v3), (4, zI v4), (5, zI v5)] [] (pM σ o M)) {M : mS} (h : g_X6_deal_180 rec34 v1 v2 v3 v4 v5 M = some Rt) : zG X (zQ X (.inl (eI Rt.1)) (pM σ o Rt.2)) 9 180 [(0, zA (some o)), (1, zI v1), (2, zI v2), (3, zI v3), (4, zI v4), (5, zI v5)] [] (pM σ o M) := by
  unfold g_X6_deal_180 at h
  refine z_iinc hX (j := 5) h rfl (by decide) (by decide) dX6_deal_180 (fun x7 h => z_L (L' := [(0, zA (some o)), (1, zI v1), (2, zI v2), (3, zI v3), (4, zI v4), (5, zI x7)]) rfl ?_)
  refine z_goto (tgt := 34) hX dX6_deal_183 (by decide) ?_
  exact z_sub [0, 1, 2, 3, 4, 5] rfl (hrec34 _ _ _ _ h)

def g_X6_deal_173 (rec34 : Int32 → Int32 → Int32 → mS → Option (Int32 × mS)) (v1 : Int32) (v2 : Int32) (v5 : Int32) (v7 : Int32) (M : mS) : Option (Int32 × mS) :=
  g_X6_deal_180 rec34 v1 v2 v5 v7 v5 M

set_option maxHeartbeats 4000000 in
theorem m_X6_deal_173 {X : zX} (hX : zOk X RX6 cX6_deal 9 3 83 (Option.some Jvm.ClassFile.FieldType.int) "deal" []) {σ : zS} {o : Nat} (hP : zP σ o) {Rt : Int32 × mS} {rec34 : Int32 → Int32 → Int32 → mS → Option (Int32 × mS)} {v1 : Int32} {v2 : Int32} {v5 : Int32} {v7 : Int32} (hrec34 : ∀ (v3 : Int32) (v4 : Int32) (v5 : Int32) (M : mS), rec34 v3 v4 v5 M = some Rt → zG X (zQ X (.inl (eI Rt.1)) (pM σ o Rt.2)) 9 34 [(0, zA (some o)), (1, zI v1), (2, zI v2), (3, zI v3), (4, zI v4), (5, zI v5)] [] (pM σ o M)) {M : mS} (h : g_X6_deal_173 rec34 v1 v2 v5 v7 M = some Rt) : zG X (zQ X (.inl (eI Rt.1)) (pM σ o Rt.2)) 9 173 [(0, zA (some o)), (1, zI v1), (2, zI v2), (5, zI v5), (7, zI v7)] [] (pM σ o M) := by
  unfold g_X6_deal_173 at h
  refine z_iload hX 3 rfl dX6_deal_173 (z_istore_n (L' := [(0, zA (some o)), (1, zI v1), (2, zI v2), (3, zI v5), (5, zI v5), (7, zI v7)]) hX rfl rfl (by decide) dX6_deal_175 (z_iload hX 5 rfl dX6_deal_176 (z_istore (L' := [(0, zA (some o)), (1, zI v1), (2, zI v2), (3, zI v5), (4, zI v7), (5, zI v5), (7, zI v7)]) hX rfl (by decide) dX6_deal_178 ?_)))
  exact z_sub [0, 1, 2, 3, 4, 5] rfl (m_X6_deal_180 hX hP hrec34 h)

def g_X6_deal_116 (rec34 : Int32 → Int32 → Int32 → mS → Option (Int32 × mS)) (rec56 : Int32 → Int32 → Int32 → mS → Option (Int32 × mS)) (v1 : Int32) (v2 : Int32) (v3 : Int32) (v4 : Int32) (v5 : Int32) (v6 : Int32) (v7 : Int32) (v8 : Int32) (M : mS) : Option (Int32 × mS) :=
  zl (v8 + 1) fun x16 =>
  rec56 v6 v7 x16 M

set_option maxHeartbeats 4000000 in
theorem m_X6_deal_116 {X : zX} (hX : zOk X RX6 cX6_deal 9 3 83 (Option.some Jvm.ClassFile.FieldType.int) "deal" []) {σ : zS} {o : Nat} (hP : zP σ o) {Rt : Int32 × mS} {rec34 : Int32 → Int32 → Int32 → mS → Option (Int32 × mS)} {rec56 : Int32 → Int32 → Int32 → mS → Option (Int32 × mS)} {v1 : Int32} {v2 : Int32} {v3 : Int32} {v4 : Int32} {v5 : Int32} {v6 : Int32} {v7 : Int32} {v8 : Int32} (hrec34 : ∀ (v3 : Int32) (v4 : Int32) (v5 : Int32) (M : mS), rec34 v3 v4 v5 M = some Rt → zG X (zQ X (.inl (eI Rt.1)) (pM σ o Rt.2)) 9 34 [(0, zA (some o)), (1, zI v1), (2, zI v2), (3, zI v3), (4, zI v4), (5, zI v5)] [] (pM σ o M)) (hrec56 : ∀ (v6 : Int32) (v7 : Int32) (v8 : Int32) (M : mS), rec56 v6 v7 v8 M = some Rt → zG X (zQ X (.inl (eI Rt.1)) (pM σ o Rt.2)) 9 56 [(0, zA (some o)), (1, zI v1), (2, zI v2), (3, zI v3), (4, zI v4), (5, zI v5), (6, zI v6), (7, zI v7), (8, zI v8)] [] (pM σ o M)) {M : mS} (h : g_X6_deal_116 rec34 rec56 v1 v2 v3 v4 v5 v6 v7 v8 M = some Rt) : zG X (zQ X (.inl (eI Rt.1)) (pM σ o Rt.2)) 9 116 [(0, zA (some o)), (1, zI v1), (2, zI v2), (3, zI v3), (4, zI v4), (5, zI v5), (6, zI v6), (7, zI v7), (8, zI v8)] [] (pM σ o M) := by
  unfold g_X6_deal_116 at h
  refine z_iinc hX (j := 8) h rfl (by decide) (by decide) dX6_deal_116 (fun x16 h => z_L (L' := [(0, zA (some o)), (1, zI v1), (2, zI v2), (3, zI v3), (4, zI v4), (5, zI v5), (6, zI v6), (7, zI v7), (8, zI x16)]) rfl ?_)
  refine z_goto (tgt := 56) hX dX6_deal_119 (by decide) ?_
  exact z_sub [0, 1, 2, 3, 4, 5, 6, 7, 8] rfl (hrec56 _ _ _ _ h)

def g_X6_deal_56_b (rec34 : Int32 → Int32 → Int32 → mS → Option (Int32 × mS)) (v1 : Int32) (v2 : Int32) (v3 : Int32) (v4 : Int32) (v5 : Int32) (rec56 : Int32 → Int32 → Int32 → mS → Option (Int32 × mS)) (v6 : Int32) (v7 : Int32) (v8 : Int32) (M : mS) : Option (Int32 × mS) :=
  (mL M 0 5).bind fun x5 =>
  if x5 ≤ v8 then
    (mL M 0 (12 + v1)).bind fun x6 =>
    if x6 ≤ v6 then
      if v3 = (-1) then
        g_X6_deal_173 rec34 v1 v2 v5 v7 M
      else
        if v4 < v7 then
          g_X6_deal_180 rec34 v1 v2 v3 v4 v5 M
        else
          if ¬ v7 = v4 then
            g_X6_deal_173 rec34 v1 v2 v5 v7 M
          else
            zb2 (g_X6_bits v5 M) fun x8 M9 =>
            zb2 (g_X6_bits v3 M9) fun x10 M11 =>
            if x8 < x10 then
              g_X6_deal_173 rec34 v1 v2 v5 v7 M11
            else
              g_X6_deal_180 rec34 v1 v2 v3 v4 v5 M11
    else
      g_X6_deal_180 rec34 v1 v2 v3 v4 v5 M
  else
    if ¬ ((v5 >>> (v8 &&& 31)) &&& 1) = 0 then
      (mL M 0 (98 + (2 * v8))).bind fun x12 =>
      zl (v6 + x12) fun x13 =>
      (mL M 0 ((98 + (2 * v8)) + 1)).bind fun x14 =>
      zl (v7 + x14) fun x15 =>
      g_X6_deal_116 rec34 rec56 v1 v2 v3 v4 v5 x13 x15 v8 M
    else
      g_X6_deal_116 rec34 rec56 v1 v2 v3 v4 v5 v6 v7 v8 M

def g_X6_deal_56 (rec34 : Int32 → Int32 → Int32 → mS → Option (Int32 × mS)) (v1 : Int32) (v2 : Int32) (v3 : Int32) (v4 : Int32) (v5 : Int32) : Int32 → Int32 → Int32 → mS → Option (Int32 × mS) := zlp3 (g_X6_deal_56_b rec34 v1 v2 v3 v4 v5) NN
set_option maxHeartbeats 4000000 in
theorem m_X6_deal_56_b {X : zX} (hX : zOk X RX6 cX6_deal 9 3 83 (Option.some Jvm.ClassFile.FieldType.int) "deal" []) {σ : zS} {o : Nat} (hP : zP σ o) {Rt : Int32 × mS} {rec34 : Int32 → Int32 → Int32 → mS → Option (Int32 × mS)} {v1 : Int32} {v2 : Int32} {v3 : Int32} {v4 : Int32} {v5 : Int32} (hrec34 : ∀ (v3 : Int32) (v4 : Int32) (v5 : Int32) (M : mS), rec34 v3 v4 v5 M = some Rt → zG X (zQ X (.inl (eI Rt.1)) (pM σ o Rt.2)) 9 34 [(0, zA (some o)), (1, zI v1), (2, zI v2), (3, zI v3), (4, zI v4), (5, zI v5)] [] (pM σ o M)) {rec56 : Int32 → Int32 → Int32 → mS → Option (Int32 × mS)} (hrec56 : ∀ (v6 : Int32) (v7 : Int32) (v8 : Int32) (M : mS), rec56 v6 v7 v8 M = some Rt → zG X (zQ X (.inl (eI Rt.1)) (pM σ o Rt.2)) 9 56 [(0, zA (some o)), (1, zI v1), (2, zI v2), (3, zI v3), (4, zI v4), (5, zI v5), (6, zI v6), (7, zI v7), (8, zI v8)] [] (pM σ o M)) {v6 : Int32} {v7 : Int32} {v8 : Int32} {M : mS} (h : g_X6_deal_56_b rec34 v1 v2 v3 v4 v5 rec56 v6 v7 v8 M = some Rt) : zG X (zQ X (.inl (eI Rt.1)) (pM σ o Rt.2)) 9 56 [(0, zA (some o)), (1, zI v1), (2, zI v2), (3, zI v3), (4, zI v4), (5, zI v5), (6, zI v6), (7, zI v7), (8, zI v8)] [] (pM σ o M) := by
  unfold g_X6_deal_56_b at h
  refine z_iload hX 8 rfl dX6_deal_56 (z_aload_n hX 0 rfl rfl dX6_deal_58 (m_getA hX fl_X6_7_5 mAr_1 dX6_deal_59 (z_iconst hX (v := 5) (by decide) dX6_deal_62 ?_)))
  refine m_iald hX (j := 0) (by decide) h dX6_deal_63 (fun x5 h => ?_)
  refine z_icmp_ge (tgt := 122) hX h dX6_deal_64 (by decide) (fun h => ?_) (fun h => ?_)
  · refine z_iload hX 6 rfl dX6_deal_122 (z_aload_n hX 0 rfl rfl dX6_deal_124 (m_getA hX fl_X6_7_5 mAr_1 dX6_deal_125 (z_bipush hX (v := 12) (by decide) dX6_deal_128 (z_iload_n hX 1 rfl rfl dX6_deal_130 (z_iadd hX dX6_deal_131 ?_)))))
    refine m_iald hX (j := 0) (by decide) h dX6_deal_132 (fun x6 h => ?_)
    refine z_icmp_ge (tgt := 139) hX h dX6_deal_133 (by decide) (fun h => ?_) (fun h => ?_)
    · refine z_iload_n hX 3 rfl rfl dX6_deal_139 (z_iconst hX (v := (-1)) (by decide) dX6_deal_140 ?_)
      refine z_icmp_eq (tgt := 173) hX h dX6_deal_141 (by decide) (fun h => ?_) (fun h => ?_)
      · exact z_sub [0, 1, 2, 5, 7] rfl (m_X6_deal_173 hX hP hrec34 h)
      · refine z_iload hX 7 rfl dX6_deal_144 (z_iload hX 4 rfl dX6_deal_146 ?_)
        refine z_icmp_gt (tgt := 180) hX h dX6_deal_148 (by decide) (fun h => ?_) (fun h => ?_)
        · exact z_sub [0, 1, 2, 3, 4, 5] rfl (m_X6_deal_180 hX hP hrec34 h)
        · refine z_iload hX 7 rfl dX6_deal_151 (z_iload hX 4 rfl dX6_deal_153 ?_)
          refine z_icmp_ne (tgt := 173) hX h dX6_deal_155 (by decide) (fun h => ?_) (fun h => ?_)
          · exact z_sub [0, 1, 2, 5, 7] rfl (m_X6_deal_173 hX hP hrec34 h)
          · refine z_iload hX 5 rfl dX6_deal_158 ?_
            refine m_cNI hX (rest := []) h (fun r9 M9 e9 => z_runS hX lk_X6_241 (c_X6_bits hX.tr hP e9) ⟨Nat.le_of_ble_eq_true rfl, Nat.le_of_ble_eq_true rfl⟩ rfl (Nat.le_of_ble_eq_true rfl) dX6_deal_160 rfl) (fun x8 M9 h => ?_)
            refine z_iload_n hX 3 rfl rfl dX6_deal_163 ?_
            refine m_cNI hX (rest := [zI x8]) h (fun r9 M9 e9 => z_runS hX lk_X6_241 (c_X6_bits hX.tr hP e9) ⟨Nat.le_of_ble_eq_true rfl, Nat.le_of_ble_eq_true rfl⟩ rfl (Nat.le_of_ble_eq_true rfl) dX6_deal_164 rfl) (fun x10 M11 h => ?_)
            refine z_icmp_lt (tgt := 173) hX h dX6_deal_167 (by decide) (fun h => ?_) (fun h => ?_)
            · exact z_sub [0, 1, 2, 5, 7] rfl (m_X6_deal_173 hX hP hrec34 h)
            · refine z_goto (tgt := 180) hX dX6_deal_170 (by decide) ?_
              exact z_sub [0, 1, 2, 3, 4, 5] rfl (m_X6_deal_180 hX hP hrec34 h)
    · refine z_goto (tgt := 180) hX dX6_deal_136 (by decide) ?_
      exact z_sub [0, 1, 2, 3, 4, 5] rfl (m_X6_deal_180 hX hP hrec34 h)
  · refine z_iload hX 5 rfl dX6_deal_67 (z_iload hX 8 rfl dX6_deal_69 (z_ishr hX dX6_deal_71 (z_iconst hX (v := 1) (by decide) dX6_deal_72 (z_iand hX dX6_deal_73 ?_))))
    refine z_if_ne (tgt := 80) hX h dX6_deal_74 (by decide) (fun h => ?_) (fun h => ?_)
    · refine z_iload hX 6 rfl dX6_deal_80 (z_aload_n hX 0 rfl rfl dX6_deal_82 (m_getA hX fl_X6_7_5 mAr_1 dX6_deal_83 (z_bipush hX (v := 98) (by decide) dX6_deal_86 (z_iconst hX (v := 2) (by decide) dX6_deal_88 (z_iload hX 8 rfl dX6_deal_89 (z_imul hX dX6_deal_91 (z_iadd hX dX6_deal_92 ?_)))))))
      refine m_iald hX (j := 0) (by decide) h dX6_deal_93 (fun x12 h => ?_)
      refine z_iadd hX dX6_deal_94 ?_
      refine z_nmI h (fun x13 h => ?_)
      refine z_istore (L' := [(0, zA (some o)), (1, zI v1), (2, zI v2), (3, zI v3), (4, zI v4), (5, zI v5), (6, zI x13), (7, zI v7), (8, zI v8)]) hX rfl (by decide) dX6_deal_95 (z_iload hX 7 rfl dX6_deal_97 (z_aload_n hX 0 rfl rfl dX6_deal_99 (m_getA hX fl_X6_7_5 mAr_1 dX6_deal_100 (z_bipush hX (v := 98) (by decide) dX6_deal_103 (z_iconst hX (v := 2) (by decide) dX6_deal_105 (z_iload hX 8 rfl dX6_deal_106 (z_imul hX dX6_deal_108 (z_iadd hX dX6_deal_109 (z_iconst hX (v := 1) (by decide) dX6_deal_110 (z_iadd hX dX6_deal_111 ?_))))))))))
      refine m_iald hX (j := 0) (by decide) h dX6_deal_112 (fun x14 h => ?_)
      refine z_iadd hX dX6_deal_113 ?_
      refine z_nmI h (fun x15 h => ?_)
      refine z_istore (L' := [(0, zA (some o)), (1, zI v1), (2, zI v2), (3, zI v3), (4, zI v4), (5, zI v5), (6, zI x13), (7, zI x15), (8, zI v8)]) hX rfl (by decide) dX6_deal_114 ?_
      exact z_sub [0, 1, 2, 3, 4, 5, 6, 7, 8] rfl (m_X6_deal_116 hX hP hrec34 hrec56 h)
    · refine z_goto (tgt := 116) hX dX6_deal_77 (by decide) ?_
      exact z_sub [0, 1, 2, 3, 4, 5, 6, 7, 8] rfl (m_X6_deal_116 hX hP hrec34 hrec56 h)

theorem m_X6_deal_56 {X : zX} (hX : zOk X RX6 cX6_deal 9 3 83 (Option.some Jvm.ClassFile.FieldType.int) "deal" []) {σ : zS} {o : Nat} (hP : zP σ o) {Rt : Int32 × mS} {rec34 : Int32 → Int32 → Int32 → mS → Option (Int32 × mS)} {v1 : Int32} {v2 : Int32} {v3 : Int32} {v4 : Int32} {v5 : Int32} (hrec34 : ∀ (v3 : Int32) (v4 : Int32) (v5 : Int32) (M : mS), rec34 v3 v4 v5 M = some Rt → zG X (zQ X (.inl (eI Rt.1)) (pM σ o Rt.2)) 9 34 [(0, zA (some o)), (1, zI v1), (2, zI v2), (3, zI v3), (4, zI v4), (5, zI v5)] [] (pM σ o M)) {v6 : Int32} {v7 : Int32} {v8 : Int32} {M : mS} (h : g_X6_deal_56 rec34 v1 v2 v3 v4 v5 v6 v7 v8 M = some Rt) : zG X (zQ X (.inl (eI Rt.1)) (pM σ o Rt.2)) 9 56 [(0, zA (some o)), (1, zI v1), (2, zI v2), (3, zI v3), (4, zI v4), (5, zI v5), (6, zI v6), (7, zI v7), (8, zI v8)] [] (pM σ o M) :=
  zlp3_ok (P := fun v6 v7 v8 M => zG X (zQ X (.inl (eI Rt.1)) (pM σ o Rt.2)) 9 56 [(0, zA (some o)), (1, zI v1), (2, zI v2), (3, zI v3), (4, zI v4), (5, zI v5), (6, zI v6), (7, zI v7), (8, zI v8)] [] (pM σ o M)) (fun rec hr v6 v7 v8 M h => m_X6_deal_56_b hX hP hrec34 hr h) NN v6 v7 v8 M h
def g_X6_deal_34_b (v1 : Int32) (v2 : Int32) (rec34 : Int32 → Int32 → Int32 → mS → Option (Int32 × mS)) (v3 : Int32) (v4 : Int32) (v5 : Int32) (M : mS) : Option (Int32 × mS) :=
  (mL M 0 5).bind fun x4 =>
  if (1 <<< (x4 &&& 31)) ≤ v5 then
    if v3 = (-1) then
      some (v3, M)
    else
      if v2 = 0 then
        some (v4, M)
      else
        some (v3, M)
  else
    g_X6_deal_56 rec34 v1 v2 v3 v4 v5 0 0 0 M

def g_X6_deal_34 (v1 : Int32) (v2 : Int32) : Int32 → Int32 → Int32 → mS → Option (Int32 × mS) := zlp3 (g_X6_deal_34_b v1 v2) NN
set_option maxHeartbeats 4000000 in
theorem m_X6_deal_34_b {X : zX} (hX : zOk X RX6 cX6_deal 9 3 83 (Option.some Jvm.ClassFile.FieldType.int) "deal" []) {σ : zS} {o : Nat} (hP : zP σ o) {Rt : Int32 × mS} {v1 : Int32} {v2 : Int32} {rec34 : Int32 → Int32 → Int32 → mS → Option (Int32 × mS)} (hrec34 : ∀ (v3 : Int32) (v4 : Int32) (v5 : Int32) (M : mS), rec34 v3 v4 v5 M = some Rt → zG X (zQ X (.inl (eI Rt.1)) (pM σ o Rt.2)) 9 34 [(0, zA (some o)), (1, zI v1), (2, zI v2), (3, zI v3), (4, zI v4), (5, zI v5)] [] (pM σ o M)) {v3 : Int32} {v4 : Int32} {v5 : Int32} {M : mS} (h : g_X6_deal_34_b v1 v2 rec34 v3 v4 v5 M = some Rt) : zG X (zQ X (.inl (eI Rt.1)) (pM σ o Rt.2)) 9 34 [(0, zA (some o)), (1, zI v1), (2, zI v2), (3, zI v3), (4, zI v4), (5, zI v5)] [] (pM σ o M) := by
  unfold g_X6_deal_34_b at h
  refine z_iload hX 5 rfl dX6_deal_34 (z_iconst hX (v := 1) (by decide) dX6_deal_36 (z_aload_n hX 0 rfl rfl dX6_deal_37 (m_getA hX fl_X6_7_5 mAr_1 dX6_deal_38 (z_iconst hX (v := 5) (by decide) dX6_deal_41 ?_))))
  refine m_iald hX (j := 0) (by decide) h dX6_deal_42 (fun x4 h => ?_)
  refine z_ishl hX dX6_deal_43 ?_
  refine z_icmp_ge (tgt := 186) hX h dX6_deal_44 (by decide) (fun h => ?_) (fun h => ?_)
  · refine z_iload_n hX 3 rfl rfl dX6_deal_186 (z_iconst hX (v := (-1)) (by decide) dX6_deal_187 ?_)
    refine z_icmp_eq (tgt := 195) hX h dX6_deal_188 (by decide) (fun h => ?_) (fun h => ?_)
    · refine z_iload_n hX 3 rfl rfl dX6_deal_195 (z_goto (tgt := 201) hX dX6_deal_196 (by decide) ?_)
      obtain rfl := Option.some.inj h
      exact z_iret hX dX6_deal_201
    · refine z_iload_n hX 2 rfl rfl dX6_deal_191 ?_
      refine z_if_eq (tgt := 199) hX h dX6_deal_192 (by decide) (fun h => ?_) (fun h => ?_)
      · refine z_iload hX 4 rfl dX6_deal_199 ?_
        obtain rfl := Option.some.inj h
        exact z_iret hX dX6_deal_201
      · refine z_iload_n hX 3 rfl rfl dX6_deal_195 (z_goto (tgt := 201) hX dX6_deal_196 (by decide) ?_)
        obtain rfl := Option.some.inj h
        exact z_iret hX dX6_deal_201
  · refine z_iconst hX (v := 0) (by decide) dX6_deal_47 (z_istore (L' := [(0, zA (some o)), (1, zI v1), (2, zI v2), (3, zI v3), (4, zI v4), (5, zI v5), (6, zI 0)]) hX rfl (by decide) dX6_deal_48 (z_iconst hX (v := 0) (by decide) dX6_deal_50 (z_istore (L' := [(0, zA (some o)), (1, zI v1), (2, zI v2), (3, zI v3), (4, zI v4), (5, zI v5), (6, zI 0), (7, zI 0)]) hX rfl (by decide) dX6_deal_51 (z_iconst hX (v := 0) (by decide) dX6_deal_53 (z_istore (L' := [(0, zA (some o)), (1, zI v1), (2, zI v2), (3, zI v3), (4, zI v4), (5, zI v5), (6, zI 0), (7, zI 0), (8, zI 0)]) hX rfl (by decide) dX6_deal_54 ?_)))))
    exact z_sub [0, 1, 2, 3, 4, 5, 6, 7, 8] rfl (m_X6_deal_56 hX hP hrec34 h)

theorem m_X6_deal_34 {X : zX} (hX : zOk X RX6 cX6_deal 9 3 83 (Option.some Jvm.ClassFile.FieldType.int) "deal" []) {σ : zS} {o : Nat} (hP : zP σ o) {Rt : Int32 × mS} {v1 : Int32} {v2 : Int32} {v3 : Int32} {v4 : Int32} {v5 : Int32} {M : mS} (h : g_X6_deal_34 v1 v2 v3 v4 v5 M = some Rt) : zG X (zQ X (.inl (eI Rt.1)) (pM σ o Rt.2)) 9 34 [(0, zA (some o)), (1, zI v1), (2, zI v2), (3, zI v3), (4, zI v4), (5, zI v5)] [] (pM σ o M) :=
  zlp3_ok (P := fun v3 v4 v5 M => zG X (zQ X (.inl (eI Rt.1)) (pM σ o Rt.2)) 9 34 [(0, zA (some o)), (1, zI v1), (2, zI v2), (3, zI v3), (4, zI v4), (5, zI v5)] [] (pM σ o M)) (fun rec hr v3 v4 v5 M h => m_X6_deal_34_b hX hP hr h) NN v3 v4 v5 M h
def g_X6_deal_14 (v1 : Int32) (v2 : Int32) (t1 : Int32) (M : mS) : Option (Int32 × mS) :=
  zl (mset M 0 t1) fun M3 =>
  if (M3.1 0) ≤ 0 then
    g_X6_deal_34 v1 v2 (-1) 0 0 M3
  else
    some ((0 : Int32), M3)

set_option maxHeartbeats 4000000 in
theorem m_X6_deal_14 {X : zX} (hX : zOk X RX6 cX6_deal 9 3 83 (Option.some Jvm.ClassFile.FieldType.int) "deal" []) {σ : zS} {o : Nat} (hP : zP σ o) {Rt : Int32 × mS} {v1 : Int32} {v2 : Int32} {t1 : Int32} {M : mS} (h : g_X6_deal_14 v1 v2 t1 M = some Rt) : zG X (zQ X (.inl (eI Rt.1)) (pM σ o Rt.2)) 9 14 [(0, zA (some o)), (1, zI v1), (2, zI v2)] [zI t1, zA (some o)] (pM σ o M) := by
  unfold g_X6_deal_14 at h
  refine m_putI hX hP fp_X6_41_5 mSc_0 h dX6_deal_14 (fun M3 h => ?_)
  refine z_aload_n hX 0 rfl rfl dX6_deal_17 (m_getI hX fl_X6_41_5 mSc_0 dX6_deal_18 ?_)
  refine z_if_le (tgt := 26) hX h dX6_deal_21 (by decide) (fun h => ?_) (fun h => ?_)
  · refine z_iconst hX (v := (-1)) (by decide) dX6_deal_26 (z_istore_n (L' := [(0, zA (some o)), (1, zI v1), (2, zI v2), (3, zI (-1))]) hX rfl rfl (by decide) dX6_deal_27 (z_iconst hX (v := 0) (by decide) dX6_deal_28 (z_istore (L' := [(0, zA (some o)), (1, zI v1), (2, zI v2), (3, zI (-1)), (4, zI 0)]) hX rfl (by decide) dX6_deal_29 (z_iconst hX (v := 0) (by decide) dX6_deal_31 (z_istore (L' := [(0, zA (some o)), (1, zI v1), (2, zI v2), (3, zI (-1)), (4, zI 0), (5, zI 0)]) hX rfl (by decide) dX6_deal_32 ?_)))))
    exact z_sub [0, 1, 2, 3, 4, 5] rfl (m_X6_deal_34 hX hP  h)
  · refine z_iconst hX (v := 0) (by decide) dX6_deal_24 ?_
    obtain rfl := Option.some.inj h
    exact z_iret hX dX6_deal_25

def g_X6_deal (p1 : Int32) (p2 : Int32) (M : mS) : Option (Int32 × mS) :=
  zb2 (g_X6_isHouse p1 M) fun x1 M2 =>
  if ¬ x1 = 0 then
    g_X6_deal_14 p1 p2 0 M2
  else
    g_X6_deal_14 p1 p2 1 M2

set_option maxHeartbeats 4000000 in
theorem m_X6_deal {X : zX} (hX : zOk X RX6 cX6_deal 9 3 83 (Option.some Jvm.ClassFile.FieldType.int) "deal" []) {σ : zS} {o : Nat} (hP : zP σ o) {p1 : Int32} {p2 : Int32} {M : mS} {Rt : Int32 × mS} (h : g_X6_deal p1 p2 M = some Rt) : zG X (zQ X (.inl (eI Rt.1)) (pM σ o Rt.2)) 9 0 [(0, zA (some o)), (1, zI p1), (2, zI p2)] [] (pM σ o M) := by
  unfold g_X6_deal at h
  refine z_aload_n hX 0 rfl rfl dX6_deal_0 (z_aload_n hX 0 rfl rfl dX6_deal_1 (z_iload_n hX 1 rfl rfl dX6_deal_2 ?_))
  refine m_cNI hX (rest := [zA (some o)]) h (fun r9 M9 e9 => z_runV hX lk_X6_200 (c_X6_isHouse hX.tr hP e9) (ci := 5) zc9_5 pM_cl ⟨Nat.le_of_ble_eq_true rfl, Nat.le_of_ble_eq_true rfl⟩ rfl (Nat.le_of_ble_eq_true rfl) dX6_deal_3 rfl) (fun x1 M2 h => ?_)
  refine z_if_ne (tgt := 13) hX h dX6_deal_6 (by decide) (fun h => ?_) (fun h => ?_)
  · refine z_iconst hX (v := 0) (by decide) dX6_deal_13 ?_
    exact z_sub [0, 1, 2] rfl (m_X6_deal_14 hX hP  h)
  · refine z_iconst hX (v := 1) (by decide) dX6_deal_9 (z_goto (tgt := 14) hX dX6_deal_10 (by decide) ?_)
    exact z_sub [0, 1, 2] rfl (m_X6_deal_14 hX hP  h)

theorem c_X6_deal {l : Launch} {D : va_G} {tys : zTy} (hl : l.stackTraces = false) {σ : zS} {o : Nat} (hP : zP σ o) {p1 : Int32} {p2 : Int32} {M : mS} {Rt : Int32 × mS} (h : g_X6_deal p1 p2 M = some Rt) : zM l D tys yX6_deal (ws_ yX6_deal cX6_deal 9 (Option.some Jvm.ClassFile.FieldType.int)) 3 83 [zA (some o), zI p1, zI p2] (pM σ o M) (.inl (eI Rt.1)) (pM σ o Rt.2) :=
  zM_in hl rfl (Nat.le_of_ble_eq_true rfl) (fun p e R s m args below meth c hX => z_L rfl (m_X6_deal hX hP h))
def g_X6_countedBy_59 (rec19 : Int32 → Int32 → Int32 → mS → Option (Int32 × mS)) (v2 : Int32) (v4 : Int32) (v5 : Int32) (v6 : Int32) (M : mS) : Option (Int32 × mS) :=
  zl (v5 / 4) fun x3 =>
  zl (v6 + 1) fun x4 =>
  rec19 v4 x3 x4 M

set_option maxHeartbeats 4000000 in
theorem m_X6_countedBy_59 {X : zX} (hX : zOk X RX6 cX6_countedBy 7 2 62 (Option.some Jvm.ClassFile.FieldType.int) "countedBy" []) {σ : zS} {o : Nat} (hP : zP σ o) {Rt : Int32 × mS} {rec19 : Int32 → Int32 → Int32 → mS → Option (Int32 × mS)} {v2 : Int32} {v4 : Int32} {v5 : Int32} {v6 : Int32} (hrec19 : ∀ (v4 : Int32) (v5 : Int32) (v6 : Int32) (M : mS), rec19 v4 v5 v6 M = some Rt → zG X (zQ X (.inl (eI Rt.1)) (pM σ o Rt.2)) 7 19 [(0, zA (some o)), (2, zI v2), (4, zI v4), (5, zI v5), (6, zI v6)] [] (pM σ o M)) {M : mS} (h : g_X6_countedBy_59 rec19 v2 v4 v5 v6 M = some Rt) : zG X (zQ X (.inl (eI Rt.1)) (pM σ o Rt.2)) 7 59 [(0, zA (some o)), (2, zI v2), (4, zI v4), (5, zI v5), (6, zI v6)] [] (pM σ o M) := by
  unfold g_X6_countedBy_59 at h
  refine z_iload hX 3 rfl dX6_countedBy_59 (z_iconst hX (v := 4) (by decide) dX6_countedBy_61 (z_idivK hX (by decide) dX6_countedBy_62 ?_))
  refine z_nmI h (fun x3 h => ?_)
  refine z_istore (L' := [(0, zA (some o)), (2, zI v2), (4, zI v4), (5, zI x3), (6, zI v6)]) hX rfl (by decide) dX6_countedBy_63 ?_
  refine z_iinc hX (j := 4) h rfl (by decide) (by decide) dX6_countedBy_65 (fun x4 h => z_L (L' := [(0, zA (some o)), (2, zI v2), (4, zI v4), (5, zI x3), (6, zI x4)]) rfl ?_)
  refine z_goto (tgt := 19) hX dX6_countedBy_68 (by decide) ?_
  exact z_sub [0, 1, 2, 3, 4] rfl (hrec19 _ _ _ _ h)

def g_X6_countedBy_19_b (v2 : Int32) (rec19 : Int32 → Int32 → Int32 → mS → Option (Int32 × mS)) (v4 : Int32) (v5 : Int32) (v6 : Int32) (M : mS) : Option (Int32 × mS) :=
  if (M.1 18) ≤ v6 then
    some (v4, M)
  else
    if ¬ ((v2 >>> (v6 &&& 31)) &&& 1) = 1 then
      g_X6_countedBy_59 rec19 v2 v4 v5 v6 M
    else
      if (v5 - v5 / 4 * 4) ≤ 0 then
        (mL M 5 v6).bind fun x5 =>
        zl (v4 + x5) fun x6 =>
        g_X6_countedBy_59 rec19 v2 x6 v5 v6 M
      else
        some (((-1) : Int32), M)

def g_X6_countedBy_19 (v2 : Int32) : Int32 → Int32 → Int32 → mS → Option (Int32 × mS) := zlp3 (g_X6_countedBy_19_b v2) NN
set_option maxHeartbeats 4000000 in
theorem m_X6_countedBy_19_b {X : zX} (hX : zOk X RX6 cX6_countedBy 7 2 62 (Option.some Jvm.ClassFile.FieldType.int) "countedBy" []) {σ : zS} {o : Nat} (hP : zP σ o) {Rt : Int32 × mS} {v2 : Int32} {rec19 : Int32 → Int32 → Int32 → mS → Option (Int32 × mS)} (hrec19 : ∀ (v4 : Int32) (v5 : Int32) (v6 : Int32) (M : mS), rec19 v4 v5 v6 M = some Rt → zG X (zQ X (.inl (eI Rt.1)) (pM σ o Rt.2)) 7 19 [(0, zA (some o)), (2, zI v2), (4, zI v4), (5, zI v5), (6, zI v6)] [] (pM σ o M)) {v4 : Int32} {v5 : Int32} {v6 : Int32} {M : mS} (h : g_X6_countedBy_19_b v2 rec19 v4 v5 v6 M = some Rt) : zG X (zQ X (.inl (eI Rt.1)) (pM σ o Rt.2)) 7 19 [(0, zA (some o)), (2, zI v2), (4, zI v4), (5, zI v5), (6, zI v6)] [] (pM σ o M) := by
  unfold g_X6_countedBy_19_b at h
  refine z_iload hX 4 rfl dX6_countedBy_19 (z_aload_n hX 0 rfl rfl dX6_countedBy_21 (m_getI hX fl_X6_244_5 mSc_18 dX6_countedBy_22 ?_))
  refine z_icmp_ge (tgt := 71) hX h dX6_countedBy_25 (by decide) (fun h => ?_) (fun h => ?_)
  · refine z_iload hX 2 rfl dX6_countedBy_71 ?_
    obtain rfl := Option.some.inj h
    exact z_iret hX dX6_countedBy_73
  · refine z_iload_n hX 1 rfl rfl dX6_countedBy_28 (z_iload hX 4 rfl dX6_countedBy_29 (z_ishr hX dX6_countedBy_31 (z_iconst hX (v := 1) (by decide) dX6_countedBy_32 (z_iand hX dX6_countedBy_33 (z_iconst hX (v := 1) (by decide) dX6_countedBy_34 ?_)))))
    refine z_icmp_ne (tgt := 59) hX h dX6_countedBy_35 (by decide) (fun h => ?_) (fun h => ?_)
    · exact z_sub [0, 1, 2, 3, 4] rfl (m_X6_countedBy_59 hX hP hrec19 h)
    · refine z_iload hX 3 rfl dX6_countedBy_38 (z_iconst hX (v := 4) (by decide) dX6_countedBy_40 (z_iremK hX (by decide) dX6_countedBy_41 ?_))
      refine z_if_le (tgt := 47) hX h dX6_countedBy_42 (by decide) (fun h => ?_) (fun h => ?_)
      · refine z_iload hX 2 rfl dX6_countedBy_47 (z_aload_n hX 0 rfl rfl dX6_countedBy_49 (m_getA hX fl_X6_29_5 mAr_17 dX6_countedBy_50 (z_iload hX 4 rfl dX6_countedBy_53 ?_)))
        refine m_iald hX (j := 5) (by decide) h dX6_countedBy_55 (fun x5 h => ?_)
        refine z_iadd hX dX6_countedBy_56 ?_
        refine z_nmI h (fun x6 h => ?_)
        refine z_istore (L' := [(0, zA (some o)), (2, zI v2), (4, zI x6), (5, zI v5), (6, zI v6)]) hX rfl (by decide) dX6_countedBy_57 ?_
        exact z_sub [0, 1, 2, 3, 4] rfl (m_X6_countedBy_59 hX hP hrec19 h)
      · refine z_iconst hX (v := (-1)) (by decide) dX6_countedBy_45 ?_
        obtain rfl := Option.some.inj h
        exact z_iret hX dX6_countedBy_46

theorem m_X6_countedBy_19 {X : zX} (hX : zOk X RX6 cX6_countedBy 7 2 62 (Option.some Jvm.ClassFile.FieldType.int) "countedBy" []) {σ : zS} {o : Nat} (hP : zP σ o) {Rt : Int32 × mS} {v2 : Int32} {v4 : Int32} {v5 : Int32} {v6 : Int32} {M : mS} (h : g_X6_countedBy_19 v2 v4 v5 v6 M = some Rt) : zG X (zQ X (.inl (eI Rt.1)) (pM σ o Rt.2)) 7 19 [(0, zA (some o)), (2, zI v2), (4, zI v4), (5, zI v5), (6, zI v6)] [] (pM σ o M) :=
  zlp3_ok (P := fun v4 v5 v6 M => zG X (zQ X (.inl (eI Rt.1)) (pM σ o Rt.2)) 7 19 [(0, zA (some o)), (2, zI v2), (4, zI v4), (5, zI v5), (6, zI v6)] [] (pM σ o M)) (fun rec hr v4 v5 v6 M h => m_X6_countedBy_19_b hX hP hr h) NN v4 v5 v6 M h
def g_X6_countedBy (p1 : Int32) (p2 : Int32) (p3 : Int32) (M : mS) : Option (Int32 × mS) :=
  zb2 (g_X6_bits p2 M) fun x1 M2 =>
  if x1 ≤ p3 then
    g_X6_countedBy_19 p2 0 p1 0 M2
  else
    some (((-1) : Int32), M2)

set_option maxHeartbeats 4000000 in
theorem m_X6_countedBy {X : zX} (hX : zOk X RX6 cX6_countedBy 7 2 62 (Option.some Jvm.ClassFile.FieldType.int) "countedBy" []) {σ : zS} {o : Nat} (hP : zP σ o) {p1 : Int32} {p2 : Int32} {p3 : Int32} {M : mS} {Rt : Int32 × mS} (h : g_X6_countedBy p1 p2 p3 M = some Rt) : zG X (zQ X (.inl (eI Rt.1)) (pM σ o Rt.2)) 7 0 [(0, zA (some o)), (1, zI p1), (2, zI p2), (3, zI p3)] [] (pM σ o M) := by
  unfold g_X6_countedBy at h
  refine z_iload_n hX 2 rfl rfl dX6_countedBy_0 ?_
  refine m_cNI hX (rest := []) h (fun r9 M9 e9 => z_runS hX lk_X6_241 (c_X6_bits hX.tr hP e9) ⟨Nat.le_of_ble_eq_true rfl, Nat.le_of_ble_eq_true rfl⟩ rfl (Nat.le_of_ble_eq_true rfl) dX6_countedBy_1 rfl) (fun x1 M2 h => ?_)
  refine z_iload_n hX 3 rfl rfl dX6_countedBy_4 ?_
  refine z_icmp_le (tgt := 10) hX h dX6_countedBy_5 (by decide) (fun h => ?_) (fun h => ?_)
  · refine z_iconst hX (v := 0) (by decide) dX6_countedBy_10 (z_istore (L' := [(0, zA (some o)), (1, zI p1), (2, zI p2), (3, zI p3), (4, zI 0)]) hX rfl (by decide) dX6_countedBy_11 (z_iload_n hX 1 rfl rfl dX6_countedBy_13 (z_istore (L' := [(0, zA (some o)), (1, zI p1), (2, zI p2), (3, zI p3), (4, zI 0), (5, zI p1)]) hX rfl (by decide) dX6_countedBy_14 (z_iconst hX (v := 0) (by decide) dX6_countedBy_16 (z_istore (L' := [(0, zA (some o)), (1, zI p1), (2, zI p2), (3, zI p3), (4, zI 0), (5, zI p1), (6, zI 0)]) hX rfl (by decide) dX6_countedBy_17 ?_)))))
    exact z_sub [0, 2, 4, 5, 6] rfl (m_X6_countedBy_19 hX hP  h)
  · refine z_iconst hX (v := (-1)) (by decide) dX6_countedBy_8 ?_
    obtain rfl := Option.some.inj h
    exact z_iret hX dX6_countedBy_9

theorem c_X6_countedBy {l : Launch} {D : va_G} {tys : zTy} (hl : l.stackTraces = false) {σ : zS} {o : Nat} (hP : zP σ o) {p1 : Int32} {p2 : Int32} {p3 : Int32} {M : mS} {Rt : Int32 × mS} (h : g_X6_countedBy p1 p2 p3 M = some Rt) : zM l D tys yX6_countedBy (ws_ yX6_countedBy cX6_countedBy 7 (Option.some Jvm.ClassFile.FieldType.int)) 2 62 [zA (some o), zI p1, zI p2, zI p3] (pM σ o M) (.inl (eI Rt.1)) (pM σ o Rt.2) :=
  zM_in hl rfl (Nat.le_of_ble_eq_true rfl) (fun p e R s m args below meth c hX => z_L rfl (m_X6_countedBy hX hP h))
def g_X6_dayOn_57 (rec11 : Int32 → Int32 → Int32 → Int32 → mS → Option (Int32 × mS)) (v2 : Int32) (v3 : Int32) (v4 : Int32) (v5 : Int32) (v6 : Int32) (t0 : Int32) (M : mS) : Option (Int32 × mS) :=
  zl (v3 + (v4 * t0)) fun x1 =>
  zl (v4 * 4) fun x2 =>
  zl (v5 / 4) fun x3 =>
  zl (v6 + 1) fun x4 =>
  rec11 x1 x2 x3 x4 M

set_option maxHeartbeats 4000000 in
theorem m_X6_dayOn_57 {X : zX} (hX : zOk X RX6 cX6_dayOn 8 1 40 (Option.some Jvm.ClassFile.FieldType.int) "dayOn" []) {σ : zS} {o : Nat} (hP : zP σ o) {Rt : Int32 × mS} {rec11 : Int32 → Int32 → Int32 → Int32 → mS → Option (Int32 × mS)} {v2 : Int32} {v3 : Int32} {v4 : Int32} {v5 : Int32} {v6 : Int32} (hrec11 : ∀ (v3 : Int32) (v4 : Int32) (v5 : Int32) (v6 : Int32) (M : mS), rec11 v3 v4 v5 v6 M = some Rt → zG X (zQ X (.inl (eI Rt.1)) (pM σ o Rt.2)) 8 11 [(0, zA (some o)), (2, zI v2), (3, zI v3), (4, zI v4), (5, zI v5), (6, zI v6)] [] (pM σ o M)) {t0 : Int32} {M : mS} (h : g_X6_dayOn_57 rec11 v2 v3 v4 v5 v6 t0 M = some Rt) : zG X (zQ X (.inl (eI Rt.1)) (pM σ o Rt.2)) 8 57 [(0, zA (some o)), (2, zI v2), (3, zI v3), (4, zI v4), (5, zI v5), (6, zI v6)] [zI t0] (pM σ o M) := by
  unfold g_X6_dayOn_57 at h
  refine z_istore (L' := [(0, zA (some o)), (2, zI v2), (3, zI v3), (4, zI v4), (5, zI v5), (6, zI v6), (7, zI t0)]) hX rfl (by decide) dX6_dayOn_57 (z_iload_n hX 2 rfl rfl dX6_dayOn_59 (z_iload hX 3 rfl dX6_dayOn_60 (z_iload hX 6 rfl dX6_dayOn_62 (z_imul hX dX6_dayOn_64 (z_iadd hX dX6_dayOn_65 ?_)))))
  refine z_nmI h (fun x1 h => ?_)
  refine z_istore_n (L' := [(0, zA (some o)), (2, zI v2), (3, zI x1), (4, zI v4), (5, zI v5), (6, zI v6), (7, zI t0)]) hX rfl rfl (by decide) dX6_dayOn_66 (z_iload hX 3 rfl dX6_dayOn_67 (z_iconst hX (v := 4) (by decide) dX6_dayOn_69 (z_imul hX dX6_dayOn_70 ?_)))
  refine z_nmI h (fun x2 h => ?_)
  refine z_istore (L' := [(0, zA (some o)), (2, zI v2), (3, zI x1), (4, zI x2), (5, zI v5), (6, zI v6), (7, zI t0)]) hX rfl (by decide) dX6_dayOn_71 (z_iload hX 4 rfl dX6_dayOn_73 (z_iconst hX (v := 4) (by decide) dX6_dayOn_75 (z_idivK hX (by decide) dX6_dayOn_76 ?_)))
  refine z_nmI h (fun x3 h => ?_)
  refine z_istore (L' := [(0, zA (some o)), (2, zI v2), (3, zI x1), (4, zI x2), (5, zI x3), (6, zI v6), (7, zI t0)]) hX rfl (by decide) dX6_dayOn_77 ?_
  refine z_iinc hX (j := 5) h rfl (by decide) (by decide) dX6_dayOn_79 (fun x4 h => z_L (L' := [(0, zA (some o)), (2, zI v2), (3, zI x1), (4, zI x2), (5, zI x3), (6, zI x4), (7, zI t0)]) rfl ?_)
  refine z_goto (tgt := 11) hX dX6_dayOn_82 (by decide) ?_
  exact z_sub [0, 1, 2, 3, 4, 5] rfl (hrec11 _ _ _ _ _ h)

def g_X6_dayOn_11_b (v2 : Int32) (rec11 : Int32 → Int32 → Int32 → Int32 → mS → Option (Int32 × mS)) (v3 : Int32) (v4 : Int32) (v5 : Int32) (v6 : Int32) (M : mS) : Option (Int32 × mS) :=
  if (M.1 18) ≤ v6 then
    some (v3, M)
  else
    if ¬ ((v2 >>> (v6 &&& 31)) &&& 1) = 1 then
      if (v5 - v5 / 4 * 4) ≤ 0 then
        g_X6_dayOn_57 rec11 v2 v3 v4 v5 v6 0 M
      else
        g_X6_dayOn_57 rec11 v2 v3 v4 v5 v6 ((v5 - v5 / 4 * 4) - 1) M
    else
      (mL M 0 7).bind fun x5 =>
      g_X6_dayOn_57 rec11 v2 v3 v4 v5 v6 x5 M

def g_X6_dayOn_11 (v2 : Int32) : Int32 → Int32 → Int32 → Int32 → mS → Option (Int32 × mS) := zlp4 (g_X6_dayOn_11_b v2) NN
set_option maxHeartbeats 4000000 in
theorem m_X6_dayOn_11_b {X : zX} (hX : zOk X RX6 cX6_dayOn 8 1 40 (Option.some Jvm.ClassFile.FieldType.int) "dayOn" []) {σ : zS} {o : Nat} (hP : zP σ o) {Rt : Int32 × mS} {v2 : Int32} {rec11 : Int32 → Int32 → Int32 → Int32 → mS → Option (Int32 × mS)} (hrec11 : ∀ (v3 : Int32) (v4 : Int32) (v5 : Int32) (v6 : Int32) (M : mS), rec11 v3 v4 v5 v6 M = some Rt → zG X (zQ X (.inl (eI Rt.1)) (pM σ o Rt.2)) 8 11 [(0, zA (some o)), (2, zI v2), (3, zI v3), (4, zI v4), (5, zI v5), (6, zI v6)] [] (pM σ o M)) {v3 : Int32} {v4 : Int32} {v5 : Int32} {v6 : Int32} {M : mS} (h : g_X6_dayOn_11_b v2 rec11 v3 v4 v5 v6 M = some Rt) : zG X (zQ X (.inl (eI Rt.1)) (pM σ o Rt.2)) 8 11 [(0, zA (some o)), (2, zI v2), (3, zI v3), (4, zI v4), (5, zI v5), (6, zI v6)] [] (pM σ o M) := by
  unfold g_X6_dayOn_11_b at h
  refine z_iload hX 5 rfl dX6_dayOn_11 (z_aload_n hX 0 rfl rfl dX6_dayOn_13 (m_getI hX fl_X6_244_5 mSc_18 dX6_dayOn_14 ?_))
  refine z_icmp_ge (tgt := 85) hX h dX6_dayOn_17 (by decide) (fun h => ?_) (fun h => ?_)
  · refine z_iload_n hX 2 rfl rfl dX6_dayOn_85 ?_
    obtain rfl := Option.some.inj h
    exact z_iret hX dX6_dayOn_86
  · refine z_iload_n hX 1 rfl rfl dX6_dayOn_20 (z_iload hX 5 rfl dX6_dayOn_21 (z_ishr hX dX6_dayOn_23 (z_iconst hX (v := 1) (by decide) dX6_dayOn_24 (z_iand hX dX6_dayOn_25 (z_iconst hX (v := 1) (by decide) dX6_dayOn_26 ?_)))))
    refine z_icmp_ne (tgt := 40) hX h dX6_dayOn_27 (by decide) (fun h => ?_) (fun h => ?_)
    · refine z_iload hX 4 rfl dX6_dayOn_40 (z_iconst hX (v := 4) (by decide) dX6_dayOn_42 (z_iremK hX (by decide) dX6_dayOn_43 ?_))
      refine z_if_le (tgt := 56) hX h dX6_dayOn_44 (by decide) (fun h => ?_) (fun h => ?_)
      · refine z_iconst hX (v := 0) (by decide) dX6_dayOn_56 ?_
        exact z_sub [0, 1, 2, 3, 4, 5] rfl (m_X6_dayOn_57 hX hP hrec11 h)
      · refine z_iload hX 4 rfl dX6_dayOn_47 (z_iconst hX (v := 4) (by decide) dX6_dayOn_49 (z_iremK hX (by decide) dX6_dayOn_50 (z_iconst hX (v := 1) (by decide) dX6_dayOn_51 (z_isub hX dX6_dayOn_52 (z_goto (tgt := 57) hX dX6_dayOn_53 (by decide) ?_)))))
        exact z_sub [0, 1, 2, 3, 4, 5] rfl (m_X6_dayOn_57 hX hP hrec11 h)
    · refine z_aload_n hX 0 rfl rfl dX6_dayOn_30 (m_getA hX fl_X6_7_5 mAr_1 dX6_dayOn_31 (z_bipush hX (v := 7) (by decide) dX6_dayOn_34 ?_))
      refine m_iald hX (j := 0) (by decide) h dX6_dayOn_36 (fun x5 h => ?_)
      refine z_goto (tgt := 57) hX dX6_dayOn_37 (by decide) ?_
      exact z_sub [0, 1, 2, 3, 4, 5] rfl (m_X6_dayOn_57 hX hP hrec11 h)

theorem m_X6_dayOn_11 {X : zX} (hX : zOk X RX6 cX6_dayOn 8 1 40 (Option.some Jvm.ClassFile.FieldType.int) "dayOn" []) {σ : zS} {o : Nat} (hP : zP σ o) {Rt : Int32 × mS} {v2 : Int32} {v3 : Int32} {v4 : Int32} {v5 : Int32} {v6 : Int32} {M : mS} (h : g_X6_dayOn_11 v2 v3 v4 v5 v6 M = some Rt) : zG X (zQ X (.inl (eI Rt.1)) (pM σ o Rt.2)) 8 11 [(0, zA (some o)), (2, zI v2), (3, zI v3), (4, zI v4), (5, zI v5), (6, zI v6)] [] (pM σ o M) :=
  zlp4_ok (P := fun v3 v4 v5 v6 M => zG X (zQ X (.inl (eI Rt.1)) (pM σ o Rt.2)) 8 11 [(0, zA (some o)), (2, zI v2), (3, zI v3), (4, zI v4), (5, zI v5), (6, zI v6)] [] (pM σ o M)) (fun rec hr v3 v4 v5 v6 M h => m_X6_dayOn_11_b hX hP hr h) NN v3 v4 v5 v6 M h
def g_X6_dayOn (p1 : Int32) (p2 : Int32) (M : mS) : Option (Int32 × mS) :=
  g_X6_dayOn_11 p2 0 1 p1 0 M

set_option maxHeartbeats 4000000 in
theorem m_X6_dayOn {X : zX} (hX : zOk X RX6 cX6_dayOn 8 1 40 (Option.some Jvm.ClassFile.FieldType.int) "dayOn" []) {σ : zS} {o : Nat} (hP : zP σ o) {p1 : Int32} {p2 : Int32} {M : mS} {Rt : Int32 × mS} (h : g_X6_dayOn p1 p2 M = some Rt) : zG X (zQ X (.inl (eI Rt.1)) (pM σ o Rt.2)) 8 0 [(0, zA (some o)), (1, zI p1), (2, zI p2)] [] (pM σ o M) := by
  unfold g_X6_dayOn at h
  refine z_iconst hX (v := 0) (by decide) dX6_dayOn_0 (z_istore_n (L' := [(0, zA (some o)), (1, zI p1), (2, zI p2), (3, zI 0)]) hX rfl rfl (by decide) dX6_dayOn_1 (z_iconst hX (v := 1) (by decide) dX6_dayOn_2 (z_istore (L' := [(0, zA (some o)), (1, zI p1), (2, zI p2), (3, zI 0), (4, zI 1)]) hX rfl (by decide) dX6_dayOn_3 (z_iload_n hX 1 rfl rfl dX6_dayOn_5 (z_istore (L' := [(0, zA (some o)), (1, zI p1), (2, zI p2), (3, zI 0), (4, zI 1), (5, zI p1)]) hX rfl (by decide) dX6_dayOn_6 (z_iconst hX (v := 0) (by decide) dX6_dayOn_8 (z_istore (L' := [(0, zA (some o)), (1, zI p1), (2, zI p2), (3, zI 0), (4, zI 1), (5, zI p1), (6, zI 0)]) hX rfl (by decide) dX6_dayOn_9 ?_)))))))
  exact z_sub [0, 2, 3, 4, 5, 6] rfl (m_X6_dayOn_11 hX hP  h)

theorem c_X6_dayOn {l : Launch} {D : va_G} {tys : zTy} (hl : l.stackTraces = false) {σ : zS} {o : Nat} (hP : zP σ o) {p1 : Int32} {p2 : Int32} {M : mS} {Rt : Int32 × mS} (h : g_X6_dayOn p1 p2 M = some Rt) : zM l D tys yX6_dayOn (ws_ yX6_dayOn cX6_dayOn 8 (Option.some Jvm.ClassFile.FieldType.int)) 1 40 [zA (some o), zI p1, zI p2] (pM σ o M) (.inl (eI Rt.1)) (pM σ o Rt.2) :=
  zM_in hl rfl (Nat.le_of_ble_eq_true rfl) (fun p e R s m args below meth c hX => z_L rfl (m_X6_dayOn hX hP h))
def g_X6_plan_430 (rec368 : Int32 → mS → Option (Int32 × mS)) (v1 : Int32) (v2 : Int32) (v5 : Int32) (v6 : Int32) (M : mS) : Option (Int32 × mS) :=
  zl (v6 + 1) fun x10 =>
  rec368 x10 M

set_option maxHeartbeats 4000000 in
theorem m_X6_plan_430 {X : zX} (hX : zOk X RX6 cX6_plan 9 92 2181 (Option.some Jvm.ClassFile.FieldType.int) "plan" []) {σ : zS} {o : Nat} (hP : zP σ o) {Rt : Int32 × mS} {rec368 : Int32 → mS → Option (Int32 × mS)} {v1 : Int32} {v2 : Int32} {v5 : Int32} {v6 : Int32} (hrec368 : ∀ (v6 : Int32) (M : mS), rec368 v6 M = some Rt → zG X (zQ X (.inl (eI Rt.1)) (pM σ o Rt.2)) 9 368 [(0, zA (some o)), (1, zI v1), (2, zI v2), (5, zI v5), (6, zI v6)] [] (pM σ o M)) {M : mS} (h : g_X6_plan_430 rec368 v1 v2 v5 v6 M = some Rt) : zG X (zQ X (.inl (eI Rt.1)) (pM σ o Rt.2)) 9 430 [(0, zA (some o)), (1, zI v1), (2, zI v2), (5, zI v5), (6, zI v6)] [] (pM σ o M) := by
  unfold g_X6_plan_430 at h
  refine z_iinc hX (j := 4) h rfl (by decide) (by decide) dX6_plan_430 (fun x10 h => z_L (L' := [(0, zA (some o)), (1, zI v1), (2, zI v2), (5, zI v5), (6, zI x10)]) rfl ?_)
  refine z_goto (tgt := 368) hX dX6_plan_433 (by decide) ?_
  exact z_sub [0, 1, 2, 3, 4] rfl (hrec368 _ _ h)

def g_X6_plan_368_b (v1 : Int32) (v2 : Int32) (v5 : Int32) (rec368 : Int32 → mS → Option (Int32 × mS)) (v6 : Int32) (M : mS) : Option (Int32 × mS) :=
  if (1 <<< ((M.1 18) &&& 31)) ≤ v6 then
    some ((0 : Int32), M)
  else
    if v5 ≤ 0 then
      some ((0 : Int32), M)
    else
      zb2 (g_X6_countedBy 0 v6 v2 M) fun x8 M9 =>
      if x8 = (-1) then
        g_X6_plan_430 rec368 v1 v2 v5 v6 M9
      else
        zb2 (g_X6_dayOn 0 v6 M9) fun x11 M12 =>
        (mL M12 7 x11).bind fun x13 =>
        (mL M12 0 (12 + v1)).bind fun x14 =>
        if (x8 + x13) < x14 then
          g_X6_plan_430 rec368 v1 v2 v5 v6 M12
        else
          some (v6, M12)

def g_X6_plan_368 (v1 : Int32) (v2 : Int32) (v5 : Int32) : Int32 → mS → Option (Int32 × mS) := zlp1 (g_X6_plan_368_b v1 v2 v5) NN
set_option maxHeartbeats 4000000 in
theorem m_X6_plan_368_b {X : zX} (hX : zOk X RX6 cX6_plan 9 92 2181 (Option.some Jvm.ClassFile.FieldType.int) "plan" []) {σ : zS} {o : Nat} (hP : zP σ o) {Rt : Int32 × mS} {v1 : Int32} {v2 : Int32} {v5 : Int32} {rec368 : Int32 → mS → Option (Int32 × mS)} (hrec368 : ∀ (v6 : Int32) (M : mS), rec368 v6 M = some Rt → zG X (zQ X (.inl (eI Rt.1)) (pM σ o Rt.2)) 9 368 [(0, zA (some o)), (1, zI v1), (2, zI v2), (5, zI v5), (6, zI v6)] [] (pM σ o M)) {v6 : Int32} {M : mS} (h : g_X6_plan_368_b v1 v2 v5 rec368 v6 M = some Rt) : zG X (zQ X (.inl (eI Rt.1)) (pM σ o Rt.2)) 9 368 [(0, zA (some o)), (1, zI v1), (2, zI v2), (5, zI v5), (6, zI v6)] [] (pM σ o M) := by
  unfold g_X6_plan_368_b at h
  refine z_iload hX 4 rfl dX6_plan_368 (z_iconst hX (v := 1) (by decide) dX6_plan_370 (z_aload_n hX 0 rfl rfl dX6_plan_371 (m_getI hX fl_X6_244_5 mSc_18 dX6_plan_372 (z_ishl hX dX6_plan_375 ?_))))
  refine z_icmp_ge (tgt := 436) hX h dX6_plan_376 (by decide) (fun h => ?_) (fun h => ?_)
  · refine z_iconst hX (v := 0) (by decide) dX6_plan_436 ?_
    obtain rfl := Option.some.inj h
    exact z_iret hX dX6_plan_437
  · refine z_iload hX 3 rfl dX6_plan_379 ?_
    refine z_if_le (tgt := 436) hX h dX6_plan_381 (by decide) (fun h => ?_) (fun h => ?_)
    · refine z_iconst hX (v := 0) (by decide) dX6_plan_436 ?_
      obtain rfl := Option.some.inj h
      exact z_iret hX dX6_plan_437
    · refine z_aload_n hX 0 rfl rfl dX6_plan_384 (z_iconst hX (v := 0) (by decide) dX6_plan_385 (z_iload hX 4 rfl dX6_plan_386 (z_iload_n hX 2 rfl rfl dX6_plan_388 ?_)))
      refine m_cNI hX (rest := []) h (fun r9 M9 e9 => z_runV hX lk_X6_247 (c_X6_countedBy hX.tr hP e9) (ci := 5) zc9_5 pM_cl ⟨Nat.le_of_ble_eq_true rfl, Nat.le_of_ble_eq_true rfl⟩ rfl (Nat.le_of_ble_eq_true rfl) dX6_plan_389 rfl) (fun x8 M9 h => ?_)
      refine z_istore (L' := [(0, zA (some o)), (1, zI v1), (2, zI v2), (5, zI v5), (6, zI v6), (7, zI x8)]) hX rfl (by decide) dX6_plan_392 (z_iload hX 5 rfl dX6_plan_394 (z_iconst hX (v := (-1)) (by decide) dX6_plan_396 ?_))
      refine z_icmp_eq (tgt := 430) hX h dX6_plan_397 (by decide) (fun h => ?_) (fun h => ?_)
      · exact z_sub [0, 1, 2, 3, 4] rfl (m_X6_plan_430 hX hP hrec368 h)
      · refine z_iload hX 5 rfl dX6_plan_400 (z_aload_n hX 0 rfl rfl dX6_plan_402 (m_getA hX fl_X6_35_5 mAr_20 dX6_plan_403 (z_aload_n hX 0 rfl rfl dX6_plan_406 (z_iconst hX (v := 0) (by decide) dX6_plan_407 (z_iload hX 4 rfl dX6_plan_408 ?_)))))
        refine m_cNI hX (rest := [zA (some (o + 8)), zI x8]) h (fun r9 M9 e9 => z_runV hX lk_X6_250 (c_X6_dayOn hX.tr hP e9) (ci := 5) zc9_5 pM_cl ⟨Nat.le_of_ble_eq_true rfl, Nat.le_of_ble_eq_true rfl⟩ rfl (Nat.le_of_ble_eq_true rfl) dX6_plan_410 rfl) (fun x11 M12 h => ?_)
        refine m_iald hX (j := 7) (by decide) h dX6_plan_413 (fun x13 h => ?_)
        refine z_iadd hX dX6_plan_414 (z_aload_n hX 0 rfl rfl dX6_plan_415 (m_getA hX fl_X6_7_5 mAr_1 dX6_plan_416 (z_bipush hX (v := 12) (by decide) dX6_plan_419 (z_iload_n hX 1 rfl rfl dX6_plan_421 (z_iadd hX dX6_plan_422 ?_)))))
        refine m_iald hX (j := 0) (by decide) h dX6_plan_423 (fun x14 h => ?_)
        refine z_icmp_lt (tgt := 430) hX h dX6_plan_424 (by decide) (fun h => ?_) (fun h => ?_)
        · exact z_sub [0, 1, 2, 3, 4] rfl (m_X6_plan_430 hX hP hrec368 h)
        · refine z_iload hX 4 rfl dX6_plan_427 ?_
          obtain rfl := Option.some.inj h
          exact z_iret hX dX6_plan_429

theorem m_X6_plan_368 {X : zX} (hX : zOk X RX6 cX6_plan 9 92 2181 (Option.some Jvm.ClassFile.FieldType.int) "plan" []) {σ : zS} {o : Nat} (hP : zP σ o) {Rt : Int32 × mS} {v1 : Int32} {v2 : Int32} {v5 : Int32} {v6 : Int32} {M : mS} (h : g_X6_plan_368 v1 v2 v5 v6 M = some Rt) : zG X (zQ X (.inl (eI Rt.1)) (pM σ o Rt.2)) 9 368 [(0, zA (some o)), (1, zI v1), (2, zI v2), (5, zI v5), (6, zI v6)] [] (pM σ o M) :=
  zlp1_ok (P := fun v6 M => zG X (zQ X (.inl (eI Rt.1)) (pM σ o Rt.2)) 9 368 [(0, zA (some o)), (1, zI v1), (2, zI v2), (5, zI v5), (6, zI v6)] [] (pM σ o M)) (fun rec hr v6 M h => m_X6_plan_368_b hX hP hr h) NN v6 M h
def g_X6_plan_349 (v1 : Int32) (v2 : Int32) (v3 : Int32) (v5 : Int32) (M : mS) : Option (Int32 × mS) :=
  if v5 ≤ 60 then
    if ¬ v3 = 0 then
      g_X6_plan_368 v1 v2 v5 0 M
    else
      some (v5, M)
  else
    some (((-1) : Int32), M)

set_option maxHeartbeats 4000000 in
theorem m_X6_plan_349 {X : zX} (hX : zOk X RX6 cX6_plan 9 92 2181 (Option.some Jvm.ClassFile.FieldType.int) "plan" []) {σ : zS} {o : Nat} (hP : zP σ o) {Rt : Int32 × mS} {v1 : Int32} {v2 : Int32} {v3 : Int32} {v5 : Int32} {M : mS} (h : g_X6_plan_349 v1 v2 v3 v5 M = some Rt) : zG X (zQ X (.inl (eI Rt.1)) (pM σ o Rt.2)) 9 349 [(0, zA (some o)), (1, zI v1), (2, zI v2), (3, zI v3), (5, zI v5)] [] (pM σ o M) := by
  unfold g_X6_plan_349 at h
  refine z_iload hX 4 rfl dX6_plan_349 (z_bipush hX (v := 60) (by decide) dX6_plan_351 ?_)
  refine z_icmp_le (tgt := 358) hX h dX6_plan_353 (by decide) (fun h => ?_) (fun h => ?_)
  · refine z_iload_n hX 3 rfl rfl dX6_plan_358 ?_
    refine z_if_ne (tgt := 365) hX h dX6_plan_359 (by decide) (fun h => ?_) (fun h => ?_)
    · refine z_iconst hX (v := 0) (by decide) dX6_plan_365 (z_istore (L' := [(0, zA (some o)), (1, zI v1), (2, zI v2), (3, zI v3), (5, zI v5), (6, zI 0)]) hX rfl (by decide) dX6_plan_366 ?_)
      exact z_sub [0, 1, 2, 4, 5] rfl (m_X6_plan_368 hX hP  h)
    · refine z_iload hX 4 rfl dX6_plan_362 ?_
      obtain rfl := Option.some.inj h
      exact z_iret hX dX6_plan_364
  · refine z_iconst hX (v := (-1)) (by decide) dX6_plan_356 ?_
    obtain rfl := Option.some.inj h
    exact z_iret hX dX6_plan_357

def g_X6_plan_334 (rec175 : Int32 → mS → Option (Int32 × mS)) (rec236 : Int32 → mS → Option (Int32 × mS)) (rec254 : Int32 → mS → Option (Int32 × mS)) (v1 : Int32) (v2 : Int32) (v3 : Int32) (v4 : Int32) (v5 : Int32) (v6 : Int32) (v7 : Int32) (M : mS) : Option (Int32 × mS) :=
  zl (v7 + 1) fun x29 =>
  rec254 x29 M

set_option maxHeartbeats 4000000 in
theorem m_X6_plan_334 {X : zX} (hX : zOk X RX6 cX6_plan 9 92 2181 (Option.some Jvm.ClassFile.FieldType.int) "plan" []) {σ : zS} {o : Nat} (hP : zP σ o) {Rt : Int32 × mS} {rec175 : Int32 → mS → Option (Int32 × mS)} {rec236 : Int32 → mS → Option (Int32 × mS)} {rec254 : Int32 → mS → Option (Int32 × mS)} {v1 : Int32} {v2 : Int32} {v3 : Int32} {v4 : Int32} {v5 : Int32} {v6 : Int32} {v7 : Int32} (hrec175 : ∀ (v5 : Int32) (M : mS), rec175 v5 M = some Rt → zG X (zQ X (.inl (eI Rt.1)) (pM σ o Rt.2)) 9 175 [(0, zA (some o)), (1, zI v1), (2, zI v2), (3, zI v3), (4, zI v4), (5, zI v5)] [] (pM σ o M)) (hrec236 : ∀ (v6 : Int32) (M : mS), rec236 v6 M = some Rt → zG X (zQ X (.inl (eI Rt.1)) (pM σ o Rt.2)) 9 236 [(0, zA (some o)), (1, zI v1), (2, zI v2), (3, zI v3), (4, zI v4), (5, zI v5), (6, zI v6)] [] (pM σ o M)) (hrec254 : ∀ (v7 : Int32) (M : mS), rec254 v7 M = some Rt → zG X (zQ X (.inl (eI Rt.1)) (pM σ o Rt.2)) 9 254 [(0, zA (some o)), (1, zI v1), (2, zI v2), (3, zI v3), (4, zI v4), (5, zI v5), (6, zI v6), (7, zI v7)] [] (pM σ o M)) {M : mS} (h : g_X6_plan_334 rec175 rec236 rec254 v1 v2 v3 v4 v5 v6 v7 M = some Rt) : zG X (zQ X (.inl (eI Rt.1)) (pM σ o Rt.2)) 9 334 [(0, zA (some o)), (1, zI v1), (2, zI v2), (3, zI v3), (4, zI v4), (5, zI v5), (6, zI v6), (7, zI v7)] [] (pM σ o M) := by
  unfold g_X6_plan_334 at h
  refine z_iinc hX (j := 7) h rfl (by decide) (by decide) dX6_plan_334 (fun x29 h => z_L (L' := [(0, zA (some o)), (1, zI v1), (2, zI v2), (3, zI v3), (4, zI v4), (5, zI v5), (6, zI v6), (7, zI x29)]) rfl ?_)
  refine z_goto (tgt := 254) hX dX6_plan_337 (by decide) ?_
  exact z_sub [0, 1, 2, 3, 4, 5, 6, 7] rfl (hrec254 _ _ h)

def g_X6_plan_333 (rec175 : Int32 → mS → Option (Int32 × mS)) (rec236 : Int32 → mS → Option (Int32 × mS)) (rec254 : Int32 → mS → Option (Int32 × mS)) (v1 : Int32) (v2 : Int32) (v3 : Int32) (v4 : Int32) (v5 : Int32) (v6 : Int32) (v7 : Int32) (t1 : Int32) (t2 : Int32) (M : mS) : Option (Int32 × mS) :=
  (mSt M 6 t1 t2).bind fun M28 =>
  g_X6_plan_334 rec175 rec236 rec254 v1 v2 v3 v4 v5 v6 v7 M28

set_option maxHeartbeats 4000000 in
theorem m_X6_plan_333 {X : zX} (hX : zOk X RX6 cX6_plan 9 92 2181 (Option.some Jvm.ClassFile.FieldType.int) "plan" []) {σ : zS} {o : Nat} (hP : zP σ o) {Rt : Int32 × mS} {rec175 : Int32 → mS → Option (Int32 × mS)} {rec236 : Int32 → mS → Option (Int32 × mS)} {rec254 : Int32 → mS → Option (Int32 × mS)} {v1 : Int32} {v2 : Int32} {v3 : Int32} {v4 : Int32} {v5 : Int32} {v6 : Int32} {v7 : Int32} (hrec175 : ∀ (v5 : Int32) (M : mS), rec175 v5 M = some Rt → zG X (zQ X (.inl (eI Rt.1)) (pM σ o Rt.2)) 9 175 [(0, zA (some o)), (1, zI v1), (2, zI v2), (3, zI v3), (4, zI v4), (5, zI v5)] [] (pM σ o M)) (hrec236 : ∀ (v6 : Int32) (M : mS), rec236 v6 M = some Rt → zG X (zQ X (.inl (eI Rt.1)) (pM σ o Rt.2)) 9 236 [(0, zA (some o)), (1, zI v1), (2, zI v2), (3, zI v3), (4, zI v4), (5, zI v5), (6, zI v6)] [] (pM σ o M)) (hrec254 : ∀ (v7 : Int32) (M : mS), rec254 v7 M = some Rt → zG X (zQ X (.inl (eI Rt.1)) (pM σ o Rt.2)) 9 254 [(0, zA (some o)), (1, zI v1), (2, zI v2), (3, zI v3), (4, zI v4), (5, zI v5), (6, zI v6), (7, zI v7)] [] (pM σ o M)) {t1 : Int32} {t2 : Int32} {M : mS} (h : g_X6_plan_333 rec175 rec236 rec254 v1 v2 v3 v4 v5 v6 v7 t1 t2 M = some Rt) : zG X (zQ X (.inl (eI Rt.1)) (pM σ o Rt.2)) 9 333 [(0, zA (some o)), (1, zI v1), (2, zI v2), (3, zI v3), (4, zI v4), (5, zI v5), (6, zI v6), (7, zI v7)] [zI t2, zI t1, zA (some (o + 7))] (pM σ o M) := by
  unfold g_X6_plan_333 at h
  refine m_iast hX hP (j := 6) (by decide) h dX6_plan_333 (fun M28 h => ?_)
  exact z_sub [0, 1, 2, 3, 4, 5, 6, 7] rfl (m_X6_plan_334 hX hP hrec175 hrec236 hrec254 h)

def g_X6_plan_254_b (rec175 : Int32 → mS → Option (Int32 × mS)) (rec236 : Int32 → mS → Option (Int32 × mS)) (v1 : Int32) (v2 : Int32) (v3 : Int32) (v4 : Int32) (v5 : Int32) (v6 : Int32) (rec254 : Int32 → mS → Option (Int32 × mS)) (v7 : Int32) (M : mS) : Option (Int32 × mS) :=
  if (1 <<< ((M.1 18) &&& 31)) ≤ v7 then
    zl (v6 + 1) fun x19 =>
    rec236 x19 M
  else
    zb2 (g_X6_countedBy v6 v7 v2 M) fun x20 M21 =>
    if ¬ x20 = (-1) then
      zb2 (g_X6_dayOn v6 v7 M21) fun x22 M23 =>
      (mL M23 7 x22).bind fun x24 =>
      zl (x20 + x24) fun x25 =>
      (mL M23 6 v6).bind fun x26 =>
      if x25 ≤ x26 then
        (mL M23 6 v6).bind fun x27 =>
        g_X6_plan_333 rec175 rec236 rec254 v1 v2 v3 v4 v5 v6 v7 v6 x27 M23
      else
        g_X6_plan_333 rec175 rec236 rec254 v1 v2 v3 v4 v5 v6 v7 v6 x25 M23
    else
      g_X6_plan_334 rec175 rec236 rec254 v1 v2 v3 v4 v5 v6 v7 M21

def g_X6_plan_254 (rec175 : Int32 → mS → Option (Int32 × mS)) (rec236 : Int32 → mS → Option (Int32 × mS)) (v1 : Int32) (v2 : Int32) (v3 : Int32) (v4 : Int32) (v5 : Int32) (v6 : Int32) : Int32 → mS → Option (Int32 × mS) := zlp1 (g_X6_plan_254_b rec175 rec236 v1 v2 v3 v4 v5 v6) NN
set_option maxHeartbeats 4000000 in
theorem m_X6_plan_254_b {X : zX} (hX : zOk X RX6 cX6_plan 9 92 2181 (Option.some Jvm.ClassFile.FieldType.int) "plan" []) {σ : zS} {o : Nat} (hP : zP σ o) {Rt : Int32 × mS} {rec175 : Int32 → mS → Option (Int32 × mS)} {rec236 : Int32 → mS → Option (Int32 × mS)} {v1 : Int32} {v2 : Int32} {v3 : Int32} {v4 : Int32} {v5 : Int32} {v6 : Int32} (hrec175 : ∀ (v5 : Int32) (M : mS), rec175 v5 M = some Rt → zG X (zQ X (.inl (eI Rt.1)) (pM σ o Rt.2)) 9 175 [(0, zA (some o)), (1, zI v1), (2, zI v2), (3, zI v3), (4, zI v4), (5, zI v5)] [] (pM σ o M)) (hrec236 : ∀ (v6 : Int32) (M : mS), rec236 v6 M = some Rt → zG X (zQ X (.inl (eI Rt.1)) (pM σ o Rt.2)) 9 236 [(0, zA (some o)), (1, zI v1), (2, zI v2), (3, zI v3), (4, zI v4), (5, zI v5), (6, zI v6)] [] (pM σ o M)) {rec254 : Int32 → mS → Option (Int32 × mS)} (hrec254 : ∀ (v7 : Int32) (M : mS), rec254 v7 M = some Rt → zG X (zQ X (.inl (eI Rt.1)) (pM σ o Rt.2)) 9 254 [(0, zA (some o)), (1, zI v1), (2, zI v2), (3, zI v3), (4, zI v4), (5, zI v5), (6, zI v6), (7, zI v7)] [] (pM σ o M)) {v7 : Int32} {M : mS} (h : g_X6_plan_254_b rec175 rec236 v1 v2 v3 v4 v5 v6 rec254 v7 M = some Rt) : zG X (zQ X (.inl (eI Rt.1)) (pM σ o Rt.2)) 9 254 [(0, zA (some o)), (1, zI v1), (2, zI v2), (3, zI v3), (4, zI v4), (5, zI v5), (6, zI v6), (7, zI v7)] [] (pM σ o M) := by
  unfold g_X6_plan_254_b at h
  refine z_iload hX 7 rfl dX6_plan_254 (z_iconst hX (v := 1) (by decide) dX6_plan_256 (z_aload_n hX 0 rfl rfl dX6_plan_257 (m_getI hX fl_X6_244_5 mSc_18 dX6_plan_258 (z_ishl hX dX6_plan_261 ?_))))
  refine z_icmp_ge (tgt := 340) hX h dX6_plan_262 (by decide) (fun h => ?_) (fun h => ?_)
  · refine z_iinc hX (j := 6) h rfl (by decide) (by decide) dX6_plan_340 (fun x19 h => z_L (L' := [(0, zA (some o)), (1, zI v1), (2, zI v2), (3, zI v3), (4, zI v4), (5, zI v5), (6, zI x19), (7, zI v7)]) rfl ?_)
    refine z_goto (tgt := 236) hX dX6_plan_343 (by decide) ?_
    exact z_sub [0, 1, 2, 3, 4, 5, 6] rfl (hrec236 _ _ h)
  · refine z_aload_n hX 0 rfl rfl dX6_plan_265 (z_iload hX 6 rfl dX6_plan_266 (z_iload hX 7 rfl dX6_plan_268 (z_iload_n hX 2 rfl rfl dX6_plan_270 ?_)))
    refine m_cNI hX (rest := []) h (fun r9 M9 e9 => z_runV hX lk_X6_247 (c_X6_countedBy hX.tr hP e9) (ci := 5) zc9_5 pM_cl ⟨Nat.le_of_ble_eq_true rfl, Nat.le_of_ble_eq_true rfl⟩ rfl (Nat.le_of_ble_eq_true rfl) dX6_plan_271 rfl) (fun x20 M21 h => ?_)
    refine z_istore (L' := [(0, zA (some o)), (1, zI v1), (2, zI v2), (3, zI v3), (4, zI v4), (5, zI v5), (6, zI v6), (7, zI v7), (8, zI x20)]) hX rfl (by decide) dX6_plan_274 (z_iload hX 8 rfl dX6_plan_276 (z_iconst hX (v := (-1)) (by decide) dX6_plan_278 ?_))
    refine z_icmp_ne (tgt := 285) hX h dX6_plan_279 (by decide) (fun h => ?_) (fun h => ?_)
    · refine z_iload hX 8 rfl dX6_plan_285 (z_aload_n hX 0 rfl rfl dX6_plan_287 (m_getA hX fl_X6_35_5 mAr_20 dX6_plan_288 (z_aload_n hX 0 rfl rfl dX6_plan_291 (z_iload hX 6 rfl dX6_plan_292 (z_iload hX 7 rfl dX6_plan_294 ?_)))))
      refine m_cNI hX (rest := [zA (some (o + 8)), zI x20]) h (fun r9 M9 e9 => z_runV hX lk_X6_250 (c_X6_dayOn hX.tr hP e9) (ci := 5) zc9_5 pM_cl ⟨Nat.le_of_ble_eq_true rfl, Nat.le_of_ble_eq_true rfl⟩ rfl (Nat.le_of_ble_eq_true rfl) dX6_plan_296 rfl) (fun x22 M23 h => ?_)
      refine m_iald hX (j := 7) (by decide) h dX6_plan_299 (fun x24 h => ?_)
      refine z_iadd hX dX6_plan_300 ?_
      refine z_nmI h (fun x25 h => ?_)
      refine z_istore (L' := [(0, zA (some o)), (1, zI v1), (2, zI v2), (3, zI v3), (4, zI v4), (5, zI v5), (6, zI v6), (7, zI v7), (8, zI x25)]) hX rfl (by decide) dX6_plan_301 (z_aload_n hX 0 rfl rfl dX6_plan_303 (m_getA hX fl_X6_32_5 mAr_19 dX6_plan_304 (z_iload hX 6 rfl dX6_plan_307 (z_iload hX 8 rfl dX6_plan_309 (z_aload_n hX 0 rfl rfl dX6_plan_311 (m_getA hX fl_X6_32_5 mAr_19 dX6_plan_312 (z_iload hX 6 rfl dX6_plan_315 ?_)))))))
      refine m_iald hX (j := 6) (by decide) h dX6_plan_317 (fun x26 h => ?_)
      refine z_icmp_le (tgt := 326) hX h dX6_plan_318 (by decide) (fun h => ?_) (fun h => ?_)
      · refine z_aload_n hX 0 rfl rfl dX6_plan_326 (m_getA hX fl_X6_32_5 mAr_19 dX6_plan_327 (z_iload hX 6 rfl dX6_plan_330 ?_))
        refine m_iald hX (j := 6) (by decide) h dX6_plan_332 (fun x27 h => ?_)
        exact z_sub [0, 1, 2, 3, 4, 5, 6, 7] rfl (m_X6_plan_333 hX hP hrec175 hrec236 hrec254 h)
      · refine z_iload hX 8 rfl dX6_plan_321 (z_goto (tgt := 333) hX dX6_plan_323 (by decide) ?_)
        exact z_sub [0, 1, 2, 3, 4, 5, 6, 7] rfl (m_X6_plan_333 hX hP hrec175 hrec236 hrec254 h)
    · refine z_goto (tgt := 334) hX dX6_plan_282 (by decide) ?_
      exact z_sub [0, 1, 2, 3, 4, 5, 6, 7] rfl (m_X6_plan_334 hX hP hrec175 hrec236 hrec254 h)

theorem m_X6_plan_254 {X : zX} (hX : zOk X RX6 cX6_plan 9 92 2181 (Option.some Jvm.ClassFile.FieldType.int) "plan" []) {σ : zS} {o : Nat} (hP : zP σ o) {Rt : Int32 × mS} {rec175 : Int32 → mS → Option (Int32 × mS)} {rec236 : Int32 → mS → Option (Int32 × mS)} {v1 : Int32} {v2 : Int32} {v3 : Int32} {v4 : Int32} {v5 : Int32} {v6 : Int32} (hrec175 : ∀ (v5 : Int32) (M : mS), rec175 v5 M = some Rt → zG X (zQ X (.inl (eI Rt.1)) (pM σ o Rt.2)) 9 175 [(0, zA (some o)), (1, zI v1), (2, zI v2), (3, zI v3), (4, zI v4), (5, zI v5)] [] (pM σ o M)) (hrec236 : ∀ (v6 : Int32) (M : mS), rec236 v6 M = some Rt → zG X (zQ X (.inl (eI Rt.1)) (pM σ o Rt.2)) 9 236 [(0, zA (some o)), (1, zI v1), (2, zI v2), (3, zI v3), (4, zI v4), (5, zI v5), (6, zI v6)] [] (pM σ o M)) {v7 : Int32} {M : mS} (h : g_X6_plan_254 rec175 rec236 v1 v2 v3 v4 v5 v6 v7 M = some Rt) : zG X (zQ X (.inl (eI Rt.1)) (pM σ o Rt.2)) 9 254 [(0, zA (some o)), (1, zI v1), (2, zI v2), (3, zI v3), (4, zI v4), (5, zI v5), (6, zI v6), (7, zI v7)] [] (pM σ o M) :=
  zlp1_ok (P := fun v7 M => zG X (zQ X (.inl (eI Rt.1)) (pM σ o Rt.2)) 9 254 [(0, zA (some o)), (1, zI v1), (2, zI v2), (3, zI v3), (4, zI v4), (5, zI v5), (6, zI v6), (7, zI v7)] [] (pM σ o M)) (fun rec hr v7 M h => m_X6_plan_254_b hX hP hrec175 hrec236 hr h) NN v7 M h
def g_X6_plan_236_b (rec175 : Int32 → mS → Option (Int32 × mS)) (v1 : Int32) (v2 : Int32) (v3 : Int32) (v4 : Int32) (v5 : Int32) (rec236 : Int32 → mS → Option (Int32 × mS)) (v6 : Int32) (M : mS) : Option (Int32 × mS) :=
  if v4 ≤ v6 then
    rec175 v5 M
  else
    (mSt M 6 v6 0).bind fun M18 =>
    g_X6_plan_254 rec175 rec236 v1 v2 v3 v4 v5 v6 0 M18

def g_X6_plan_236 (rec175 : Int32 → mS → Option (Int32 × mS)) (v1 : Int32) (v2 : Int32) (v3 : Int32) (v4 : Int32) (v5 : Int32) : Int32 → mS → Option (Int32 × mS) := zlp1 (g_X6_plan_236_b rec175 v1 v2 v3 v4 v5) NN
set_option maxHeartbeats 4000000 in
theorem m_X6_plan_236_b {X : zX} (hX : zOk X RX6 cX6_plan 9 92 2181 (Option.some Jvm.ClassFile.FieldType.int) "plan" []) {σ : zS} {o : Nat} (hP : zP σ o) {Rt : Int32 × mS} {rec175 : Int32 → mS → Option (Int32 × mS)} {v1 : Int32} {v2 : Int32} {v3 : Int32} {v4 : Int32} {v5 : Int32} (hrec175 : ∀ (v5 : Int32) (M : mS), rec175 v5 M = some Rt → zG X (zQ X (.inl (eI Rt.1)) (pM σ o Rt.2)) 9 175 [(0, zA (some o)), (1, zI v1), (2, zI v2), (3, zI v3), (4, zI v4), (5, zI v5)] [] (pM σ o M)) {rec236 : Int32 → mS → Option (Int32 × mS)} (hrec236 : ∀ (v6 : Int32) (M : mS), rec236 v6 M = some Rt → zG X (zQ X (.inl (eI Rt.1)) (pM σ o Rt.2)) 9 236 [(0, zA (some o)), (1, zI v1), (2, zI v2), (3, zI v3), (4, zI v4), (5, zI v5), (6, zI v6)] [] (pM σ o M)) {v6 : Int32} {M : mS} (h : g_X6_plan_236_b rec175 v1 v2 v3 v4 v5 rec236 v6 M = some Rt) : zG X (zQ X (.inl (eI Rt.1)) (pM σ o Rt.2)) 9 236 [(0, zA (some o)), (1, zI v1), (2, zI v2), (3, zI v3), (4, zI v4), (5, zI v5), (6, zI v6)] [] (pM σ o M) := by
  unfold g_X6_plan_236_b at h
  refine z_iload hX 6 rfl dX6_plan_236 (z_iload hX 4 rfl dX6_plan_238 ?_)
  refine z_icmp_ge (tgt := 346) hX h dX6_plan_240 (by decide) (fun h => ?_) (fun h => ?_)
  · refine z_goto (tgt := 175) hX dX6_plan_346 (by decide) ?_
    exact z_sub [0, 1, 2, 3, 4, 5] rfl (hrec175 _ _ h)
  · refine z_aload_n hX 0 rfl rfl dX6_plan_243 (m_getA hX fl_X6_32_5 mAr_19 dX6_plan_244 (z_iload hX 6 rfl dX6_plan_247 (z_iconst hX (v := 0) (by decide) dX6_plan_249 ?_)))
    refine m_iast hX hP (j := 6) (by decide) h dX6_plan_250 (fun M18 h => ?_)
    refine z_iconst hX (v := 0) (by decide) dX6_plan_251 (z_istore (L' := [(0, zA (some o)), (1, zI v1), (2, zI v2), (3, zI v3), (4, zI v4), (5, zI v5), (6, zI v6), (7, zI 0)]) hX rfl (by decide) dX6_plan_252 ?_)
    exact z_sub [0, 1, 2, 3, 4, 5, 6, 7] rfl (m_X6_plan_254 hX hP hrec175 hrec236 h)

theorem m_X6_plan_236 {X : zX} (hX : zOk X RX6 cX6_plan 9 92 2181 (Option.some Jvm.ClassFile.FieldType.int) "plan" []) {σ : zS} {o : Nat} (hP : zP σ o) {Rt : Int32 × mS} {rec175 : Int32 → mS → Option (Int32 × mS)} {v1 : Int32} {v2 : Int32} {v3 : Int32} {v4 : Int32} {v5 : Int32} (hrec175 : ∀ (v5 : Int32) (M : mS), rec175 v5 M = some Rt → zG X (zQ X (.inl (eI Rt.1)) (pM σ o Rt.2)) 9 175 [(0, zA (some o)), (1, zI v1), (2, zI v2), (3, zI v3), (4, zI v4), (5, zI v5)] [] (pM σ o M)) {v6 : Int32} {M : mS} (h : g_X6_plan_236 rec175 v1 v2 v3 v4 v5 v6 M = some Rt) : zG X (zQ X (.inl (eI Rt.1)) (pM σ o Rt.2)) 9 236 [(0, zA (some o)), (1, zI v1), (2, zI v2), (3, zI v3), (4, zI v4), (5, zI v5), (6, zI v6)] [] (pM σ o M) :=
  zlp1_ok (P := fun v6 M => zG X (zQ X (.inl (eI Rt.1)) (pM σ o Rt.2)) 9 236 [(0, zA (some o)), (1, zI v1), (2, zI v2), (3, zI v3), (4, zI v4), (5, zI v5), (6, zI v6)] [] (pM σ o M)) (fun rec hr v6 M h => m_X6_plan_236_b hX hP hrec175 hr h) NN v6 M h
def g_X6_plan_206_b (rec175 : Int32 → mS → Option (Int32 × mS)) (v1 : Int32) (v2 : Int32) (v3 : Int32) (v4 : Int32) (v5 : Int32) (rec206 : Int32 → mS → Option (Int32 × mS)) (v6 : Int32) (M : mS) : Option (Int32 × mS) :=
  if v4 ≤ v6 then
    g_X6_plan_236 rec175 v1 v2 v3 v4 v5 0 M
  else
    (mL M 6 v6).bind fun x30 =>
    (mSt M 7 v6 x30).bind fun M31 =>
    zl (v6 + 1) fun x32 =>
    rec206 x32 M31

def g_X6_plan_206 (rec175 : Int32 → mS → Option (Int32 × mS)) (v1 : Int32) (v2 : Int32) (v3 : Int32) (v4 : Int32) (v5 : Int32) : Int32 → mS → Option (Int32 × mS) := zlp1 (g_X6_plan_206_b rec175 v1 v2 v3 v4 v5) NN
set_option maxHeartbeats 4000000 in
theorem m_X6_plan_206_b {X : zX} (hX : zOk X RX6 cX6_plan 9 92 2181 (Option.some Jvm.ClassFile.FieldType.int) "plan" []) {σ : zS} {o : Nat} (hP : zP σ o) {Rt : Int32 × mS} {rec175 : Int32 → mS → Option (Int32 × mS)} {v1 : Int32} {v2 : Int32} {v3 : Int32} {v4 : Int32} {v5 : Int32} (hrec175 : ∀ (v5 : Int32) (M : mS), rec175 v5 M = some Rt → zG X (zQ X (.inl (eI Rt.1)) (pM σ o Rt.2)) 9 175 [(0, zA (some o)), (1, zI v1), (2, zI v2), (3, zI v3), (4, zI v4), (5, zI v5)] [] (pM σ o M)) {rec206 : Int32 → mS → Option (Int32 × mS)} (hrec206 : ∀ (v6 : Int32) (M : mS), rec206 v6 M = some Rt → zG X (zQ X (.inl (eI Rt.1)) (pM σ o Rt.2)) 9 206 [(0, zA (some o)), (1, zI v1), (2, zI v2), (3, zI v3), (4, zI v4), (5, zI v5), (6, zI v6)] [] (pM σ o M)) {v6 : Int32} {M : mS} (h : g_X6_plan_206_b rec175 v1 v2 v3 v4 v5 rec206 v6 M = some Rt) : zG X (zQ X (.inl (eI Rt.1)) (pM σ o Rt.2)) 9 206 [(0, zA (some o)), (1, zI v1), (2, zI v2), (3, zI v3), (4, zI v4), (5, zI v5), (6, zI v6)] [] (pM σ o M) := by
  unfold g_X6_plan_206_b at h
  refine z_iload hX 6 rfl dX6_plan_206 (z_iload hX 4 rfl dX6_plan_208 ?_)
  refine z_icmp_ge (tgt := 233) hX h dX6_plan_210 (by decide) (fun h => ?_) (fun h => ?_)
  · refine z_iconst hX (v := 0) (by decide) dX6_plan_233 (z_istore (L' := [(0, zA (some o)), (1, zI v1), (2, zI v2), (3, zI v3), (4, zI v4), (5, zI v5), (6, zI 0)]) hX rfl (by decide) dX6_plan_234 ?_)
    exact z_sub [0, 1, 2, 3, 4, 5, 6] rfl (m_X6_plan_236 hX hP hrec175 h)
  · refine z_aload_n hX 0 rfl rfl dX6_plan_213 (m_getA hX fl_X6_35_5 mAr_20 dX6_plan_214 (z_iload hX 6 rfl dX6_plan_217 (z_aload_n hX 0 rfl rfl dX6_plan_219 (m_getA hX fl_X6_32_5 mAr_19 dX6_plan_220 (z_iload hX 6 rfl dX6_plan_223 ?_)))))
    refine m_iald hX (j := 6) (by decide) h dX6_plan_225 (fun x30 h => ?_)
    refine m_iast hX hP (j := 7) (by decide) h dX6_plan_226 (fun M31 h => ?_)
    refine z_iinc hX (j := 6) h rfl (by decide) (by decide) dX6_plan_227 (fun x32 h => z_L (L' := [(0, zA (some o)), (1, zI v1), (2, zI v2), (3, zI v3), (4, zI v4), (5, zI v5), (6, zI x32)]) rfl ?_)
    refine z_goto (tgt := 206) hX dX6_plan_230 (by decide) ?_
    exact z_sub [0, 1, 2, 3, 4, 5, 6] rfl (hrec206 _ _ h)

theorem m_X6_plan_206 {X : zX} (hX : zOk X RX6 cX6_plan 9 92 2181 (Option.some Jvm.ClassFile.FieldType.int) "plan" []) {σ : zS} {o : Nat} (hP : zP σ o) {Rt : Int32 × mS} {rec175 : Int32 → mS → Option (Int32 × mS)} {v1 : Int32} {v2 : Int32} {v3 : Int32} {v4 : Int32} {v5 : Int32} (hrec175 : ∀ (v5 : Int32) (M : mS), rec175 v5 M = some Rt → zG X (zQ X (.inl (eI Rt.1)) (pM σ o Rt.2)) 9 175 [(0, zA (some o)), (1, zI v1), (2, zI v2), (3, zI v3), (4, zI v4), (5, zI v5)] [] (pM σ o M)) {v6 : Int32} {M : mS} (h : g_X6_plan_206 rec175 v1 v2 v3 v4 v5 v6 M = some Rt) : zG X (zQ X (.inl (eI Rt.1)) (pM σ o Rt.2)) 9 206 [(0, zA (some o)), (1, zI v1), (2, zI v2), (3, zI v3), (4, zI v4), (5, zI v5), (6, zI v6)] [] (pM σ o M) :=
  zlp1_ok (P := fun v6 M => zG X (zQ X (.inl (eI Rt.1)) (pM σ o Rt.2)) 9 206 [(0, zA (some o)), (1, zI v1), (2, zI v2), (3, zI v3), (4, zI v4), (5, zI v5), (6, zI v6)] [] (pM σ o M)) (fun rec hr v6 M h => m_X6_plan_206_b hX hP hrec175 hr h) NN v6 M h
def g_X6_plan_175_b (v1 : Int32) (v2 : Int32) (v3 : Int32) (v4 : Int32) (rec175 : Int32 → mS → Option (Int32 × mS)) (v5 : Int32) (M : mS) : Option (Int32 × mS) :=
  if 60 < v5 then
    g_X6_plan_349 v1 v2 v3 v5 M
  else
    (mL M 6 0).bind fun x15 =>
    (mL M 0 (12 + v1)).bind fun x16 =>
    if x16 ≤ x15 then
      g_X6_plan_349 v1 v2 v3 v5 M
    else
      zl (v5 + 1) fun x17 =>
      g_X6_plan_206 rec175 v1 v2 v3 v4 x17 0 M

def g_X6_plan_175 (v1 : Int32) (v2 : Int32) (v3 : Int32) (v4 : Int32) : Int32 → mS → Option (Int32 × mS) := zlp1 (g_X6_plan_175_b v1 v2 v3 v4) NN
set_option maxHeartbeats 4000000 in
theorem m_X6_plan_175_b {X : zX} (hX : zOk X RX6 cX6_plan 9 92 2181 (Option.some Jvm.ClassFile.FieldType.int) "plan" []) {σ : zS} {o : Nat} (hP : zP σ o) {Rt : Int32 × mS} {v1 : Int32} {v2 : Int32} {v3 : Int32} {v4 : Int32} {rec175 : Int32 → mS → Option (Int32 × mS)} (hrec175 : ∀ (v5 : Int32) (M : mS), rec175 v5 M = some Rt → zG X (zQ X (.inl (eI Rt.1)) (pM σ o Rt.2)) 9 175 [(0, zA (some o)), (1, zI v1), (2, zI v2), (3, zI v3), (4, zI v4), (5, zI v5)] [] (pM σ o M)) {v5 : Int32} {M : mS} (h : g_X6_plan_175_b v1 v2 v3 v4 rec175 v5 M = some Rt) : zG X (zQ X (.inl (eI Rt.1)) (pM σ o Rt.2)) 9 175 [(0, zA (some o)), (1, zI v1), (2, zI v2), (3, zI v3), (4, zI v4), (5, zI v5)] [] (pM σ o M) := by
  unfold g_X6_plan_175_b at h
  refine z_iload hX 5 rfl dX6_plan_175 (z_bipush hX (v := 60) (by decide) dX6_plan_177 ?_)
  refine z_icmp_gt (tgt := 349) hX h dX6_plan_179 (by decide) (fun h => ?_) (fun h => ?_)
  · exact z_sub [0, 1, 2, 3, 5] rfl (m_X6_plan_349 hX hP  h)
  · refine z_aload_n hX 0 rfl rfl dX6_plan_182 (m_getA hX fl_X6_32_5 mAr_19 dX6_plan_183 (z_iconst hX (v := 0) (by decide) dX6_plan_186 ?_))
    refine m_iald hX (j := 6) (by decide) h dX6_plan_187 (fun x15 h => ?_)
    refine z_aload_n hX 0 rfl rfl dX6_plan_188 (m_getA hX fl_X6_7_5 mAr_1 dX6_plan_189 (z_bipush hX (v := 12) (by decide) dX6_plan_192 (z_iload_n hX 1 rfl rfl dX6_plan_194 (z_iadd hX dX6_plan_195 ?_))))
    refine m_iald hX (j := 0) (by decide) h dX6_plan_196 (fun x16 h => ?_)
    refine z_icmp_ge (tgt := 349) hX h dX6_plan_197 (by decide) (fun h => ?_) (fun h => ?_)
    · exact z_sub [0, 1, 2, 3, 5] rfl (m_X6_plan_349 hX hP  h)
    · refine z_iinc hX (j := 5) h rfl (by decide) (by decide) dX6_plan_200 (fun x17 h => z_L (L' := [(0, zA (some o)), (1, zI v1), (2, zI v2), (3, zI v3), (4, zI v4), (5, zI x17)]) rfl ?_)
      refine z_iconst hX (v := 0) (by decide) dX6_plan_203 (z_istore (L' := [(0, zA (some o)), (1, zI v1), (2, zI v2), (3, zI v3), (4, zI v4), (5, zI x17), (6, zI 0)]) hX rfl (by decide) dX6_plan_204 ?_)
      exact z_sub [0, 1, 2, 3, 4, 5, 6] rfl (m_X6_plan_206 hX hP hrec175 h)

theorem m_X6_plan_175 {X : zX} (hX : zOk X RX6 cX6_plan 9 92 2181 (Option.some Jvm.ClassFile.FieldType.int) "plan" []) {σ : zS} {o : Nat} (hP : zP σ o) {Rt : Int32 × mS} {v1 : Int32} {v2 : Int32} {v3 : Int32} {v4 : Int32} {v5 : Int32} {M : mS} (h : g_X6_plan_175 v1 v2 v3 v4 v5 M = some Rt) : zG X (zQ X (.inl (eI Rt.1)) (pM σ o Rt.2)) 9 175 [(0, zA (some o)), (1, zI v1), (2, zI v2), (3, zI v3), (4, zI v4), (5, zI v5)] [] (pM σ o M) :=
  zlp1_ok (P := fun v5 M => zG X (zQ X (.inl (eI Rt.1)) (pM σ o Rt.2)) 9 175 [(0, zA (some o)), (1, zI v1), (2, zI v2), (3, zI v3), (4, zI v4), (5, zI v5)] [] (pM σ o M)) (fun rec hr v5 M h => m_X6_plan_175_b hX hP hr h) NN v5 M h
def g_X6_plan_151_b (v1 : Int32) (v2 : Int32) (v3 : Int32) (v4 : Int32) (rec151 : Int32 → mS → Option (Int32 × mS)) (v5 : Int32) (M : mS) : Option (Int32 × mS) :=
  if v4 ≤ v5 then
    g_X6_plan_175 v1 v2 v3 v4 0 M
  else
    (mSt M 6 v5 0).bind fun M33 =>
    zl (v5 + 1) fun x34 =>
    rec151 x34 M33

def g_X6_plan_151 (v1 : Int32) (v2 : Int32) (v3 : Int32) (v4 : Int32) : Int32 → mS → Option (Int32 × mS) := zlp1 (g_X6_plan_151_b v1 v2 v3 v4) NN
set_option maxHeartbeats 4000000 in
theorem m_X6_plan_151_b {X : zX} (hX : zOk X RX6 cX6_plan 9 92 2181 (Option.some Jvm.ClassFile.FieldType.int) "plan" []) {σ : zS} {o : Nat} (hP : zP σ o) {Rt : Int32 × mS} {v1 : Int32} {v2 : Int32} {v3 : Int32} {v4 : Int32} {rec151 : Int32 → mS → Option (Int32 × mS)} (hrec151 : ∀ (v5 : Int32) (M : mS), rec151 v5 M = some Rt → zG X (zQ X (.inl (eI Rt.1)) (pM σ o Rt.2)) 9 151 [(0, zA (some o)), (1, zI v1), (2, zI v2), (3, zI v3), (4, zI v4), (5, zI v5)] [] (pM σ o M)) {v5 : Int32} {M : mS} (h : g_X6_plan_151_b v1 v2 v3 v4 rec151 v5 M = some Rt) : zG X (zQ X (.inl (eI Rt.1)) (pM σ o Rt.2)) 9 151 [(0, zA (some o)), (1, zI v1), (2, zI v2), (3, zI v3), (4, zI v4), (5, zI v5)] [] (pM σ o M) := by
  unfold g_X6_plan_151_b at h
  refine z_iload hX 5 rfl dX6_plan_151 (z_iload hX 4 rfl dX6_plan_153 ?_)
  refine z_icmp_ge (tgt := 172) hX h dX6_plan_155 (by decide) (fun h => ?_) (fun h => ?_)
  · refine z_iconst hX (v := 0) (by decide) dX6_plan_172 (z_istore (L' := [(0, zA (some o)), (1, zI v1), (2, zI v2), (3, zI v3), (4, zI v4), (5, zI 0)]) hX rfl (by decide) dX6_plan_173 ?_)
    exact z_sub [0, 1, 2, 3, 4, 5] rfl (m_X6_plan_175 hX hP  h)
  · refine z_aload_n hX 0 rfl rfl dX6_plan_158 (m_getA hX fl_X6_32_5 mAr_19 dX6_plan_159 (z_iload hX 5 rfl dX6_plan_162 (z_iconst hX (v := 0) (by decide) dX6_plan_164 ?_)))
    refine m_iast hX hP (j := 6) (by decide) h dX6_plan_165 (fun M33 h => ?_)
    refine z_iinc hX (j := 5) h rfl (by decide) (by decide) dX6_plan_166 (fun x34 h => z_L (L' := [(0, zA (some o)), (1, zI v1), (2, zI v2), (3, zI v3), (4, zI v4), (5, zI x34)]) rfl ?_)
    refine z_goto (tgt := 151) hX dX6_plan_169 (by decide) ?_
    exact z_sub [0, 1, 2, 3, 4, 5] rfl (hrec151 _ _ h)

theorem m_X6_plan_151 {X : zX} (hX : zOk X RX6 cX6_plan 9 92 2181 (Option.some Jvm.ClassFile.FieldType.int) "plan" []) {σ : zS} {o : Nat} (hP : zP σ o) {Rt : Int32 × mS} {v1 : Int32} {v2 : Int32} {v3 : Int32} {v4 : Int32} {v5 : Int32} {M : mS} (h : g_X6_plan_151 v1 v2 v3 v4 v5 M = some Rt) : zG X (zQ X (.inl (eI Rt.1)) (pM σ o Rt.2)) 9 151 [(0, zA (some o)), (1, zI v1), (2, zI v2), (3, zI v3), (4, zI v4), (5, zI v5)] [] (pM σ o M) :=
  zlp1_ok (P := fun v5 M => zG X (zQ X (.inl (eI Rt.1)) (pM σ o Rt.2)) 9 151 [(0, zA (some o)), (1, zI v1), (2, zI v2), (3, zI v3), (4, zI v4), (5, zI v5)] [] (pM σ o M)) (fun rec hr v5 M h => m_X6_plan_151_b hX hP hr h) NN v5 M h
def g_X6_plan_127_b (v1 : Int32) (v2 : Int32) (v3 : Int32) (rec127 : Int32 → Int32 → mS → Option (Int32 × mS)) (v4 : Int32) (v5 : Int32) (M : mS) : Option (Int32 × mS) :=
  if (M.1 18) ≤ v5 then
    g_X6_plan_151 v1 v2 v3 v4 0 M
  else
    zl (v4 * 4) fun x35 =>
    zl (v5 + 1) fun x36 =>
    rec127 x35 x36 M

def g_X6_plan_127 (v1 : Int32) (v2 : Int32) (v3 : Int32) : Int32 → Int32 → mS → Option (Int32 × mS) := zlp2 (g_X6_plan_127_b v1 v2 v3) NN
set_option maxHeartbeats 4000000 in
theorem m_X6_plan_127_b {X : zX} (hX : zOk X RX6 cX6_plan 9 92 2181 (Option.some Jvm.ClassFile.FieldType.int) "plan" []) {σ : zS} {o : Nat} (hP : zP σ o) {Rt : Int32 × mS} {v1 : Int32} {v2 : Int32} {v3 : Int32} {rec127 : Int32 → Int32 → mS → Option (Int32 × mS)} (hrec127 : ∀ (v4 : Int32) (v5 : Int32) (M : mS), rec127 v4 v5 M = some Rt → zG X (zQ X (.inl (eI Rt.1)) (pM σ o Rt.2)) 9 127 [(0, zA (some o)), (1, zI v1), (2, zI v2), (3, zI v3), (4, zI v4), (5, zI v5)] [] (pM σ o M)) {v4 : Int32} {v5 : Int32} {M : mS} (h : g_X6_plan_127_b v1 v2 v3 rec127 v4 v5 M = some Rt) : zG X (zQ X (.inl (eI Rt.1)) (pM σ o Rt.2)) 9 127 [(0, zA (some o)), (1, zI v1), (2, zI v2), (3, zI v3), (4, zI v4), (5, zI v5)] [] (pM σ o M) := by
  unfold g_X6_plan_127_b at h
  refine z_iload hX 5 rfl dX6_plan_127 (z_aload_n hX 0 rfl rfl dX6_plan_129 (m_getI hX fl_X6_244_5 mSc_18 dX6_plan_130 ?_))
  refine z_icmp_ge (tgt := 148) hX h dX6_plan_133 (by decide) (fun h => ?_) (fun h => ?_)
  · refine z_iconst hX (v := 0) (by decide) dX6_plan_148 (z_istore (L' := [(0, zA (some o)), (1, zI v1), (2, zI v2), (3, zI v3), (4, zI v4), (5, zI 0)]) hX rfl (by decide) dX6_plan_149 ?_)
    exact z_sub [0, 1, 2, 3, 4, 5] rfl (m_X6_plan_151 hX hP  h)
  · refine z_iload hX 4 rfl dX6_plan_136 (z_iconst hX (v := 4) (by decide) dX6_plan_138 (z_imul hX dX6_plan_139 ?_))
    refine z_nmI h (fun x35 h => ?_)
    refine z_istore (L' := [(0, zA (some o)), (1, zI v1), (2, zI v2), (3, zI v3), (4, zI x35), (5, zI v5)]) hX rfl (by decide) dX6_plan_140 ?_
    refine z_iinc hX (j := 5) h rfl (by decide) (by decide) dX6_plan_142 (fun x36 h => z_L (L' := [(0, zA (some o)), (1, zI v1), (2, zI v2), (3, zI v3), (4, zI x35), (5, zI x36)]) rfl ?_)
    refine z_goto (tgt := 127) hX dX6_plan_145 (by decide) ?_
    exact z_sub [0, 1, 2, 3, 4, 5] rfl (hrec127 _ _ _ h)

theorem m_X6_plan_127 {X : zX} (hX : zOk X RX6 cX6_plan 9 92 2181 (Option.some Jvm.ClassFile.FieldType.int) "plan" []) {σ : zS} {o : Nat} (hP : zP σ o) {Rt : Int32 × mS} {v1 : Int32} {v2 : Int32} {v3 : Int32} {v4 : Int32} {v5 : Int32} {M : mS} (h : g_X6_plan_127 v1 v2 v3 v4 v5 M = some Rt) : zG X (zQ X (.inl (eI Rt.1)) (pM σ o Rt.2)) 9 127 [(0, zA (some o)), (1, zI v1), (2, zI v2), (3, zI v3), (4, zI v4), (5, zI v5)] [] (pM σ o M) :=
  zlp2_ok (P := fun v4 v5 M => zG X (zQ X (.inl (eI Rt.1)) (pM σ o Rt.2)) 9 127 [(0, zA (some o)), (1, zI v1), (2, zI v2), (3, zI v3), (4, zI v4), (5, zI v5)] [] (pM σ o M)) (fun rec hr v4 v5 M h => m_X6_plan_127_b hX hP hr h) NN v4 v5 M h
def g_X6_plan_121 (v1 : Int32) (v2 : Int32) (v3 : Int32) (M : mS) : Option (Int32 × mS) :=
  g_X6_plan_127 v1 v2 v3 1 0 M

set_option maxHeartbeats 4000000 in
theorem m_X6_plan_121 {X : zX} (hX : zOk X RX6 cX6_plan 9 92 2181 (Option.some Jvm.ClassFile.FieldType.int) "plan" []) {σ : zS} {o : Nat} (hP : zP σ o) {Rt : Int32 × mS} {v1 : Int32} {v2 : Int32} {v3 : Int32} {M : mS} (h : g_X6_plan_121 v1 v2 v3 M = some Rt) : zG X (zQ X (.inl (eI Rt.1)) (pM σ o Rt.2)) 9 121 [(0, zA (some o)), (1, zI v1), (2, zI v2), (3, zI v3)] [] (pM σ o M) := by
  unfold g_X6_plan_121 at h
  refine z_iconst hX (v := 1) (by decide) dX6_plan_121 (z_istore (L' := [(0, zA (some o)), (1, zI v1), (2, zI v2), (3, zI v3), (4, zI 1)]) hX rfl (by decide) dX6_plan_122 (z_iconst hX (v := 0) (by decide) dX6_plan_124 (z_istore (L' := [(0, zA (some o)), (1, zI v1), (2, zI v2), (3, zI v3), (4, zI 1), (5, zI 0)]) hX rfl (by decide) dX6_plan_125 ?_)))
  exact z_sub [0, 1, 2, 3, 4, 5] rfl (m_X6_plan_127 hX hP  h)

def g_X6_plan_115 (rec48 : Int32 → mS → Option (Int32 × mS)) (v1 : Int32) (v2 : Int32) (v3 : Int32) (v4 : Int32) (M : mS) : Option (Int32 × mS) :=
  zl (v4 + 1) fun x44 =>
  rec48 x44 M

set_option maxHeartbeats 4000000 in
theorem m_X6_plan_115 {X : zX} (hX : zOk X RX6 cX6_plan 9 92 2181 (Option.some Jvm.ClassFile.FieldType.int) "plan" []) {σ : zS} {o : Nat} (hP : zP σ o) {Rt : Int32 × mS} {rec48 : Int32 → mS → Option (Int32 × mS)} {v1 : Int32} {v2 : Int32} {v3 : Int32} {v4 : Int32} (hrec48 : ∀ (v4 : Int32) (M : mS), rec48 v4 M = some Rt → zG X (zQ X (.inl (eI Rt.1)) (pM σ o Rt.2)) 9 48 [(0, zA (some o)), (1, zI v1), (2, zI v2), (3, zI v3), (4, zI v4)] [] (pM σ o M)) {M : mS} (h : g_X6_plan_115 rec48 v1 v2 v3 v4 M = some Rt) : zG X (zQ X (.inl (eI Rt.1)) (pM σ o Rt.2)) 9 115 [(0, zA (some o)), (1, zI v1), (2, zI v2), (3, zI v3), (4, zI v4)] [] (pM σ o M) := by
  unfold g_X6_plan_115 at h
  refine z_iinc hX (j := 4) h rfl (by decide) (by decide) dX6_plan_115 (fun x44 h => z_L (L' := [(0, zA (some o)), (1, zI v1), (2, zI v2), (3, zI v3), (4, zI x44)]) rfl ?_)
  refine z_goto (tgt := 48) hX dX6_plan_118 (by decide) ?_
  exact z_sub [0, 1, 2, 3, 4] rfl (hrec48 _ _ h)

def g_X6_plan_48_b (v1 : Int32) (v2 : Int32) (v3 : Int32) (rec48 : Int32 → mS → Option (Int32 × mS)) (v4 : Int32) (M : mS) : Option (Int32 × mS) :=
  (mL M 0 2).bind fun x7 =>
  if x7 ≤ v4 then
    g_X6_plan_121 v1 v2 v3 M
  else
    if 6 ≤ (M.1 18) then
      g_X6_plan_121 v1 v2 v3 M
    else
      zb2 (g_X6_ofWalker v4 2 M) fun x37 M38 =>
      if x37 = v1 then
        (mL M38 0 3).bind fun x39 =>
        zb2 (g_X6_countsOf v4 v1 x39 0 M38) fun x40 M41 =>
        (mSt M41 5 (M38.1 18) x40).bind fun M42 =>
        zl (mset M42 18 ((M42.1 18) + 1)) fun M43 =>
        g_X6_plan_115 rec48 v1 v2 v3 v4 M43
      else
        g_X6_plan_115 rec48 v1 v2 v3 v4 M38

def g_X6_plan_48 (v1 : Int32) (v2 : Int32) (v3 : Int32) : Int32 → mS → Option (Int32 × mS) := zlp1 (g_X6_plan_48_b v1 v2 v3) NN
set_option maxHeartbeats 4000000 in
theorem m_X6_plan_48_b {X : zX} (hX : zOk X RX6 cX6_plan 9 92 2181 (Option.some Jvm.ClassFile.FieldType.int) "plan" []) {σ : zS} {o : Nat} (hP : zP σ o) {Rt : Int32 × mS} {v1 : Int32} {v2 : Int32} {v3 : Int32} {rec48 : Int32 → mS → Option (Int32 × mS)} (hrec48 : ∀ (v4 : Int32) (M : mS), rec48 v4 M = some Rt → zG X (zQ X (.inl (eI Rt.1)) (pM σ o Rt.2)) 9 48 [(0, zA (some o)), (1, zI v1), (2, zI v2), (3, zI v3), (4, zI v4)] [] (pM σ o M)) {v4 : Int32} {M : mS} (h : g_X6_plan_48_b v1 v2 v3 rec48 v4 M = some Rt) : zG X (zQ X (.inl (eI Rt.1)) (pM σ o Rt.2)) 9 48 [(0, zA (some o)), (1, zI v1), (2, zI v2), (3, zI v3), (4, zI v4)] [] (pM σ o M) := by
  unfold g_X6_plan_48_b at h
  refine z_iload hX 4 rfl dX6_plan_48 (z_aload_n hX 0 rfl rfl dX6_plan_50 (m_getA hX fl_X6_7_5 mAr_1 dX6_plan_51 (z_iconst hX (v := 2) (by decide) dX6_plan_54 ?_)))
  refine m_iald hX (j := 0) (by decide) h dX6_plan_55 (fun x7 h => ?_)
  refine z_icmp_ge (tgt := 121) hX h dX6_plan_56 (by decide) (fun h => ?_) (fun h => ?_)
  · exact z_sub [0, 1, 2, 3] rfl (m_X6_plan_121 hX hP  h)
  · refine z_aload_n hX 0 rfl rfl dX6_plan_59 (m_getI hX fl_X6_244_5 mSc_18 dX6_plan_60 (z_bipush hX (v := 6) (by decide) dX6_plan_63 ?_))
    refine z_icmp_ge (tgt := 121) hX h dX6_plan_65 (by decide) (fun h => ?_) (fun h => ?_)
    · exact z_sub [0, 1, 2, 3] rfl (m_X6_plan_121 hX hP  h)
    · refine z_aload_n hX 0 rfl rfl dX6_plan_68 (z_iload hX 4 rfl dX6_plan_69 (z_iconst hX (v := 2) (by decide) dX6_plan_71 ?_))
      refine m_cNI hX (rest := []) h (fun r9 M9 e9 => z_runV hX lk_X6_203 (c_X6_ofWalker hX.tr hP e9) (ci := 5) zc9_5 pM_cl ⟨Nat.le_of_ble_eq_true rfl, Nat.le_of_ble_eq_true rfl⟩ rfl (Nat.le_of_ble_eq_true rfl) dX6_plan_72 rfl) (fun x37 M38 h => ?_)
      refine z_iload_n hX 1 rfl rfl dX6_plan_75 ?_
      refine z_icmp_eq (tgt := 82) hX h dX6_plan_76 (by decide) (fun h => ?_) (fun h => ?_)
      · refine z_aload_n hX 0 rfl rfl dX6_plan_82 (m_getA hX fl_X6_29_5 mAr_17 dX6_plan_83 (z_aload_n hX 0 rfl rfl dX6_plan_86 (m_getI hX fl_X6_244_5 mSc_18 dX6_plan_87 (z_aload_n hX 0 rfl rfl dX6_plan_90 (z_iload hX 4 rfl dX6_plan_91 (z_iload_n hX 1 rfl rfl dX6_plan_93 (z_aload_n hX 0 rfl rfl dX6_plan_94 (m_getA hX fl_X6_7_5 mAr_1 dX6_plan_95 (z_iconst hX (v := 3) (by decide) dX6_plan_98 ?_)))))))))
        refine m_iald hX (j := 0) (by decide) h dX6_plan_99 (fun x39 h => ?_)
        refine z_iconst hX (v := 0) (by decide) dX6_plan_100 ?_
        refine m_cNI hX (rest := [zI (M38.1 18), zA (some (o + 6))]) h (fun r9 M9 e9 => z_runV hX lk_X6_230 (c_X6_countsOf hX.tr hP e9) (ci := 5) zc9_5 pM_cl ⟨Nat.le_of_ble_eq_true rfl, Nat.le_of_ble_eq_true rfl⟩ rfl (Nat.le_of_ble_eq_true rfl) dX6_plan_101 rfl) (fun x40 M41 h => ?_)
        refine m_iast hX hP (j := 5) (by decide) h dX6_plan_104 (fun M42 h => ?_)
        refine z_aload_n hX 0 rfl rfl dX6_plan_105 (z_dup hX rfl dX6_plan_106 (m_getI hX fl_X6_244_5 mSc_18 dX6_plan_107 (z_iconst hX (v := 1) (by decide) dX6_plan_110 (z_iadd hX dX6_plan_111 ?_))))
        refine m_putI hX hP fp_X6_244_5 mSc_18 h dX6_plan_112 (fun M43 h => ?_)
        exact z_sub [0, 1, 2, 3, 4] rfl (m_X6_plan_115 hX hP hrec48 h)
      · refine z_goto (tgt := 115) hX dX6_plan_79 (by decide) ?_
        exact z_sub [0, 1, 2, 3, 4] rfl (m_X6_plan_115 hX hP hrec48 h)

theorem m_X6_plan_48 {X : zX} (hX : zOk X RX6 cX6_plan 9 92 2181 (Option.some Jvm.ClassFile.FieldType.int) "plan" []) {σ : zS} {o : Nat} (hP : zP σ o) {Rt : Int32 × mS} {v1 : Int32} {v2 : Int32} {v3 : Int32} {v4 : Int32} {M : mS} (h : g_X6_plan_48 v1 v2 v3 v4 M = some Rt) : zG X (zQ X (.inl (eI Rt.1)) (pM σ o Rt.2)) 9 48 [(0, zA (some o)), (1, zI v1), (2, zI v2), (3, zI v3), (4, zI v4)] [] (pM σ o M) :=
  zlp1_ok (P := fun v4 M => zG X (zQ X (.inl (eI Rt.1)) (pM σ o Rt.2)) 9 48 [(0, zA (some o)), (1, zI v1), (2, zI v2), (3, zI v3), (4, zI v4)] [] (pM σ o M)) (fun rec hr v4 M h => m_X6_plan_48_b hX hP hr h) NN v4 M h
def g_X6_plan_28 (v1 : Int32) (v2 : Int32) (v3 : Int32) (t1 : Int32) (M : mS) : Option (Int32 × mS) :=
  zl (mset M 0 t1) fun M5 =>
  if (M5.1 0) ≤ 0 then
    zl (mset M5 18 0) fun M6 =>
    g_X6_plan_48 v1 v2 v3 0 M6
  else
    some ((0 : Int32), M5)

set_option maxHeartbeats 4000000 in
theorem m_X6_plan_28 {X : zX} (hX : zOk X RX6 cX6_plan 9 92 2181 (Option.some Jvm.ClassFile.FieldType.int) "plan" []) {σ : zS} {o : Nat} (hP : zP σ o) {Rt : Int32 × mS} {v1 : Int32} {v2 : Int32} {v3 : Int32} {t1 : Int32} {M : mS} (h : g_X6_plan_28 v1 v2 v3 t1 M = some Rt) : zG X (zQ X (.inl (eI Rt.1)) (pM σ o Rt.2)) 9 28 [(0, zA (some o)), (1, zI v1), (2, zI v2), (3, zI v3)] [zI t1, zA (some o)] (pM σ o M) := by
  unfold g_X6_plan_28 at h
  refine m_putI hX hP fp_X6_41_5 mSc_0 h dX6_plan_28 (fun M5 h => ?_)
  refine z_aload_n hX 0 rfl rfl dX6_plan_31 (m_getI hX fl_X6_41_5 mSc_0 dX6_plan_32 ?_)
  refine z_if_le (tgt := 40) hX h dX6_plan_35 (by decide) (fun h => ?_) (fun h => ?_)
  · refine z_aload_n hX 0 rfl rfl dX6_plan_40 (z_iconst hX (v := 0) (by decide) dX6_plan_41 ?_)
    refine m_putI hX hP fp_X6_244_5 mSc_18 h dX6_plan_42 (fun M6 h => ?_)
    refine z_iconst hX (v := 0) (by decide) dX6_plan_45 (z_istore (L' := [(0, zA (some o)), (1, zI v1), (2, zI v2), (3, zI v3), (4, zI 0)]) hX rfl (by decide) dX6_plan_46 ?_)
    exact z_sub [0, 1, 2, 3, 4] rfl (m_X6_plan_48 hX hP  h)
  · refine z_iconst hX (v := 0) (by decide) dX6_plan_38 ?_
    obtain rfl := Option.some.inj h
    exact z_iret hX dX6_plan_39

def g_X6_plan (p1 : Int32) (p2 : Int32) (p3 : Int32) (M : mS) : Option (Int32 × mS) :=
  zb2 (g_X6_isHouse p1 M) fun x1 M2 =>
  if ¬ x1 = 0 then
    zb2 (g_X6_isIn p2 1 6 M2) fun x3 M4 =>
    if ¬ x3 = 0 then
      g_X6_plan_28 p1 p2 p3 0 M4
    else
      g_X6_plan_28 p1 p2 p3 2 M4
  else
    g_X6_plan_28 p1 p2 p3 1 M2

set_option maxHeartbeats 4000000 in
theorem m_X6_plan {X : zX} (hX : zOk X RX6 cX6_plan 9 92 2181 (Option.some Jvm.ClassFile.FieldType.int) "plan" []) {σ : zS} {o : Nat} (hP : zP σ o) {p1 : Int32} {p2 : Int32} {p3 : Int32} {M : mS} {Rt : Int32 × mS} (h : g_X6_plan p1 p2 p3 M = some Rt) : zG X (zQ X (.inl (eI Rt.1)) (pM σ o Rt.2)) 9 0 [(0, zA (some o)), (1, zI p1), (2, zI p2), (3, zI p3)] [] (pM σ o M) := by
  unfold g_X6_plan at h
  refine z_aload_n hX 0 rfl rfl dX6_plan_0 (z_aload_n hX 0 rfl rfl dX6_plan_1 (z_iload_n hX 1 rfl rfl dX6_plan_2 ?_))
  refine m_cNI hX (rest := [zA (some o)]) h (fun r9 M9 e9 => z_runV hX lk_X6_200 (c_X6_isHouse hX.tr hP e9) (ci := 5) zc9_5 pM_cl ⟨Nat.le_of_ble_eq_true rfl, Nat.le_of_ble_eq_true rfl⟩ rfl (Nat.le_of_ble_eq_true rfl) dX6_plan_3 rfl) (fun x1 M2 h => ?_)
  refine z_if_ne (tgt := 13) hX h dX6_plan_6 (by decide) (fun h => ?_) (fun h => ?_)
  · refine z_iload_n hX 2 rfl rfl dX6_plan_13 (z_iconst hX (v := 1) (by decide) dX6_plan_14 (z_bipush hX (v := 6) (by decide) dX6_plan_15 ?_))
    refine m_cNI hX (rest := [zA (some o)]) h (fun r9 M9 e9 => z_runS hX lk_X6_44 (c_X6_isIn hX.tr hP e9) ⟨Nat.le_of_ble_eq_true rfl, Nat.le_of_ble_eq_true rfl⟩ rfl (Nat.le_of_ble_eq_true rfl) dX6_plan_17 rfl) (fun x3 M4 h => ?_)
    refine z_if_ne (tgt := 27) hX h dX6_plan_20 (by decide) (fun h => ?_) (fun h => ?_)
    · refine z_iconst hX (v := 0) (by decide) dX6_plan_27 ?_
      exact z_sub [0, 1, 2, 3] rfl (m_X6_plan_28 hX hP  h)
    · refine z_iconst hX (v := 2) (by decide) dX6_plan_23 (z_goto (tgt := 28) hX dX6_plan_24 (by decide) ?_)
      exact z_sub [0, 1, 2, 3] rfl (m_X6_plan_28 hX hP  h)
  · refine z_iconst hX (v := 1) (by decide) dX6_plan_9 (z_goto (tgt := 28) hX dX6_plan_10 (by decide) ?_)
    exact z_sub [0, 1, 2, 3] rfl (m_X6_plan_28 hX hP  h)

theorem c_X6_plan {l : Launch} {D : va_G} {tys : zTy} (hl : l.stackTraces = false) {σ : zS} {o : Nat} (hP : zP σ o) {p1 : Int32} {p2 : Int32} {p3 : Int32} {M : mS} {Rt : Int32 × mS} (h : g_X6_plan p1 p2 p3 M = some Rt) : zM l D tys yX6_plan (ws_ yX6_plan cX6_plan 9 (Option.some Jvm.ClassFile.FieldType.int)) 92 2181 [zA (some o), zI p1, zI p2, zI p3] (pM σ o M) (.inl (eI Rt.1)) (pM σ o Rt.2) :=
  zM_in hl rfl (Nat.le_of_ble_eq_true rfl) (fun p e R s m args below meth c hX => z_L rfl (m_X6_plan hX hP h))
def g_X6_burntNow_4_b (rec4 : Int32 → Int32 → mS → Option (Int32 × mS)) (v1 : Int32) (v2 : Int32) (M : mS) : Option (Int32 × mS) :=
  (mL M 0 4).bind fun x1 =>
  if x1 ≤ v2 then
    some (v1, M)
  else
    zb2 (g_X6_ofEntry v2 6 M) fun x2 M3 =>
    zl (v1 + x2) fun x4 =>
    zl (v2 + 1) fun x5 =>
    rec4 x4 x5 M3

def g_X6_burntNow_4 : Int32 → Int32 → mS → Option (Int32 × mS) := zlp2 (g_X6_burntNow_4_b) NN
set_option maxHeartbeats 4000000 in
theorem m_X6_burntNow_4_b {X : zX} (hX : zOk X RX6 cX6_burntNow 3 2 62 (Option.some Jvm.ClassFile.FieldType.int) "burntNow" []) {σ : zS} {o : Nat} (hP : zP σ o) {Rt : Int32 × mS} {rec4 : Int32 → Int32 → mS → Option (Int32 × mS)} (hrec4 : ∀ (v1 : Int32) (v2 : Int32) (M : mS), rec4 v1 v2 M = some Rt → zG X (zQ X (.inl (eI Rt.1)) (pM σ o Rt.2)) 3 4 [(0, zA (some o)), (1, zI v1), (2, zI v2)] [] (pM σ o M)) {v1 : Int32} {v2 : Int32} {M : mS} (h : g_X6_burntNow_4_b rec4 v1 v2 M = some Rt) : zG X (zQ X (.inl (eI Rt.1)) (pM σ o Rt.2)) 3 4 [(0, zA (some o)), (1, zI v1), (2, zI v2)] [] (pM σ o M) := by
  unfold g_X6_burntNow_4_b at h
  refine z_iload_n hX 2 rfl rfl dX6_burntNow_4 (z_aload_n hX 0 rfl rfl dX6_burntNow_5 (m_getA hX fl_X6_7_5 mAr_1 dX6_burntNow_6 (z_iconst hX (v := 4) (by decide) dX6_burntNow_9 ?_)))
  refine m_iald hX (j := 0) (by decide) h dX6_burntNow_10 (fun x1 h => ?_)
  refine z_icmp_ge (tgt := 30) hX h dX6_burntNow_11 (by decide) (fun h => ?_) (fun h => ?_)
  · refine z_iload_n hX 1 rfl rfl dX6_burntNow_30 ?_
    obtain rfl := Option.some.inj h
    exact z_iret hX dX6_burntNow_31
  · refine z_iload_n hX 1 rfl rfl dX6_burntNow_14 (z_aload_n hX 0 rfl rfl dX6_burntNow_15 (z_iload_n hX 2 rfl rfl dX6_burntNow_16 (z_bipush hX (v := 6) (by decide) dX6_burntNow_17 ?_)))
    refine m_cNI hX (rest := [zI v1]) h (fun r9 M9 e9 => z_runV hX lk_X6_196 (c_X6_ofEntry hX.tr hP e9) (ci := 5) zc9_5 pM_cl ⟨Nat.le_of_ble_eq_true rfl, Nat.le_of_ble_eq_true rfl⟩ rfl (Nat.le_of_ble_eq_true rfl) dX6_burntNow_19 rfl) (fun x2 M3 h => ?_)
    refine z_iadd hX dX6_burntNow_22 ?_
    refine z_nmI h (fun x4 h => ?_)
    refine z_istore_n (L' := [(0, zA (some o)), (1, zI x4), (2, zI v2)]) hX rfl rfl (by decide) dX6_burntNow_23 ?_
    refine z_iinc hX (j := 2) h rfl (by decide) (by decide) dX6_burntNow_24 (fun x5 h => z_L (L' := [(0, zA (some o)), (1, zI x4), (2, zI x5)]) rfl ?_)
    refine z_goto (tgt := 4) hX dX6_burntNow_27 (by decide) ?_
    exact z_sub [0, 1, 2] rfl (hrec4 _ _ _ h)

theorem m_X6_burntNow_4 {X : zX} (hX : zOk X RX6 cX6_burntNow 3 2 62 (Option.some Jvm.ClassFile.FieldType.int) "burntNow" []) {σ : zS} {o : Nat} (hP : zP σ o) {Rt : Int32 × mS} {v1 : Int32} {v2 : Int32} {M : mS} (h : g_X6_burntNow_4 v1 v2 M = some Rt) : zG X (zQ X (.inl (eI Rt.1)) (pM σ o Rt.2)) 3 4 [(0, zA (some o)), (1, zI v1), (2, zI v2)] [] (pM σ o M) :=
  zlp2_ok (P := fun v1 v2 M => zG X (zQ X (.inl (eI Rt.1)) (pM σ o Rt.2)) 3 4 [(0, zA (some o)), (1, zI v1), (2, zI v2)] [] (pM σ o M)) (fun rec hr v1 v2 M h => m_X6_burntNow_4_b hX hP hr h) NN v1 v2 M h
def g_X6_burntNow (M : mS) : Option (Int32 × mS) :=
  g_X6_burntNow_4 0 0 M

set_option maxHeartbeats 4000000 in
theorem m_X6_burntNow {X : zX} (hX : zOk X RX6 cX6_burntNow 3 2 62 (Option.some Jvm.ClassFile.FieldType.int) "burntNow" []) {σ : zS} {o : Nat} (hP : zP σ o) {M : mS} {Rt : Int32 × mS} (h : g_X6_burntNow M = some Rt) : zG X (zQ X (.inl (eI Rt.1)) (pM σ o Rt.2)) 3 0 [(0, zA (some o))] [] (pM σ o M) := by
  unfold g_X6_burntNow at h
  refine z_iconst hX (v := 0) (by decide) dX6_burntNow_0 (z_istore_n (L' := [(0, zA (some o)), (1, zI 0)]) hX rfl rfl (by decide) dX6_burntNow_1 (z_iconst hX (v := 0) (by decide) dX6_burntNow_2 (z_istore_n (L' := [(0, zA (some o)), (1, zI 0), (2, zI 0)]) hX rfl rfl (by decide) dX6_burntNow_3 ?_)))
  exact z_sub [0, 1, 2] rfl (m_X6_burntNow_4 hX hP  h)

theorem c_X6_burntNow {l : Launch} {D : va_G} {tys : zTy} (hl : l.stackTraces = false) {σ : zS} {o : Nat} (hP : zP σ o) {M : mS} {Rt : Int32 × mS} (h : g_X6_burntNow M = some Rt) : zM l D tys yX6_burntNow (ws_ yX6_burntNow cX6_burntNow 3 (Option.some Jvm.ClassFile.FieldType.int)) 2 62 [zA (some o)] (pM σ o M) (.inl (eI Rt.1)) (pM σ o Rt.2) :=
  zM_in hl rfl (Nat.le_of_ble_eq_true rfl) (fun p e R s m args below meth c hX => z_L rfl (m_X6_burntNow hX hP h))
def g_X6_burn_103_b (v2 : Int32) (v3 : Int32) (rec103 : Int32 → mS → Option (Int32 × mS)) (v4 : Int32) (M : mS) : Option (Int32 × mS) :=
  if v2 < v4 then
    some (v3, M)
  else
    (mSt M 0 ((122 + (7 * v4)) + 6) 1).bind fun M7 =>
    zl (v4 + 1) fun x8 =>
    rec103 x8 M7

def g_X6_burn_103 (v2 : Int32) (v3 : Int32) : Int32 → mS → Option (Int32 × mS) := zlp1 (g_X6_burn_103_b v2 v3) NN
set_option maxHeartbeats 4000000 in
theorem m_X6_burn_103_b {X : zX} (hX : zOk X RX6 cX6_burn 5 3 84 (Option.some Jvm.ClassFile.FieldType.int) "burn" []) {σ : zS} {o : Nat} (hP : zP σ o) {Rt : Int32 × mS} {v2 : Int32} {v3 : Int32} {rec103 : Int32 → mS → Option (Int32 × mS)} (hrec103 : ∀ (v4 : Int32) (M : mS), rec103 v4 M = some Rt → zG X (zQ X (.inl (eI Rt.1)) (pM σ o Rt.2)) 5 103 [(0, zA (some o)), (2, zI v2), (3, zI v3), (4, zI v4)] [] (pM σ o M)) {v4 : Int32} {M : mS} (h : g_X6_burn_103_b v2 v3 rec103 v4 M = some Rt) : zG X (zQ X (.inl (eI Rt.1)) (pM σ o Rt.2)) 5 103 [(0, zA (some o)), (2, zI v2), (3, zI v3), (4, zI v4)] [] (pM σ o M) := by
  unfold g_X6_burn_103_b at h
  refine z_iload hX 3 rfl dX6_burn_103 (z_iload_n hX 1 rfl rfl dX6_burn_105 ?_)
  refine z_icmp_gt (tgt := 132) hX h dX6_burn_106 (by decide) (fun h => ?_) (fun h => ?_)
  · refine z_iload_n hX 2 rfl rfl dX6_burn_132 ?_
    obtain rfl := Option.some.inj h
    exact z_iret hX dX6_burn_133
  · refine z_aload_n hX 0 rfl rfl dX6_burn_109 (m_getA hX fl_X6_7_5 mAr_1 dX6_burn_110 (z_bipush hX (v := 122) (by decide) dX6_burn_113 (z_bipush hX (v := 7) (by decide) dX6_burn_115 (z_iload hX 3 rfl dX6_burn_117 (z_imul hX dX6_burn_119 (z_iadd hX dX6_burn_120 (z_bipush hX (v := 6) (by decide) dX6_burn_121 (z_iadd hX dX6_burn_123 (z_iconst hX (v := 1) (by decide) dX6_burn_124 ?_)))))))))
    refine m_iast hX hP (j := 0) (by decide) h dX6_burn_125 (fun M7 h => ?_)
    refine z_iinc hX (j := 3) h rfl (by decide) (by decide) dX6_burn_126 (fun x8 h => z_L (L' := [(0, zA (some o)), (2, zI v2), (3, zI v3), (4, zI x8)]) rfl ?_)
    refine z_goto (tgt := 103) hX dX6_burn_129 (by decide) ?_
    exact z_sub [0, 1, 2, 3] rfl (hrec103 _ _ h)

theorem m_X6_burn_103 {X : zX} (hX : zOk X RX6 cX6_burn 5 3 84 (Option.some Jvm.ClassFile.FieldType.int) "burn" []) {σ : zS} {o : Nat} (hP : zP σ o) {Rt : Int32 × mS} {v2 : Int32} {v3 : Int32} {v4 : Int32} {M : mS} (h : g_X6_burn_103 v2 v3 v4 M = some Rt) : zG X (zQ X (.inl (eI Rt.1)) (pM σ o Rt.2)) 5 103 [(0, zA (some o)), (2, zI v2), (3, zI v3), (4, zI v4)] [] (pM σ o M) :=
  zlp1_ok (P := fun v4 M => zG X (zQ X (.inl (eI Rt.1)) (pM σ o Rt.2)) 5 103 [(0, zA (some o)), (2, zI v2), (3, zI v3), (4, zI v4)] [] (pM σ o M)) (fun rec hr v4 M h => m_X6_burn_103_b hX hP hr h) NN v4 M h
def g_X6_burn_88 (v1 : Int32) (v2 : Int32) (v3 : Int32) (t1 : Int32) (M : mS) : Option (Int32 × mS) :=
  zl (mset M 0 t1) fun M6 =>
  if (M6.1 0) ≤ 0 then
    g_X6_burn_103 v2 v3 v1 M6
  else
    some ((0 : Int32), M6)

set_option maxHeartbeats 4000000 in
theorem m_X6_burn_88 {X : zX} (hX : zOk X RX6 cX6_burn 5 3 84 (Option.some Jvm.ClassFile.FieldType.int) "burn" []) {σ : zS} {o : Nat} (hP : zP σ o) {Rt : Int32 × mS} {v1 : Int32} {v2 : Int32} {v3 : Int32} {t1 : Int32} {M : mS} (h : g_X6_burn_88 v1 v2 v3 t1 M = some Rt) : zG X (zQ X (.inl (eI Rt.1)) (pM σ o Rt.2)) 5 88 [(0, zA (some o)), (1, zI v1), (2, zI v2), (3, zI v3)] [zI t1, zA (some o)] (pM σ o M) := by
  unfold g_X6_burn_88 at h
  refine m_putI hX hP fp_X6_41_5 mSc_0 h dX6_burn_88 (fun M6 h => ?_)
  refine z_aload_n hX 0 rfl rfl dX6_burn_91 (m_getI hX fl_X6_41_5 mSc_0 dX6_burn_92 ?_)
  refine z_if_le (tgt := 100) hX h dX6_burn_95 (by decide) (fun h => ?_) (fun h => ?_)
  · refine z_iload_n hX 1 rfl rfl dX6_burn_100 (z_istore (L' := [(0, zA (some o)), (1, zI v1), (2, zI v2), (3, zI v3), (4, zI v1)]) hX rfl (by decide) dX6_burn_101 ?_)
    exact z_sub [0, 2, 3, 4] rfl (m_X6_burn_103 hX hP  h)
  · refine z_iconst hX (v := 0) (by decide) dX6_burn_98 ?_
    obtain rfl := Option.some.inj h
    exact z_iret hX dX6_burn_99

def g_X6_burn_51_b (v1 : Int32) (v2 : Int32) (rec51 : Int32 → Int32 → mS → Option (Int32 × mS)) (v3 : Int32) (v4 : Int32) (M : mS) : Option (Int32 × mS) :=
  if v2 < v4 then
    if v3 ≤ 16 then
      g_X6_burn_88 v1 v2 v3 0 M
    else
      g_X6_burn_88 v1 v2 v3 3 M
  else
    zb2 (g_X6_ofEntry v4 6 M) fun x9 M10 =>
    zl (v3 + (1 - x9)) fun x11 =>
    zl (v4 + 1) fun x12 =>
    rec51 x11 x12 M10

def g_X6_burn_51 (v1 : Int32) (v2 : Int32) : Int32 → Int32 → mS → Option (Int32 × mS) := zlp2 (g_X6_burn_51_b v1 v2) NN
set_option maxHeartbeats 4000000 in
theorem m_X6_burn_51_b {X : zX} (hX : zOk X RX6 cX6_burn 5 3 84 (Option.some Jvm.ClassFile.FieldType.int) "burn" []) {σ : zS} {o : Nat} (hP : zP σ o) {Rt : Int32 × mS} {v1 : Int32} {v2 : Int32} {rec51 : Int32 → Int32 → mS → Option (Int32 × mS)} (hrec51 : ∀ (v3 : Int32) (v4 : Int32) (M : mS), rec51 v3 v4 M = some Rt → zG X (zQ X (.inl (eI Rt.1)) (pM σ o Rt.2)) 5 51 [(0, zA (some o)), (1, zI v1), (2, zI v2), (3, zI v3), (4, zI v4)] [] (pM σ o M)) {v3 : Int32} {v4 : Int32} {M : mS} (h : g_X6_burn_51_b v1 v2 rec51 v3 v4 M = some Rt) : zG X (zQ X (.inl (eI Rt.1)) (pM σ o Rt.2)) 5 51 [(0, zA (some o)), (1, zI v1), (2, zI v2), (3, zI v3), (4, zI v4)] [] (pM σ o M) := by
  unfold g_X6_burn_51_b at h
  refine z_iload hX 4 rfl dX6_burn_51 (z_iload_n hX 2 rfl rfl dX6_burn_53 ?_)
  refine z_icmp_gt (tgt := 76) hX h dX6_burn_54 (by decide) (fun h => ?_) (fun h => ?_)
  · refine z_aload_n hX 0 rfl rfl dX6_burn_76 (z_iload_n hX 3 rfl rfl dX6_burn_77 (z_bipush hX (v := 16) (by decide) dX6_burn_78 ?_))
    refine z_icmp_le (tgt := 87) hX h dX6_burn_80 (by decide) (fun h => ?_) (fun h => ?_)
    · refine z_iconst hX (v := 0) (by decide) dX6_burn_87 ?_
      exact z_sub [0, 1, 2, 3] rfl (m_X6_burn_88 hX hP  h)
    · refine z_iconst hX (v := 3) (by decide) dX6_burn_83 (z_goto (tgt := 88) hX dX6_burn_84 (by decide) ?_)
      exact z_sub [0, 1, 2, 3] rfl (m_X6_burn_88 hX hP  h)
  · refine z_iload_n hX 3 rfl rfl dX6_burn_57 (z_iconst hX (v := 1) (by decide) dX6_burn_58 (z_aload_n hX 0 rfl rfl dX6_burn_59 (z_iload hX 4 rfl dX6_burn_60 (z_bipush hX (v := 6) (by decide) dX6_burn_62 ?_))))
    refine m_cNI hX (rest := [zI 1, zI v3]) h (fun r9 M9 e9 => z_runV hX lk_X6_196 (c_X6_ofEntry hX.tr hP e9) (ci := 5) zc9_5 pM_cl ⟨Nat.le_of_ble_eq_true rfl, Nat.le_of_ble_eq_true rfl⟩ rfl (Nat.le_of_ble_eq_true rfl) dX6_burn_64 rfl) (fun x9 M10 h => ?_)
    refine z_isub hX dX6_burn_67 (z_iadd hX dX6_burn_68 ?_)
    refine z_nmI h (fun x11 h => ?_)
    refine z_istore_n (L' := [(0, zA (some o)), (1, zI v1), (2, zI v2), (3, zI x11), (4, zI v4)]) hX rfl rfl (by decide) dX6_burn_69 ?_
    refine z_iinc hX (j := 4) h rfl (by decide) (by decide) dX6_burn_70 (fun x12 h => z_L (L' := [(0, zA (some o)), (1, zI v1), (2, zI v2), (3, zI x11), (4, zI x12)]) rfl ?_)
    refine z_goto (tgt := 51) hX dX6_burn_73 (by decide) ?_
    exact z_sub [0, 1, 2, 3, 4] rfl (hrec51 _ _ _ h)

theorem m_X6_burn_51 {X : zX} (hX : zOk X RX6 cX6_burn 5 3 84 (Option.some Jvm.ClassFile.FieldType.int) "burn" []) {σ : zS} {o : Nat} (hP : zP σ o) {Rt : Int32 × mS} {v1 : Int32} {v2 : Int32} {v3 : Int32} {v4 : Int32} {M : mS} (h : g_X6_burn_51 v1 v2 v3 v4 M = some Rt) : zG X (zQ X (.inl (eI Rt.1)) (pM σ o Rt.2)) 5 51 [(0, zA (some o)), (1, zI v1), (2, zI v2), (3, zI v3), (4, zI v4)] [] (pM σ o M) :=
  zlp2_ok (P := fun v3 v4 M => zG X (zQ X (.inl (eI Rt.1)) (pM σ o Rt.2)) 5 51 [(0, zA (some o)), (1, zI v1), (2, zI v2), (3, zI v3), (4, zI v4)] [] (pM σ o M)) (fun rec hr v3 v4 M h => m_X6_burn_51_b hX hP hr h) NN v3 v4 M h
def g_X6_burn_31 (v1 : Int32) (v2 : Int32) (t1 : Int32) (M : mS) : Option (Int32 × mS) :=
  zl (mset M 0 t1) fun M3 =>
  if (M3.1 0) ≤ 0 then
    zb2 (g_X6_burntNow M3) fun x4 M5 =>
    g_X6_burn_51 v1 v2 x4 v1 M5
  else
    some ((0 : Int32), M3)

set_option maxHeartbeats 4000000 in
theorem m_X6_burn_31 {X : zX} (hX : zOk X RX6 cX6_burn 5 3 84 (Option.some Jvm.ClassFile.FieldType.int) "burn" []) {σ : zS} {o : Nat} (hP : zP σ o) {Rt : Int32 × mS} {v1 : Int32} {v2 : Int32} {t1 : Int32} {M : mS} (h : g_X6_burn_31 v1 v2 t1 M = some Rt) : zG X (zQ X (.inl (eI Rt.1)) (pM σ o Rt.2)) 5 31 [(0, zA (some o)), (1, zI v1), (2, zI v2)] [zI t1, zA (some o)] (pM σ o M) := by
  unfold g_X6_burn_31 at h
  refine m_putI hX hP fp_X6_41_5 mSc_0 h dX6_burn_31 (fun M3 h => ?_)
  refine z_aload_n hX 0 rfl rfl dX6_burn_34 (m_getI hX fl_X6_41_5 mSc_0 dX6_burn_35 ?_)
  refine z_if_le (tgt := 43) hX h dX6_burn_38 (by decide) (fun h => ?_) (fun h => ?_)
  · refine z_aload_n hX 0 rfl rfl dX6_burn_43 ?_
    refine m_cNI hX (rest := []) h (fun r9 M9 e9 => z_runV hX lk_X6_253 (c_X6_burntNow hX.tr hP e9) (ci := 5) zc9_5 pM_cl ⟨Nat.le_of_ble_eq_true rfl, Nat.le_of_ble_eq_true rfl⟩ rfl (Nat.le_of_ble_eq_true rfl) dX6_burn_44 rfl) (fun x4 M5 h => ?_)
    refine z_istore_n (L' := [(0, zA (some o)), (1, zI v1), (2, zI v2), (3, zI x4)]) hX rfl rfl (by decide) dX6_burn_47 (z_iload_n hX 1 rfl rfl dX6_burn_48 (z_istore (L' := [(0, zA (some o)), (1, zI v1), (2, zI v2), (3, zI x4), (4, zI v1)]) hX rfl (by decide) dX6_burn_49 ?_))
    exact z_sub [0, 1, 2, 3, 4] rfl (m_X6_burn_51 hX hP  h)
  · refine z_iconst hX (v := 0) (by decide) dX6_burn_41 ?_
    obtain rfl := Option.some.inj h
    exact z_iret hX dX6_burn_42

def g_X6_burn_17 (v1 : Int32) (v2 : Int32) (M : mS) : Option (Int32 × mS) :=
  g_X6_burn_31 v1 v2 1 M

set_option maxHeartbeats 4000000 in
theorem m_X6_burn_17 {X : zX} (hX : zOk X RX6 cX6_burn 5 3 84 (Option.some Jvm.ClassFile.FieldType.int) "burn" []) {σ : zS} {o : Nat} (hP : zP σ o) {Rt : Int32 × mS} {v1 : Int32} {v2 : Int32} {M : mS} (h : g_X6_burn_17 v1 v2 M = some Rt) : zG X (zQ X (.inl (eI Rt.1)) (pM σ o Rt.2)) 5 17 [(0, zA (some o)), (1, zI v1), (2, zI v2)] [zA (some o)] (pM σ o M) := by
  unfold g_X6_burn_17 at h
  refine z_iconst hX (v := 1) (by decide) dX6_burn_17 (z_goto (tgt := 31) hX dX6_burn_18 (by decide) ?_)
  exact z_sub [0, 1, 2] rfl (m_X6_burn_31 hX hP  h)

def g_X6_burn (p1 : Int32) (p2 : Int32) (M : mS) : Option (Int32 × mS) :=
  zb2 (g_X6_isEntry p1 M) fun x1 M2 =>
  if x1 = 0 then
    g_X6_burn_17 p1 p2 M2
  else
    zb2 (g_X6_isEntry p2 M2) fun x13 M14 =>
    if ¬ x13 = 0 then
      if p1 ≤ p2 then
        g_X6_burn_31 p1 p2 0 M14
      else
        g_X6_burn_31 p1 p2 2 M14
    else
      g_X6_burn_17 p1 p2 M14

set_option maxHeartbeats 4000000 in
theorem m_X6_burn {X : zX} (hX : zOk X RX6 cX6_burn 5 3 84 (Option.some Jvm.ClassFile.FieldType.int) "burn" []) {σ : zS} {o : Nat} (hP : zP σ o) {p1 : Int32} {p2 : Int32} {M : mS} {Rt : Int32 × mS} (h : g_X6_burn p1 p2 M = some Rt) : zG X (zQ X (.inl (eI Rt.1)) (pM σ o Rt.2)) 5 0 [(0, zA (some o)), (1, zI p1), (2, zI p2)] [] (pM σ o M) := by
  unfold g_X6_burn at h
  refine z_aload_n hX 0 rfl rfl dX6_burn_0 (z_aload_n hX 0 rfl rfl dX6_burn_1 (z_iload_n hX 1 rfl rfl dX6_burn_2 ?_))
  refine m_cNI hX (rest := [zA (some o)]) h (fun r9 M9 e9 => z_runV hX lk_X6_221 (c_X6_isEntry hX.tr hP e9) (ci := 5) zc9_5 pM_cl ⟨Nat.le_of_ble_eq_true rfl, Nat.le_of_ble_eq_true rfl⟩ rfl (Nat.le_of_ble_eq_true rfl) dX6_burn_3 rfl) (fun x1 M2 h => ?_)
  refine z_if_eq (tgt := 17) hX h dX6_burn_6 (by decide) (fun h => ?_) (fun h => ?_)
  · exact z_sub [0, 1, 2] rfl (m_X6_burn_17 hX hP  h)
  · refine z_aload_n hX 0 rfl rfl dX6_burn_9 (z_iload_n hX 2 rfl rfl dX6_burn_10 ?_)
    refine m_cNI hX (rest := [zA (some o)]) h (fun r9 M9 e9 => z_runV hX lk_X6_221 (c_X6_isEntry hX.tr hP e9) (ci := 5) zc9_5 pM_cl ⟨Nat.le_of_ble_eq_true rfl, Nat.le_of_ble_eq_true rfl⟩ rfl (Nat.le_of_ble_eq_true rfl) dX6_burn_11 rfl) (fun x13 M14 h => ?_)
    refine z_if_ne (tgt := 21) hX h dX6_burn_14 (by decide) (fun h => ?_) (fun h => ?_)
    · refine z_iload_n hX 2 rfl rfl dX6_burn_21 (z_iload_n hX 1 rfl rfl dX6_burn_22 ?_)
      refine z_icmp_ge (tgt := 30) hX h dX6_burn_23 (by decide) (fun h => ?_) (fun h => ?_)
      · refine z_iconst hX (v := 0) (by decide) dX6_burn_30 ?_
        exact z_sub [0, 1, 2] rfl (m_X6_burn_31 hX hP  h)
      · refine z_iconst hX (v := 2) (by decide) dX6_burn_26 (z_goto (tgt := 31) hX dX6_burn_27 (by decide) ?_)
        exact z_sub [0, 1, 2] rfl (m_X6_burn_31 hX hP  h)
    · exact z_sub [0, 1, 2] rfl (m_X6_burn_17 hX hP  h)

theorem c_X6_burn {l : Launch} {D : va_G} {tys : zTy} (hl : l.stackTraces = false) {σ : zS} {o : Nat} (hP : zP σ o) {p1 : Int32} {p2 : Int32} {M : mS} {Rt : Int32 × mS} (h : g_X6_burn p1 p2 M = some Rt) : zM l D tys yX6_burn (ws_ yX6_burn cX6_burn 5 (Option.some Jvm.ClassFile.FieldType.int)) 3 84 [zA (some o), zI p1, zI p2] (pM σ o M) (.inl (eI Rt.1)) (pM σ o Rt.2) :=
  zM_in hl rfl (Nat.le_of_ble_eq_true rfl) (fun p e R s m args below meth c hX => z_L rfl (m_X6_burn hX hP h))
def g_X6_asks_128 (rec13 : Int32 → Int32 → mS → Option (Int32 × mS)) (v1 : Int32) (v2 : Int32) (v3 : Int32) (M : mS) : Option (Int32 × mS) :=
  zl (v3 + 1) fun x12 =>
  rec13 v2 x12 M

set_option maxHeartbeats 4000000 in
theorem m_X6_asks_128 {X : zX} (hX : zOk X RX6 cX6_asks 5 3 85 (Option.some Jvm.ClassFile.FieldType.int) "asks" []) {σ : zS} {o : Nat} (hP : zP σ o) {Rt : Int32 × mS} {rec13 : Int32 → Int32 → mS → Option (Int32 × mS)} {v1 : Int32} {v2 : Int32} {v3 : Int32} (hrec13 : ∀ (v2 : Int32) (v3 : Int32) (M : mS), rec13 v2 v3 M = some Rt → zG X (zQ X (.inl (eI Rt.1)) (pM σ o Rt.2)) 5 13 [(0, zA (some o)), (1, zI v1), (2, zI v2), (3, zI v3)] [] (pM σ o M)) {M : mS} (h : g_X6_asks_128 rec13 v1 v2 v3 M = some Rt) : zG X (zQ X (.inl (eI Rt.1)) (pM σ o Rt.2)) 5 128 [(0, zA (some o)), (1, zI v1), (2, zI v2), (3, zI v3)] [] (pM σ o M) := by
  unfold g_X6_asks_128 at h
  refine z_iinc hX (j := 3) h rfl (by decide) (by decide) dX6_asks_128 (fun x12 h => z_L (L' := [(0, zA (some o)), (1, zI v1), (2, zI v2), (3, zI x12)]) rfl ?_)
  refine z_goto (tgt := 13) hX dX6_asks_131 (by decide) ?_
  exact z_sub [0, 1, 2, 3] rfl (hrec13 _ _ _ h)

def g_X6_asks_105 (rec13 : Int32 → Int32 → mS → Option (Int32 × mS)) (v1 : Int32) (v2 : Int32) (v3 : Int32) (v4 : Int32) (M : mS) : Option (Int32 × mS) :=
  zb2 (g_X6_ofEntry v3 5 M) fun x8 M9 =>
  (mSt M9 8 v4 x8).bind fun M10 =>
  zl (mset M10 22 ((M10.1 22) + 1)) fun M11 =>
  g_X6_asks_128 rec13 v1 v2 v3 M11

set_option maxHeartbeats 4000000 in
theorem m_X6_asks_105 {X : zX} (hX : zOk X RX6 cX6_asks 5 3 85 (Option.some Jvm.ClassFile.FieldType.int) "asks" []) {σ : zS} {o : Nat} (hP : zP σ o) {Rt : Int32 × mS} {rec13 : Int32 → Int32 → mS → Option (Int32 × mS)} {v1 : Int32} {v2 : Int32} {v3 : Int32} {v4 : Int32} (hrec13 : ∀ (v2 : Int32) (v3 : Int32) (M : mS), rec13 v2 v3 M = some Rt → zG X (zQ X (.inl (eI Rt.1)) (pM σ o Rt.2)) 5 13 [(0, zA (some o)), (1, zI v1), (2, zI v2), (3, zI v3)] [] (pM σ o M)) {M : mS} (h : g_X6_asks_105 rec13 v1 v2 v3 v4 M = some Rt) : zG X (zQ X (.inl (eI Rt.1)) (pM σ o Rt.2)) 5 105 [(0, zA (some o)), (1, zI v1), (2, zI v2), (3, zI v3), (4, zI v4)] [] (pM σ o M) := by
  unfold g_X6_asks_105 at h
  refine z_aload_n hX 0 rfl rfl dX6_asks_105 (m_getA hX fl_X6_38_5 mAr_21 dX6_asks_106 (z_iload hX 4 rfl dX6_asks_109 (z_aload_n hX 0 rfl rfl dX6_asks_111 (z_iload_n hX 3 rfl rfl dX6_asks_112 (z_iconst hX (v := 5) (by decide) dX6_asks_113 ?_)))))
  refine m_cNI hX (rest := [zI v4, zA (some (o + 9))]) h (fun r9 M9 e9 => z_runV hX lk_X6_196 (c_X6_ofEntry hX.tr hP e9) (ci := 5) zc9_5 pM_cl ⟨Nat.le_of_ble_eq_true rfl, Nat.le_of_ble_eq_true rfl⟩ rfl (Nat.le_of_ble_eq_true rfl) dX6_asks_114 rfl) (fun x8 M9 h => ?_)
  refine m_iast hX hP (j := 8) (by decide) h dX6_asks_117 (fun M10 h => ?_)
  refine z_aload_n hX 0 rfl rfl dX6_asks_118 (z_dup hX rfl dX6_asks_119 (m_getI hX fl_X6_256_5 mSc_22 dX6_asks_120 (z_iconst hX (v := 1) (by decide) dX6_asks_123 (z_iadd hX dX6_asks_124 ?_))))
  refine m_putI hX hP fp_X6_256_5 mSc_22 h dX6_asks_125 (fun M11 h => ?_)
  exact z_sub [0, 1, 2, 3] rfl (m_X6_asks_128 hX hP hrec13 h)

def g_X6_asks_60_b (rec13 : Int32 → Int32 → mS → Option (Int32 × mS)) (v1 : Int32) (v2 : Int32) (v3 : Int32) (rec60 : Int32 → mS → Option (Int32 × mS)) (v4 : Int32) (M : mS) : Option (Int32 × mS) :=
  if v4 ≤ 0 then
    g_X6_asks_105 rec13 v1 v2 v3 v4 M
  else
    (mL M 8 (v4 - 1)).bind fun x13 =>
    zb2 (g_X6_ofEntry v3 5 M) fun x14 M15 =>
    if x13 ≤ x14 then
      g_X6_asks_105 rec13 v1 v2 v3 v4 M15
    else
      (mL M15 8 (v4 - 1)).bind fun x16 =>
      (mSt M15 8 v4 x16).bind fun M17 =>
      zl (v4 + (-1)) fun x18 =>
      rec60 x18 M17

def g_X6_asks_60 (rec13 : Int32 → Int32 → mS → Option (Int32 × mS)) (v1 : Int32) (v2 : Int32) (v3 : Int32) : Int32 → mS → Option (Int32 × mS) := zlp1 (g_X6_asks_60_b rec13 v1 v2 v3) NN
set_option maxHeartbeats 4000000 in
theorem m_X6_asks_60_b {X : zX} (hX : zOk X RX6 cX6_asks 5 3 85 (Option.some Jvm.ClassFile.FieldType.int) "asks" []) {σ : zS} {o : Nat} (hP : zP σ o) {Rt : Int32 × mS} {rec13 : Int32 → Int32 → mS → Option (Int32 × mS)} {v1 : Int32} {v2 : Int32} {v3 : Int32} (hrec13 : ∀ (v2 : Int32) (v3 : Int32) (M : mS), rec13 v2 v3 M = some Rt → zG X (zQ X (.inl (eI Rt.1)) (pM σ o Rt.2)) 5 13 [(0, zA (some o)), (1, zI v1), (2, zI v2), (3, zI v3)] [] (pM σ o M)) {rec60 : Int32 → mS → Option (Int32 × mS)} (hrec60 : ∀ (v4 : Int32) (M : mS), rec60 v4 M = some Rt → zG X (zQ X (.inl (eI Rt.1)) (pM σ o Rt.2)) 5 60 [(0, zA (some o)), (1, zI v1), (2, zI v2), (3, zI v3), (4, zI v4)] [] (pM σ o M)) {v4 : Int32} {M : mS} (h : g_X6_asks_60_b rec13 v1 v2 v3 rec60 v4 M = some Rt) : zG X (zQ X (.inl (eI Rt.1)) (pM σ o Rt.2)) 5 60 [(0, zA (some o)), (1, zI v1), (2, zI v2), (3, zI v3), (4, zI v4)] [] (pM σ o M) := by
  unfold g_X6_asks_60_b at h
  refine z_iload hX 4 rfl dX6_asks_60 ?_
  refine z_if_le (tgt := 105) hX h dX6_asks_62 (by decide) (fun h => ?_) (fun h => ?_)
  · exact z_sub [0, 1, 2, 3, 4] rfl (m_X6_asks_105 hX hP hrec13 h)
  · refine z_aload_n hX 0 rfl rfl dX6_asks_65 (m_getA hX fl_X6_38_5 mAr_21 dX6_asks_66 (z_iload hX 4 rfl dX6_asks_69 (z_iconst hX (v := 1) (by decide) dX6_asks_71 (z_isub hX dX6_asks_72 ?_))))
    refine m_iald hX (j := 8) (by decide) h dX6_asks_73 (fun x13 h => ?_)
    refine z_aload_n hX 0 rfl rfl dX6_asks_74 (z_iload_n hX 3 rfl rfl dX6_asks_75 (z_iconst hX (v := 5) (by decide) dX6_asks_76 ?_))
    refine m_cNI hX (rest := [zI x13]) h (fun r9 M9 e9 => z_runV hX lk_X6_196 (c_X6_ofEntry hX.tr hP e9) (ci := 5) zc9_5 pM_cl ⟨Nat.le_of_ble_eq_true rfl, Nat.le_of_ble_eq_true rfl⟩ rfl (Nat.le_of_ble_eq_true rfl) dX6_asks_77 rfl) (fun x14 M15 h => ?_)
    refine z_icmp_le (tgt := 105) hX h dX6_asks_80 (by decide) (fun h => ?_) (fun h => ?_)
    · exact z_sub [0, 1, 2, 3, 4] rfl (m_X6_asks_105 hX hP hrec13 h)
    · refine z_aload_n hX 0 rfl rfl dX6_asks_83 (m_getA hX fl_X6_38_5 mAr_21 dX6_asks_84 (z_iload hX 4 rfl dX6_asks_87 (z_aload_n hX 0 rfl rfl dX6_asks_89 (m_getA hX fl_X6_38_5 mAr_21 dX6_asks_90 (z_iload hX 4 rfl dX6_asks_93 (z_iconst hX (v := 1) (by decide) dX6_asks_95 (z_isub hX dX6_asks_96 ?_)))))))
      refine m_iald hX (j := 8) (by decide) h dX6_asks_97 (fun x16 h => ?_)
      refine m_iast hX hP (j := 8) (by decide) h dX6_asks_98 (fun M17 h => ?_)
      refine z_iinc hX (j := 4) h rfl (by decide) (by decide) dX6_asks_99 (fun x18 h => z_L (L' := [(0, zA (some o)), (1, zI v1), (2, zI v2), (3, zI v3), (4, zI x18)]) rfl ?_)
      refine z_goto (tgt := 60) hX dX6_asks_102 (by decide) ?_
      exact z_sub [0, 1, 2, 3, 4] rfl (hrec60 _ _ h)

theorem m_X6_asks_60 {X : zX} (hX : zOk X RX6 cX6_asks 5 3 85 (Option.some Jvm.ClassFile.FieldType.int) "asks" []) {σ : zS} {o : Nat} (hP : zP σ o) {Rt : Int32 × mS} {rec13 : Int32 → Int32 → mS → Option (Int32 × mS)} {v1 : Int32} {v2 : Int32} {v3 : Int32} (hrec13 : ∀ (v2 : Int32) (v3 : Int32) (M : mS), rec13 v2 v3 M = some Rt → zG X (zQ X (.inl (eI Rt.1)) (pM σ o Rt.2)) 5 13 [(0, zA (some o)), (1, zI v1), (2, zI v2), (3, zI v3)] [] (pM σ o M)) {v4 : Int32} {M : mS} (h : g_X6_asks_60 rec13 v1 v2 v3 v4 M = some Rt) : zG X (zQ X (.inl (eI Rt.1)) (pM σ o Rt.2)) 5 60 [(0, zA (some o)), (1, zI v1), (2, zI v2), (3, zI v3), (4, zI v4)] [] (pM σ o M) :=
  zlp1_ok (P := fun v4 M => zG X (zQ X (.inl (eI Rt.1)) (pM σ o Rt.2)) 5 60 [(0, zA (some o)), (1, zI v1), (2, zI v2), (3, zI v3), (4, zI v4)] [] (pM σ o M)) (fun rec hr v4 M h => m_X6_asks_60_b hX hP hrec13 hr h) NN v4 M h
def g_X6_asks_49 (rec13 : Int32 → Int32 → mS → Option (Int32 × mS)) (v1 : Int32) (v3 : Int32) (t0 : Int32) (t1 : Int32) (M : mS) : Option (Int32 × mS) :=
  zl (t0 - t1) fun x21 =>
  g_X6_asks_128 rec13 v1 x21 v3 M

set_option maxHeartbeats 4000000 in
theorem m_X6_asks_49 {X : zX} (hX : zOk X RX6 cX6_asks 5 3 85 (Option.some Jvm.ClassFile.FieldType.int) "asks" []) {σ : zS} {o : Nat} (hP : zP σ o) {Rt : Int32 × mS} {rec13 : Int32 → Int32 → mS → Option (Int32 × mS)} {v1 : Int32} {v3 : Int32} (hrec13 : ∀ (v2 : Int32) (v3 : Int32) (M : mS), rec13 v2 v3 M = some Rt → zG X (zQ X (.inl (eI Rt.1)) (pM σ o Rt.2)) 5 13 [(0, zA (some o)), (1, zI v1), (2, zI v2), (3, zI v3)] [] (pM σ o M)) {t0 : Int32} {t1 : Int32} {M : mS} (h : g_X6_asks_49 rec13 v1 v3 t0 t1 M = some Rt) : zG X (zQ X (.inl (eI Rt.1)) (pM σ o Rt.2)) 5 49 [(0, zA (some o)), (1, zI v1), (3, zI v3)] [zI t1, zI t0] (pM σ o M) := by
  unfold g_X6_asks_49 at h
  refine z_isub hX dX6_asks_49 ?_
  refine z_nmI h (fun x21 h => ?_)
  refine z_istore_n (L' := [(0, zA (some o)), (1, zI v1), (2, zI x21), (3, zI v3)]) hX rfl rfl (by decide) dX6_asks_50 (z_goto (tgt := 128) hX dX6_asks_51 (by decide) ?_)
  exact z_sub [0, 1, 2, 3] rfl (m_X6_asks_128 hX hP hrec13 h)

def g_X6_asks_13_b (v1 : Int32) (rec13 : Int32 → Int32 → mS → Option (Int32 × mS)) (v2 : Int32) (v3 : Int32) (M : mS) : Option (Int32 × mS) :=
  (mL M 0 4).bind fun x4 =>
  if x4 ≤ v3 then
    some (v2, M)
  else
    zb2 (g_X6_ofEntry v3 6 M) fun x5 M6 =>
    if ¬ x5 = 0 then
      zl (M6.1 22) fun x7 =>
      g_X6_asks_60 rec13 v1 v2 v3 x7 M6
    else
      zb2 (g_X6_ofEntry v3 2 M6) fun x19 M20 =>
      if ¬ x19 = v1 then
        g_X6_asks_49 rec13 v1 v3 v2 0 M20
      else
        g_X6_asks_49 rec13 v1 v3 v2 1 M20

def g_X6_asks_13 (v1 : Int32) : Int32 → Int32 → mS → Option (Int32 × mS) := zlp2 (g_X6_asks_13_b v1) NN
set_option maxHeartbeats 4000000 in
theorem m_X6_asks_13_b {X : zX} (hX : zOk X RX6 cX6_asks 5 3 85 (Option.some Jvm.ClassFile.FieldType.int) "asks" []) {σ : zS} {o : Nat} (hP : zP σ o) {Rt : Int32 × mS} {v1 : Int32} {rec13 : Int32 → Int32 → mS → Option (Int32 × mS)} (hrec13 : ∀ (v2 : Int32) (v3 : Int32) (M : mS), rec13 v2 v3 M = some Rt → zG X (zQ X (.inl (eI Rt.1)) (pM σ o Rt.2)) 5 13 [(0, zA (some o)), (1, zI v1), (2, zI v2), (3, zI v3)] [] (pM σ o M)) {v2 : Int32} {v3 : Int32} {M : mS} (h : g_X6_asks_13_b v1 rec13 v2 v3 M = some Rt) : zG X (zQ X (.inl (eI Rt.1)) (pM σ o Rt.2)) 5 13 [(0, zA (some o)), (1, zI v1), (2, zI v2), (3, zI v3)] [] (pM σ o M) := by
  unfold g_X6_asks_13_b at h
  refine z_iload_n hX 3 rfl rfl dX6_asks_13 (z_aload_n hX 0 rfl rfl dX6_asks_14 (m_getA hX fl_X6_7_5 mAr_1 dX6_asks_15 (z_iconst hX (v := 4) (by decide) dX6_asks_18 ?_)))
  refine m_iald hX (j := 0) (by decide) h dX6_asks_19 (fun x4 h => ?_)
  refine z_icmp_ge (tgt := 134) hX h dX6_asks_20 (by decide) (fun h => ?_) (fun h => ?_)
  · refine z_iload_n hX 2 rfl rfl dX6_asks_134 ?_
    obtain rfl := Option.some.inj h
    exact z_iret hX dX6_asks_135
  · refine z_aload_n hX 0 rfl rfl dX6_asks_23 (z_iload_n hX 3 rfl rfl dX6_asks_24 (z_bipush hX (v := 6) (by decide) dX6_asks_25 ?_))
    refine m_cNI hX (rest := []) h (fun r9 M9 e9 => z_runV hX lk_X6_196 (c_X6_ofEntry hX.tr hP e9) (ci := 5) zc9_5 pM_cl ⟨Nat.le_of_ble_eq_true rfl, Nat.le_of_ble_eq_true rfl⟩ rfl (Nat.le_of_ble_eq_true rfl) dX6_asks_27 rfl) (fun x5 M6 h => ?_)
    refine z_if_ne (tgt := 54) hX h dX6_asks_30 (by decide) (fun h => ?_) (fun h => ?_)
    · refine z_aload_n hX 0 rfl rfl dX6_asks_54 (m_getI hX fl_X6_256_5 mSc_22 dX6_asks_55 ?_)
      refine z_nmI h (fun x7 h => ?_)
      refine z_istore (L' := [(0, zA (some o)), (1, zI v1), (2, zI v2), (3, zI v3), (4, zI x7)]) hX rfl (by decide) dX6_asks_58 ?_
      exact z_sub [0, 1, 2, 3, 4] rfl (m_X6_asks_60 hX hP hrec13 h)
    · refine z_iload_n hX 2 rfl rfl dX6_asks_33 (z_aload_n hX 0 rfl rfl dX6_asks_34 (z_iload_n hX 3 rfl rfl dX6_asks_35 (z_iconst hX (v := 2) (by decide) dX6_asks_36 ?_)))
      refine m_cNI hX (rest := [zI v2]) h (fun r9 M9 e9 => z_runV hX lk_X6_196 (c_X6_ofEntry hX.tr hP e9) (ci := 5) zc9_5 pM_cl ⟨Nat.le_of_ble_eq_true rfl, Nat.le_of_ble_eq_true rfl⟩ rfl (Nat.le_of_ble_eq_true rfl) dX6_asks_37 rfl) (fun x19 M20 h => ?_)
      refine z_iload_n hX 1 rfl rfl dX6_asks_40 ?_
      refine z_icmp_ne (tgt := 48) hX h dX6_asks_41 (by decide) (fun h => ?_) (fun h => ?_)
      · refine z_iconst hX (v := 0) (by decide) dX6_asks_48 ?_
        exact z_sub [0, 1, 3] rfl (m_X6_asks_49 hX hP hrec13 h)
      · refine z_iconst hX (v := 1) (by decide) dX6_asks_44 (z_goto (tgt := 49) hX dX6_asks_45 (by decide) ?_)
        exact z_sub [0, 1, 3] rfl (m_X6_asks_49 hX hP hrec13 h)

theorem m_X6_asks_13 {X : zX} (hX : zOk X RX6 cX6_asks 5 3 85 (Option.some Jvm.ClassFile.FieldType.int) "asks" []) {σ : zS} {o : Nat} (hP : zP σ o) {Rt : Int32 × mS} {v1 : Int32} {v2 : Int32} {v3 : Int32} {M : mS} (h : g_X6_asks_13 v1 v2 v3 M = some Rt) : zG X (zQ X (.inl (eI Rt.1)) (pM σ o Rt.2)) 5 13 [(0, zA (some o)), (1, zI v1), (2, zI v2), (3, zI v3)] [] (pM σ o M) :=
  zlp2_ok (P := fun v2 v3 M => zG X (zQ X (.inl (eI Rt.1)) (pM σ o Rt.2)) 5 13 [(0, zA (some o)), (1, zI v1), (2, zI v2), (3, zI v3)] [] (pM σ o M)) (fun rec hr v2 v3 M h => m_X6_asks_13_b hX hP hr h) NN v2 v3 M h
def g_X6_asks (p1 : Int32) (M : mS) : Option (Int32 × mS) :=
  zl (mset M 22 0) fun M1 =>
  zb2 (g_X6_beadsOf p1 M1) fun x2 M3 =>
  g_X6_asks_13 p1 x2 0 M3

set_option maxHeartbeats 4000000 in
theorem m_X6_asks {X : zX} (hX : zOk X RX6 cX6_asks 5 3 85 (Option.some Jvm.ClassFile.FieldType.int) "asks" []) {σ : zS} {o : Nat} (hP : zP σ o) {p1 : Int32} {M : mS} {Rt : Int32 × mS} (h : g_X6_asks p1 M = some Rt) : zG X (zQ X (.inl (eI Rt.1)) (pM σ o Rt.2)) 5 0 [(0, zA (some o)), (1, zI p1)] [] (pM σ o M) := by
  unfold g_X6_asks at h
  refine z_aload_n hX 0 rfl rfl dX6_asks_0 (z_iconst hX (v := 0) (by decide) dX6_asks_1 ?_)
  refine m_putI hX hP fp_X6_256_5 mSc_22 h dX6_asks_2 (fun M1 h => ?_)
  refine z_aload_n hX 0 rfl rfl dX6_asks_5 (z_iload_n hX 1 rfl rfl dX6_asks_6 ?_)
  refine m_cNI hX (rest := []) h (fun r9 M9 e9 => z_runV hX lk_X6_206 (c_X6_beadsOf hX.tr hP e9) (ci := 5) zc9_5 pM_cl ⟨Nat.le_of_ble_eq_true rfl, Nat.le_of_ble_eq_true rfl⟩ rfl (Nat.le_of_ble_eq_true rfl) dX6_asks_7 rfl) (fun x2 M3 h => ?_)
  refine z_istore_n (L' := [(0, zA (some o)), (1, zI p1), (2, zI x2)]) hX rfl rfl (by decide) dX6_asks_10 (z_iconst hX (v := 0) (by decide) dX6_asks_11 (z_istore_n (L' := [(0, zA (some o)), (1, zI p1), (2, zI x2), (3, zI 0)]) hX rfl rfl (by decide) dX6_asks_12 ?_))
  exact z_sub [0, 1, 2, 3] rfl (m_X6_asks_13 hX hP  h)

theorem c_X6_asks {l : Launch} {D : va_G} {tys : zTy} (hl : l.stackTraces = false) {σ : zS} {o : Nat} (hP : zP σ o) {p1 : Int32} {M : mS} {Rt : Int32 × mS} (h : g_X6_asks p1 M = some Rt) : zM l D tys yX6_asks (ws_ yX6_asks cX6_asks 5 (Option.some Jvm.ClassFile.FieldType.int)) 3 85 [zA (some o), zI p1] (pM σ o M) (.inl (eI Rt.1)) (pM σ o Rt.2) :=
  zM_in hl rfl (Nat.le_of_ble_eq_true rfl) (fun p e R s m args below meth c hX => z_L rfl (m_X6_asks hX hP h))
def g_X6_knownOf_45 (rec4 : Int32 → Int32 → mS → Option (Int32 × mS)) (v1 : Int32) (v3 : Int32) (t0 : Int32) (t1 : Int32) (M : mS) : Option (Int32 × mS) :=
  zl (t0 + t1) fun x4 =>
  zl (v3 + 1) fun x5 =>
  rec4 x4 x5 M

set_option maxHeartbeats 4000000 in
theorem m_X6_knownOf_45 {X : zX} (hX : zOk X RX6 cX6_knownOf 4 2 62 (Option.some Jvm.ClassFile.FieldType.int) "knownOf" []) {σ : zS} {o : Nat} (hP : zP σ o) {Rt : Int32 × mS} {rec4 : Int32 → Int32 → mS → Option (Int32 × mS)} {v1 : Int32} {v3 : Int32} (hrec4 : ∀ (v2 : Int32) (v3 : Int32) (M : mS), rec4 v2 v3 M = some Rt → zG X (zQ X (.inl (eI Rt.1)) (pM σ o Rt.2)) 4 4 [(0, zA (some o)), (1, zI v1), (2, zI v2), (3, zI v3)] [] (pM σ o M)) {t0 : Int32} {t1 : Int32} {M : mS} (h : g_X6_knownOf_45 rec4 v1 v3 t0 t1 M = some Rt) : zG X (zQ X (.inl (eI Rt.1)) (pM σ o Rt.2)) 4 45 [(0, zA (some o)), (1, zI v1), (3, zI v3)] [zI t1, zI t0] (pM σ o M) := by
  unfold g_X6_knownOf_45 at h
  refine z_iadd hX dX6_knownOf_45 ?_
  refine z_nmI h (fun x4 h => ?_)
  refine z_istore_n (L' := [(0, zA (some o)), (1, zI v1), (2, zI x4), (3, zI v3)]) hX rfl rfl (by decide) dX6_knownOf_46 ?_
  refine z_iinc hX (j := 3) h rfl (by decide) (by decide) dX6_knownOf_47 (fun x5 h => z_L (L' := [(0, zA (some o)), (1, zI v1), (2, zI x4), (3, zI x5)]) rfl ?_)
  refine z_goto (tgt := 4) hX dX6_knownOf_50 (by decide) ?_
  exact z_sub [0, 1, 2, 3] rfl (hrec4 _ _ _ h)

def g_X6_knownOf_44 (rec4 : Int32 → Int32 → mS → Option (Int32 × mS)) (v1 : Int32) (v3 : Int32) (t0 : Int32) (M : mS) : Option (Int32 × mS) :=
  g_X6_knownOf_45 rec4 v1 v3 t0 0 M

set_option maxHeartbeats 4000000 in
theorem m_X6_knownOf_44 {X : zX} (hX : zOk X RX6 cX6_knownOf 4 2 62 (Option.some Jvm.ClassFile.FieldType.int) "knownOf" []) {σ : zS} {o : Nat} (hP : zP σ o) {Rt : Int32 × mS} {rec4 : Int32 → Int32 → mS → Option (Int32 × mS)} {v1 : Int32} {v3 : Int32} (hrec4 : ∀ (v2 : Int32) (v3 : Int32) (M : mS), rec4 v2 v3 M = some Rt → zG X (zQ X (.inl (eI Rt.1)) (pM σ o Rt.2)) 4 4 [(0, zA (some o)), (1, zI v1), (2, zI v2), (3, zI v3)] [] (pM σ o M)) {t0 : Int32} {M : mS} (h : g_X6_knownOf_44 rec4 v1 v3 t0 M = some Rt) : zG X (zQ X (.inl (eI Rt.1)) (pM σ o Rt.2)) 4 44 [(0, zA (some o)), (1, zI v1), (3, zI v3)] [zI t0] (pM σ o M) := by
  unfold g_X6_knownOf_44 at h
  refine z_iconst hX (v := 0) (by decide) dX6_knownOf_44 ?_
  exact z_sub [0, 1, 2] rfl (m_X6_knownOf_45 hX hP hrec4 h)

def g_X6_knownOf_4_b (v1 : Int32) (rec4 : Int32 → Int32 → mS → Option (Int32 × mS)) (v2 : Int32) (v3 : Int32) (M : mS) : Option (Int32 × mS) :=
  (mL M 0 4).bind fun x1 =>
  if x1 ≤ v3 then
    some (v2, M)
  else
    zb2 (g_X6_ofEntry v3 6 M) fun x2 M3 =>
    if ¬ x2 = 0 then
      g_X6_knownOf_44 rec4 v1 v3 v2 M3
    else
      zb2 (g_X6_ofEntry v3 2 M3) fun x6 M7 =>
      if ¬ x6 = v1 then
        g_X6_knownOf_44 rec4 v1 v3 v2 M7
      else
        zb2 (g_X6_ofEntry v3 5 M7) fun x8 M9 =>
        g_X6_knownOf_45 rec4 v1 v3 v2 x8 M9

def g_X6_knownOf_4 (v1 : Int32) : Int32 → Int32 → mS → Option (Int32 × mS) := zlp2 (g_X6_knownOf_4_b v1) NN
set_option maxHeartbeats 4000000 in
theorem m_X6_knownOf_4_b {X : zX} (hX : zOk X RX6 cX6_knownOf 4 2 62 (Option.some Jvm.ClassFile.FieldType.int) "knownOf" []) {σ : zS} {o : Nat} (hP : zP σ o) {Rt : Int32 × mS} {v1 : Int32} {rec4 : Int32 → Int32 → mS → Option (Int32 × mS)} (hrec4 : ∀ (v2 : Int32) (v3 : Int32) (M : mS), rec4 v2 v3 M = some Rt → zG X (zQ X (.inl (eI Rt.1)) (pM σ o Rt.2)) 4 4 [(0, zA (some o)), (1, zI v1), (2, zI v2), (3, zI v3)] [] (pM σ o M)) {v2 : Int32} {v3 : Int32} {M : mS} (h : g_X6_knownOf_4_b v1 rec4 v2 v3 M = some Rt) : zG X (zQ X (.inl (eI Rt.1)) (pM σ o Rt.2)) 4 4 [(0, zA (some o)), (1, zI v1), (2, zI v2), (3, zI v3)] [] (pM σ o M) := by
  unfold g_X6_knownOf_4_b at h
  refine z_iload_n hX 3 rfl rfl dX6_knownOf_4 (z_aload_n hX 0 rfl rfl dX6_knownOf_5 (m_getA hX fl_X6_7_5 mAr_1 dX6_knownOf_6 (z_iconst hX (v := 4) (by decide) dX6_knownOf_9 ?_)))
  refine m_iald hX (j := 0) (by decide) h dX6_knownOf_10 (fun x1 h => ?_)
  refine z_icmp_ge (tgt := 53) hX h dX6_knownOf_11 (by decide) (fun h => ?_) (fun h => ?_)
  · refine z_iload_n hX 2 rfl rfl dX6_knownOf_53 ?_
    obtain rfl := Option.some.inj h
    exact z_iret hX dX6_knownOf_54
  · refine z_iload_n hX 2 rfl rfl dX6_knownOf_14 (z_aload_n hX 0 rfl rfl dX6_knownOf_15 (z_iload_n hX 3 rfl rfl dX6_knownOf_16 (z_bipush hX (v := 6) (by decide) dX6_knownOf_17 ?_)))
    refine m_cNI hX (rest := [zI v2]) h (fun r9 M9 e9 => z_runV hX lk_X6_196 (c_X6_ofEntry hX.tr hP e9) (ci := 5) zc9_5 pM_cl ⟨Nat.le_of_ble_eq_true rfl, Nat.le_of_ble_eq_true rfl⟩ rfl (Nat.le_of_ble_eq_true rfl) dX6_knownOf_19 rfl) (fun x2 M3 h => ?_)
    refine z_if_ne (tgt := 44) hX h dX6_knownOf_22 (by decide) (fun h => ?_) (fun h => ?_)
    · exact z_sub [0, 1, 3] rfl (m_X6_knownOf_44 hX hP hrec4 h)
    · refine z_aload_n hX 0 rfl rfl dX6_knownOf_25 (z_iload_n hX 3 rfl rfl dX6_knownOf_26 (z_iconst hX (v := 2) (by decide) dX6_knownOf_27 ?_))
      refine m_cNI hX (rest := [zI v2]) h (fun r9 M9 e9 => z_runV hX lk_X6_196 (c_X6_ofEntry hX.tr hP e9) (ci := 5) zc9_5 pM_cl ⟨Nat.le_of_ble_eq_true rfl, Nat.le_of_ble_eq_true rfl⟩ rfl (Nat.le_of_ble_eq_true rfl) dX6_knownOf_28 rfl) (fun x6 M7 h => ?_)
      refine z_iload_n hX 1 rfl rfl dX6_knownOf_31 ?_
      refine z_icmp_ne (tgt := 44) hX h dX6_knownOf_32 (by decide) (fun h => ?_) (fun h => ?_)
      · exact z_sub [0, 1, 3] rfl (m_X6_knownOf_44 hX hP hrec4 h)
      · refine z_aload_n hX 0 rfl rfl dX6_knownOf_35 (z_iload_n hX 3 rfl rfl dX6_knownOf_36 (z_iconst hX (v := 5) (by decide) dX6_knownOf_37 ?_))
        refine m_cNI hX (rest := [zI v2]) h (fun r9 M9 e9 => z_runV hX lk_X6_196 (c_X6_ofEntry hX.tr hP e9) (ci := 5) zc9_5 pM_cl ⟨Nat.le_of_ble_eq_true rfl, Nat.le_of_ble_eq_true rfl⟩ rfl (Nat.le_of_ble_eq_true rfl) dX6_knownOf_38 rfl) (fun x8 M9 h => ?_)
        refine z_goto (tgt := 45) hX dX6_knownOf_41 (by decide) ?_
        exact z_sub [0, 1, 3] rfl (m_X6_knownOf_45 hX hP hrec4 h)

theorem m_X6_knownOf_4 {X : zX} (hX : zOk X RX6 cX6_knownOf 4 2 62 (Option.some Jvm.ClassFile.FieldType.int) "knownOf" []) {σ : zS} {o : Nat} (hP : zP σ o) {Rt : Int32 × mS} {v1 : Int32} {v2 : Int32} {v3 : Int32} {M : mS} (h : g_X6_knownOf_4 v1 v2 v3 M = some Rt) : zG X (zQ X (.inl (eI Rt.1)) (pM σ o Rt.2)) 4 4 [(0, zA (some o)), (1, zI v1), (2, zI v2), (3, zI v3)] [] (pM σ o M) :=
  zlp2_ok (P := fun v2 v3 M => zG X (zQ X (.inl (eI Rt.1)) (pM σ o Rt.2)) 4 4 [(0, zA (some o)), (1, zI v1), (2, zI v2), (3, zI v3)] [] (pM σ o M)) (fun rec hr v2 v3 M h => m_X6_knownOf_4_b hX hP hr h) NN v2 v3 M h
def g_X6_knownOf (p1 : Int32) (M : mS) : Option (Int32 × mS) :=
  g_X6_knownOf_4 p1 0 0 M

set_option maxHeartbeats 4000000 in
theorem m_X6_knownOf {X : zX} (hX : zOk X RX6 cX6_knownOf 4 2 62 (Option.some Jvm.ClassFile.FieldType.int) "knownOf" []) {σ : zS} {o : Nat} (hP : zP σ o) {p1 : Int32} {M : mS} {Rt : Int32 × mS} (h : g_X6_knownOf p1 M = some Rt) : zG X (zQ X (.inl (eI Rt.1)) (pM σ o Rt.2)) 4 0 [(0, zA (some o)), (1, zI p1)] [] (pM σ o M) := by
  unfold g_X6_knownOf at h
  refine z_iconst hX (v := 0) (by decide) dX6_knownOf_0 (z_istore_n (L' := [(0, zA (some o)), (1, zI p1), (2, zI 0)]) hX rfl rfl (by decide) dX6_knownOf_1 (z_iconst hX (v := 0) (by decide) dX6_knownOf_2 (z_istore_n (L' := [(0, zA (some o)), (1, zI p1), (2, zI 0), (3, zI 0)]) hX rfl rfl (by decide) dX6_knownOf_3 ?_)))
  exact z_sub [0, 1, 2, 3] rfl (m_X6_knownOf_4 hX hP  h)

theorem c_X6_knownOf {l : Launch} {D : va_G} {tys : zTy} (hl : l.stackTraces = false) {σ : zS} {o : Nat} (hP : zP σ o) {p1 : Int32} {M : mS} {Rt : Int32 × mS} (h : g_X6_knownOf p1 M = some Rt) : zM l D tys yX6_knownOf (ws_ yX6_knownOf cX6_knownOf 4 (Option.some Jvm.ClassFile.FieldType.int)) 2 62 [zA (some o), zI p1] (pM σ o M) (.inl (eI Rt.1)) (pM σ o Rt.2) :=
  zM_in hl rfl (Nat.le_of_ble_eq_true rfl) (fun p e R s m args below meth c hX => z_L rfl (m_X6_knownOf hX hP h))
def g_X6_span_78 (rec42 : Int32 → Int32 → mS → Option (Int32 × mS)) (v2 : Int32) (v3 : Int32) (v5 : Int32) (t0 : Int32) (t1 : Int32) (M : mS) : Option (Int32 × mS) :=
  zl (t0 + t1) fun x9 =>
  zl (v5 + 1) fun x10 =>
  rec42 x9 x10 M

set_option maxHeartbeats 4000000 in
theorem m_X6_span_78 {X : zX} (hX : zOk X RX6 cX6_span 6 4 109 (Option.some Jvm.ClassFile.FieldType.int) "span" []) {σ : zS} {o : Nat} (hP : zP σ o) {Rt : Int32 × mS} {rec42 : Int32 → Int32 → mS → Option (Int32 × mS)} {v2 : Int32} {v3 : Int32} {v5 : Int32} (hrec42 : ∀ (v4 : Int32) (v5 : Int32) (M : mS), rec42 v4 v5 M = some Rt → zG X (zQ X (.inl (eI Rt.1)) (pM σ o Rt.2)) 6 42 [(0, zA (some o)), (2, zI v2), (3, zI v3), (4, zI v4), (5, zI v5)] [] (pM σ o M)) {t0 : Int32} {t1 : Int32} {M : mS} (h : g_X6_span_78 rec42 v2 v3 v5 t0 t1 M = some Rt) : zG X (zQ X (.inl (eI Rt.1)) (pM σ o Rt.2)) 6 78 [(0, zA (some o)), (2, zI v2), (3, zI v3), (5, zI v5)] [zI t1, zI t0] (pM σ o M) := by
  unfold g_X6_span_78 at h
  refine z_iadd hX dX6_span_78 ?_
  refine z_nmI h (fun x9 h => ?_)
  refine z_istore (L' := [(0, zA (some o)), (2, zI v2), (3, zI v3), (4, zI x9), (5, zI v5)]) hX rfl (by decide) dX6_span_79 ?_
  refine z_iinc hX (j := 4) h rfl (by decide) (by decide) dX6_span_81 (fun x10 h => z_L (L' := [(0, zA (some o)), (2, zI v2), (3, zI v3), (4, zI x9), (5, zI x10)]) rfl ?_)
  refine z_goto (tgt := 42) hX dX6_span_84 (by decide) ?_
  exact z_sub [0, 1, 2, 3, 4] rfl (hrec42 _ _ _ h)

def g_X6_span_42_b (v2 : Int32) (v3 : Int32) (rec42 : Int32 → Int32 → mS → Option (Int32 × mS)) (v4 : Int32) (v5 : Int32) (M : mS) : Option (Int32 × mS) :=
  if v3 ≤ v5 then
    some (v4, M)
  else
    if v2 = 0 then
      (mL M 8 v5).bind fun x8 =>
      g_X6_span_78 rec42 v2 v3 v5 v4 x8 M
    else
      (mL M 8 (((M.1 22) - 1) - v5)).bind fun x11 =>
      g_X6_span_78 rec42 v2 v3 v5 v4 x11 M

def g_X6_span_42 (v2 : Int32) (v3 : Int32) : Int32 → Int32 → mS → Option (Int32 × mS) := zlp2 (g_X6_span_42_b v2 v3) NN
set_option maxHeartbeats 4000000 in
theorem m_X6_span_42_b {X : zX} (hX : zOk X RX6 cX6_span 6 4 109 (Option.some Jvm.ClassFile.FieldType.int) "span" []) {σ : zS} {o : Nat} (hP : zP σ o) {Rt : Int32 × mS} {v2 : Int32} {v3 : Int32} {rec42 : Int32 → Int32 → mS → Option (Int32 × mS)} (hrec42 : ∀ (v4 : Int32) (v5 : Int32) (M : mS), rec42 v4 v5 M = some Rt → zG X (zQ X (.inl (eI Rt.1)) (pM σ o Rt.2)) 6 42 [(0, zA (some o)), (2, zI v2), (3, zI v3), (4, zI v4), (5, zI v5)] [] (pM σ o M)) {v4 : Int32} {v5 : Int32} {M : mS} (h : g_X6_span_42_b v2 v3 rec42 v4 v5 M = some Rt) : zG X (zQ X (.inl (eI Rt.1)) (pM σ o Rt.2)) 6 42 [(0, zA (some o)), (2, zI v2), (3, zI v3), (4, zI v4), (5, zI v5)] [] (pM σ o M) := by
  unfold g_X6_span_42_b at h
  refine z_iload hX 4 rfl dX6_span_42 (z_iload_n hX 2 rfl rfl dX6_span_44 ?_)
  refine z_icmp_ge (tgt := 87) hX h dX6_span_45 (by decide) (fun h => ?_) (fun h => ?_)
  · refine z_iload hX 3 rfl dX6_span_87 ?_
    obtain rfl := Option.some.inj h
    exact z_iret hX dX6_span_89
  · refine z_iload hX 3 rfl dX6_span_48 (z_iload_n hX 1 rfl rfl dX6_span_50 ?_)
    refine z_if_eq (tgt := 71) hX h dX6_span_51 (by decide) (fun h => ?_) (fun h => ?_)
    · refine z_aload_n hX 0 rfl rfl dX6_span_71 (m_getA hX fl_X6_38_5 mAr_21 dX6_span_72 (z_iload hX 4 rfl dX6_span_75 ?_))
      refine m_iald hX (j := 8) (by decide) h dX6_span_77 (fun x8 h => ?_)
      exact z_sub [0, 1, 2, 4] rfl (m_X6_span_78 hX hP hrec42 h)
    · refine z_aload_n hX 0 rfl rfl dX6_span_54 (m_getA hX fl_X6_38_5 mAr_21 dX6_span_55 (z_aload_n hX 0 rfl rfl dX6_span_58 (m_getI hX fl_X6_256_5 mSc_22 dX6_span_59 (z_iconst hX (v := 1) (by decide) dX6_span_62 (z_isub hX dX6_span_63 (z_iload hX 4 rfl dX6_span_64 (z_isub hX dX6_span_66 ?_)))))))
      refine m_iald hX (j := 8) (by decide) h dX6_span_67 (fun x11 h => ?_)
      refine z_goto (tgt := 78) hX dX6_span_68 (by decide) ?_
      exact z_sub [0, 1, 2, 4] rfl (m_X6_span_78 hX hP hrec42 h)

theorem m_X6_span_42 {X : zX} (hX : zOk X RX6 cX6_span 6 4 109 (Option.some Jvm.ClassFile.FieldType.int) "span" []) {σ : zS} {o : Nat} (hP : zP σ o) {Rt : Int32 × mS} {v2 : Int32} {v3 : Int32} {v4 : Int32} {v5 : Int32} {M : mS} (h : g_X6_span_42 v2 v3 v4 v5 M = some Rt) : zG X (zQ X (.inl (eI Rt.1)) (pM σ o Rt.2)) 6 42 [(0, zA (some o)), (2, zI v2), (3, zI v3), (4, zI v4), (5, zI v5)] [] (pM σ o M) :=
  zlp2_ok (P := fun v4 v5 M => zG X (zQ X (.inl (eI Rt.1)) (pM σ o Rt.2)) 6 42 [(0, zA (some o)), (2, zI v2), (3, zI v3), (4, zI v4), (5, zI v5)] [] (pM σ o M)) (fun rec hr v4 v5 M h => m_X6_span_42_b hX hP hr h) NN v4 v5 M h
def g_X6_span_14 (v1 : Int32) (v2 : Int32) (t1 : Int32) (M : mS) : Option (Int32 × mS) :=
  zl (mset M 0 t1) fun M3 =>
  if (M3.1 0) ≤ 0 then
    zb2 (g_X6_asks v1 M3) fun x4 M5 =>
    zb2 (g_X6_knownOf v1 M5) fun x6 M7 =>
    g_X6_span_42 v2 x4 x6 0 M7
  else
    some ((0 : Int32), M3)

set_option maxHeartbeats 4000000 in
theorem m_X6_span_14 {X : zX} (hX : zOk X RX6 cX6_span 6 4 109 (Option.some Jvm.ClassFile.FieldType.int) "span" []) {σ : zS} {o : Nat} (hP : zP σ o) {Rt : Int32 × mS} {v1 : Int32} {v2 : Int32} {t1 : Int32} {M : mS} (h : g_X6_span_14 v1 v2 t1 M = some Rt) : zG X (zQ X (.inl (eI Rt.1)) (pM σ o Rt.2)) 6 14 [(0, zA (some o)), (1, zI v1), (2, zI v2)] [zI t1, zA (some o)] (pM σ o M) := by
  unfold g_X6_span_14 at h
  refine m_putI hX hP fp_X6_41_5 mSc_0 h dX6_span_14 (fun M3 h => ?_)
  refine z_aload_n hX 0 rfl rfl dX6_span_17 (m_getI hX fl_X6_41_5 mSc_0 dX6_span_18 ?_)
  refine z_if_le (tgt := 26) hX h dX6_span_21 (by decide) (fun h => ?_) (fun h => ?_)
  · refine z_aload_n hX 0 rfl rfl dX6_span_26 (z_iload_n hX 1 rfl rfl dX6_span_27 ?_)
    refine m_cNI hX (rest := []) h (fun r9 M9 e9 => z_runV hX lk_X6_259 (c_X6_asks hX.tr hP e9) (ci := 5) zc9_5 pM_cl ⟨Nat.le_of_ble_eq_true rfl, Nat.le_of_ble_eq_true rfl⟩ rfl (Nat.le_of_ble_eq_true rfl) dX6_span_28 rfl) (fun x4 M5 h => ?_)
    refine z_istore_n (L' := [(0, zA (some o)), (1, zI v1), (2, zI v2), (3, zI x4)]) hX rfl rfl (by decide) dX6_span_31 (z_aload_n hX 0 rfl rfl dX6_span_32 (z_iload_n hX 1 rfl rfl dX6_span_33 ?_))
    refine m_cNI hX (rest := []) h (fun r9 M9 e9 => z_runV hX lk_X6_262 (c_X6_knownOf hX.tr hP e9) (ci := 5) zc9_5 pM_cl ⟨Nat.le_of_ble_eq_true rfl, Nat.le_of_ble_eq_true rfl⟩ rfl (Nat.le_of_ble_eq_true rfl) dX6_span_34 rfl) (fun x6 M7 h => ?_)
    refine z_istore (L' := [(0, zA (some o)), (1, zI v1), (2, zI v2), (3, zI x4), (4, zI x6)]) hX rfl (by decide) dX6_span_37 (z_iconst hX (v := 0) (by decide) dX6_span_39 (z_istore (L' := [(0, zA (some o)), (1, zI v1), (2, zI v2), (3, zI x4), (4, zI x6), (5, zI 0)]) hX rfl (by decide) dX6_span_40 ?_))
    exact z_sub [0, 2, 3, 4, 5] rfl (m_X6_span_42 hX hP  h)
  · refine z_iconst hX (v := 0) (by decide) dX6_span_24 ?_
    obtain rfl := Option.some.inj h
    exact z_iret hX dX6_span_25

def g_X6_span (p1 : Int32) (p2 : Int32) (M : mS) : Option (Int32 × mS) :=
  zb2 (g_X6_isHouse p1 M) fun x1 M2 =>
  if ¬ x1 = 0 then
    g_X6_span_14 p1 p2 0 M2
  else
    g_X6_span_14 p1 p2 1 M2

set_option maxHeartbeats 4000000 in
theorem m_X6_span {X : zX} (hX : zOk X RX6 cX6_span 6 4 109 (Option.some Jvm.ClassFile.FieldType.int) "span" []) {σ : zS} {o : Nat} (hP : zP σ o) {p1 : Int32} {p2 : Int32} {M : mS} {Rt : Int32 × mS} (h : g_X6_span p1 p2 M = some Rt) : zG X (zQ X (.inl (eI Rt.1)) (pM σ o Rt.2)) 6 0 [(0, zA (some o)), (1, zI p1), (2, zI p2)] [] (pM σ o M) := by
  unfold g_X6_span at h
  refine z_aload_n hX 0 rfl rfl dX6_span_0 (z_aload_n hX 0 rfl rfl dX6_span_1 (z_iload_n hX 1 rfl rfl dX6_span_2 ?_))
  refine m_cNI hX (rest := [zA (some o)]) h (fun r9 M9 e9 => z_runV hX lk_X6_200 (c_X6_isHouse hX.tr hP e9) (ci := 5) zc9_5 pM_cl ⟨Nat.le_of_ble_eq_true rfl, Nat.le_of_ble_eq_true rfl⟩ rfl (Nat.le_of_ble_eq_true rfl) dX6_span_3 rfl) (fun x1 M2 h => ?_)
  refine z_if_ne (tgt := 13) hX h dX6_span_6 (by decide) (fun h => ?_) (fun h => ?_)
  · refine z_iconst hX (v := 0) (by decide) dX6_span_13 ?_
    exact z_sub [0, 1, 2] rfl (m_X6_span_14 hX hP  h)
  · refine z_iconst hX (v := 1) (by decide) dX6_span_9 (z_goto (tgt := 14) hX dX6_span_10 (by decide) ?_)
    exact z_sub [0, 1, 2] rfl (m_X6_span_14 hX hP  h)

theorem c_X6_span {l : Launch} {D : va_G} {tys : zTy} (hl : l.stackTraces = false) {σ : zS} {o : Nat} (hP : zP σ o) {p1 : Int32} {p2 : Int32} {M : mS} {Rt : Int32 × mS} (h : g_X6_span p1 p2 M = some Rt) : zM l D tys yX6_span (ws_ yX6_span cX6_span 6 (Option.some Jvm.ClassFile.FieldType.int)) 4 109 [zA (some o), zI p1, zI p2] (pM σ o M) (.inl (eI Rt.1)) (pM σ o Rt.2) :=
  zM_in hl rfl (Nat.le_of_ble_eq_true rfl) (fun p e R s m args below meth c hX => z_L rfl (m_X6_span hX hP h))
def zRA_X6_sets (l : Launch) (D : va_G) (tys : zTy) (σ : zS) (o : Nat) (ra : Int32 → Int32 → Int32 → mS → Option (Unit × mS)) (f w : Nat) : Prop := ∀ (p1 : Int32) (p2 : Int32) (p3 : Int32) (M : mS) (Rt : Unit × mS), ra p1 p2 p3 M = some Rt → zM l D tys yX6_sets (ws_ yX6_sets cX6_sets 5 (Option.none : Option Jvm.ClassFile.FieldType)) f w [zA (some o), zI p1, zI p2, zI p3] (pM σ o M) (.inl (eU Rt.1)) (pM σ o Rt.2)
def g_X6_sets_35_b (ra : Int32 → Int32 → Int32 → mS → Option (Unit × mS)) (v2 : Int32) (v3 : Int32) (rec35 : Int32 → mS → Option (Unit × mS)) (v4 : Int32) (M : mS) : Option (Unit × mS) :=
  if ((M.1 22) - v2) < v4 then
    some ((), M)
  else
    (mL M 8 v4).bind fun x1 =>
    zb2 (ra (v4 + 1) (v2 - 1) (v3 - x1) M) fun _ M3 =>
    zl (v4 + 1) fun x4 =>
    rec35 x4 M3

def g_X6_sets_35 (ra : Int32 → Int32 → Int32 → mS → Option (Unit × mS)) (v2 : Int32) (v3 : Int32) : Int32 → mS → Option (Unit × mS) := zlp1 (g_X6_sets_35_b ra v2 v3) NN
set_option maxHeartbeats 4000000 in
theorem m_X6_sets_35_b {f9 w9 : Nat} {X : zX} (hX : zOk X RX6 cX6_sets 5 (f9 + 1) (w9 + 40) (Option.none : Option Jvm.ClassFile.FieldType) "sets" []) {ra : Int32 → Int32 → Int32 → mS → Option (Unit × mS)} {σ : zS} {o : Nat} (hP : zP σ o) (hra : zRA_X6_sets (xl X) (xD X) (xt X) σ o ra f9 w9) {Rt : Unit × mS} {v2 : Int32} {v3 : Int32} {rec35 : Int32 → mS → Option (Unit × mS)} (hrec35 : ∀ (v4 : Int32) (M : mS), rec35 v4 M = some Rt → zG X (zQ X (.inl (eU Rt.1)) (pM σ o Rt.2)) 5 35 [(0, zA (some o)), (2, zI v2), (3, zI v3), (4, zI v4)] [] (pM σ o M)) {v4 : Int32} {M : mS} (h : g_X6_sets_35_b ra v2 v3 rec35 v4 M = some Rt) : zG X (zQ X (.inl (eU Rt.1)) (pM σ o Rt.2)) 5 35 [(0, zA (some o)), (2, zI v2), (3, zI v3), (4, zI v4)] [] (pM σ o M) := by
  unfold g_X6_sets_35_b at h
  refine z_iload hX 3 rfl dX6_sets_35 (z_aload_n hX 0 rfl rfl dX6_sets_37 (m_getI hX fl_X6_256_5 mSc_22 dX6_sets_38 (z_iload_n hX 1 rfl rfl dX6_sets_41 (z_isub hX dX6_sets_42 ?_))))
  refine z_icmp_gt (tgt := 72) hX h dX6_sets_43 (by decide) (fun h => ?_) (fun h => ?_)
  · obtain rfl := Option.some.inj h
    exact z_vret hX dX6_sets_72
  · refine z_aload_n hX 0 rfl rfl dX6_sets_46 (z_iload hX 3 rfl dX6_sets_47 (z_iconst hX (v := 1) (by decide) dX6_sets_49 (z_iadd hX dX6_sets_50 (z_iload_n hX 1 rfl rfl dX6_sets_51 (z_iconst hX (v := 1) (by decide) dX6_sets_52 (z_isub hX dX6_sets_53 (z_iload_n hX 2 rfl rfl dX6_sets_54 (z_aload_n hX 0 rfl rfl dX6_sets_55 (m_getA hX fl_X6_38_5 mAr_21 dX6_sets_56 (z_iload hX 3 rfl dX6_sets_59 ?_))))))))))
    refine m_iald hX (j := 8) (by decide) h dX6_sets_61 (fun x1 h => ?_)
    refine z_isub hX dX6_sets_62 ?_
    refine m_cNU hX (rest := []) h (fun r9 M9 e9 => z_runV hX lk_X6_271 (hra _ _ _ _ _ e9) (ci := 5) zc9_5 pM_cl ⟨by omega, by omega⟩ rfl (Nat.le_of_ble_eq_true rfl) dX6_sets_63 rfl) (fun _ M3 h => ?_)
    refine z_iinc hX (j := 3) h rfl (by decide) (by decide) dX6_sets_66 (fun x4 h => z_L (L' := [(0, zA (some o)), (2, zI v2), (3, zI v3), (4, zI x4)]) rfl ?_)
    refine z_goto (tgt := 35) hX dX6_sets_69 (by decide) ?_
    exact z_sub [0, 1, 2, 3] rfl (hrec35 _ _ h)

theorem m_X6_sets_35 {f9 w9 : Nat} {X : zX} (hX : zOk X RX6 cX6_sets 5 (f9 + 1) (w9 + 40) (Option.none : Option Jvm.ClassFile.FieldType) "sets" []) {ra : Int32 → Int32 → Int32 → mS → Option (Unit × mS)} {σ : zS} {o : Nat} (hP : zP σ o) (hra : zRA_X6_sets (xl X) (xD X) (xt X) σ o ra f9 w9) {Rt : Unit × mS} {v2 : Int32} {v3 : Int32} {v4 : Int32} {M : mS} (h : g_X6_sets_35 ra v2 v3 v4 M = some Rt) : zG X (zQ X (.inl (eU Rt.1)) (pM σ o Rt.2)) 5 35 [(0, zA (some o)), (2, zI v2), (3, zI v3), (4, zI v4)] [] (pM σ o M) :=
  zlp1_ok (P := fun v4 M => zG X (zQ X (.inl (eU Rt.1)) (pM σ o Rt.2)) 5 35 [(0, zA (some o)), (2, zI v2), (3, zI v3), (4, zI v4)] [] (pM σ o M)) (fun rec hr v4 M h => m_X6_sets_35_b hX hP hra hr h) NN v4 M h
def g_X6_sets (ra : Int32 → Int32 → Int32 → mS → Option (Unit × mS)) (p1 : Int32) (p2 : Int32) (p3 : Int32) (M : mS) : Option (Unit × mS) :=
  if ¬ p2 = 0 then
    g_X6_sets_35 ra p2 p3 p1 M
  else
    if ¬ p3 = 0 then
      zl (mset M 24 ((M.1 24) + 1)) fun M5 =>
      some ((), M5)
    else
      zl (mset M 23 ((M.1 23) + 1)) fun M6 =>
      some ((), M6)

set_option maxHeartbeats 4000000 in
theorem m_X6_sets {f9 w9 : Nat} {X : zX} (hX : zOk X RX6 cX6_sets 5 (f9 + 1) (w9 + 40) (Option.none : Option Jvm.ClassFile.FieldType) "sets" []) {ra : Int32 → Int32 → Int32 → mS → Option (Unit × mS)} {σ : zS} {o : Nat} (hP : zP σ o) (hra : zRA_X6_sets (xl X) (xD X) (xt X) σ o ra f9 w9) {p1 : Int32} {p2 : Int32} {p3 : Int32} {M : mS} {Rt : Unit × mS} (h : g_X6_sets ra p1 p2 p3 M = some Rt) : zG X (zQ X (.inl (eU Rt.1)) (pM σ o Rt.2)) 5 0 [(0, zA (some o)), (1, zI p1), (2, zI p2), (3, zI p3)] [] (pM σ o M) := by
  unfold g_X6_sets at h
  refine z_iload_n hX 2 rfl rfl dX6_sets_0 ?_
  refine z_if_ne (tgt := 32) hX h dX6_sets_1 (by decide) (fun h => ?_) (fun h => ?_)
  · refine z_iload_n hX 1 rfl rfl dX6_sets_32 (z_istore (L' := [(0, zA (some o)), (1, zI p1), (2, zI p2), (3, zI p3), (4, zI p1)]) hX rfl (by decide) dX6_sets_33 ?_)
    exact z_sub [0, 2, 3, 4] rfl (m_X6_sets_35 hX hP hra  h)
  · refine z_iload_n hX 3 rfl rfl dX6_sets_4 ?_
    refine z_if_ne (tgt := 21) hX h dX6_sets_5 (by decide) (fun h => ?_) (fun h => ?_)
    · refine z_aload_n hX 0 rfl rfl dX6_sets_21 (z_dup hX rfl dX6_sets_22 (m_getI hX fl_X6_268_5 mSc_24 dX6_sets_23 (z_iconst hX (v := 1) (by decide) dX6_sets_26 (z_iadd hX dX6_sets_27 ?_))))
      refine m_putI hX hP fp_X6_268_5 mSc_24 h dX6_sets_28 (fun M5 h => ?_)
      obtain rfl := Option.some.inj h
      exact z_vret hX dX6_sets_31
    · refine z_aload_n hX 0 rfl rfl dX6_sets_8 (z_dup hX rfl dX6_sets_9 (m_getI hX fl_X6_265_5 mSc_23 dX6_sets_10 (z_iconst hX (v := 1) (by decide) dX6_sets_13 (z_iadd hX dX6_sets_14 ?_))))
      refine m_putI hX hP fp_X6_265_5 mSc_23 h dX6_sets_15 (fun M6 h => ?_)
      refine z_goto (tgt := 31) hX dX6_sets_18 (by decide) ?_
      obtain rfl := Option.some.inj h
      exact z_vret hX dX6_sets_31

theorem c_X6_sets {l : Launch} {D : va_G} {tys : zTy} (hl : l.stackTraces = false) {ra : Int32 → Int32 → Int32 → mS → Option (Unit × mS)} {f9 w9 : Nat} {σ : zS} {o : Nat} (hP : zP σ o) (hra : zRA_X6_sets l D tys σ o ra f9 w9) {p1 : Int32} {p2 : Int32} {p3 : Int32} {M : mS} {Rt : Unit × mS} (h : g_X6_sets ra p1 p2 p3 M = some Rt) : zM l D tys yX6_sets (ws_ yX6_sets cX6_sets 5 (Option.none : Option Jvm.ClassFile.FieldType)) (f9 + 1) (w9 + 40) [zA (some o), zI p1, zI p2, zI p3] (pM σ o M) (.inl (eU Rt.1)) (pM σ o Rt.2) :=
  zM_in hl rfl (Nat.le_of_ble_eq_true rfl) (fun p e R s m args below meth c hX => z_L rfl (m_X6_sets hX hP hra h))
def g_X6_setsD : Nat → Int32 → Int32 → Int32 → mS → Option (Unit × mS)
  | 0 => fun _ _ _ _ => none
  | n + 1 => fun p1 p2 p3 M => g_X6_sets (g_X6_setsD n) p1 p2 p3 M
theorem c_X6_setsD {l : Launch} {D : va_G} {tys : zTy} (hl : l.stackTraces = false) {σ : zS} {o : Nat} (hP : zP σ o) : ∀ n : Nat, zRA_X6_sets l D tys σ o (g_X6_setsD n) (1 * n) (40 * n)
  | 0 => fun _ _ _ _ _ h => nomatch h
  | n + 1 => fun _ _ _ _ _ h => c_X6_sets hl hP (c_X6_setsD hl hP n) h
def g_X6_proof_68 (v3 : Int32) (t0 : Int32) (M : mS) : Option (Int32 × mS) :=
  zb2 (g_X6_setsD 18 0 v3 t0 M) fun _ M11 =>
  if ¬ (M11.1 23) = 0 then
    if ¬ (M11.1 24) = 0 then
      some ((1 : Int32), M11)
    else
      some ((2 : Int32), M11)
  else
    some ((0 : Int32), M11)

set_option maxHeartbeats 4000000 in
theorem m_X6_proof_68 {X : zX} (hX : zOk X RX6 cX6_proof 6 20 784 (Option.some Jvm.ClassFile.FieldType.int) "proof" []) {σ : zS} {o : Nat} (hP : zP σ o) {Rt : Int32 × mS} {v3 : Int32} {t0 : Int32} {M : mS} (h : g_X6_proof_68 v3 t0 M = some Rt) : zG X (zQ X (.inl (eI Rt.1)) (pM σ o Rt.2)) 6 68 [(0, zA (some o)), (3, zI v3)] [zI t0] (pM σ o M) := by
  unfold g_X6_proof_68 at h
  refine z_istore (L' := [(0, zA (some o)), (3, zI v3), (5, zI t0)]) hX rfl (by decide) dX6_proof_68 (z_aload_n hX 0 rfl rfl dX6_proof_70 (z_iconst hX (v := 0) (by decide) dX6_proof_71 (z_iload_n hX 1 rfl rfl dX6_proof_72 (z_iload hX 2 rfl dX6_proof_73 ?_))))
  refine m_cNU hX (rest := []) h (fun r9 M9 e9 => z_runV hX lk_X6_271 (c_X6_setsD hX.tr hP 18 _ _ _ _ _ e9) (ci := 5) zc9_5 pM_cl ⟨Nat.le_of_ble_eq_true rfl, Nat.le_of_ble_eq_true rfl⟩ rfl (Nat.le_of_ble_eq_true rfl) dX6_proof_75 rfl) (fun _ M11 h => ?_)
  refine z_aload_n hX 0 rfl rfl dX6_proof_78 (m_getI hX fl_X6_265_5 mSc_23 dX6_proof_79 ?_)
  refine z_if_ne (tgt := 89) hX h dX6_proof_82 (by decide) (fun h => ?_) (fun h => ?_)
  · refine z_aload_n hX 0 rfl rfl dX6_proof_89 (m_getI hX fl_X6_268_5 mSc_24 dX6_proof_90 ?_)
    refine z_if_ne (tgt := 100) hX h dX6_proof_93 (by decide) (fun h => ?_) (fun h => ?_)
    · refine z_iconst hX (v := 1) (by decide) dX6_proof_100 ?_
      obtain rfl := Option.some.inj h
      exact z_iret hX dX6_proof_101
    · refine z_iconst hX (v := 2) (by decide) dX6_proof_96 (z_goto (tgt := 101) hX dX6_proof_97 (by decide) ?_)
      obtain rfl := Option.some.inj h
      exact z_iret hX dX6_proof_101
  · refine z_iconst hX (v := 0) (by decide) dX6_proof_85 (z_goto (tgt := 101) hX dX6_proof_86 (by decide) ?_)
    obtain rfl := Option.some.inj h
    exact z_iret hX dX6_proof_101

def g_X6_proof_60 (v3 : Int32) (M : mS) : Option (Int32 × mS) :=
  g_X6_proof_68 v3 (-1) M

set_option maxHeartbeats 4000000 in
theorem m_X6_proof_60 {X : zX} (hX : zOk X RX6 cX6_proof 6 20 784 (Option.some Jvm.ClassFile.FieldType.int) "proof" []) {σ : zS} {o : Nat} (hP : zP σ o) {Rt : Int32 × mS} {v3 : Int32} {M : mS} (h : g_X6_proof_60 v3 M = some Rt) : zG X (zQ X (.inl (eI Rt.1)) (pM σ o Rt.2)) 6 60 [(0, zA (some o)), (3, zI v3)] [] (pM σ o M) := by
  unfold g_X6_proof_60 at h
  refine z_iconst hX (v := (-1)) (by decide) dX6_proof_60 (z_goto (tgt := 68) hX dX6_proof_61 (by decide) ?_)
  exact z_sub [0, 1] rfl (m_X6_proof_68 hX hP  h)

def g_X6_proof_14 (v1 : Int32) (v2 : Int32) (t1 : Int32) (M : mS) : Option (Int32 × mS) :=
  zl (mset M 0 t1) fun M3 =>
  if (M3.1 0) ≤ 0 then
    zb2 (g_X6_asks v1 M3) fun x4 M5 =>
    zl (mset M5 23 0) fun M6 =>
    zl (mset M6 24 0) fun M7 =>
    zb2 (g_X6_knownOf v1 M7) fun x8 M9 =>
    if v2 < 0 then
      g_X6_proof_60 x4 M9
    else
      if v2 ≤ 5999940 then
        g_X6_proof_68 x4 (v2 - x8) M9
      else
        g_X6_proof_60 x4 M9
  else
    some ((0 : Int32), M3)

set_option maxHeartbeats 4000000 in
theorem m_X6_proof_14 {X : zX} (hX : zOk X RX6 cX6_proof 6 20 784 (Option.some Jvm.ClassFile.FieldType.int) "proof" []) {σ : zS} {o : Nat} (hP : zP σ o) {Rt : Int32 × mS} {v1 : Int32} {v2 : Int32} {t1 : Int32} {M : mS} (h : g_X6_proof_14 v1 v2 t1 M = some Rt) : zG X (zQ X (.inl (eI Rt.1)) (pM σ o Rt.2)) 6 14 [(0, zA (some o)), (1, zI v1), (2, zI v2)] [zI t1, zA (some o)] (pM σ o M) := by
  unfold g_X6_proof_14 at h
  refine m_putI hX hP fp_X6_41_5 mSc_0 h dX6_proof_14 (fun M3 h => ?_)
  refine z_aload_n hX 0 rfl rfl dX6_proof_17 (m_getI hX fl_X6_41_5 mSc_0 dX6_proof_18 ?_)
  refine z_if_le (tgt := 26) hX h dX6_proof_21 (by decide) (fun h => ?_) (fun h => ?_)
  · refine z_aload_n hX 0 rfl rfl dX6_proof_26 (z_iload_n hX 1 rfl rfl dX6_proof_27 ?_)
    refine m_cNI hX (rest := []) h (fun r9 M9 e9 => z_runV hX lk_X6_259 (c_X6_asks hX.tr hP e9) (ci := 5) zc9_5 pM_cl ⟨Nat.le_of_ble_eq_true rfl, Nat.le_of_ble_eq_true rfl⟩ rfl (Nat.le_of_ble_eq_true rfl) dX6_proof_28 rfl) (fun x4 M5 h => ?_)
    refine z_istore_n (L' := [(0, zA (some o)), (1, zI v1), (2, zI v2), (3, zI x4)]) hX rfl rfl (by decide) dX6_proof_31 (z_aload_n hX 0 rfl rfl dX6_proof_32 (z_iconst hX (v := 0) (by decide) dX6_proof_33 ?_))
    refine m_putI hX hP fp_X6_265_5 mSc_23 h dX6_proof_34 (fun M6 h => ?_)
    refine z_aload_n hX 0 rfl rfl dX6_proof_37 (z_iconst hX (v := 0) (by decide) dX6_proof_38 ?_)
    refine m_putI hX hP fp_X6_268_5 mSc_24 h dX6_proof_39 (fun M7 h => ?_)
    refine z_aload_n hX 0 rfl rfl dX6_proof_42 (z_iload_n hX 1 rfl rfl dX6_proof_43 ?_)
    refine m_cNI hX (rest := []) h (fun r9 M9 e9 => z_runV hX lk_X6_262 (c_X6_knownOf hX.tr hP e9) (ci := 5) zc9_5 pM_cl ⟨Nat.le_of_ble_eq_true rfl, Nat.le_of_ble_eq_true rfl⟩ rfl (Nat.le_of_ble_eq_true rfl) dX6_proof_44 rfl) (fun x8 M9 h => ?_)
    refine z_istore (L' := [(0, zA (some o)), (1, zI v1), (2, zI v2), (3, zI x4), (4, zI x8)]) hX rfl (by decide) dX6_proof_47 (z_iload_n hX 2 rfl rfl dX6_proof_49 ?_)
    refine z_if_lt (tgt := 60) hX h dX6_proof_50 (by decide) (fun h => ?_) (fun h => ?_)
    · exact z_sub [0, 3] rfl (m_X6_proof_60 hX hP  h)
    · refine z_iload_n hX 2 rfl rfl dX6_proof_53 (z_ldcw hX (v := 5999940) q2125 dX6_proof_54 ?_)
      refine z_icmp_le (tgt := 64) hX h dX6_proof_57 (by decide) (fun h => ?_) (fun h => ?_)
      · refine z_iload_n hX 2 rfl rfl dX6_proof_64 (z_iload hX 4 rfl dX6_proof_65 (z_isub hX dX6_proof_67 ?_))
        exact z_sub [0, 3] rfl (m_X6_proof_68 hX hP  h)
      · exact z_sub [0, 3] rfl (m_X6_proof_60 hX hP  h)
  · refine z_iconst hX (v := 0) (by decide) dX6_proof_24 ?_
    obtain rfl := Option.some.inj h
    exact z_iret hX dX6_proof_25

def g_X6_proof (p1 : Int32) (p2 : Int32) (M : mS) : Option (Int32 × mS) :=
  zb2 (g_X6_isHouse p1 M) fun x1 M2 =>
  if ¬ x1 = 0 then
    g_X6_proof_14 p1 p2 0 M2
  else
    g_X6_proof_14 p1 p2 1 M2

set_option maxHeartbeats 4000000 in
theorem m_X6_proof {X : zX} (hX : zOk X RX6 cX6_proof 6 20 784 (Option.some Jvm.ClassFile.FieldType.int) "proof" []) {σ : zS} {o : Nat} (hP : zP σ o) {p1 : Int32} {p2 : Int32} {M : mS} {Rt : Int32 × mS} (h : g_X6_proof p1 p2 M = some Rt) : zG X (zQ X (.inl (eI Rt.1)) (pM σ o Rt.2)) 6 0 [(0, zA (some o)), (1, zI p1), (2, zI p2)] [] (pM σ o M) := by
  unfold g_X6_proof at h
  refine z_aload_n hX 0 rfl rfl dX6_proof_0 (z_aload_n hX 0 rfl rfl dX6_proof_1 (z_iload_n hX 1 rfl rfl dX6_proof_2 ?_))
  refine m_cNI hX (rest := [zA (some o)]) h (fun r9 M9 e9 => z_runV hX lk_X6_200 (c_X6_isHouse hX.tr hP e9) (ci := 5) zc9_5 pM_cl ⟨Nat.le_of_ble_eq_true rfl, Nat.le_of_ble_eq_true rfl⟩ rfl (Nat.le_of_ble_eq_true rfl) dX6_proof_3 rfl) (fun x1 M2 h => ?_)
  refine z_if_ne (tgt := 13) hX h dX6_proof_6 (by decide) (fun h => ?_) (fun h => ?_)
  · refine z_iconst hX (v := 0) (by decide) dX6_proof_13 ?_
    exact z_sub [0, 1, 2] rfl (m_X6_proof_14 hX hP  h)
  · refine z_iconst hX (v := 1) (by decide) dX6_proof_9 (z_goto (tgt := 14) hX dX6_proof_10 (by decide) ?_)
    exact z_sub [0, 1, 2] rfl (m_X6_proof_14 hX hP  h)

theorem c_X6_proof {l : Launch} {D : va_G} {tys : zTy} (hl : l.stackTraces = false) {σ : zS} {o : Nat} (hP : zP σ o) {p1 : Int32} {p2 : Int32} {M : mS} {Rt : Int32 × mS} (h : g_X6_proof p1 p2 M = some Rt) : zM l D tys yX6_proof (ws_ yX6_proof cX6_proof 6 (Option.some Jvm.ClassFile.FieldType.int)) 20 784 [zA (some o), zI p1, zI p2] (pM σ o M) (.inl (eI Rt.1)) (pM σ o Rt.2) :=
  zM_in hl rfl (Nat.le_of_ble_eq_true rfl) (fun p e R s m args below meth c hX => z_L rfl (m_X6_proof hX hP h))
def g_X6_ways_40_b (rec15 : Int32 → Int64 → Int32 → mS → Option (Int64 × mS)) (v1 : Int32) (v2 : Int64) (v4 : Int32) (v5 : Int32) (rec40 : Int64 → Int32 → mS → Option (Int64 × mS)) (v6 : Int64) (v8 : Int32) (M : mS) : Option (Int64 × mS) :=
  if v5 < v8 then
    zl (v2 * v6) fun x7 =>
    zl (v1 - v5) fun x8 =>
    zl (v4 + 1) fun x9 =>
    rec15 x8 x7 x9 M
  else
    (zdivJ (v6 * (((v1 - v5) + v8).toInt64)) v8.toInt64).bind fun x10 =>
    zl (v8 + 1) fun x11 =>
    rec40 x10 x11 M

def g_X6_ways_40 (rec15 : Int32 → Int64 → Int32 → mS → Option (Int64 × mS)) (v1 : Int32) (v2 : Int64) (v4 : Int32) (v5 : Int32) : Int64 → Int32 → mS → Option (Int64 × mS) := zlp2 (g_X6_ways_40_b rec15 v1 v2 v4 v5) NN
set_option maxHeartbeats 4000000 in
theorem m_X6_ways_40_b {X : zX} (hX : zOk X RX6 cX6_ways 9 4 109 (Option.some Jvm.ClassFile.FieldType.long) "ways" []) {σ : zS} {o : Nat} (hP : zP σ o) {Rt : Int64 × mS} {rec15 : Int32 → Int64 → Int32 → mS → Option (Int64 × mS)} {v1 : Int32} {v2 : Int64} {v4 : Int32} {v5 : Int32} (hrec15 : ∀ (v1 : Int32) (v2 : Int64) (v4 : Int32) (M : mS), rec15 v1 v2 v4 M = some Rt → zG X (zQ X (.inl (eJ Rt.1)) (pM σ o Rt.2)) 9 15 [(0, zA (some o)), (1, zI v1), (2, zJ v2), (4, zI v4)] [] (pM σ o M)) {rec40 : Int64 → Int32 → mS → Option (Int64 × mS)} (hrec40 : ∀ (v6 : Int64) (v8 : Int32) (M : mS), rec40 v6 v8 M = some Rt → zG X (zQ X (.inl (eJ Rt.1)) (pM σ o Rt.2)) 9 40 [(0, zA (some o)), (1, zI v1), (2, zJ v2), (4, zI v4), (5, zI v5), (6, zJ v6), (8, zI v8)] [] (pM σ o M)) {v6 : Int64} {v8 : Int32} {M : mS} (h : g_X6_ways_40_b rec15 v1 v2 v4 v5 rec40 v6 v8 M = some Rt) : zG X (zQ X (.inl (eJ Rt.1)) (pM σ o Rt.2)) 9 40 [(0, zA (some o)), (1, zI v1), (2, zJ v2), (4, zI v4), (5, zI v5), (6, zJ v6), (8, zI v8)] [] (pM σ o M) := by
  unfold g_X6_ways_40_b at h
  refine z_iload hX 6 rfl dX6_ways_40 (z_iload hX 4 rfl dX6_ways_42 ?_)
  refine z_icmp_gt (tgt := 70) hX h dX6_ways_44 (by decide) (fun h => ?_) (fun h => ?_)
  · refine z_lload_n hX 2 rfl rfl dX6_ways_70 (z_lload hX 5 rfl dX6_ways_71 (z_lmul hX dX6_ways_73 ?_))
    refine z_nmJ h (fun x7 h => ?_)
    refine z_lstore_n (L' := [(0, zA (some o)), (1, zI v1), (2, zJ x7), (4, zI v4), (5, zI v5), (6, zJ v6), (8, zI v8)]) hX rfl rfl (by decide) dX6_ways_74 (z_iload_n hX 1 rfl rfl dX6_ways_75 (z_iload hX 4 rfl dX6_ways_76 (z_isub hX dX6_ways_78 ?_)))
    refine z_nmI h (fun x8 h => ?_)
    refine z_istore_n (L' := [(0, zA (some o)), (1, zI x8), (2, zJ x7), (4, zI v4), (5, zI v5), (6, zJ v6), (8, zI v8)]) hX rfl rfl (by decide) dX6_ways_79 ?_
    refine z_iinc hX (j := 3) h rfl (by decide) (by decide) dX6_ways_80 (fun x9 h => z_L (L' := [(0, zA (some o)), (1, zI x8), (2, zJ x7), (4, zI x9), (5, zI v5), (6, zJ v6), (8, zI v8)]) rfl ?_)
    refine z_goto (tgt := 15) hX dX6_ways_83 (by decide) ?_
    exact z_sub [0, 1, 2, 3] rfl (hrec15 _ _ _ _ h)
  · refine z_lload hX 5 rfl dX6_ways_47 (z_iload_n hX 1 rfl rfl dX6_ways_49 (z_iload hX 4 rfl dX6_ways_50 (z_isub hX dX6_ways_52 (z_iload hX 6 rfl dX6_ways_53 (z_iadd hX dX6_ways_55 (z_i2l hX dX6_ways_56 (z_lmul hX dX6_ways_57 (z_iload hX 6 rfl dX6_ways_58 (z_i2l hX dX6_ways_60 ?_)))))))))
    refine z_ldiv hX h dX6_ways_61 (fun x10 h => ?_)
    refine z_lstore (L' := [(0, zA (some o)), (1, zI v1), (2, zJ v2), (4, zI v4), (5, zI v5), (6, zJ x10), (8, zI v8)]) hX rfl (by decide) dX6_ways_62 ?_
    refine z_iinc hX (j := 6) h rfl (by decide) (by decide) dX6_ways_64 (fun x11 h => z_L (L' := [(0, zA (some o)), (1, zI v1), (2, zJ v2), (4, zI v4), (5, zI v5), (6, zJ x10), (8, zI x11)]) rfl ?_)
    refine z_goto (tgt := 40) hX dX6_ways_67 (by decide) ?_
    exact z_sub [0, 1, 2, 3, 4, 5, 6] rfl (hrec40 _ _ _ h)

theorem m_X6_ways_40 {X : zX} (hX : zOk X RX6 cX6_ways 9 4 109 (Option.some Jvm.ClassFile.FieldType.long) "ways" []) {σ : zS} {o : Nat} (hP : zP σ o) {Rt : Int64 × mS} {rec15 : Int32 → Int64 → Int32 → mS → Option (Int64 × mS)} {v1 : Int32} {v2 : Int64} {v4 : Int32} {v5 : Int32} (hrec15 : ∀ (v1 : Int32) (v2 : Int64) (v4 : Int32) (M : mS), rec15 v1 v2 v4 M = some Rt → zG X (zQ X (.inl (eJ Rt.1)) (pM σ o Rt.2)) 9 15 [(0, zA (some o)), (1, zI v1), (2, zJ v2), (4, zI v4)] [] (pM σ o M)) {v6 : Int64} {v8 : Int32} {M : mS} (h : g_X6_ways_40 rec15 v1 v2 v4 v5 v6 v8 M = some Rt) : zG X (zQ X (.inl (eJ Rt.1)) (pM σ o Rt.2)) 9 40 [(0, zA (some o)), (1, zI v1), (2, zJ v2), (4, zI v4), (5, zI v5), (6, zJ v6), (8, zI v8)] [] (pM σ o M) :=
  zlp2_ok (P := fun v6 v8 M => zG X (zQ X (.inl (eJ Rt.1)) (pM σ o Rt.2)) 9 40 [(0, zA (some o)), (1, zI v1), (2, zJ v2), (4, zI v4), (5, zI v5), (6, zJ v6), (8, zI v8)] [] (pM σ o M)) (fun rec hr v6 v8 M h => m_X6_ways_40_b hX hP hrec15 hr h) NN v6 v8 M h
def g_X6_ways_15_b (rec15 : Int32 → Int64 → Int32 → mS → Option (Int64 × mS)) (v1 : Int32) (v2 : Int64) (v4 : Int32) (M : mS) : Option (Int64 × mS) :=
  (mL M 0 1).bind fun x4 =>
  if x4 ≤ v4 then
    some (v2, M)
  else
    zb2 (g_X6_asks v4 M) fun x5 M6 =>
    g_X6_ways_40 rec15 v1 v2 v4 x5 1 1 M6

def g_X6_ways_15 : Int32 → Int64 → Int32 → mS → Option (Int64 × mS) := zlp3 (g_X6_ways_15_b) NN
set_option maxHeartbeats 4000000 in
theorem m_X6_ways_15_b {X : zX} (hX : zOk X RX6 cX6_ways 9 4 109 (Option.some Jvm.ClassFile.FieldType.long) "ways" []) {σ : zS} {o : Nat} (hP : zP σ o) {Rt : Int64 × mS} {rec15 : Int32 → Int64 → Int32 → mS → Option (Int64 × mS)} (hrec15 : ∀ (v1 : Int32) (v2 : Int64) (v4 : Int32) (M : mS), rec15 v1 v2 v4 M = some Rt → zG X (zQ X (.inl (eJ Rt.1)) (pM σ o Rt.2)) 9 15 [(0, zA (some o)), (1, zI v1), (2, zJ v2), (4, zI v4)] [] (pM σ o M)) {v1 : Int32} {v2 : Int64} {v4 : Int32} {M : mS} (h : g_X6_ways_15_b rec15 v1 v2 v4 M = some Rt) : zG X (zQ X (.inl (eJ Rt.1)) (pM σ o Rt.2)) 9 15 [(0, zA (some o)), (1, zI v1), (2, zJ v2), (4, zI v4)] [] (pM σ o M) := by
  unfold g_X6_ways_15_b at h
  refine z_iload hX 3 rfl dX6_ways_15 (z_aload_n hX 0 rfl rfl dX6_ways_17 (m_getA hX fl_X6_7_5 mAr_1 dX6_ways_18 (z_iconst hX (v := 1) (by decide) dX6_ways_21 ?_)))
  refine m_iald hX (j := 0) (by decide) h dX6_ways_22 (fun x4 h => ?_)
  refine z_icmp_ge (tgt := 86) hX h dX6_ways_23 (by decide) (fun h => ?_) (fun h => ?_)
  · refine z_lload_n hX 2 rfl rfl dX6_ways_86 ?_
    obtain rfl := Option.some.inj h
    exact z_lret hX dX6_ways_87
  · refine z_aload_n hX 0 rfl rfl dX6_ways_26 (z_iload hX 3 rfl dX6_ways_27 ?_)
    refine m_cNI hX (rest := []) h (fun r9 M9 e9 => z_runV hX lk_X6_259 (c_X6_asks hX.tr hP e9) (ci := 5) zc9_5 pM_cl ⟨Nat.le_of_ble_eq_true rfl, Nat.le_of_ble_eq_true rfl⟩ rfl (Nat.le_of_ble_eq_true rfl) dX6_ways_29 rfl) (fun x5 M6 h => ?_)
    refine z_istore (L' := [(0, zA (some o)), (1, zI v1), (2, zJ v2), (4, zI v4), (5, zI x5)]) hX rfl (by decide) dX6_ways_32 (z_lconst hX (v := 1) (by decide) dX6_ways_34 (z_lstore (L' := [(0, zA (some o)), (1, zI v1), (2, zJ v2), (4, zI v4), (5, zI x5), (6, zJ 1)]) hX rfl (by decide) dX6_ways_35 (z_iconst hX (v := 1) (by decide) dX6_ways_37 (z_istore (L' := [(0, zA (some o)), (1, zI v1), (2, zJ v2), (4, zI v4), (5, zI x5), (6, zJ 1), (8, zI 1)]) hX rfl (by decide) dX6_ways_38 ?_))))
    exact z_sub [0, 1, 2, 3, 4, 5, 6] rfl (m_X6_ways_40 hX hP hrec15 h)

theorem m_X6_ways_15 {X : zX} (hX : zOk X RX6 cX6_ways 9 4 109 (Option.some Jvm.ClassFile.FieldType.long) "ways" []) {σ : zS} {o : Nat} (hP : zP σ o) {Rt : Int64 × mS} {v1 : Int32} {v2 : Int64} {v4 : Int32} {M : mS} (h : g_X6_ways_15 v1 v2 v4 M = some Rt) : zG X (zQ X (.inl (eJ Rt.1)) (pM σ o Rt.2)) 9 15 [(0, zA (some o)), (1, zI v1), (2, zJ v2), (4, zI v4)] [] (pM σ o M) :=
  zlp3_ok (P := fun v1 v2 v4 M => zG X (zQ X (.inl (eJ Rt.1)) (pM σ o Rt.2)) 9 15 [(0, zA (some o)), (1, zI v1), (2, zJ v2), (4, zI v4)] [] (pM σ o M)) (fun rec hr v1 v2 v4 M h => m_X6_ways_15_b hX hP hr h) NN v1 v2 v4 M h
def g_X6_ways (M : mS) : Option (Int64 × mS) :=
  zl (mset M 0 0) fun M1 =>
  zb2 (g_X6_burntNow M1) fun x2 M3 =>
  g_X6_ways_15 x2 1 0 M3

set_option maxHeartbeats 4000000 in
theorem m_X6_ways {X : zX} (hX : zOk X RX6 cX6_ways 9 4 109 (Option.some Jvm.ClassFile.FieldType.long) "ways" []) {σ : zS} {o : Nat} (hP : zP σ o) {M : mS} {Rt : Int64 × mS} (h : g_X6_ways M = some Rt) : zG X (zQ X (.inl (eJ Rt.1)) (pM σ o Rt.2)) 9 0 [(0, zA (some o))] [] (pM σ o M) := by
  unfold g_X6_ways at h
  refine z_aload_n hX 0 rfl rfl dX6_ways_0 (z_iconst hX (v := 0) (by decide) dX6_ways_1 ?_)
  refine m_putI hX hP fp_X6_41_5 mSc_0 h dX6_ways_2 (fun M1 h => ?_)
  refine z_aload_n hX 0 rfl rfl dX6_ways_5 ?_
  refine m_cNI hX (rest := []) h (fun r9 M9 e9 => z_runV hX lk_X6_253 (c_X6_burntNow hX.tr hP e9) (ci := 5) zc9_5 pM_cl ⟨Nat.le_of_ble_eq_true rfl, Nat.le_of_ble_eq_true rfl⟩ rfl (Nat.le_of_ble_eq_true rfl) dX6_ways_6 rfl) (fun x2 M3 h => ?_)
  refine z_istore_n (L' := [(0, zA (some o)), (1, zI x2)]) hX rfl rfl (by decide) dX6_ways_9 (z_lconst hX (v := 1) (by decide) dX6_ways_10 (z_lstore_n (L' := [(0, zA (some o)), (1, zI x2), (2, zJ 1)]) hX rfl rfl (by decide) dX6_ways_11 (z_iconst hX (v := 0) (by decide) dX6_ways_12 (z_istore (L' := [(0, zA (some o)), (1, zI x2), (2, zJ 1), (4, zI 0)]) hX rfl (by decide) dX6_ways_13 ?_))))
  exact z_sub [0, 1, 2, 3] rfl (m_X6_ways_15 hX hP  h)

theorem c_X6_ways {l : Launch} {D : va_G} {tys : zTy} (hl : l.stackTraces = false) {σ : zS} {o : Nat} (hP : zP σ o) {M : mS} {Rt : Int64 × mS} (h : g_X6_ways M = some Rt) : zM l D tys yX6_ways (ws_ yX6_ways cX6_ways 9 (Option.some Jvm.ClassFile.FieldType.long)) 4 109 [zA (some o)] (pM σ o M) (.inl (eJ Rt.1)) (pM σ o Rt.2) :=
  zM_in hl rfl (Nat.le_of_ble_eq_true rfl) (fun p e R s m args below meth c hX => z_L rfl (m_X6_ways hX hP h))
def g_X6_draw (p1 : Int32) (M : mS) : Option (Int32 × mS) :=
  (mL M 0 9).bind fun x1 =>
  (mSt M 0 9 ((1103515245 * x1) + 12345)).bind fun M2 =>
  (mL M2 0 9).bind fun x3 =>
  (zrem (((x3.toUInt32 >>> ((16 : Int32).toUInt32 &&& Int32.toUInt32 31)).toInt32) &&& 32767) p1).bind fun x4 =>
  some (x4, M2)

set_option maxHeartbeats 4000000 in
theorem m_X6_draw {X : zX} (hX : zOk X RX6 cX6_draw 2 1 40 (Option.some Jvm.ClassFile.FieldType.int) "draw" []) {σ : zS} {o : Nat} (hP : zP σ o) {p1 : Int32} {M : mS} {Rt : Int32 × mS} (h : g_X6_draw p1 M = some Rt) : zG X (zQ X (.inl (eI Rt.1)) (pM σ o Rt.2)) 2 0 [(0, zA (some o)), (1, zI p1)] [] (pM σ o M) := by
  unfold g_X6_draw at h
  refine z_aload_n hX 0 rfl rfl dX6_draw_0 (m_getA hX fl_X6_7_5 mAr_1 dX6_draw_1 (z_bipush hX (v := 9) (by decide) dX6_draw_4 (z_ldcw hX (v := 1103515245) q2142 dX6_draw_6 (z_aload_n hX 0 rfl rfl dX6_draw_9 (m_getA hX fl_X6_7_5 mAr_1 dX6_draw_10 (z_bipush hX (v := 9) (by decide) dX6_draw_13 ?_))))))
  refine m_iald hX (j := 0) (by decide) h dX6_draw_15 (fun x1 h => ?_)
  refine z_imul hX dX6_draw_16 (z_sipush hX (v := 12345) (by decide) dX6_draw_17 (z_iadd hX dX6_draw_20 ?_))
  refine m_iast hX hP (j := 0) (by decide) h dX6_draw_21 (fun M2 h => ?_)
  refine z_aload_n hX 0 rfl rfl dX6_draw_22 (m_getA hX fl_X6_7_5 mAr_1 dX6_draw_23 (z_bipush hX (v := 9) (by decide) dX6_draw_26 ?_))
  refine m_iald hX (j := 0) (by decide) h dX6_draw_28 (fun x3 h => ?_)
  refine z_bipush hX (v := 16) (by decide) dX6_draw_29 (z_iushr hX dX6_draw_31 (z_sipush hX (v := 32767) (by decide) dX6_draw_32 (z_iand hX dX6_draw_35 (z_iload_n hX 1 rfl rfl dX6_draw_36 ?_))))
  refine z_irem hX h dX6_draw_37 (fun x4 h => ?_)
  obtain rfl := Option.some.inj h
  exact z_iret hX dX6_draw_38

theorem c_X6_draw {l : Launch} {D : va_G} {tys : zTy} (hl : l.stackTraces = false) {σ : zS} {o : Nat} (hP : zP σ o) {p1 : Int32} {M : mS} {Rt : Int32 × mS} (h : g_X6_draw p1 M = some Rt) : zM l D tys yX6_draw (ws_ yX6_draw cX6_draw 2 (Option.some Jvm.ClassFile.FieldType.int)) 1 40 [zA (some o), zI p1] (pM σ o M) (.inl (eI Rt.1)) (pM σ o Rt.2) :=
  zM_in hl rfl (Nat.le_of_ble_eq_true rfl) (fun p e R s m args below meth c hX => z_L rfl (m_X6_draw hX hP h))
def g_X6_live_150 (rec37 : Int32 → mS → Option (Int32 × mS)) (v1 : Int32) (v2 : Int32) (v3 : Int32) (M : mS) : Option (Int32 × mS) :=
  (mL M 0 8).bind fun x7 =>
  (mSt M 0 8 (x7 + 1)).bind fun M8 =>
  zl (v3 + 1) fun x9 =>
  rec37 x9 M8

set_option maxHeartbeats 4000000 in
theorem m_X6_live_150 {X : zX} (hX : zOk X RX6 cX6_live 7 93 2208 (Option.some Jvm.ClassFile.FieldType.int) "live" []) {σ : zS} {o : Nat} (hP : zP σ o) {Rt : Int32 × mS} {rec37 : Int32 → mS → Option (Int32 × mS)} {v1 : Int32} {v2 : Int32} {v3 : Int32} (hrec37 : ∀ (v3 : Int32) (M : mS), rec37 v3 M = some Rt → zG X (zQ X (.inl (eI Rt.1)) (pM σ o Rt.2)) 7 37 [(0, zA (some o)), (1, zI v1), (2, zI v2), (3, zI v3)] [] (pM σ o M)) {M : mS} (h : g_X6_live_150 rec37 v1 v2 v3 M = some Rt) : zG X (zQ X (.inl (eI Rt.1)) (pM σ o Rt.2)) 7 150 [(0, zA (some o)), (1, zI v1), (2, zI v2), (3, zI v3)] [] (pM σ o M) := by
  unfold g_X6_live_150 at h
  refine z_aload_n hX 0 rfl rfl dX6_live_150 (m_getA hX fl_X6_7_5 mAr_1 dX6_live_151 (z_bipush hX (v := 8) (by decide) dX6_live_154 (z_dup2 hX rfl rfl dX6_live_156 ?_)))
  refine m_iald hX (j := 0) (by decide) h dX6_live_157 (fun x7 h => ?_)
  refine z_iconst hX (v := 1) (by decide) dX6_live_158 (z_iadd hX dX6_live_159 ?_)
  refine m_iast hX hP (j := 0) (by decide) h dX6_live_160 (fun M8 h => ?_)
  refine z_iinc hX (j := 3) h rfl (by decide) (by decide) dX6_live_161 (fun x9 h => z_L (L' := [(0, zA (some o)), (1, zI v1), (2, zI v2), (3, zI x9)]) rfl ?_)
  refine z_goto (tgt := 37) hX dX6_live_164 (by decide) ?_
  exact z_sub [0, 1, 2, 3] rfl (hrec37 _ _ h)

def g_X6_live_144 (rec37 : Int32 → mS → Option (Int32 × mS)) (rec45 : Int32 → mS → Option (Int32 × mS)) (v1 : Int32) (v2 : Int32) (v3 : Int32) (v4 : Int32) (M : mS) : Option (Int32 × mS) :=
  zl (v4 + 1) fun x23 =>
  rec45 x23 M

set_option maxHeartbeats 4000000 in
theorem m_X6_live_144 {X : zX} (hX : zOk X RX6 cX6_live 7 93 2208 (Option.some Jvm.ClassFile.FieldType.int) "live" []) {σ : zS} {o : Nat} (hP : zP σ o) {Rt : Int32 × mS} {rec37 : Int32 → mS → Option (Int32 × mS)} {rec45 : Int32 → mS → Option (Int32 × mS)} {v1 : Int32} {v2 : Int32} {v3 : Int32} {v4 : Int32} (hrec37 : ∀ (v3 : Int32) (M : mS), rec37 v3 M = some Rt → zG X (zQ X (.inl (eI Rt.1)) (pM σ o Rt.2)) 7 37 [(0, zA (some o)), (1, zI v1), (2, zI v2), (3, zI v3)] [] (pM σ o M)) (hrec45 : ∀ (v4 : Int32) (M : mS), rec45 v4 M = some Rt → zG X (zQ X (.inl (eI Rt.1)) (pM σ o Rt.2)) 7 45 [(0, zA (some o)), (1, zI v1), (2, zI v2), (3, zI v3), (4, zI v4)] [] (pM σ o M)) {M : mS} (h : g_X6_live_144 rec37 rec45 v1 v2 v3 v4 M = some Rt) : zG X (zQ X (.inl (eI Rt.1)) (pM σ o Rt.2)) 7 144 [(0, zA (some o)), (1, zI v1), (2, zI v2), (3, zI v3), (4, zI v4)] [] (pM σ o M) := by
  unfold g_X6_live_144 at h
  refine z_iinc hX (j := 4) h rfl (by decide) (by decide) dX6_live_144 (fun x23 h => z_L (L' := [(0, zA (some o)), (1, zI v1), (2, zI v2), (3, zI v3), (4, zI x23)]) rfl ?_)
  refine z_goto (tgt := 45) hX dX6_live_147 (by decide) ?_
  exact z_sub [0, 1, 2, 3, 4] rfl (hrec45 _ _ h)

def g_X6_live_111 (rec37 : Int32 → mS → Option (Int32 × mS)) (rec45 : Int32 → mS → Option (Int32 × mS)) (v1 : Int32) (v2 : Int32) (v3 : Int32) (v4 : Int32) (v5 : Int32) (t0 : Int32) (M : mS) : Option (Int32 × mS) :=
  zb2 (g_X6_mayWalk v4 v5 t0 M) fun x21 M22 =>
  if x21 = 0 then
    g_X6_live_144 rec37 rec45 v1 v2 v3 v4 M22
  else
    zb2 (g_X6_ofWalker v4 2 M22) fun x24 M25 =>
    zb2 (g_X6_walks v4 x24 v5 t0 M25) fun x26 M27 =>
    g_X6_live_144 rec37 rec45 v1 v2 v3 v4 M27

set_option maxHeartbeats 4000000 in
theorem m_X6_live_111 {X : zX} (hX : zOk X RX6 cX6_live 7 93 2208 (Option.some Jvm.ClassFile.FieldType.int) "live" []) {σ : zS} {o : Nat} (hP : zP σ o) {Rt : Int32 × mS} {rec37 : Int32 → mS → Option (Int32 × mS)} {rec45 : Int32 → mS → Option (Int32 × mS)} {v1 : Int32} {v2 : Int32} {v3 : Int32} {v4 : Int32} {v5 : Int32} (hrec37 : ∀ (v3 : Int32) (M : mS), rec37 v3 M = some Rt → zG X (zQ X (.inl (eI Rt.1)) (pM σ o Rt.2)) 7 37 [(0, zA (some o)), (1, zI v1), (2, zI v2), (3, zI v3)] [] (pM σ o M)) (hrec45 : ∀ (v4 : Int32) (M : mS), rec45 v4 M = some Rt → zG X (zQ X (.inl (eI Rt.1)) (pM σ o Rt.2)) 7 45 [(0, zA (some o)), (1, zI v1), (2, zI v2), (3, zI v3), (4, zI v4)] [] (pM σ o M)) {t0 : Int32} {M : mS} (h : g_X6_live_111 rec37 rec45 v1 v2 v3 v4 v5 t0 M = some Rt) : zG X (zQ X (.inl (eI Rt.1)) (pM σ o Rt.2)) 7 111 [(0, zA (some o)), (1, zI v1), (2, zI v2), (3, zI v3), (4, zI v4), (5, zI v5)] [zI t0] (pM σ o M) := by
  unfold g_X6_live_111 at h
  refine z_istore (L' := [(0, zA (some o)), (1, zI v1), (2, zI v2), (3, zI v3), (4, zI v4), (5, zI v5), (6, zI t0)]) hX rfl (by decide) dX6_live_111 (z_aload_n hX 0 rfl rfl dX6_live_113 (z_iload hX 4 rfl dX6_live_114 (z_iload hX 5 rfl dX6_live_116 (z_iload hX 6 rfl dX6_live_118 ?_))))
  refine m_cNI hX (rest := []) h (fun r9 M9 e9 => z_runV hX lk_X6_234 (c_X6_mayWalk hX.tr hP e9) (ci := 5) zc9_5 pM_cl ⟨Nat.le_of_ble_eq_true rfl, Nat.le_of_ble_eq_true rfl⟩ rfl (Nat.le_of_ble_eq_true rfl) dX6_live_120 rfl) (fun x21 M22 h => ?_)
  refine z_if_eq (tgt := 144) hX h dX6_live_123 (by decide) (fun h => ?_) (fun h => ?_)
  · exact z_sub [0, 1, 2, 3, 4] rfl (m_X6_live_144 hX hP hrec37 hrec45 h)
  · refine z_aload_n hX 0 rfl rfl dX6_live_126 (z_iload hX 4 rfl dX6_live_127 (z_aload_n hX 0 rfl rfl dX6_live_129 (z_iload hX 4 rfl dX6_live_130 (z_iconst hX (v := 2) (by decide) dX6_live_132 ?_))))
    refine m_cNI hX (rest := [zI v4, zA (some o)]) h (fun r9 M9 e9 => z_runV hX lk_X6_203 (c_X6_ofWalker hX.tr hP e9) (ci := 5) zc9_5 pM_cl ⟨Nat.le_of_ble_eq_true rfl, Nat.le_of_ble_eq_true rfl⟩ rfl (Nat.le_of_ble_eq_true rfl) dX6_live_133 rfl) (fun x24 M25 h => ?_)
    refine z_iload hX 5 rfl dX6_live_136 (z_iload hX 6 rfl dX6_live_138 ?_)
    refine m_cNI hX (rest := []) h (fun r9 M9 e9 => z_runV hX lk_X6_238 (c_X6_walks hX.tr hP e9) (ci := 5) zc9_5 pM_cl ⟨Nat.le_of_ble_eq_true rfl, Nat.le_of_ble_eq_true rfl⟩ rfl (Nat.le_of_ble_eq_true rfl) dX6_live_140 rfl) (fun x26 M27 h => ?_)
    refine z_pop hX rfl dX6_live_143 ?_
    exact z_sub [0, 1, 2, 3, 4] rfl (m_X6_live_144 hX hP hrec37 hrec45 h)

def g_X6_live_45_b (rec37 : Int32 → mS → Option (Int32 × mS)) (v1 : Int32) (v2 : Int32) (v3 : Int32) (rec45 : Int32 → mS → Option (Int32 × mS)) (v4 : Int32) (M : mS) : Option (Int32 × mS) :=
  (mL M 0 2).bind fun x6 =>
  if x6 ≤ v4 then
    g_X6_live_150 rec37 v1 v2 v3 M
  else
    (mL M 0 3).bind fun x10 =>
    if x10 ≤ 0 then
      g_X6_live_150 rec37 v1 v2 v3 M
    else
      zb2 (g_X6_draw 100 M) fun x11 M12 =>
      zb2 (g_X6_ofWalker v4 3 M12) fun x13 M14 =>
      if x11 < x13 then
        (mL M14 0 3).bind fun x15 =>
        zb2 (g_X6_draw x15 M14) fun x16 M17 =>
        zl (x16 + 1) fun x18 =>
        zb2 (g_X6_draw 4 M17) fun x19 M20 =>
        if ¬ x19 = 0 then
          g_X6_live_111 rec37 rec45 v1 v2 v3 v4 x18 0 M20
        else
          g_X6_live_111 rec37 rec45 v1 v2 v3 v4 x18 1 M20
      else
        g_X6_live_144 rec37 rec45 v1 v2 v3 v4 M14

def g_X6_live_45 (rec37 : Int32 → mS → Option (Int32 × mS)) (v1 : Int32) (v2 : Int32) (v3 : Int32) : Int32 → mS → Option (Int32 × mS) := zlp1 (g_X6_live_45_b rec37 v1 v2 v3) NN
set_option maxHeartbeats 4000000 in
theorem m_X6_live_45_b {X : zX} (hX : zOk X RX6 cX6_live 7 93 2208 (Option.some Jvm.ClassFile.FieldType.int) "live" []) {σ : zS} {o : Nat} (hP : zP σ o) {Rt : Int32 × mS} {rec37 : Int32 → mS → Option (Int32 × mS)} {v1 : Int32} {v2 : Int32} {v3 : Int32} (hrec37 : ∀ (v3 : Int32) (M : mS), rec37 v3 M = some Rt → zG X (zQ X (.inl (eI Rt.1)) (pM σ o Rt.2)) 7 37 [(0, zA (some o)), (1, zI v1), (2, zI v2), (3, zI v3)] [] (pM σ o M)) {rec45 : Int32 → mS → Option (Int32 × mS)} (hrec45 : ∀ (v4 : Int32) (M : mS), rec45 v4 M = some Rt → zG X (zQ X (.inl (eI Rt.1)) (pM σ o Rt.2)) 7 45 [(0, zA (some o)), (1, zI v1), (2, zI v2), (3, zI v3), (4, zI v4)] [] (pM σ o M)) {v4 : Int32} {M : mS} (h : g_X6_live_45_b rec37 v1 v2 v3 rec45 v4 M = some Rt) : zG X (zQ X (.inl (eI Rt.1)) (pM σ o Rt.2)) 7 45 [(0, zA (some o)), (1, zI v1), (2, zI v2), (3, zI v3), (4, zI v4)] [] (pM σ o M) := by
  unfold g_X6_live_45_b at h
  refine z_iload hX 4 rfl dX6_live_45 (z_aload_n hX 0 rfl rfl dX6_live_47 (m_getA hX fl_X6_7_5 mAr_1 dX6_live_48 (z_iconst hX (v := 2) (by decide) dX6_live_51 ?_)))
  refine m_iald hX (j := 0) (by decide) h dX6_live_52 (fun x6 h => ?_)
  refine z_icmp_ge (tgt := 150) hX h dX6_live_53 (by decide) (fun h => ?_) (fun h => ?_)
  · exact z_sub [0, 1, 2, 3] rfl (m_X6_live_150 hX hP hrec37 h)
  · refine z_aload_n hX 0 rfl rfl dX6_live_56 (m_getA hX fl_X6_7_5 mAr_1 dX6_live_57 (z_iconst hX (v := 3) (by decide) dX6_live_60 ?_))
    refine m_iald hX (j := 0) (by decide) h dX6_live_61 (fun x10 h => ?_)
    refine z_if_le (tgt := 150) hX h dX6_live_62 (by decide) (fun h => ?_) (fun h => ?_)
    · exact z_sub [0, 1, 2, 3] rfl (m_X6_live_150 hX hP hrec37 h)
    · refine z_aload_n hX 0 rfl rfl dX6_live_65 (z_bipush hX (v := 100) (by decide) dX6_live_66 ?_)
      refine m_cNI hX (rest := []) h (fun r9 M9 e9 => z_runV hX lk_X6_277 (c_X6_draw hX.tr hP e9) (ci := 5) zc9_5 pM_cl ⟨Nat.le_of_ble_eq_true rfl, Nat.le_of_ble_eq_true rfl⟩ rfl (Nat.le_of_ble_eq_true rfl) dX6_live_68 rfl) (fun x11 M12 h => ?_)
      refine z_aload_n hX 0 rfl rfl dX6_live_71 (z_iload hX 4 rfl dX6_live_72 (z_iconst hX (v := 3) (by decide) dX6_live_74 ?_))
      refine m_cNI hX (rest := [zI x11]) h (fun r9 M9 e9 => z_runV hX lk_X6_203 (c_X6_ofWalker hX.tr hP e9) (ci := 5) zc9_5 pM_cl ⟨Nat.le_of_ble_eq_true rfl, Nat.le_of_ble_eq_true rfl⟩ rfl (Nat.le_of_ble_eq_true rfl) dX6_live_75 rfl) (fun x13 M14 h => ?_)
      refine z_icmp_lt (tgt := 84) hX h dX6_live_78 (by decide) (fun h => ?_) (fun h => ?_)
      · refine z_aload_n hX 0 rfl rfl dX6_live_84 (z_aload_n hX 0 rfl rfl dX6_live_85 (m_getA hX fl_X6_7_5 mAr_1 dX6_live_86 (z_iconst hX (v := 3) (by decide) dX6_live_89 ?_)))
        refine m_iald hX (j := 0) (by decide) h dX6_live_90 (fun x15 h => ?_)
        refine m_cNI hX (rest := []) h (fun r9 M9 e9 => z_runV hX lk_X6_277 (c_X6_draw hX.tr hP e9) (ci := 5) zc9_5 pM_cl ⟨Nat.le_of_ble_eq_true rfl, Nat.le_of_ble_eq_true rfl⟩ rfl (Nat.le_of_ble_eq_true rfl) dX6_live_91 rfl) (fun x16 M17 h => ?_)
        refine z_iconst hX (v := 1) (by decide) dX6_live_94 (z_iadd hX dX6_live_95 ?_)
        refine z_nmI h (fun x18 h => ?_)
        refine z_istore (L' := [(0, zA (some o)), (1, zI v1), (2, zI v2), (3, zI v3), (4, zI v4), (5, zI x18)]) hX rfl (by decide) dX6_live_96 (z_aload_n hX 0 rfl rfl dX6_live_98 (z_iconst hX (v := 4) (by decide) dX6_live_99 ?_))
        refine m_cNI hX (rest := []) h (fun r9 M9 e9 => z_runV hX lk_X6_277 (c_X6_draw hX.tr hP e9) (ci := 5) zc9_5 pM_cl ⟨Nat.le_of_ble_eq_true rfl, Nat.le_of_ble_eq_true rfl⟩ rfl (Nat.le_of_ble_eq_true rfl) dX6_live_100 rfl) (fun x19 M20 h => ?_)
        refine z_if_ne (tgt := 110) hX h dX6_live_103 (by decide) (fun h => ?_) (fun h => ?_)
        · refine z_iconst hX (v := 0) (by decide) dX6_live_110 ?_
          exact z_sub [0, 1, 2, 3, 4, 5] rfl (m_X6_live_111 hX hP hrec37 hrec45 h)
        · refine z_iconst hX (v := 1) (by decide) dX6_live_106 (z_goto (tgt := 111) hX dX6_live_107 (by decide) ?_)
          exact z_sub [0, 1, 2, 3, 4, 5] rfl (m_X6_live_111 hX hP hrec37 hrec45 h)
      · refine z_goto (tgt := 144) hX dX6_live_81 (by decide) ?_
        exact z_sub [0, 1, 2, 3, 4] rfl (m_X6_live_144 hX hP hrec37 hrec45 h)

theorem m_X6_live_45 {X : zX} (hX : zOk X RX6 cX6_live 7 93 2208 (Option.some Jvm.ClassFile.FieldType.int) "live" []) {σ : zS} {o : Nat} (hP : zP σ o) {Rt : Int32 × mS} {rec37 : Int32 → mS → Option (Int32 × mS)} {v1 : Int32} {v2 : Int32} {v3 : Int32} (hrec37 : ∀ (v3 : Int32) (M : mS), rec37 v3 M = some Rt → zG X (zQ X (.inl (eI Rt.1)) (pM σ o Rt.2)) 7 37 [(0, zA (some o)), (1, zI v1), (2, zI v2), (3, zI v3)] [] (pM σ o M)) {v4 : Int32} {M : mS} (h : g_X6_live_45 rec37 v1 v2 v3 v4 M = some Rt) : zG X (zQ X (.inl (eI Rt.1)) (pM σ o Rt.2)) 7 45 [(0, zA (some o)), (1, zI v1), (2, zI v2), (3, zI v3), (4, zI v4)] [] (pM σ o M) :=
  zlp1_ok (P := fun v4 M => zG X (zQ X (.inl (eI Rt.1)) (pM σ o Rt.2)) 7 45 [(0, zA (some o)), (1, zI v1), (2, zI v2), (3, zI v3), (4, zI v4)] [] (pM σ o M)) (fun rec hr v4 M h => m_X6_live_45_b hX hP hrec37 hr h) NN v4 M h
def g_X6_live_37_b (v1 : Int32) (v2 : Int32) (rec37 : Int32 → mS → Option (Int32 × mS)) (v3 : Int32) (M : mS) : Option (Int32 × mS) :=
  if v1 ≤ v3 then
    (mL M 0 4).bind fun x5 =>
    some (x5 - v2, M)
  else
    g_X6_live_45 rec37 v1 v2 v3 0 M

def g_X6_live_37 (v1 : Int32) (v2 : Int32) : Int32 → mS → Option (Int32 × mS) := zlp1 (g_X6_live_37_b v1 v2) NN
set_option maxHeartbeats 4000000 in
theorem m_X6_live_37_b {X : zX} (hX : zOk X RX6 cX6_live 7 93 2208 (Option.some Jvm.ClassFile.FieldType.int) "live" []) {σ : zS} {o : Nat} (hP : zP σ o) {Rt : Int32 × mS} {v1 : Int32} {v2 : Int32} {rec37 : Int32 → mS → Option (Int32 × mS)} (hrec37 : ∀ (v3 : Int32) (M : mS), rec37 v3 M = some Rt → zG X (zQ X (.inl (eI Rt.1)) (pM σ o Rt.2)) 7 37 [(0, zA (some o)), (1, zI v1), (2, zI v2), (3, zI v3)] [] (pM σ o M)) {v3 : Int32} {M : mS} (h : g_X6_live_37_b v1 v2 rec37 v3 M = some Rt) : zG X (zQ X (.inl (eI Rt.1)) (pM σ o Rt.2)) 7 37 [(0, zA (some o)), (1, zI v1), (2, zI v2), (3, zI v3)] [] (pM σ o M) := by
  unfold g_X6_live_37_b at h
  refine z_iload_n hX 3 rfl rfl dX6_live_37 (z_iload_n hX 1 rfl rfl dX6_live_38 ?_)
  refine z_icmp_ge (tgt := 167) hX h dX6_live_39 (by decide) (fun h => ?_) (fun h => ?_)
  · refine z_aload_n hX 0 rfl rfl dX6_live_167 (m_getA hX fl_X6_7_5 mAr_1 dX6_live_168 (z_iconst hX (v := 4) (by decide) dX6_live_171 ?_))
    refine m_iald hX (j := 0) (by decide) h dX6_live_172 (fun x5 h => ?_)
    refine z_iload_n hX 2 rfl rfl dX6_live_173 (z_isub hX dX6_live_174 ?_)
    obtain rfl := Option.some.inj h
    exact z_iret hX dX6_live_175
  · refine z_iconst hX (v := 0) (by decide) dX6_live_42 (z_istore (L' := [(0, zA (some o)), (1, zI v1), (2, zI v2), (3, zI v3), (4, zI 0)]) hX rfl (by decide) dX6_live_43 ?_)
    exact z_sub [0, 1, 2, 3, 4] rfl (m_X6_live_45 hX hP hrec37 h)

theorem m_X6_live_37 {X : zX} (hX : zOk X RX6 cX6_live 7 93 2208 (Option.some Jvm.ClassFile.FieldType.int) "live" []) {σ : zS} {o : Nat} (hP : zP σ o) {Rt : Int32 × mS} {v1 : Int32} {v2 : Int32} {v3 : Int32} {M : mS} (h : g_X6_live_37 v1 v2 v3 M = some Rt) : zG X (zQ X (.inl (eI Rt.1)) (pM σ o Rt.2)) 7 37 [(0, zA (some o)), (1, zI v1), (2, zI v2), (3, zI v3)] [] (pM σ o M) :=
  zlp1_ok (P := fun v3 M => zG X (zQ X (.inl (eI Rt.1)) (pM σ o Rt.2)) 7 37 [(0, zA (some o)), (1, zI v1), (2, zI v2), (3, zI v3)] [] (pM σ o M)) (fun rec hr v3 M h => m_X6_live_37_b hX hP hr h) NN v3 M h
def g_X6_live_16 (v1 : Int32) (t1 : Int32) (M : mS) : Option (Int32 × mS) :=
  zl (mset M 0 t1) fun M3 =>
  if (M3.1 0) ≤ 0 then
    (mL M3 0 4).bind fun x4 =>
    g_X6_live_37 v1 x4 0 M3
  else
    some ((0 : Int32), M3)

set_option maxHeartbeats 4000000 in
theorem m_X6_live_16 {X : zX} (hX : zOk X RX6 cX6_live 7 93 2208 (Option.some Jvm.ClassFile.FieldType.int) "live" []) {σ : zS} {o : Nat} (hP : zP σ o) {Rt : Int32 × mS} {v1 : Int32} {t1 : Int32} {M : mS} (h : g_X6_live_16 v1 t1 M = some Rt) : zG X (zQ X (.inl (eI Rt.1)) (pM σ o Rt.2)) 7 16 [(0, zA (some o)), (1, zI v1)] [zI t1, zA (some o)] (pM σ o M) := by
  unfold g_X6_live_16 at h
  refine m_putI hX hP fp_X6_41_5 mSc_0 h dX6_live_16 (fun M3 h => ?_)
  refine z_aload_n hX 0 rfl rfl dX6_live_19 (m_getI hX fl_X6_41_5 mSc_0 dX6_live_20 ?_)
  refine z_if_le (tgt := 28) hX h dX6_live_23 (by decide) (fun h => ?_) (fun h => ?_)
  · refine z_aload_n hX 0 rfl rfl dX6_live_28 (m_getA hX fl_X6_7_5 mAr_1 dX6_live_29 (z_iconst hX (v := 4) (by decide) dX6_live_32 ?_))
    refine m_iald hX (j := 0) (by decide) h dX6_live_33 (fun x4 h => ?_)
    refine z_istore_n (L' := [(0, zA (some o)), (1, zI v1), (2, zI x4)]) hX rfl rfl (by decide) dX6_live_34 (z_iconst hX (v := 0) (by decide) dX6_live_35 (z_istore_n (L' := [(0, zA (some o)), (1, zI v1), (2, zI x4), (3, zI 0)]) hX rfl rfl (by decide) dX6_live_36 ?_))
    exact z_sub [0, 1, 2, 3] rfl (m_X6_live_37 hX hP  h)
  · refine z_iconst hX (v := 0) (by decide) dX6_live_26 ?_
    obtain rfl := Option.some.inj h
    exact z_iret hX dX6_live_27

def g_X6_live (p1 : Int32) (M : mS) : Option (Int32 × mS) :=
  zb2 (g_X6_isIn p1 1 99 M) fun x1 M2 =>
  if ¬ x1 = 0 then
    g_X6_live_16 p1 0 M2
  else
    g_X6_live_16 p1 1 M2

set_option maxHeartbeats 4000000 in
theorem m_X6_live {X : zX} (hX : zOk X RX6 cX6_live 7 93 2208 (Option.some Jvm.ClassFile.FieldType.int) "live" []) {σ : zS} {o : Nat} (hP : zP σ o) {p1 : Int32} {M : mS} {Rt : Int32 × mS} (h : g_X6_live p1 M = some Rt) : zG X (zQ X (.inl (eI Rt.1)) (pM σ o Rt.2)) 7 0 [(0, zA (some o)), (1, zI p1)] [] (pM σ o M) := by
  unfold g_X6_live at h
  refine z_aload_n hX 0 rfl rfl dX6_live_0 (z_iload_n hX 1 rfl rfl dX6_live_1 (z_iconst hX (v := 1) (by decide) dX6_live_2 (z_bipush hX (v := 99) (by decide) dX6_live_3 ?_)))
  refine m_cNI hX (rest := [zA (some o)]) h (fun r9 M9 e9 => z_runS hX lk_X6_44 (c_X6_isIn hX.tr hP e9) ⟨Nat.le_of_ble_eq_true rfl, Nat.le_of_ble_eq_true rfl⟩ rfl (Nat.le_of_ble_eq_true rfl) dX6_live_5 rfl) (fun x1 M2 h => ?_)
  refine z_if_ne (tgt := 15) hX h dX6_live_8 (by decide) (fun h => ?_) (fun h => ?_)
  · refine z_iconst hX (v := 0) (by decide) dX6_live_15 ?_
    exact z_sub [0, 1] rfl (m_X6_live_16 hX hP  h)
  · refine z_iconst hX (v := 1) (by decide) dX6_live_11 (z_goto (tgt := 16) hX dX6_live_12 (by decide) ?_)
    exact z_sub [0, 1] rfl (m_X6_live_16 hX hP  h)

theorem c_X6_live {l : Launch} {D : va_G} {tys : zTy} (hl : l.stackTraces = false) {σ : zS} {o : Nat} (hP : zP σ o) {p1 : Int32} {M : mS} {Rt : Int32 × mS} (h : g_X6_live p1 M = some Rt) : zM l D tys yX6_live (ws_ yX6_live cX6_live 7 (Option.some Jvm.ClassFile.FieldType.int)) 93 2208 [zA (some o), zI p1] (pM σ o M) (.inl (eI Rt.1)) (pM σ o Rt.2) :=
  zM_in hl rfl (Nat.le_of_ble_eq_true rfl) (fun p e R s m args below meth c hX => z_L rfl (m_X6_live hX hP h))
def g_X6_seed (p1 : Int32) (M : mS) : Option (Int32 × mS) :=
  zl (mset M 0 0) fun M1 =>
  (mL M1 0 9).bind fun x2 =>
  (mSt M1 0 9 p1).bind fun M3 =>
  some (x2, M3)

set_option maxHeartbeats 4000000 in
theorem m_X6_seed {X : zX} (hX : zOk X RX6 cX6_seed 3 1 40 (Option.some Jvm.ClassFile.FieldType.int) "seed" []) {σ : zS} {o : Nat} (hP : zP σ o) {p1 : Int32} {M : mS} {Rt : Int32 × mS} (h : g_X6_seed p1 M = some Rt) : zG X (zQ X (.inl (eI Rt.1)) (pM σ o Rt.2)) 3 0 [(0, zA (some o)), (1, zI p1)] [] (pM σ o M) := by
  unfold g_X6_seed at h
  refine z_aload_n hX 0 rfl rfl dX6_seed_0 (z_iconst hX (v := 0) (by decide) dX6_seed_1 ?_)
  refine m_putI hX hP fp_X6_41_5 mSc_0 h dX6_seed_2 (fun M1 h => ?_)
  refine z_aload_n hX 0 rfl rfl dX6_seed_5 (m_getA hX fl_X6_7_5 mAr_1 dX6_seed_6 (z_bipush hX (v := 9) (by decide) dX6_seed_9 ?_))
  refine m_iald hX (j := 0) (by decide) h dX6_seed_11 (fun x2 h => ?_)
  refine z_istore_n (L' := [(0, zA (some o)), (1, zI p1), (2, zI x2)]) hX rfl rfl (by decide) dX6_seed_12 (z_aload_n hX 0 rfl rfl dX6_seed_13 (m_getA hX fl_X6_7_5 mAr_1 dX6_seed_14 (z_bipush hX (v := 9) (by decide) dX6_seed_17 (z_iload_n hX 1 rfl rfl dX6_seed_19 ?_))))
  refine m_iast hX hP (j := 0) (by decide) h dX6_seed_20 (fun M3 h => ?_)
  refine z_iload_n hX 2 rfl rfl dX6_seed_21 ?_
  obtain rfl := Option.some.inj h
  exact z_iret hX dX6_seed_22

theorem c_X6_seed {l : Launch} {D : va_G} {tys : zTy} (hl : l.stackTraces = false) {σ : zS} {o : Nat} (hP : zP σ o) {p1 : Int32} {M : mS} {Rt : Int32 × mS} (h : g_X6_seed p1 M = some Rt) : zM l D tys yX6_seed (ws_ yX6_seed cX6_seed 3 (Option.some Jvm.ClassFile.FieldType.int)) 1 40 [zA (some o), zI p1] (pM σ o M) (.inl (eI Rt.1)) (pM σ o Rt.2) :=
  zM_in hl rfl (Nat.le_of_ble_eq_true rfl) (fun p e R s m args below meth c hX => z_L rfl (m_X6_seed hX hP h))
def g_X6_image_7_b (rec7 : Int32 → mS → Option (Unit × mS)) (v1 : Int32) (M : mS) : Option (Unit × mS) :=
  if 942 ≤ v1 then
    (mPZ M 3 1).bind fun M2 =>
    some ((), M2)
  else
    (mL M 0 v1).bind fun x3 =>
    (mSt M 1 v1 x3).bind fun M4 =>
    zl (v1 + 1) fun x5 =>
    rec7 x5 M4

def g_X6_image_7 : Int32 → mS → Option (Unit × mS) := zlp1 (g_X6_image_7_b) NN
set_option maxHeartbeats 4000000 in
theorem m_X6_image_7_b {X : zX} (hX : zOk X RX6 cX6_image 2 1 40 (Option.none : Option Jvm.ClassFile.FieldType) "image" []) {σ : zS} {o : Nat} (hP : zP σ o) {Rt : Unit × mS} {rec7 : Int32 → mS → Option (Unit × mS)} (hrec7 : ∀ (v1 : Int32) (M : mS), rec7 v1 M = some Rt → zG X (zQ X (.inl (eU Rt.1)) (pM σ o Rt.2)) 2 7 [(0, zA (some o)), (1, zI v1)] [] (pM σ o M)) {v1 : Int32} {M : mS} (h : g_X6_image_7_b rec7 v1 M = some Rt) : zG X (zQ X (.inl (eU Rt.1)) (pM σ o Rt.2)) 2 7 [(0, zA (some o)), (1, zI v1)] [] (pM σ o M) := by
  unfold g_X6_image_7_b at h
  refine z_iload_n hX 1 rfl rfl dX6_image_7 (z_sipush hX (v := 942) (by decide) dX6_image_8 ?_)
  refine z_icmp_ge (tgt := 32) hX h dX6_image_11 (by decide) (fun h => ?_) (fun h => ?_)
  · refine z_aload_n hX 0 rfl rfl dX6_image_32 (z_iconst hX (v := 1) (by decide) dX6_image_33 ?_)
    refine m_putZ hX hP fp_X6_280_5 mSc_3 h dX6_image_34 (fun M2 h => ?_)
    obtain rfl := Option.some.inj h
    exact z_vret hX dX6_image_37
  · refine z_aload_n hX 0 rfl rfl dX6_image_14 (m_getA hX fl_X6_13_5 mAr_2 dX6_image_15 (z_iload_n hX 1 rfl rfl dX6_image_18 (z_aload_n hX 0 rfl rfl dX6_image_19 (m_getA hX fl_X6_7_5 mAr_1 dX6_image_20 (z_iload_n hX 1 rfl rfl dX6_image_23 ?_)))))
    refine m_iald hX (j := 0) (by decide) h dX6_image_24 (fun x3 h => ?_)
    refine m_iast hX hP (j := 1) (by decide) h dX6_image_25 (fun M4 h => ?_)
    refine z_iinc hX (j := 1) h rfl (by decide) (by decide) dX6_image_26 (fun x5 h => z_L (L' := [(0, zA (some o)), (1, zI x5)]) rfl ?_)
    refine z_goto (tgt := 7) hX dX6_image_29 (by decide) ?_
    exact z_sub [0, 1] rfl (hrec7 _ _ h)

theorem m_X6_image_7 {X : zX} (hX : zOk X RX6 cX6_image 2 1 40 (Option.none : Option Jvm.ClassFile.FieldType) "image" []) {σ : zS} {o : Nat} (hP : zP σ o) {Rt : Unit × mS} {v1 : Int32} {M : mS} (h : g_X6_image_7 v1 M = some Rt) : zG X (zQ X (.inl (eU Rt.1)) (pM σ o Rt.2)) 2 7 [(0, zA (some o)), (1, zI v1)] [] (pM σ o M) :=
  zlp1_ok (P := fun v1 M => zG X (zQ X (.inl (eU Rt.1)) (pM σ o Rt.2)) 2 7 [(0, zA (some o)), (1, zI v1)] [] (pM σ o M)) (fun rec hr v1 M h => m_X6_image_7_b hX hP hr h) NN v1 M h
def g_X6_image (M : mS) : Option (Unit × mS) :=
  zl (mset M 0 0) fun M1 =>
  g_X6_image_7 0 M1

set_option maxHeartbeats 4000000 in
theorem m_X6_image {X : zX} (hX : zOk X RX6 cX6_image 2 1 40 (Option.none : Option Jvm.ClassFile.FieldType) "image" []) {σ : zS} {o : Nat} (hP : zP σ o) {M : mS} {Rt : Unit × mS} (h : g_X6_image M = some Rt) : zG X (zQ X (.inl (eU Rt.1)) (pM σ o Rt.2)) 2 0 [(0, zA (some o))] [] (pM σ o M) := by
  unfold g_X6_image at h
  refine z_aload_n hX 0 rfl rfl dX6_image_0 (z_iconst hX (v := 0) (by decide) dX6_image_1 ?_)
  refine m_putI hX hP fp_X6_41_5 mSc_0 h dX6_image_2 (fun M1 h => ?_)
  refine z_iconst hX (v := 0) (by decide) dX6_image_5 (z_istore_n (L' := [(0, zA (some o)), (1, zI 0)]) hX rfl rfl (by decide) dX6_image_6 ?_)
  exact z_sub [0, 1] rfl (m_X6_image_7 hX hP  h)

theorem c_X6_image {l : Launch} {D : va_G} {tys : zTy} (hl : l.stackTraces = false) {σ : zS} {o : Nat} (hP : zP σ o) {M : mS} {Rt : Unit × mS} (h : g_X6_image M = some Rt) : zM l D tys yX6_image (ws_ yX6_image cX6_image 2 (Option.none : Option Jvm.ClassFile.FieldType)) 1 40 [zA (some o)] (pM σ o M) (.inl (eU Rt.1)) (pM σ o Rt.2) :=
  zM_in hl rfl (Nat.le_of_ble_eq_true rfl) (fun p e R s m args below meth c hX => z_L rfl (m_X6_image hX hP h))
def g_X6_back_16_b (rec16 : Int32 → mS → Option (Int32 × mS)) (v1 : Int32) (M : mS) : Option (Int32 × mS) :=
  if 942 ≤ v1 then
    some ((1 : Int32), M)
  else
    (mL M 1 v1).bind fun x2 =>
    (mSt M 0 v1 x2).bind fun M3 =>
    zl (v1 + 1) fun x4 =>
    rec16 x4 M3

def g_X6_back_16 : Int32 → mS → Option (Int32 × mS) := zlp1 (g_X6_back_16_b) NN
set_option maxHeartbeats 4000000 in
theorem m_X6_back_16_b {X : zX} (hX : zOk X RX6 cX6_back 2 1 40 (Option.some Jvm.ClassFile.FieldType.boolean) "back" []) {σ : zS} {o : Nat} (hP : zP σ o) {Rt : Int32 × mS} {rec16 : Int32 → mS → Option (Int32 × mS)} (hrec16 : ∀ (v1 : Int32) (M : mS), rec16 v1 M = some Rt → zG X (zQ X (.inl (eI Rt.1)) (pM σ o Rt.2)) 2 16 [(0, zA (some o)), (1, zI v1)] [] (pM σ o M)) {v1 : Int32} {M : mS} (h : g_X6_back_16_b rec16 v1 M = some Rt) : zG X (zQ X (.inl (eI Rt.1)) (pM σ o Rt.2)) 2 16 [(0, zA (some o)), (1, zI v1)] [] (pM σ o M) := by
  unfold g_X6_back_16_b at h
  refine z_iload_n hX 1 rfl rfl dX6_back_16 (z_sipush hX (v := 942) (by decide) dX6_back_17 ?_)
  refine z_icmp_ge (tgt := 41) hX h dX6_back_20 (by decide) (fun h => ?_) (fun h => ?_)
  · refine z_iconst hX (v := 1) (by decide) dX6_back_41 ?_
    obtain rfl := Option.some.inj h
    exact z_zretT (r := 1) hX (by decide) dX6_back_42
  · refine z_aload_n hX 0 rfl rfl dX6_back_23 (m_getA hX fl_X6_7_5 mAr_1 dX6_back_24 (z_iload_n hX 1 rfl rfl dX6_back_27 (z_aload_n hX 0 rfl rfl dX6_back_28 (m_getA hX fl_X6_13_5 mAr_2 dX6_back_29 (z_iload_n hX 1 rfl rfl dX6_back_32 ?_)))))
    refine m_iald hX (j := 1) (by decide) h dX6_back_33 (fun x2 h => ?_)
    refine m_iast hX hP (j := 0) (by decide) h dX6_back_34 (fun M3 h => ?_)
    refine z_iinc hX (j := 1) h rfl (by decide) (by decide) dX6_back_35 (fun x4 h => z_L (L' := [(0, zA (some o)), (1, zI x4)]) rfl ?_)
    refine z_goto (tgt := 16) hX dX6_back_38 (by decide) ?_
    exact z_sub [0, 1] rfl (hrec16 _ _ h)

theorem m_X6_back_16 {X : zX} (hX : zOk X RX6 cX6_back 2 1 40 (Option.some Jvm.ClassFile.FieldType.boolean) "back" []) {σ : zS} {o : Nat} (hP : zP σ o) {Rt : Int32 × mS} {v1 : Int32} {M : mS} (h : g_X6_back_16 v1 M = some Rt) : zG X (zQ X (.inl (eI Rt.1)) (pM σ o Rt.2)) 2 16 [(0, zA (some o)), (1, zI v1)] [] (pM σ o M) :=
  zlp1_ok (P := fun v1 M => zG X (zQ X (.inl (eI Rt.1)) (pM σ o Rt.2)) 2 16 [(0, zA (some o)), (1, zI v1)] [] (pM σ o M)) (fun rec hr v1 M h => m_X6_back_16_b hX hP hr h) NN v1 M h
def g_X6_back (M : mS) : Option (Int32 × mS) :=
  zl (mset M 0 0) fun M1 =>
  if ¬ (M1.1 3) = 0 then
    g_X6_back_16 0 M1
  else
    some ((0 : Int32), M1)

set_option maxHeartbeats 4000000 in
theorem m_X6_back {X : zX} (hX : zOk X RX6 cX6_back 2 1 40 (Option.some Jvm.ClassFile.FieldType.boolean) "back" []) {σ : zS} {o : Nat} (hP : zP σ o) {M : mS} {Rt : Int32 × mS} (h : g_X6_back M = some Rt) : zG X (zQ X (.inl (eI Rt.1)) (pM σ o Rt.2)) 2 0 [(0, zA (some o))] [] (pM σ o M) := by
  unfold g_X6_back at h
  refine z_aload_n hX 0 rfl rfl dX6_back_0 (z_iconst hX (v := 0) (by decide) dX6_back_1 ?_)
  refine m_putI hX hP fp_X6_41_5 mSc_0 h dX6_back_2 (fun M1 h => ?_)
  refine z_aload_n hX 0 rfl rfl dX6_back_5 (m_getI hX fl_X6_280_5 mSc_3 dX6_back_6 ?_)
  refine z_if_ne (tgt := 14) hX h dX6_back_9 (by decide) (fun h => ?_) (fun h => ?_)
  · refine z_iconst hX (v := 0) (by decide) dX6_back_14 (z_istore_n (L' := [(0, zA (some o)), (1, zI 0)]) hX rfl rfl (by decide) dX6_back_15 ?_)
    exact z_sub [0, 1] rfl (m_X6_back_16 hX hP  h)
  · refine z_iconst hX (v := 0) (by decide) dX6_back_12 ?_
    obtain rfl := Option.some.inj h
    exact z_zretT (r := 0) hX (by decide) dX6_back_13

theorem c_X6_back {l : Launch} {D : va_G} {tys : zTy} (hl : l.stackTraces = false) {σ : zS} {o : Nat} (hP : zP σ o) {M : mS} {Rt : Int32 × mS} (h : g_X6_back M = some Rt) : zM l D tys yX6_back (ws_ yX6_back cX6_back 2 (Option.some Jvm.ClassFile.FieldType.boolean)) 1 40 [zA (some o)] (pM σ o M) (.inl (eI Rt.1)) (pM σ o Rt.2) :=
  zM_in hl rfl (Nat.le_of_ble_eq_true rfl) (fun p e R s m args below meth c hX => z_L rfl (m_X6_back hX hP h))
def g_X6_count_45_b (v1 : Int32) (v2 : Int32) (rec45 : Int32 → Int32 → mS → Option (Int32 × mS)) (v3 : Int32) (v4 : Int32) (M : mS) : Option (Int32 × mS) :=
  (mL M 0 4).bind fun x3 =>
  if x3 ≤ v4 then
    if ¬ v1 = 6 then
      if ¬ v1 = 11 then
        if ¬ v1 = 12 then
          if ¬ v1 = 0 then
            if ¬ v1 = 1 then
              if ¬ v1 = 2 then
                if ¬ v1 = 3 then
                  if ¬ v1 = 4 then
                    if ¬ v1 = 5 then
                      if ¬ v1 = 7 then
                        if ¬ v1 = 8 then
                          if ¬ v1 = 9 then
                            if ¬ v1 = 10 then
                              some (((-1) : Int32), M)
                            else
                              (mL M 0 5).bind fun x4 =>
                              some (x4, M)
                          else
                            (mL M 0 7).bind fun x5 =>
                            some (x5, M)
                        else
                          (mL M 0 6).bind fun x6 =>
                          some (x6, M)
                      else
                        (mL M 0 8).bind fun x7 =>
                        some (x7, M)
                    else
                      (mL M 0 4).bind fun x8 =>
                      some (x8, M)
                  else
                    (mL M 0 10).bind fun x9 =>
                    some (x9, M)
                else
                  (mL M 0 0).bind fun x10 =>
                  some (x10, M)
              else
                (mL M 0 3).bind fun x11 =>
                some (x11, M)
            else
              (mL M 0 2).bind fun x12 =>
              some (x12, M)
          else
            (mL M 0 1).bind fun x13 =>
            some (x13, M)
        else
          some (v3, M)
      else
        some (v2, M)
    else
      zb2 (g_X6_burntNow M) fun x14 M15 =>
      some (x14, M15)
  else
    zb2 (g_X6_ofEntry v4 5 M) fun x16 M17 =>
    zl (v3 + x16) fun x18 =>
    zl (v4 + 1) fun x19 =>
    rec45 x18 x19 M17

def g_X6_count_45 (v1 : Int32) (v2 : Int32) : Int32 → Int32 → mS → Option (Int32 × mS) := zlp2 (g_X6_count_45_b v1 v2) NN
set_option maxHeartbeats 4000000 in
theorem m_X6_count_45_b {X : zX} (hX : zOk X RX6 cX6_count 5 3 84 (Option.some Jvm.ClassFile.FieldType.int) "count" []) {σ : zS} {o : Nat} (hP : zP σ o) {Rt : Int32 × mS} {v1 : Int32} {v2 : Int32} {rec45 : Int32 → Int32 → mS → Option (Int32 × mS)} (hrec45 : ∀ (v3 : Int32) (v4 : Int32) (M : mS), rec45 v3 v4 M = some Rt → zG X (zQ X (.inl (eI Rt.1)) (pM σ o Rt.2)) 5 45 [(0, zA (some o)), (1, zI v1), (2, zI v2), (3, zI v3), (4, zI v4)] [] (pM σ o M)) {v3 : Int32} {v4 : Int32} {M : mS} (h : g_X6_count_45_b v1 v2 rec45 v3 v4 M = some Rt) : zG X (zQ X (.inl (eI Rt.1)) (pM σ o Rt.2)) 5 45 [(0, zA (some o)), (1, zI v1), (2, zI v2), (3, zI v3), (4, zI v4)] [] (pM σ o M) := by
  unfold g_X6_count_45_b at h
  refine z_iload hX 4 rfl dX6_count_45 (z_aload_n hX 0 rfl rfl dX6_count_47 (m_getA hX fl_X6_7_5 mAr_1 dX6_count_48 (z_iconst hX (v := 4) (by decide) dX6_count_51 ?_)))
  refine m_iald hX (j := 0) (by decide) h dX6_count_52 (fun x3 h => ?_)
  refine z_icmp_ge (tgt := 72) hX h dX6_count_53 (by decide) (fun h => ?_) (fun h => ?_)
  · refine z_iload_n hX 1 rfl rfl dX6_count_72 (z_bipush hX (v := 6) (by decide) dX6_count_73 ?_)
    refine z_icmp_ne (tgt := 83) hX h dX6_count_75 (by decide) (fun h => ?_) (fun h => ?_)
    · refine z_iload_n hX 1 rfl rfl dX6_count_83 (z_bipush hX (v := 11) (by decide) dX6_count_84 ?_)
      refine z_icmp_ne (tgt := 91) hX h dX6_count_86 (by decide) (fun h => ?_) (fun h => ?_)
      · refine z_iload_n hX 1 rfl rfl dX6_count_91 (z_bipush hX (v := 12) (by decide) dX6_count_92 ?_)
        refine z_icmp_ne (tgt := 99) hX h dX6_count_94 (by decide) (fun h => ?_) (fun h => ?_)
        · refine z_iload_n hX 1 rfl rfl dX6_count_99 ?_
          refine z_if_ne (tgt := 112) hX h dX6_count_100 (by decide) (fun h => ?_) (fun h => ?_)
          · refine z_iload_n hX 1 rfl rfl dX6_count_112 (z_iconst hX (v := 1) (by decide) dX6_count_113 ?_)
            refine z_icmp_ne (tgt := 126) hX h dX6_count_114 (by decide) (fun h => ?_) (fun h => ?_)
            · refine z_iload_n hX 1 rfl rfl dX6_count_126 (z_iconst hX (v := 2) (by decide) dX6_count_127 ?_)
              refine z_icmp_ne (tgt := 140) hX h dX6_count_128 (by decide) (fun h => ?_) (fun h => ?_)
              · refine z_iload_n hX 1 rfl rfl dX6_count_140 (z_iconst hX (v := 3) (by decide) dX6_count_141 ?_)
                refine z_icmp_ne (tgt := 154) hX h dX6_count_142 (by decide) (fun h => ?_) (fun h => ?_)
                · refine z_iload_n hX 1 rfl rfl dX6_count_154 (z_iconst hX (v := 4) (by decide) dX6_count_155 ?_)
                  refine z_icmp_ne (tgt := 169) hX h dX6_count_156 (by decide) (fun h => ?_) (fun h => ?_)
                  · refine z_iload_n hX 1 rfl rfl dX6_count_169 (z_iconst hX (v := 5) (by decide) dX6_count_170 ?_)
                    refine z_icmp_ne (tgt := 183) hX h dX6_count_171 (by decide) (fun h => ?_) (fun h => ?_)
                    · refine z_iload_n hX 1 rfl rfl dX6_count_183 (z_bipush hX (v := 7) (by decide) dX6_count_184 ?_)
                      refine z_icmp_ne (tgt := 199) hX h dX6_count_186 (by decide) (fun h => ?_) (fun h => ?_)
                      · refine z_iload_n hX 1 rfl rfl dX6_count_199 (z_bipush hX (v := 8) (by decide) dX6_count_200 ?_)
                        refine z_icmp_ne (tgt := 215) hX h dX6_count_202 (by decide) (fun h => ?_) (fun h => ?_)
                        · refine z_iload_n hX 1 rfl rfl dX6_count_215 (z_bipush hX (v := 9) (by decide) dX6_count_216 ?_)
                          refine z_icmp_ne (tgt := 231) hX h dX6_count_218 (by decide) (fun h => ?_) (fun h => ?_)
                          · refine z_iload_n hX 1 rfl rfl dX6_count_231 (z_bipush hX (v := 10) (by decide) dX6_count_232 ?_)
                            refine z_icmp_ne (tgt := 246) hX h dX6_count_234 (by decide) (fun h => ?_) (fun h => ?_)
                            · refine z_iconst hX (v := (-1)) (by decide) dX6_count_246 ?_
                              obtain rfl := Option.some.inj h
                              exact z_iret hX dX6_count_247
                            · refine z_aload_n hX 0 rfl rfl dX6_count_237 (m_getA hX fl_X6_7_5 mAr_1 dX6_count_238 (z_iconst hX (v := 5) (by decide) dX6_count_241 ?_))
                              refine m_iald hX (j := 0) (by decide) h dX6_count_242 (fun x4 h => ?_)
                              refine z_goto (tgt := 247) hX dX6_count_243 (by decide) ?_
                              obtain rfl := Option.some.inj h
                              exact z_iret hX dX6_count_247
                          · refine z_aload_n hX 0 rfl rfl dX6_count_221 (m_getA hX fl_X6_7_5 mAr_1 dX6_count_222 (z_bipush hX (v := 7) (by decide) dX6_count_225 ?_))
                            refine m_iald hX (j := 0) (by decide) h dX6_count_227 (fun x5 h => ?_)
                            refine z_goto (tgt := 247) hX dX6_count_228 (by decide) ?_
                            obtain rfl := Option.some.inj h
                            exact z_iret hX dX6_count_247
                        · refine z_aload_n hX 0 rfl rfl dX6_count_205 (m_getA hX fl_X6_7_5 mAr_1 dX6_count_206 (z_bipush hX (v := 6) (by decide) dX6_count_209 ?_))
                          refine m_iald hX (j := 0) (by decide) h dX6_count_211 (fun x6 h => ?_)
                          refine z_goto (tgt := 247) hX dX6_count_212 (by decide) ?_
                          obtain rfl := Option.some.inj h
                          exact z_iret hX dX6_count_247
                      · refine z_aload_n hX 0 rfl rfl dX6_count_189 (m_getA hX fl_X6_7_5 mAr_1 dX6_count_190 (z_bipush hX (v := 8) (by decide) dX6_count_193 ?_))
                        refine m_iald hX (j := 0) (by decide) h dX6_count_195 (fun x7 h => ?_)
                        refine z_goto (tgt := 247) hX dX6_count_196 (by decide) ?_
                        obtain rfl := Option.some.inj h
                        exact z_iret hX dX6_count_247
                    · refine z_aload_n hX 0 rfl rfl dX6_count_174 (m_getA hX fl_X6_7_5 mAr_1 dX6_count_175 (z_iconst hX (v := 4) (by decide) dX6_count_178 ?_))
                      refine m_iald hX (j := 0) (by decide) h dX6_count_179 (fun x8 h => ?_)
                      refine z_goto (tgt := 247) hX dX6_count_180 (by decide) ?_
                      obtain rfl := Option.some.inj h
                      exact z_iret hX dX6_count_247
                  · refine z_aload_n hX 0 rfl rfl dX6_count_159 (m_getA hX fl_X6_7_5 mAr_1 dX6_count_160 (z_bipush hX (v := 10) (by decide) dX6_count_163 ?_))
                    refine m_iald hX (j := 0) (by decide) h dX6_count_165 (fun x9 h => ?_)
                    refine z_goto (tgt := 247) hX dX6_count_166 (by decide) ?_
                    obtain rfl := Option.some.inj h
                    exact z_iret hX dX6_count_247
                · refine z_aload_n hX 0 rfl rfl dX6_count_145 (m_getA hX fl_X6_7_5 mAr_1 dX6_count_146 (z_iconst hX (v := 0) (by decide) dX6_count_149 ?_))
                  refine m_iald hX (j := 0) (by decide) h dX6_count_150 (fun x10 h => ?_)
                  refine z_goto (tgt := 247) hX dX6_count_151 (by decide) ?_
                  obtain rfl := Option.some.inj h
                  exact z_iret hX dX6_count_247
              · refine z_aload_n hX 0 rfl rfl dX6_count_131 (m_getA hX fl_X6_7_5 mAr_1 dX6_count_132 (z_iconst hX (v := 3) (by decide) dX6_count_135 ?_))
                refine m_iald hX (j := 0) (by decide) h dX6_count_136 (fun x11 h => ?_)
                refine z_goto (tgt := 247) hX dX6_count_137 (by decide) ?_
                obtain rfl := Option.some.inj h
                exact z_iret hX dX6_count_247
            · refine z_aload_n hX 0 rfl rfl dX6_count_117 (m_getA hX fl_X6_7_5 mAr_1 dX6_count_118 (z_iconst hX (v := 2) (by decide) dX6_count_121 ?_))
              refine m_iald hX (j := 0) (by decide) h dX6_count_122 (fun x12 h => ?_)
              refine z_goto (tgt := 247) hX dX6_count_123 (by decide) ?_
              obtain rfl := Option.some.inj h
              exact z_iret hX dX6_count_247
          · refine z_aload_n hX 0 rfl rfl dX6_count_103 (m_getA hX fl_X6_7_5 mAr_1 dX6_count_104 (z_iconst hX (v := 1) (by decide) dX6_count_107 ?_))
            refine m_iald hX (j := 0) (by decide) h dX6_count_108 (fun x13 h => ?_)
            refine z_goto (tgt := 247) hX dX6_count_109 (by decide) ?_
            obtain rfl := Option.some.inj h
            exact z_iret hX dX6_count_247
        · refine z_iload_n hX 3 rfl rfl dX6_count_97 ?_
          obtain rfl := Option.some.inj h
          exact z_iret hX dX6_count_98
      · refine z_iload_n hX 2 rfl rfl dX6_count_89 ?_
        obtain rfl := Option.some.inj h
        exact z_iret hX dX6_count_90
    · refine z_aload_n hX 0 rfl rfl dX6_count_78 ?_
      refine m_cNI hX (rest := []) h (fun r9 M9 e9 => z_runV hX lk_X6_253 (c_X6_burntNow hX.tr hP e9) (ci := 5) zc9_5 pM_cl ⟨Nat.le_of_ble_eq_true rfl, Nat.le_of_ble_eq_true rfl⟩ rfl (Nat.le_of_ble_eq_true rfl) dX6_count_79 rfl) (fun x14 M15 h => ?_)
      obtain rfl := Option.some.inj h
      exact z_iret hX dX6_count_82
  · refine z_iload_n hX 3 rfl rfl dX6_count_56 (z_aload_n hX 0 rfl rfl dX6_count_57 (z_iload hX 4 rfl dX6_count_58 (z_iconst hX (v := 5) (by decide) dX6_count_60 ?_)))
    refine m_cNI hX (rest := [zI v3]) h (fun r9 M9 e9 => z_runV hX lk_X6_196 (c_X6_ofEntry hX.tr hP e9) (ci := 5) zc9_5 pM_cl ⟨Nat.le_of_ble_eq_true rfl, Nat.le_of_ble_eq_true rfl⟩ rfl (Nat.le_of_ble_eq_true rfl) dX6_count_61 rfl) (fun x16 M17 h => ?_)
    refine z_iadd hX dX6_count_64 ?_
    refine z_nmI h (fun x18 h => ?_)
    refine z_istore_n (L' := [(0, zA (some o)), (1, zI v1), (2, zI v2), (3, zI x18), (4, zI v4)]) hX rfl rfl (by decide) dX6_count_65 ?_
    refine z_iinc hX (j := 4) h rfl (by decide) (by decide) dX6_count_66 (fun x19 h => z_L (L' := [(0, zA (some o)), (1, zI v1), (2, zI v2), (3, zI x18), (4, zI x19)]) rfl ?_)
    refine z_goto (tgt := 45) hX dX6_count_69 (by decide) ?_
    exact z_sub [0, 1, 2, 3, 4] rfl (hrec45 _ _ _ h)

theorem m_X6_count_45 {X : zX} (hX : zOk X RX6 cX6_count 5 3 84 (Option.some Jvm.ClassFile.FieldType.int) "count" []) {σ : zS} {o : Nat} (hP : zP σ o) {Rt : Int32 × mS} {v1 : Int32} {v2 : Int32} {v3 : Int32} {v4 : Int32} {M : mS} (h : g_X6_count_45 v1 v2 v3 v4 M = some Rt) : zG X (zQ X (.inl (eI Rt.1)) (pM σ o Rt.2)) 5 45 [(0, zA (some o)), (1, zI v1), (2, zI v2), (3, zI v3), (4, zI v4)] [] (pM σ o M) :=
  zlp2_ok (P := fun v3 v4 M => zG X (zQ X (.inl (eI Rt.1)) (pM σ o Rt.2)) 5 45 [(0, zA (some o)), (1, zI v1), (2, zI v2), (3, zI v3), (4, zI v4)] [] (pM σ o M)) (fun rec hr v3 v4 M h => m_X6_count_45_b hX hP hr h) NN v3 v4 M h
def g_X6_count_12_b (v1 : Int32) (v3 : Int32) (rec12 : Int32 → Int32 → mS → Option (Int32 × mS)) (v2 : Int32) (v4 : Int32) (M : mS) : Option (Int32 × mS) :=
  (mL M 0 1).bind fun x2 =>
  if x2 ≤ v4 then
    g_X6_count_45 v1 v2 v3 0 M
  else
    (mL M 0 (12 + v4)).bind fun x20 =>
    zl (v2 + x20) fun x21 =>
    zl (v4 + 1) fun x22 =>
    rec12 x21 x22 M

def g_X6_count_12 (v1 : Int32) (v3 : Int32) : Int32 → Int32 → mS → Option (Int32 × mS) := zlp2 (g_X6_count_12_b v1 v3) NN
set_option maxHeartbeats 4000000 in
theorem m_X6_count_12_b {X : zX} (hX : zOk X RX6 cX6_count 5 3 84 (Option.some Jvm.ClassFile.FieldType.int) "count" []) {σ : zS} {o : Nat} (hP : zP σ o) {Rt : Int32 × mS} {v1 : Int32} {v3 : Int32} {rec12 : Int32 → Int32 → mS → Option (Int32 × mS)} (hrec12 : ∀ (v2 : Int32) (v4 : Int32) (M : mS), rec12 v2 v4 M = some Rt → zG X (zQ X (.inl (eI Rt.1)) (pM σ o Rt.2)) 5 12 [(0, zA (some o)), (1, zI v1), (2, zI v2), (3, zI v3), (4, zI v4)] [] (pM σ o M)) {v2 : Int32} {v4 : Int32} {M : mS} (h : g_X6_count_12_b v1 v3 rec12 v2 v4 M = some Rt) : zG X (zQ X (.inl (eI Rt.1)) (pM σ o Rt.2)) 5 12 [(0, zA (some o)), (1, zI v1), (2, zI v2), (3, zI v3), (4, zI v4)] [] (pM σ o M) := by
  unfold g_X6_count_12_b at h
  refine z_iload hX 4 rfl dX6_count_12 (z_aload_n hX 0 rfl rfl dX6_count_14 (m_getA hX fl_X6_7_5 mAr_1 dX6_count_15 (z_iconst hX (v := 1) (by decide) dX6_count_18 ?_)))
  refine m_iald hX (j := 0) (by decide) h dX6_count_19 (fun x2 h => ?_)
  refine z_icmp_ge (tgt := 42) hX h dX6_count_20 (by decide) (fun h => ?_) (fun h => ?_)
  · refine z_iconst hX (v := 0) (by decide) dX6_count_42 (z_istore (L' := [(0, zA (some o)), (1, zI v1), (2, zI v2), (3, zI v3), (4, zI 0)]) hX rfl (by decide) dX6_count_43 ?_)
    exact z_sub [0, 1, 2, 3, 4] rfl (m_X6_count_45 hX hP  h)
  · refine z_iload_n hX 2 rfl rfl dX6_count_23 (z_aload_n hX 0 rfl rfl dX6_count_24 (m_getA hX fl_X6_7_5 mAr_1 dX6_count_25 (z_bipush hX (v := 12) (by decide) dX6_count_28 (z_iload hX 4 rfl dX6_count_30 (z_iadd hX dX6_count_32 ?_)))))
    refine m_iald hX (j := 0) (by decide) h dX6_count_33 (fun x20 h => ?_)
    refine z_iadd hX dX6_count_34 ?_
    refine z_nmI h (fun x21 h => ?_)
    refine z_istore_n (L' := [(0, zA (some o)), (1, zI v1), (2, zI x21), (3, zI v3), (4, zI v4)]) hX rfl rfl (by decide) dX6_count_35 ?_
    refine z_iinc hX (j := 4) h rfl (by decide) (by decide) dX6_count_36 (fun x22 h => z_L (L' := [(0, zA (some o)), (1, zI v1), (2, zI x21), (3, zI v3), (4, zI x22)]) rfl ?_)
    refine z_goto (tgt := 12) hX dX6_count_39 (by decide) ?_
    exact z_sub [0, 1, 2, 3, 4] rfl (hrec12 _ _ _ h)

theorem m_X6_count_12 {X : zX} (hX : zOk X RX6 cX6_count 5 3 84 (Option.some Jvm.ClassFile.FieldType.int) "count" []) {σ : zS} {o : Nat} (hP : zP σ o) {Rt : Int32 × mS} {v1 : Int32} {v3 : Int32} {v2 : Int32} {v4 : Int32} {M : mS} (h : g_X6_count_12 v1 v3 v2 v4 M = some Rt) : zG X (zQ X (.inl (eI Rt.1)) (pM σ o Rt.2)) 5 12 [(0, zA (some o)), (1, zI v1), (2, zI v2), (3, zI v3), (4, zI v4)] [] (pM σ o M) :=
  zlp2_ok (P := fun v2 v4 M => zG X (zQ X (.inl (eI Rt.1)) (pM σ o Rt.2)) 5 12 [(0, zA (some o)), (1, zI v1), (2, zI v2), (3, zI v3), (4, zI v4)] [] (pM σ o M)) (fun rec hr v2 v4 M h => m_X6_count_12_b hX hP hr h) NN v2 v4 M h
def g_X6_count (p1 : Int32) (M : mS) : Option (Int32 × mS) :=
  zl (mset M 0 0) fun M1 =>
  g_X6_count_12 p1 0 0 0 M1

set_option maxHeartbeats 4000000 in
theorem m_X6_count {X : zX} (hX : zOk X RX6 cX6_count 5 3 84 (Option.some Jvm.ClassFile.FieldType.int) "count" []) {σ : zS} {o : Nat} (hP : zP σ o) {p1 : Int32} {M : mS} {Rt : Int32 × mS} (h : g_X6_count p1 M = some Rt) : zG X (zQ X (.inl (eI Rt.1)) (pM σ o Rt.2)) 5 0 [(0, zA (some o)), (1, zI p1)] [] (pM σ o M) := by
  unfold g_X6_count at h
  refine z_aload_n hX 0 rfl rfl dX6_count_0 (z_iconst hX (v := 0) (by decide) dX6_count_1 ?_)
  refine m_putI hX hP fp_X6_41_5 mSc_0 h dX6_count_2 (fun M1 h => ?_)
  refine z_iconst hX (v := 0) (by decide) dX6_count_5 (z_istore_n (L' := [(0, zA (some o)), (1, zI p1), (2, zI 0)]) hX rfl rfl (by decide) dX6_count_6 (z_iconst hX (v := 0) (by decide) dX6_count_7 (z_istore_n (L' := [(0, zA (some o)), (1, zI p1), (2, zI 0), (3, zI 0)]) hX rfl rfl (by decide) dX6_count_8 (z_iconst hX (v := 0) (by decide) dX6_count_9 (z_istore (L' := [(0, zA (some o)), (1, zI p1), (2, zI 0), (3, zI 0), (4, zI 0)]) hX rfl (by decide) dX6_count_10 ?_)))))
  exact z_sub [0, 1, 2, 3, 4] rfl (m_X6_count_12 hX hP  h)

theorem c_X6_count {l : Launch} {D : va_G} {tys : zTy} (hl : l.stackTraces = false) {σ : zS} {o : Nat} (hP : zP σ o) {p1 : Int32} {M : mS} {Rt : Int32 × mS} (h : g_X6_count p1 M = some Rt) : zM l D tys yX6_count (ws_ yX6_count cX6_count 5 (Option.some Jvm.ClassFile.FieldType.int)) 3 84 [zA (some o), zI p1] (pM σ o M) (.inl (eI Rt.1)) (pM σ o Rt.2) :=
  zM_in hl rfl (Nat.le_of_ble_eq_true rfl) (fun p e R s m args below meth c hX => z_L rfl (m_X6_count hX hP h))
