/-! functions, walks, contracts -/
def f_X3_begins (o : Nat) (σ : zS) : Option (Unit × zS) :=
  (gI σ o 2 1).bind fun x1 =>
  (pI σ o 2 2 x1).bind fun σ2 =>
  (pI σ2 o 2 1 0).bind fun σ3 =>
  (pI σ3 o 2 3 0).bind fun σ4 =>
  (pI σ4 o 2 6 0).bind fun σ5 =>
  some ((), σ5)

set_option maxHeartbeats 4000000 in
theorem s_X3_begins {X : zX} (hX : zOk X RX3 cX3_begins 1 1 40 (Option.none : Option Jvm.ClassFile.FieldType) "begins" []) {o : Nat} {σ : zS} {Rt : Unit × zS} (h : f_X3_begins o σ = some Rt) : zG X (zQ X (.inl (eU Rt.1)) Rt.2) 1 0 [(0, zA (some o))] [] σ := by
  unfold f_X3_begins at h
  refine z_aload_n hX 0 rfl rfl dX3_begins_0 (z_aload_n hX 0 rfl rfl dX3_begins_1 ?_)
  refine z_getI hX fl_X3_19_2 h dX3_begins_2 (fun x1 h => ?_)
  refine z_putI hX fp_X3_22_2 (fun h => nomatch h) h dX3_begins_5 (fun σ2 h => ?_)
  refine z_aload_n hX 0 rfl rfl dX3_begins_8 (z_iconst hX (v := 0) (by decide) dX3_begins_9 ?_)
  refine z_putI hX fp_X3_19_2 (fun h => nomatch h) h dX3_begins_10 (fun σ3 h => ?_)
  refine z_aload_n hX 0 rfl rfl dX3_begins_13 (z_iconst hX (v := 0) (by decide) dX3_begins_14 ?_)
  refine z_putI hX fp_X3_25_2 (fun h => nomatch h) h dX3_begins_15 (fun σ4 h => ?_)
  refine z_aload_n hX 0 rfl rfl dX3_begins_18 (z_iconst hX (v := 0) (by decide) dX3_begins_19 ?_)
  refine z_putI hX fp_X3_28_2 (fun h => nomatch h) h dX3_begins_20 (fun σ5 h => ?_)
  obtain rfl := Option.some.inj h
  exact z_vret hX dX3_begins_23

theorem c_X3_begins {l : Launch} {D : va_G} {tys : zTy} (hl : l.stackTraces = false) {o : Nat} {σ : zS} {Rt : Unit × zS} (h : f_X3_begins o σ = some Rt) : zM l D tys yX3_begins (ws_ yX3_begins cX3_begins 1 (Option.none : Option Jvm.ClassFile.FieldType)) 1 40 [zA (some o)] σ (.inl (eU Rt.1)) Rt.2 :=
  zM_in hl rfl (Nat.le_of_ble_eq_true rfl) (fun p e R s m args below meth c hX => z_L rfl (s_X3_begins hX h))
def f_J0_init (o : Nat) (σ : zS) : Option (Unit × zS) :=
  some ((), σ)

set_option maxHeartbeats 4000000 in
theorem s_J0_init {X : zX} (hX : zOk X RJ0 cJ0_init 1 1 40 (Option.none : Option Jvm.ClassFile.FieldType) "<init>" []) {o : Nat} {σ : zS} {Rt : Unit × zS} (h : f_J0_init o σ = some Rt) : zG X (zQ X (.inl (eU Rt.1)) Rt.2) 1 0 [(0, zA (some o))] [] σ := by
  unfold f_J0_init at h
  refine z_aload_n hX 0 rfl rfl dJ0_init_0 (z_objInit hX q148 (Nat.le_of_ble_eq_true rfl) (Nat.le_of_ble_eq_true rfl) (Nat.le_of_ble_eq_true rfl) dJ0_init_1 ?_)
  obtain rfl := Option.some.inj h
  exact z_vret hX dJ0_init_4

theorem c_J0_init {l : Launch} {D : va_G} {tys : zTy} (hl : l.stackTraces = false) {o : Nat} {σ : zS} {Rt : Unit × zS} (h : f_J0_init o σ = some Rt) : zM l D tys yJ0_init (ws_ yJ0_init cJ0_init 1 (Option.none : Option Jvm.ClassFile.FieldType)) 1 40 [zA (some o)] σ (.inl (eU Rt.1)) Rt.2 :=
  zM_in hl rfl (Nat.le_of_ble_eq_true rfl) (fun p e R s m args below meth c hX => z_L rfl (s_J0_init hX h))
def f_J1_init (o : Nat) (σ : zS) : Option (Unit × zS) :=
  zb2 (f_J0_init o σ) fun _ σ2 =>
  (pI σ2 o 19 0 0).bind fun σ3 =>
  some ((), σ3)

set_option maxHeartbeats 4000000 in
theorem s_J1_init {X : zX} (hX : zOk X RJ1 cJ1_init 1 2 60 (Option.none : Option Jvm.ClassFile.FieldType) "<init>" []) {o : Nat} {σ : zS} {Rt : Unit × zS} (h : f_J1_init o σ = some Rt) : zG X (zQ X (.inl (eU Rt.1)) Rt.2) 1 0 [(0, zA (some o))] [] σ := by
  unfold f_J1_init at h
  refine z_aload_n hX 0 rfl rfl dJ1_init_0 ?_
  refine z_cNU hX (rest := []) h (fun r9 σ9 e9 => z_runI hX lk_J1_1 (c_J0_init hX.tr e9) ⟨Nat.le_of_ble_eq_true rfl, Nat.le_of_ble_eq_true rfl⟩ rfl (Nat.le_of_ble_eq_true rfl) dJ1_init_1 rfl) (fun _ σ2 h => ?_)
  refine z_aload_n hX 0 rfl rfl dJ1_init_4 (z_iconst hX (v := 0) (by decide) dJ1_init_5 ?_)
  refine z_putI hX fp_J1_7_19 (fun h => nomatch h) h dJ1_init_6 (fun σ3 h => ?_)
  obtain rfl := Option.some.inj h
  exact z_vret hX dJ1_init_9

theorem c_J1_init {l : Launch} {D : va_G} {tys : zTy} (hl : l.stackTraces = false) {o : Nat} {σ : zS} {Rt : Unit × zS} (h : f_J1_init o σ = some Rt) : zM l D tys yJ1_init (ws_ yJ1_init cJ1_init 1 (Option.none : Option Jvm.ClassFile.FieldType)) 2 60 [zA (some o)] σ (.inl (eU Rt.1)) Rt.2 :=
  zM_in hl rfl (Nat.le_of_ble_eq_true rfl) (fun p e R s m args below meth c hX => z_L rfl (s_J1_init hX h))
def f_J2_init (o : Nat) (σ : zS) : Option (Unit × zS) :=
  zb2 (f_J1_init o σ) fun _ σ2 =>
  zl (zk σ2 1) fun r3 =>
  (pR σ2 o 19 1 r3).bind fun σ4 =>
  some ((), σ4)

set_option maxHeartbeats 4000000 in
theorem s_J2_init {X : zX} (hX : zOk X RJ2 cJ2_init 1 3 80 (Option.none : Option Jvm.ClassFile.FieldType) "<init>" []) {o : Nat} {σ : zS} {Rt : Unit × zS} (h : f_J2_init o σ = some Rt) : zG X (zQ X (.inl (eU Rt.1)) Rt.2) 1 0 [(0, zA (some o))] [] σ := by
  unfold f_J2_init at h
  refine z_aload_n hX 0 rfl rfl dJ2_init_0 ?_
  refine z_cNU hX (rest := []) h (fun r9 σ9 e9 => z_runI hX lk_J2_1 (c_J1_init hX.tr e9) ⟨Nat.le_of_ble_eq_true rfl, Nat.le_of_ble_eq_true rfl⟩ rfl (Nat.le_of_ble_eq_true rfl) dJ2_init_1 rfl) (fun _ σ2 h => ?_)
  refine z_aload_n hX 0 rfl rfl dJ2_init_4 ?_
  refine z_gets hX (k := 1) (C := "java/util/ArrayList") (n := "DEFAULTCAPACITY_EMPTY_ELEMENTDATA") (dsc := "[Ljava/lang/Object;") (by simp [zSt]) q149 h dJ2_init_5 (fun r3 _ h => ?_)
  refine z_putR hX fp_J2_9_19 (Or.inr ⟨_, rfl⟩) (fun h => nomatch h) h dJ2_init_8 (fun σ4 h => ?_)
  obtain rfl := Option.some.inj h
  exact z_vret hX dJ2_init_11

theorem c_J2_init {l : Launch} {D : va_G} {tys : zTy} (hl : l.stackTraces = false) {o : Nat} {σ : zS} {Rt : Unit × zS} (h : f_J2_init o σ = some Rt) : zM l D tys yJ2_init (ws_ yJ2_init cJ2_init 1 (Option.none : Option Jvm.ClassFile.FieldType)) 3 80 [zA (some o)] σ (.inl (eU Rt.1)) Rt.2 :=
  zM_in hl rfl (Nat.le_of_ble_eq_true rfl) (fun p e R s m args below meth c hX => z_L rfl (s_J2_init hX h))
def f_X2_init (o : Nat) (σ : zS) : Option (Unit × zS) :=
  (pI σ o 1 2 100).bind fun σ1 =>
  (pI σ1 o 1 5 1).bind fun σ2 =>
  zb2 (znewI σ2 8) fun a3 σ4 =>
  (pR σ4 o 1 7 (some a3)).bind fun σ5 =>
  zb2 (znewO σ5 19 [.int 0, .null, .int 0]) fun a6 σ7 =>
  zb2 (f_J2_init a6 σ7) fun _ σ9 =>
  (pR σ9 o 1 8 (some a6)).bind fun σ10 =>
  zb2 (znewO σ10 19 [.int 0, .null, .int 0]) fun a11 σ12 =>
  zb2 (f_J2_init a11 σ12) fun _ σ14 =>
  (pR σ14 o 1 9 (some a11)).bind fun σ15 =>
  zb2 (znewO σ15 19 [.int 0, .null, .int 0]) fun a16 σ17 =>
  zb2 (f_J2_init a16 σ17) fun _ σ19 =>
  (pR σ19 o 1 10 (some a16)).bind fun σ20 =>
  zb2 (znewO σ20 19 [.int 0, .null, .int 0]) fun a21 σ22 =>
  zb2 (f_J2_init a21 σ22) fun _ σ24 =>
  (pR σ24 o 1 11 (some a21)).bind fun σ25 =>
  some ((), σ25)

set_option maxHeartbeats 4000000 in
theorem s_X2_init {X : zX} (hX : zOk X RX2 cX2_init 1 4 100 (Option.none : Option Jvm.ClassFile.FieldType) "<init>" []) {o : Nat} {σ : zS} {Rt : Unit × zS} (h : f_X2_init o σ = some Rt) : zG X (zQ X (.inl (eU Rt.1)) Rt.2) 1 0 [(0, zA (some o))] [] σ := by
  unfold f_X2_init at h
  refine z_aload_n hX 0 rfl rfl dX2_init_0 (z_objInit hX q136 (Nat.le_of_ble_eq_true rfl) (Nat.le_of_ble_eq_true rfl) (Nat.le_of_ble_eq_true rfl) dX2_init_1 (z_aload_n hX 0 rfl rfl dX2_init_4 (z_bipush hX (v := 100) (by decide) dX2_init_5 ?_)))
  refine z_putI hX fp_X2_9_1 (fun h => nomatch h) h dX2_init_7 (fun σ1 h => ?_)
  refine z_aload_n hX 0 rfl rfl dX2_init_10 (z_iconst hX (v := 1) (by decide) dX2_init_11 ?_)
  refine z_putI hX fp_X2_15_1 (fun h => nomatch h) h dX2_init_12 (fun σ2 h => ?_)
  refine z_aload_n hX 0 rfl rfl dX2_init_15 (z_bipush hX (v := 8) (by decide) dX2_init_16 ?_)
  refine z_newI hX h dX2_init_18 (fun a3 σ4 h => ?_)
  refine z_putR hX fp_X2_18_1 (Or.inr ⟨_, rfl⟩) (fun _ => rfl) h dX2_init_20 (fun σ5 h => ?_)
  refine z_aload_n hX 0 rfl rfl dX2_init_23 ?_
  refine z_new hX ne_X2_22 h dX2_init_24 (fun a6 σ7 h => ?_)
  refine z_dup hX rfl dX2_init_27 ?_
  refine z_cNU hX (rest := [zA (some a6), zA (some o)]) h (fun r9 σ9 e9 => z_runI hX lk_X2_24 (c_J2_init hX.tr e9) ⟨Nat.le_of_ble_eq_true rfl, Nat.le_of_ble_eq_true rfl⟩ rfl (Nat.le_of_ble_eq_true rfl) dX2_init_28 rfl) (fun _ σ9 h => ?_)
  refine z_putR hX fp_X2_25_1 (Or.inl ⟨_, rfl⟩) (fun _ => rfl) h dX2_init_31 (fun σ10 h => ?_)
  refine z_aload_n hX 0 rfl rfl dX2_init_34 ?_
  refine z_new hX ne_X2_22 h dX2_init_35 (fun a11 σ12 h => ?_)
  refine z_dup hX rfl dX2_init_38 ?_
  refine z_cNU hX (rest := [zA (some a11), zA (some o)]) h (fun r9 σ9 e9 => z_runI hX lk_X2_24 (c_J2_init hX.tr e9) ⟨Nat.le_of_ble_eq_true rfl, Nat.le_of_ble_eq_true rfl⟩ rfl (Nat.le_of_ble_eq_true rfl) dX2_init_39 rfl) (fun _ σ14 h => ?_)
  refine z_putR hX fp_X2_29_1 (Or.inl ⟨_, rfl⟩) (fun _ => rfl) h dX2_init_42 (fun σ15 h => ?_)
  refine z_aload_n hX 0 rfl rfl dX2_init_45 ?_
  refine z_new hX ne_X2_22 h dX2_init_46 (fun a16 σ17 h => ?_)
  refine z_dup hX rfl dX2_init_49 ?_
  refine z_cNU hX (rest := [zA (some a16), zA (some o)]) h (fun r9 σ9 e9 => z_runI hX lk_X2_24 (c_J2_init hX.tr e9) ⟨Nat.le_of_ble_eq_true rfl, Nat.le_of_ble_eq_true rfl⟩ rfl (Nat.le_of_ble_eq_true rfl) dX2_init_50 rfl) (fun _ σ19 h => ?_)
  refine z_putR hX fp_X2_32_1 (Or.inl ⟨_, rfl⟩) (fun _ => rfl) h dX2_init_53 (fun σ20 h => ?_)
  refine z_aload_n hX 0 rfl rfl dX2_init_56 ?_
  refine z_new hX ne_X2_22 h dX2_init_57 (fun a21 σ22 h => ?_)
  refine z_dup hX rfl dX2_init_60 ?_
  refine z_cNU hX (rest := [zA (some a21), zA (some o)]) h (fun r9 σ9 e9 => z_runI hX lk_X2_24 (c_J2_init hX.tr e9) ⟨Nat.le_of_ble_eq_true rfl, Nat.le_of_ble_eq_true rfl⟩ rfl (Nat.le_of_ble_eq_true rfl) dX2_init_61 rfl) (fun _ σ24 h => ?_)
  refine z_putR hX fp_X2_35_1 (Or.inl ⟨_, rfl⟩) (fun _ => rfl) h dX2_init_64 (fun σ25 h => ?_)
  obtain rfl := Option.some.inj h
  exact z_vret hX dX2_init_67

theorem c_X2_init {l : Launch} {D : va_G} {tys : zTy} (hl : l.stackTraces = false) {o : Nat} {σ : zS} {Rt : Unit × zS} (h : f_X2_init o σ = some Rt) : zM l D tys yX2_init (ws_ yX2_init cX2_init 1 (Option.none : Option Jvm.ClassFile.FieldType)) 4 100 [zA (some o)] σ (.inl (eU Rt.1)) Rt.2 :=
  zM_in hl rfl (Nat.le_of_ble_eq_true rfl) (fun p e R s m args below meth c hX => z_L rfl (s_X2_init hX h))
def f_J2_size (o : Nat) (σ : zS) : Option (Int32 × zS) :=
  (gI σ o 19 2).bind fun x1 =>
  some (x1, σ)

set_option maxHeartbeats 4000000 in
theorem s_J2_size {X : zX} (hX : zOk X RJ2 cJ2_size 1 1 40 (Option.some Jvm.ClassFile.FieldType.int) "size" []) {o : Nat} {σ : zS} {Rt : Int32 × zS} (h : f_J2_size o σ = some Rt) : zG X (zQ X (.inl (eI Rt.1)) Rt.2) 1 0 [(0, zA (some o))] [] σ := by
  unfold f_J2_size at h
  refine z_aload_n hX 0 rfl rfl dJ2_size_0 ?_
  refine z_getI hX fl_J2_48_19 h dJ2_size_1 (fun x1 h => ?_)
  obtain rfl := Option.some.inj h
  exact z_iret hX dJ2_size_4

theorem c_J2_size {l : Launch} {D : va_G} {tys : zTy} (hl : l.stackTraces = false) {o : Nat} {σ : zS} {Rt : Int32 × zS} (h : f_J2_size o σ = some Rt) : zM l D tys yJ2_size (ws_ yJ2_size cJ2_size 1 (Option.some Jvm.ClassFile.FieldType.int)) 1 40 [zA (some o)] σ (.inl (eI Rt.1)) Rt.2 :=
  zM_in hl rfl (Nat.le_of_ble_eq_true rfl) (fun p e R s m args below meth c hX => z_L rfl (s_J2_size hX h))
def f_J4_checkIndex_9 (v0 : Int32) (v1 : Int32) (v2 : Option Nat) (σ : zS) : Option (Int32 × zS) :=
  none

set_option maxHeartbeats 4000000 in
theorem s_J4_checkIndex_9 {X : zX} (hX : zOk X RJ4 cJ4_checkIndex 3 1 40 (Option.some Jvm.ClassFile.FieldType.int) "checkIndex" []) {Rt : Int32 × zS} {v0 : Int32} {v1 : Int32} {v2 : Option Nat} {σ : zS} (h : f_J4_checkIndex_9 v0 v1 v2 σ = some Rt) : zG X (zQ X (.inl (eI Rt.1)) Rt.2) 3 9 [(0, zI v0), (1, zI v1), (2, zA v2)] [] σ := by
  unfold f_J4_checkIndex_9 at h
  refine z_aload_n hX 2 rfl rfl dJ4_checkIndex_9 (z_iload_n hX 0 rfl rfl dJ4_checkIndex_10 (z_iload_n hX 1 rfl rfl dJ4_checkIndex_11 ?_))
  cases h

def f_J4_checkIndex (p1 : Int32) (p2 : Int32) (p3 : Option Nat) (σ : zS) : Option (Int32 × zS) :=
  if p1 < 0 then
    f_J4_checkIndex_9 p1 p2 p3 σ
  else
    if p1 < p2 then
      some (p1, σ)
    else
      f_J4_checkIndex_9 p1 p2 p3 σ

set_option maxHeartbeats 4000000 in
theorem s_J4_checkIndex {X : zX} (hX : zOk X RJ4 cJ4_checkIndex 3 1 40 (Option.some Jvm.ClassFile.FieldType.int) "checkIndex" []) {p1 : Int32} {p2 : Int32} {p3 : Option Nat} {σ : zS} {Rt : Int32 × zS} (h : f_J4_checkIndex p1 p2 p3 σ = some Rt) : zG X (zQ X (.inl (eI Rt.1)) Rt.2) 3 0 [(0, zI p1), (1, zI p2), (2, zA p3)] [] σ := by
  unfold f_J4_checkIndex at h
  refine z_iload_n hX 0 rfl rfl dJ4_checkIndex_0 ?_
  refine z_if_lt (tgt := 9) hX h dJ4_checkIndex_1 (by decide) (fun h => ?_) (fun h => ?_)
  · exact z_sub [0, 1, 2] rfl (s_J4_checkIndex_9 hX  h)
  · refine z_iload_n hX 0 rfl rfl dJ4_checkIndex_4 (z_iload_n hX 1 rfl rfl dJ4_checkIndex_5 ?_)
    refine z_icmp_lt (tgt := 16) hX h dJ4_checkIndex_6 (by decide) (fun h => ?_) (fun h => ?_)
    · refine z_iload_n hX 0 rfl rfl dJ4_checkIndex_16 ?_
      obtain rfl := Option.some.inj h
      exact z_iret hX dJ4_checkIndex_17
    · exact z_sub [0, 1, 2] rfl (s_J4_checkIndex_9 hX  h)

theorem c_J4_checkIndex {l : Launch} {D : va_G} {tys : zTy} (hl : l.stackTraces = false) {p1 : Int32} {p2 : Int32} {p3 : Option Nat} {σ : zS} {Rt : Int32 × zS} (h : f_J4_checkIndex p1 p2 p3 σ = some Rt) : zM l D tys yJ4_checkIndex (ws_ yJ4_checkIndex cJ4_checkIndex 3 (Option.some Jvm.ClassFile.FieldType.int)) 1 40 [zI p1, zI p2, zA p3] σ (.inl (eI Rt.1)) Rt.2 :=
  zM_in hl rfl (Nat.le_of_ble_eq_true rfl) (fun p e R s m args below meth c hX => z_L rfl (s_J4_checkIndex hX h))
def f_J3_checkIndex (p1 : Int32) (p2 : Int32) (σ : zS) : Option (Int32 × zS) :=
  zb2 (f_J4_checkIndex p1 p2 none σ) fun x1 σ2 =>
  some (x1, σ2)

set_option maxHeartbeats 4000000 in
theorem s_J3_checkIndex {X : zX} (hX : zOk X RJ3 cJ3_checkIndex 2 2 62 (Option.some Jvm.ClassFile.FieldType.int) "checkIndex" []) {p1 : Int32} {p2 : Int32} {σ : zS} {Rt : Int32 × zS} (h : f_J3_checkIndex p1 p2 σ = some Rt) : zG X (zQ X (.inl (eI Rt.1)) Rt.2) 2 0 [(0, zI p1), (1, zI p2)] [] σ := by
  unfold f_J3_checkIndex at h
  refine z_iload_n hX 0 rfl rfl dJ3_checkIndex_0 (z_iload_n hX 1 rfl rfl dJ3_checkIndex_1 (z_null hX dJ3_checkIndex_2 ?_))
  refine z_cNI hX (rest := []) h (fun r9 σ9 e9 => z_runS hX lk_J3_105 (c_J4_checkIndex hX.tr e9) ⟨Nat.le_of_ble_eq_true rfl, Nat.le_of_ble_eq_true rfl⟩ rfl (Nat.le_of_ble_eq_true rfl) dJ3_checkIndex_3 rfl) (fun x1 σ2 h => ?_)
  obtain rfl := Option.some.inj h
  exact z_iret hX dJ3_checkIndex_6

theorem c_J3_checkIndex {l : Launch} {D : va_G} {tys : zTy} (hl : l.stackTraces = false) {p1 : Int32} {p2 : Int32} {σ : zS} {Rt : Int32 × zS} (h : f_J3_checkIndex p1 p2 σ = some Rt) : zM l D tys yJ3_checkIndex (ws_ yJ3_checkIndex cJ3_checkIndex 2 (Option.some Jvm.ClassFile.FieldType.int)) 2 62 [zI p1, zI p2] σ (.inl (eI Rt.1)) Rt.2 :=
  zM_in hl rfl (Nat.le_of_ble_eq_true rfl) (fun p e R s m args below meth c hX => z_L rfl (s_J3_checkIndex hX h))
def f_J2_elementData (o : Nat) (p1 : Int32) (σ : zS) : Option ((Option Nat) × zS) :=
  (gR σ o 19 1).bind fun r1 =>
  r1.bind fun a2 =>
  (lR σ a2 p1).bind fun r3 =>
  some (r3, σ)

set_option maxHeartbeats 4000000 in
theorem s_J2_elementData {X : zX} (hX : zOk X RJ2 cJ2_elementData 2 1 40 (Option.some (Jvm.ClassFile.FieldType.object "java/lang/Object")) "elementData" []) {o : Nat} {p1 : Int32} {σ : zS} {Rt : (Option Nat) × zS} (h : f_J2_elementData o p1 σ = some Rt) : zG X (zQ X (.inl (eA Rt.1)) Rt.2) 2 0 [(0, zA (some o)), (1, zI p1)] [] σ := by
  unfold f_J2_elementData at h
  refine z_aload_n hX 0 rfl rfl dJ2_elementData_0 ?_
  refine z_getR hX fl_J2_9_19 h dJ2_elementData_1 (fun r1 h => ?_)
  refine z_iload_n hX 1 rfl rfl dJ2_elementData_4 ?_
  obtain ⟨a2, e9, k_a2⟩ := z_nn h
  subst e9
  have h := k_a2
  refine z_aald hX h dJ2_elementData_5 (fun r3 h => ?_)
  obtain rfl := Option.some.inj h
  exact z_aret hX (Or.inl ⟨_, rfl⟩) dJ2_elementData_6

theorem c_J2_elementData {l : Launch} {D : va_G} {tys : zTy} (hl : l.stackTraces = false) {o : Nat} {p1 : Int32} {σ : zS} {Rt : (Option Nat) × zS} (h : f_J2_elementData o p1 σ = some Rt) : zM l D tys yJ2_elementData (ws_ yJ2_elementData cJ2_elementData 2 (Option.some (Jvm.ClassFile.FieldType.object "java/lang/Object"))) 1 40 [zA (some o), zI p1] σ (.inl (eA Rt.1)) Rt.2 :=
  zM_in hl rfl (Nat.le_of_ble_eq_true rfl) (fun p e R s m args below meth c hX => z_L rfl (s_J2_elementData hX h))
def f_J2_get (o : Nat) (p1 : Int32) (σ : zS) : Option ((Option Nat) × zS) :=
  (gI σ o 19 2).bind fun x1 =>
  zb2 (f_J3_checkIndex p1 x1 σ) fun x2 σ3 =>
  zif (zcl σ3 o = 19) <|
  zb2 (f_J2_elementData o p1 σ3) fun r5 σ6 =>
  some (r5, σ6)

set_option maxHeartbeats 4000000 in
theorem s_J2_get {X : zX} (hX : zOk X RJ2 cJ2_get 2 3 83 (Option.some (Jvm.ClassFile.FieldType.object "java/lang/Object")) "get" []) {o : Nat} {p1 : Int32} {σ : zS} {Rt : (Option Nat) × zS} (h : f_J2_get o p1 σ = some Rt) : zG X (zQ X (.inl (eA Rt.1)) Rt.2) 2 0 [(0, zA (some o)), (1, zI p1)] [] σ := by
  unfold f_J2_get at h
  refine z_iload_n hX 1 rfl rfl dJ2_get_0 (z_aload_n hX 0 rfl rfl dJ2_get_1 ?_)
  refine z_getI hX fl_J2_48_19 h dJ2_get_2 (fun x1 h => ?_)
  refine z_cNI hX (rest := []) h (fun r9 σ9 e9 => z_runS hX lk_J2_118 (c_J3_checkIndex hX.tr e9) ⟨Nat.le_of_ble_eq_true rfl, Nat.le_of_ble_eq_true rfl⟩ rfl (Nat.le_of_ble_eq_true rfl) dJ2_get_5 rfl) (fun x2 σ3 h => ?_)
  refine z_pop hX rfl dJ2_get_8 (z_aload_n hX 0 rfl rfl dJ2_get_9 (z_iload_n hX 1 rfl rfl dJ2_get_10 ?_))
  obtain ⟨c4, h⟩ := z_ck h
  refine z_cNA hX (rest := []) h (fun r9 σ9 e9 => z_runV hX lk_J2_123 (c_J2_elementData hX.tr e9) (ci := 19) zc9_19 c4 ⟨Nat.le_of_ble_eq_true rfl, Nat.le_of_ble_eq_true rfl⟩ rfl (Nat.le_of_ble_eq_true rfl) dJ2_get_11 rfl) (fun r5 σ6 h => ?_)
  obtain rfl := Option.some.inj h
  exact z_aret hX (Or.inl ⟨_, rfl⟩) dJ2_get_14

theorem c_J2_get {l : Launch} {D : va_G} {tys : zTy} (hl : l.stackTraces = false) {o : Nat} {p1 : Int32} {σ : zS} {Rt : (Option Nat) × zS} (h : f_J2_get o p1 σ = some Rt) : zM l D tys yJ2_get (ws_ yJ2_get cJ2_get 2 (Option.some (Jvm.ClassFile.FieldType.object "java/lang/Object"))) 3 83 [zA (some o), zI p1] σ (.inl (eA Rt.1)) Rt.2 :=
  zM_in hl rfl (Nat.le_of_ble_eq_true rfl) (fun p e R s m args below meth c hX => z_L rfl (s_J2_get hX h))
def f_X7_init (o : Nat) (p1 : Int32) (p2 : Int32) (p3 : Int32) (p4 : Int32) (σ : zS) : Option (Unit × zS) :=
  (pI σ o 6 0 p1).bind fun σ1 =>
  (pI σ1 o 6 1 p2).bind fun σ2 =>
  (pI σ2 o 6 3 p3).bind fun σ3 =>
  (pI σ3 o 6 2 p4).bind fun σ4 =>
  some ((), σ4)

set_option maxHeartbeats 4000000 in
theorem s_X7_init {X : zX} (hX : zOk X RX7 cX7_init 5 1 40 (Option.none : Option Jvm.ClassFile.FieldType) "<init>" []) {o : Nat} {p1 : Int32} {p2 : Int32} {p3 : Int32} {p4 : Int32} {σ : zS} {Rt : Unit × zS} (h : f_X7_init o p1 p2 p3 p4 σ = some Rt) : zG X (zQ X (.inl (eU Rt.1)) Rt.2) 5 0 [(0, zA (some o)), (1, zI p1), (2, zI p2), (3, zI p3), (4, zI p4)] [] σ := by
  unfold f_X7_init at h
  refine z_aload_n hX 0 rfl rfl dX7_init_0 (z_objInit hX q446 (Nat.le_of_ble_eq_true rfl) (Nat.le_of_ble_eq_true rfl) (Nat.le_of_ble_eq_true rfl) dX7_init_1 (z_aload_n hX 0 rfl rfl dX7_init_4 (z_iload_n hX 1 rfl rfl dX7_init_5 ?_)))
  refine z_putI hX fp_X7_7_6 (fun _ => rfl) h dX7_init_6 (fun σ1 h => ?_)
  refine z_aload_n hX 0 rfl rfl dX7_init_9 (z_iload_n hX 2 rfl rfl dX7_init_10 ?_)
  refine z_putI hX fp_X7_13_6 (fun _ => rfl) h dX7_init_11 (fun σ2 h => ?_)
  refine z_aload_n hX 0 rfl rfl dX7_init_14 (z_iload_n hX 3 rfl rfl dX7_init_15 ?_)
  refine z_putI hX fp_X7_16_6 (fun h => nomatch h) h dX7_init_16 (fun σ3 h => ?_)
  refine z_aload_n hX 0 rfl rfl dX7_init_19 (z_iload hX 4 rfl dX7_init_20 ?_)
  refine z_putI hX fp_X7_19_6 (fun _ => rfl) h dX7_init_22 (fun σ4 h => ?_)
  obtain rfl := Option.some.inj h
  exact z_vret hX dX7_init_25

theorem c_X7_init {l : Launch} {D : va_G} {tys : zTy} (hl : l.stackTraces = false) {o : Nat} {p1 : Int32} {p2 : Int32} {p3 : Int32} {p4 : Int32} {σ : zS} {Rt : Unit × zS} (h : f_X7_init o p1 p2 p3 p4 σ = some Rt) : zM l D tys yX7_init (ws_ yX7_init cX7_init 5 (Option.none : Option Jvm.ClassFile.FieldType)) 1 40 [zA (some o), zI p1, zI p2, zI p3, zI p4] σ (.inl (eU Rt.1)) Rt.2 :=
  zM_in hl rfl (Nat.le_of_ble_eq_true rfl) (fun p e R s m args below meth c hX => z_L rfl (s_X7_init hX h))
def f_X7_copy (o : Nat) (σ : zS) : Option ((Option Nat) × zS) :=
  zb2 (znewO σ 6 [.int 0, .int 0, .int 0, .int 0]) fun a1 σ2 =>
  (gI σ2 o 6 0).bind fun x3 =>
  (gI σ2 o 6 1).bind fun x4 =>
  (gI σ2 o 6 3).bind fun x5 =>
  (gI σ2 o 6 2).bind fun x6 =>
  zb2 (f_X7_init a1 x3 x4 x5 x6 σ2) fun _ σ8 =>
  some ((some a1), σ8)

set_option maxHeartbeats 4000000 in
theorem s_X7_copy {X : zX} (hX : zOk X RX7 cX7_copy 1 2 64 (Option.some (Jvm.ClassFile.FieldType.object "StepDebts$Walker")) "copy" []) {o : Nat} {σ : zS} {Rt : (Option Nat) × zS} (h : f_X7_copy o σ = some Rt) : zG X (zQ X (.inl (eA Rt.1)) Rt.2) 1 0 [(0, zA (some o))] [] σ := by
  unfold f_X7_copy at h
  refine z_new hX ne_X7_8 h dX7_copy_0 (fun a1 σ2 h => ?_)
  refine z_dup hX rfl dX7_copy_3 (z_aload_n hX 0 rfl rfl dX7_copy_4 ?_)
  refine z_getI hX fl_X7_7_6 h dX7_copy_5 (fun x3 h => ?_)
  refine z_aload_n hX 0 rfl rfl dX7_copy_8 ?_
  refine z_getI hX fl_X7_13_6 h dX7_copy_9 (fun x4 h => ?_)
  refine z_aload_n hX 0 rfl rfl dX7_copy_12 ?_
  refine z_getI hX fl_X7_16_6 h dX7_copy_13 (fun x5 h => ?_)
  refine z_aload_n hX 0 rfl rfl dX7_copy_16 ?_
  refine z_getI hX fl_X7_19_6 h dX7_copy_17 (fun x6 h => ?_)
  refine z_cNU hX (rest := [zA (some a1)]) h (fun r9 σ9 e9 => z_runI hX lk_X7_22 (c_X7_init hX.tr e9) ⟨Nat.le_of_ble_eq_true rfl, Nat.le_of_ble_eq_true rfl⟩ rfl (Nat.le_of_ble_eq_true rfl) dX7_copy_20 rfl) (fun _ σ8 h => ?_)
  obtain rfl := Option.some.inj h
  exact z_aret hX (Or.inl ⟨_, rfl⟩) dX7_copy_23

theorem c_X7_copy {l : Launch} {D : va_G} {tys : zTy} (hl : l.stackTraces = false) {o : Nat} {σ : zS} {Rt : (Option Nat) × zS} (h : f_X7_copy o σ = some Rt) : zM l D tys yX7_copy (ws_ yX7_copy cX7_copy 1 (Option.some (Jvm.ClassFile.FieldType.object "StepDebts$Walker"))) 2 64 [zA (some o)] σ (.inl (eA Rt.1)) Rt.2 :=
  zM_in hl rfl (Nat.le_of_ble_eq_true rfl) (fun p e R s m args below meth c hX => z_L rfl (s_X7_copy hX h))
def f_J5_newLength_21 (v0 : Int32) (v1 : Int32) (σ : zS) : Option (Int32 × zS) :=
  none

set_option maxHeartbeats 4000000 in
theorem s_J5_newLength_21 {X : zX} (hX : zOk X RJ5 cJ5_newLength 4 1 40 (Option.some Jvm.ClassFile.FieldType.int) "newLength" []) {Rt : Int32 × zS} {v0 : Int32} {v1 : Int32} {σ : zS} (h : f_J5_newLength_21 v0 v1 σ = some Rt) : zG X (zQ X (.inl (eI Rt.1)) Rt.2) 4 21 [(0, zI v0), (1, zI v1)] [] σ := by
  unfold f_J5_newLength_21 at h
  refine z_iload_n hX 0 rfl rfl dJ5_newLength_21 (z_iload_n hX 1 rfl rfl dJ5_newLength_22 ?_)
  cases h

def f_J5_newLength (p1 : Int32) (p2 : Int32) (p3 : Int32) (σ : zS) : Option (Int32 × zS) :=
  zl (p1 + (zmax p2 p3)) fun x1 =>
  if x1 ≤ (0 : Int32) then
    f_J5_newLength_21 p1 p2 σ
  else
    if 2147483639 < x1 then
      f_J5_newLength_21 p1 p2 σ
    else
      some (x1, σ)

set_option maxHeartbeats 4000000 in
theorem s_J5_newLength {X : zX} (hX : zOk X RJ5 cJ5_newLength 4 1 40 (Option.some Jvm.ClassFile.FieldType.int) "newLength" []) {p1 : Int32} {p2 : Int32} {p3 : Int32} {σ : zS} {Rt : Int32 × zS} (h : f_J5_newLength p1 p2 p3 σ = some Rt) : zG X (zQ X (.inl (eI Rt.1)) Rt.2) 4 0 [(0, zI p1), (1, zI p2), (2, zI p3)] [] σ := by
  unfold f_J5_newLength at h
  refine z_iload_n hX 0 rfl rfl dJ5_newLength_0 (z_iload_n hX 1 rfl rfl dJ5_newLength_1 (z_iload_n hX 2 rfl rfl dJ5_newLength_2 (z_mmax hX q484 (Nat.le_of_ble_eq_true rfl) (Nat.le_of_ble_eq_true rfl) (Nat.le_of_ble_eq_true rfl) dJ5_newLength_3 (z_iadd hX dJ5_newLength_6 ?_))))
  refine z_nmI h (fun x1 h => ?_)
  refine z_istore_n (L' := [(0, zI p1), (1, zI p2), (2, zI p3), (3, zI x1)]) hX rfl rfl (by decide) dJ5_newLength_7 (z_iconst hX (v := 0) (by decide) dJ5_newLength_8 (z_iload_n hX 3 rfl rfl dJ5_newLength_9 ?_))
  refine z_icmp_ge (tgt := 21) hX h dJ5_newLength_10 (by decide) (fun h => ?_) (fun h => ?_)
  · exact z_sub [0, 1] rfl (s_J5_newLength_21 hX  h)
  · refine z_iload_n hX 3 rfl rfl dJ5_newLength_13 (z_ldc hX (v := 2147483639) q485 dJ5_newLength_14 ?_)
    refine z_icmp_gt (tgt := 21) hX h dJ5_newLength_16 (by decide) (fun h => ?_) (fun h => ?_)
    · exact z_sub [0, 1] rfl (s_J5_newLength_21 hX  h)
    · refine z_iload_n hX 3 rfl rfl dJ5_newLength_19 ?_
      obtain rfl := Option.some.inj h
      exact z_iret hX dJ5_newLength_20

theorem c_J5_newLength {l : Launch} {D : va_G} {tys : zTy} (hl : l.stackTraces = false) {p1 : Int32} {p2 : Int32} {p3 : Int32} {σ : zS} {Rt : Int32 × zS} (h : f_J5_newLength p1 p2 p3 σ = some Rt) : zM l D tys yJ5_newLength (ws_ yJ5_newLength cJ5_newLength 4 (Option.some Jvm.ClassFile.FieldType.int)) 1 40 [zI p1, zI p2, zI p3] σ (.inl (eI Rt.1)) Rt.2 :=
  zM_in hl rfl (Nat.le_of_ble_eq_true rfl) (fun p e R s m args below meth c hX => z_L rfl (s_J5_newLength hX h))
def f_J7_copyOf_2 (p1 : Option Nat) (p2 : Int32) (p3 : Option Nat) (σ : zS) : Option ((Option Nat) × zS) :=
  (zk σ 0).bind fun a1 =>
  if ¬ p3 = (some a1) then
    none
  else
    zb2 (znewR σ p2) fun a2 σ3 =>
    p1.bind fun a4 =>
    (zaln σ3 a4).bind fun x5 =>
    (zcpy σ3 a4 0 a2 0 (zmin x5 p2)).bind fun σ6 =>
    some ((some a2), σ6)

set_option maxHeartbeats 4000000 in
theorem s_J7_copyOf_2 {X : zX} (hX : zOk X RJ7 cJ7_copyOf_2 4 1 40 (Option.some (Jvm.ClassFile.FieldType.array (Jvm.ClassFile.FieldType.object "java/lang/Object"))) "copyOf" []) {p1 : Option Nat} {p2 : Int32} {p3 : Option Nat} {σ : zS} {Rt : (Option Nat) × zS} (h : f_J7_copyOf_2 p1 p2 p3 σ = some Rt) : zG X (zQ X (.inl (eA Rt.1)) Rt.2) 4 0 [(0, zA p1), (1, zI p2), (2, zA p3)] [] σ := by
  unfold f_J7_copyOf_2 at h
  refine z_aload_n hX 2 rfl rfl dJ7_copyOf_2_0 ?_
  refine z_ldcM hX q530 h dJ7_copyOf_2_1 (fun a1 _ h => ?_)
  refine z_acmp_ne (tgt := 13) hX h dJ7_copyOf_2_3 (by decide) (fun h => ?_) (fun h => ?_)
  · refine z_aload_n hX 2 rfl rfl dJ7_copyOf_2_13 ?_
    cases h
  · refine z_iload_n hX 1 rfl rfl dJ7_copyOf_2_6 ?_
    refine z_newR hX q532 h dJ7_copyOf_2_7 (fun a2 σ3 h => ?_)
    refine z_goto (tgt := 24) hX dJ7_copyOf_2_10 (by decide) (z_astore_n (L' := [(0, zA p1), (1, zI p2), (2, zA p3), (3, zA (some a2))]) hX rfl rfl (by decide) dJ7_copyOf_2_24 (z_aload_n hX 0 rfl rfl dJ7_copyOf_2_25 (z_iconst hX (v := 0) (by decide) dJ7_copyOf_2_26 (z_aload_n hX 3 rfl rfl dJ7_copyOf_2_27 (z_iconst hX (v := 0) (by decide) dJ7_copyOf_2_28 (z_aload_n hX 0 rfl rfl dJ7_copyOf_2_29 ?_))))))
    obtain ⟨a4, e9, k_a4⟩ := z_nn h
    subst e9
    have h := k_a4
    refine z_alen hX h dJ7_copyOf_2_30 (fun x5 h => ?_)
    refine z_iload_n hX 1 rfl rfl dJ7_copyOf_2_31 (z_mmin hX q533 (Nat.le_of_ble_eq_true rfl) (Nat.le_of_ble_eq_true rfl) (Nat.le_of_ble_eq_true rfl) dJ7_copyOf_2_32 ?_)
    refine z_cpy hX zto q536 (Nat.le_of_ble_eq_true rfl) (Nat.le_of_ble_eq_true rfl) (Nat.le_of_ble_eq_true rfl) h dJ7_copyOf_2_35 (fun σ6 h => ?_)
    refine z_aload_n hX 3 rfl rfl dJ7_copyOf_2_38 ?_
    obtain rfl := Option.some.inj h
    exact z_aret hX (Or.inr ⟨_, rfl⟩) dJ7_copyOf_2_39

theorem c_J7_copyOf_2 {l : Launch} {D : va_G} {tys : zTy} (hl : l.stackTraces = false) {p1 : Option Nat} {p2 : Int32} {p3 : Option Nat} {σ : zS} {Rt : (Option Nat) × zS} (h : f_J7_copyOf_2 p1 p2 p3 σ = some Rt) : zM l D tys yJ7_copyOf_2 (ws_ yJ7_copyOf_2 cJ7_copyOf_2 4 (Option.some (Jvm.ClassFile.FieldType.array (Jvm.ClassFile.FieldType.object "java/lang/Object")))) 1 40 [zA p1, zI p2, zA p3] σ (.inl (eA Rt.1)) Rt.2 :=
  zM_in hl rfl (Nat.le_of_ble_eq_true rfl) (fun p e R s m args below meth c hX => z_L rfl (s_J7_copyOf_2 hX h))
def f_J7_copyOf (p1 : Option Nat) (p2 : Int32) (σ : zS) : Option ((Option Nat) × zS) :=
  p1.bind fun a1 =>
  (if zckA σ (some a1) 3 = true ∨ zckA σ (some a1) 103 = true then zk σ 0 else none).bind fun a2 =>
  zb2 (f_J7_copyOf_2 (some a1) p2 (some a2) σ) fun r3 σ4 =>
  some (r3, σ4)

set_option maxHeartbeats 4000000 in
theorem s_J7_copyOf {X : zX} (hX : zOk X RJ7 cJ7_copyOf 2 2 63 (Option.some (Jvm.ClassFile.FieldType.array (Jvm.ClassFile.FieldType.object "java/lang/Object"))) "copyOf" []) {p1 : Option Nat} {p2 : Int32} {σ : zS} {Rt : (Option Nat) × zS} (h : f_J7_copyOf p1 p2 σ = some Rt) : zG X (zQ X (.inl (eA Rt.1)) Rt.2) 2 0 [(0, zA p1), (1, zI p2)] [] σ := by
  unfold f_J7_copyOf at h
  refine z_aload_n hX 0 rfl rfl dJ7_copyOf_0 (z_iload_n hX 1 rfl rfl dJ7_copyOf_1 (z_aload_n hX 0 rfl rfl dJ7_copyOf_2 ?_))
  obtain ⟨a1, e9, k_a1⟩ := z_nn h
  subst e9
  have h := k_a1
  refine z_getC hX q492 (Nat.le_of_ble_eq_true rfl) (Nat.le_of_ble_eq_true rfl) (Nat.le_of_ble_eq_true rfl) h dJ7_copyOf_3 (fun a2 _ h => ?_)
  refine z_cNA hX (rest := []) h (fun r9 σ9 e9 => z_runS hX lk_J7_300 (c_J7_copyOf_2 hX.tr e9) ⟨Nat.le_of_ble_eq_true rfl, Nat.le_of_ble_eq_true rfl⟩ rfl (Nat.le_of_ble_eq_true rfl) dJ7_copyOf_6 rfl) (fun r3 σ4 h => ?_)
  obtain rfl := Option.some.inj h
  exact z_aret hX (Or.inr ⟨_, rfl⟩) dJ7_copyOf_9

theorem c_J7_copyOf {l : Launch} {D : va_G} {tys : zTy} (hl : l.stackTraces = false) {p1 : Option Nat} {p2 : Int32} {σ : zS} {Rt : (Option Nat) × zS} (h : f_J7_copyOf p1 p2 σ = some Rt) : zM l D tys yJ7_copyOf (ws_ yJ7_copyOf cJ7_copyOf 2 (Option.some (Jvm.ClassFile.FieldType.array (Jvm.ClassFile.FieldType.object "java/lang/Object")))) 2 63 [zA p1, zI p2] σ (.inl (eA Rt.1)) Rt.2 :=
  zM_in hl rfl (Nat.le_of_ble_eq_true rfl) (fun p e R s m args below meth c hX => z_L rfl (s_J7_copyOf hX h))
def f_J2_grow_2_20 (o : Nat) (v1 : Int32) (v2 : Int32) (σ : zS) : Option ((Option Nat) × zS) :=
  zb2 (f_J5_newLength v2 (v1 - v2) (v2 >>> (1 &&& 31)) σ) fun x4 σ5 =>
  (gR σ5 o 19 1).bind fun r6 =>
  zb2 (f_J7_copyOf r6 x4 σ5) fun r7 σ8 =>
  (pR σ8 o 19 1 r7).bind fun σ9 =>
  some (r7, σ9)

set_option maxHeartbeats 4000000 in
theorem s_J2_grow_2_20 {X : zX} (hX : zOk X RJ2 cJ2_grow_2 4 3 84 (Option.some (Jvm.ClassFile.FieldType.array (Jvm.ClassFile.FieldType.object "java/lang/Object"))) "grow" []) {o : Nat} {Rt : (Option Nat) × zS} {v1 : Int32} {v2 : Int32} {σ : zS} (h : f_J2_grow_2_20 o v1 v2 σ = some Rt) : zG X (zQ X (.inl (eA Rt.1)) Rt.2) 4 20 [(0, zA (some o)), (1, zI v1), (2, zI v2)] [] σ := by
  unfold f_J2_grow_2_20 at h
  refine z_iload_n hX 2 rfl rfl dJ2_grow_2_20 (z_iload_n hX 1 rfl rfl dJ2_grow_2_21 (z_iload_n hX 2 rfl rfl dJ2_grow_2_22 (z_isub hX dJ2_grow_2_23 (z_iload_n hX 2 rfl rfl dJ2_grow_2_24 (z_iconst hX (v := 1) (by decide) dJ2_grow_2_25 (z_ishr hX dJ2_grow_2_26 ?_))))))
  refine z_cNI hX (rest := []) h (fun r9 σ9 e9 => z_runS hX lk_J2_73 (c_J5_newLength hX.tr e9) ⟨Nat.le_of_ble_eq_true rfl, Nat.le_of_ble_eq_true rfl⟩ rfl (Nat.le_of_ble_eq_true rfl) dJ2_grow_2_27 rfl) (fun x4 σ5 h => ?_)
  refine z_istore_n (L' := [(0, zA (some o)), (1, zI v1), (2, zI v2), (3, zI x4)]) hX rfl rfl (by decide) dJ2_grow_2_30 (z_aload_n hX 0 rfl rfl dJ2_grow_2_31 (z_aload_n hX 0 rfl rfl dJ2_grow_2_32 ?_))
  refine z_getR hX fl_J2_9_19 h dJ2_grow_2_33 (fun r6 h => ?_)
  refine z_iload_n hX 3 rfl rfl dJ2_grow_2_36 ?_
  refine z_cNA hX (rest := [zA (some o)]) h (fun r9 σ9 e9 => z_runS hX lk_J2_66 (c_J7_copyOf hX.tr e9) ⟨Nat.le_of_ble_eq_true rfl, Nat.le_of_ble_eq_true rfl⟩ rfl (Nat.le_of_ble_eq_true rfl) dJ2_grow_2_37 rfl) (fun r7 σ8 h => ?_)
  refine z_dup_x1 hX rfl rfl dJ2_grow_2_40 ?_
  refine z_putR hX fp_J2_9_19 (Or.inr ⟨_, rfl⟩) (fun h => nomatch h) h dJ2_grow_2_41 (fun σ9 h => ?_)
  obtain rfl := Option.some.inj h
  exact z_aret hX (Or.inr ⟨_, rfl⟩) dJ2_grow_2_44

def f_J2_grow_2 (o : Nat) (p1 : Int32) (σ : zS) : Option ((Option Nat) × zS) :=
  (gR σ o 19 1).bind fun r1 =>
  r1.bind fun a2 =>
  (zaln σ a2).bind fun x3 =>
  if 0 < x3 then
    f_J2_grow_2_20 o p1 x3 σ
  else
    (gR σ o 19 1).bind fun r10 =>
    zl (zk σ 1) fun r11 =>
    if r10 = r11 then
      zb2 (znewR σ (zmax 10 p1)) fun a12 σ13 =>
      (pR σ13 o 19 1 (some a12)).bind fun σ14 =>
      some ((some a12), σ14)
    else
      f_J2_grow_2_20 o p1 x3 σ

set_option maxHeartbeats 4000000 in
theorem s_J2_grow_2 {X : zX} (hX : zOk X RJ2 cJ2_grow_2 4 3 84 (Option.some (Jvm.ClassFile.FieldType.array (Jvm.ClassFile.FieldType.object "java/lang/Object"))) "grow" []) {o : Nat} {p1 : Int32} {σ : zS} {Rt : (Option Nat) × zS} (h : f_J2_grow_2 o p1 σ = some Rt) : zG X (zQ X (.inl (eA Rt.1)) Rt.2) 4 0 [(0, zA (some o)), (1, zI p1)] [] σ := by
  unfold f_J2_grow_2 at h
  refine z_aload_n hX 0 rfl rfl dJ2_grow_2_0 ?_
  refine z_getR hX fl_J2_9_19 h dJ2_grow_2_1 (fun r1 h => ?_)
  obtain ⟨a2, e9, k_a2⟩ := z_nn h
  subst e9
  have h := k_a2
  refine z_alen hX h dJ2_grow_2_4 (fun x3 h => ?_)
  refine z_istore_n (L' := [(0, zA (some o)), (1, zI p1), (2, zI x3)]) hX rfl rfl (by decide) dJ2_grow_2_5 (z_iload_n hX 2 rfl rfl dJ2_grow_2_6 ?_)
  refine z_if_gt (tgt := 20) hX h dJ2_grow_2_7 (by decide) (fun h => ?_) (fun h => ?_)
  · exact z_sub [0, 1, 2] rfl (s_J2_grow_2_20 (o := o) hX  h)
  · refine z_aload_n hX 0 rfl rfl dJ2_grow_2_10 ?_
    refine z_getR hX fl_J2_9_19 h dJ2_grow_2_11 (fun r10 h => ?_)
    refine z_gets hX (k := 1) (C := "java/util/ArrayList") (n := "DEFAULTCAPACITY_EMPTY_ELEMENTDATA") (dsc := "[Ljava/lang/Object;") (by simp [zSt]) q149 h dJ2_grow_2_14 (fun r11 _ h => ?_)
    refine z_acmp_eq (tgt := 45) hX h dJ2_grow_2_17 (by decide) (fun h => ?_) (fun h => ?_)
    · refine z_aload_n hX 0 rfl rfl dJ2_grow_2_45 (z_bipush hX (v := 10) (by decide) dJ2_grow_2_46 (z_iload_n hX 1 rfl rfl dJ2_grow_2_48 (z_mmax hX q537 (Nat.le_of_ble_eq_true rfl) (Nat.le_of_ble_eq_true rfl) (Nat.le_of_ble_eq_true rfl) dJ2_grow_2_49 ?_)))
      refine z_newR hX q538 h dJ2_grow_2_52 (fun a12 σ13 h => ?_)
      refine z_dup_x1 hX rfl rfl dJ2_grow_2_55 ?_
      refine z_putR hX fp_J2_9_19 (Or.inr ⟨_, rfl⟩) (fun h => nomatch h) h dJ2_grow_2_56 (fun σ14 h => ?_)
      obtain rfl := Option.some.inj h
      exact z_aret hX (Or.inr ⟨_, rfl⟩) dJ2_grow_2_59
    · exact z_sub [0, 1, 2] rfl (s_J2_grow_2_20 (o := o) hX  h)

theorem c_J2_grow_2 {l : Launch} {D : va_G} {tys : zTy} (hl : l.stackTraces = false) {o : Nat} {p1 : Int32} {σ : zS} {Rt : (Option Nat) × zS} (h : f_J2_grow_2 o p1 σ = some Rt) : zM l D tys yJ2_grow_2 (ws_ yJ2_grow_2 cJ2_grow_2 4 (Option.some (Jvm.ClassFile.FieldType.array (Jvm.ClassFile.FieldType.object "java/lang/Object")))) 3 84 [zA (some o), zI p1] σ (.inl (eA Rt.1)) Rt.2 :=
  zM_in hl rfl (Nat.le_of_ble_eq_true rfl) (fun p e R s m args below meth c hX => z_L rfl (s_J2_grow_2 hX h))
def f_J2_grow (o : Nat) (σ : zS) : Option ((Option Nat) × zS) :=
  (gI σ o 19 2).bind fun x1 =>
  zif (zcl σ o = 19) <|
  zb2 (f_J2_grow_2 o (x1 + 1) σ) fun r3 σ4 =>
  some (r3, σ4)

set_option maxHeartbeats 4000000 in
theorem s_J2_grow {X : zX} (hX : zOk X RJ2 cJ2_grow 1 4 107 (Option.some (Jvm.ClassFile.FieldType.array (Jvm.ClassFile.FieldType.object "java/lang/Object"))) "grow" []) {o : Nat} {σ : zS} {Rt : (Option Nat) × zS} (h : f_J2_grow o σ = some Rt) : zG X (zQ X (.inl (eA Rt.1)) Rt.2) 1 0 [(0, zA (some o))] [] σ := by
  unfold f_J2_grow at h
  refine z_aload_n hX 0 rfl rfl dJ2_grow_0 (z_aload_n hX 0 rfl rfl dJ2_grow_1 ?_)
  refine z_getI hX fl_J2_48_19 h dJ2_grow_2 (fun x1 h => ?_)
  refine z_iconst hX (v := 1) (by decide) dJ2_grow_5 (z_iadd hX dJ2_grow_6 ?_)
  obtain ⟨c2, h⟩ := z_ck h
  refine z_cNA hX (rest := []) h (fun r9 σ9 e9 => z_runV hX lk_J2_69 (c_J2_grow_2 hX.tr e9) (ci := 19) zc9_19 c2 ⟨Nat.le_of_ble_eq_true rfl, Nat.le_of_ble_eq_true rfl⟩ rfl (Nat.le_of_ble_eq_true rfl) dJ2_grow_7 rfl) (fun r3 σ4 h => ?_)
  obtain rfl := Option.some.inj h
  exact z_aret hX (Or.inr ⟨_, rfl⟩) dJ2_grow_10

theorem c_J2_grow {l : Launch} {D : va_G} {tys : zTy} (hl : l.stackTraces = false) {o : Nat} {σ : zS} {Rt : (Option Nat) × zS} (h : f_J2_grow o σ = some Rt) : zM l D tys yJ2_grow (ws_ yJ2_grow cJ2_grow 1 (Option.some (Jvm.ClassFile.FieldType.array (Jvm.ClassFile.FieldType.object "java/lang/Object")))) 4 107 [zA (some o)] σ (.inl (eA Rt.1)) Rt.2 :=
  zM_in hl rfl (Nat.le_of_ble_eq_true rfl) (fun p e R s m args below meth c hX => z_L rfl (s_J2_grow hX h))
def f_J2_add_2_11 (o : Nat) (v1 : Option Nat) (v2 : Option Nat) (v3 : Int32) (σ : zS) : Option (Unit × zS) :=
  v2.bind fun a3 =>
  (sR σ a3 v3 v1).bind fun σ4 =>
  (pI σ4 o 19 2 (v3 + 1)).bind fun σ5 =>
  some ((), σ5)

set_option maxHeartbeats 4000000 in
theorem s_J2_add_2_11 {X : zX} (hX : zOk X RJ2 cJ2_add_2 4 5 127 (Option.none : Option Jvm.ClassFile.FieldType) "add" []) {o : Nat} {Rt : Unit × zS} {v1 : Option Nat} {v2 : Option Nat} {v3 : Int32} {σ : zS} (h : f_J2_add_2_11 o v1 v2 v3 σ = some Rt) : zG X (zQ X (.inl (eU Rt.1)) Rt.2) 4 11 [(0, zA (some o)), (1, zA v1), (2, zA v2), (3, zI v3)] [] σ := by
  unfold f_J2_add_2_11 at h
  refine z_aload_n hX 2 rfl rfl dJ2_add_2_11 (z_iload_n hX 3 rfl rfl dJ2_add_2_12 (z_aload_n hX 1 rfl rfl dJ2_add_2_13 ?_))
  obtain ⟨a3, e9, k_a3⟩ := z_nn h
  subst e9
  have h := k_a3
  refine z_aast hX zto h dJ2_add_2_14 (fun σ4 h => ?_)
  refine z_aload_n hX 0 rfl rfl dJ2_add_2_15 (z_iload_n hX 3 rfl rfl dJ2_add_2_16 (z_iconst hX (v := 1) (by decide) dJ2_add_2_17 (z_iadd hX dJ2_add_2_18 ?_)))
  refine z_putI hX fp_J2_48_19 (fun h => nomatch h) h dJ2_add_2_19 (fun σ5 h => ?_)
  obtain rfl := Option.some.inj h
  exact z_vret hX dJ2_add_2_22

def f_J2_add_2 (o : Nat) (p1 : Option Nat) (p2 : Option Nat) (p3 : Int32) (σ : zS) : Option (Unit × zS) :=
  p2.bind fun a1 =>
  (zaln σ a1).bind fun x2 =>
  if ¬ p3 = x2 then
    f_J2_add_2_11 o p1 (some a1) p3 σ
  else
    zif (zcl σ o = 19) <|
    zb2 (f_J2_grow o σ) fun r7 σ8 =>
    f_J2_add_2_11 o p1 r7 p3 σ8

set_option maxHeartbeats 4000000 in
theorem s_J2_add_2 {X : zX} (hX : zOk X RJ2 cJ2_add_2 4 5 127 (Option.none : Option Jvm.ClassFile.FieldType) "add" []) {o : Nat} {p1 : Option Nat} {p2 : Option Nat} {p3 : Int32} {σ : zS} {Rt : Unit × zS} (h : f_J2_add_2 o p1 p2 p3 σ = some Rt) : zG X (zQ X (.inl (eU Rt.1)) Rt.2) 4 0 [(0, zA (some o)), (1, zA p1), (2, zA p2), (3, zI p3)] [] σ := by
  unfold f_J2_add_2 at h
  refine z_iload_n hX 3 rfl rfl dJ2_add_2_0 (z_aload_n hX 2 rfl rfl dJ2_add_2_1 ?_)
  obtain ⟨a1, e9, k_a1⟩ := z_nn h
  subst e9
  have h := k_a1
  refine z_alen hX h dJ2_add_2_2 (fun x2 h => ?_)
  refine z_icmp_ne (tgt := 11) hX h dJ2_add_2_3 (by decide) (fun h => ?_) (fun h => ?_)
  · exact z_sub [0, 1, 2, 3] rfl (s_J2_add_2_11 (o := o) hX  h)
  · refine z_aload_n hX 0 rfl rfl dJ2_add_2_6 ?_
    obtain ⟨c6, h⟩ := z_ck h
    refine z_cNA hX (rest := []) h (fun r9 σ9 e9 => z_runV hX lk_J2_129 (c_J2_grow hX.tr e9) (ci := 19) zc9_19 c6 ⟨Nat.le_of_ble_eq_true rfl, Nat.le_of_ble_eq_true rfl⟩ rfl (Nat.le_of_ble_eq_true rfl) dJ2_add_2_7 rfl) (fun r7 σ8 h => ?_)
    refine z_astore_n (L' := [(0, zA (some o)), (1, zA p1), (2, zA r7), (3, zI p3)]) hX rfl rfl (by decide) dJ2_add_2_10 ?_
    exact z_sub [0, 1, 2, 3] rfl (s_J2_add_2_11 (o := o) hX  h)

theorem c_J2_add_2 {l : Launch} {D : va_G} {tys : zTy} (hl : l.stackTraces = false) {o : Nat} {p1 : Option Nat} {p2 : Option Nat} {p3 : Int32} {σ : zS} {Rt : Unit × zS} (h : f_J2_add_2 o p1 p2 p3 σ = some Rt) : zM l D tys yJ2_add_2 (ws_ yJ2_add_2 cJ2_add_2 4 (Option.none : Option Jvm.ClassFile.FieldType)) 5 127 [zA (some o), zA p1, zA p2, zI p3] σ (.inl (eU Rt.1)) Rt.2 :=
  zM_in hl rfl (Nat.le_of_ble_eq_true rfl) (fun p e R s m args below meth c hX => z_L rfl (s_J2_add_2 hX h))
def f_J2_add (o : Nat) (p1 : Option Nat) (σ : zS) : Option (Int32 × zS) :=
  (gI σ o 19 0).bind fun x1 =>
  (pI σ o 19 0 (x1 + 1)).bind fun σ2 =>
  (gR σ2 o 19 1).bind fun r3 =>
  (gI σ2 o 19 2).bind fun x4 =>
  zif (zcl σ2 o = 19) <|
  zb2 (f_J2_add_2 o p1 r3 x4 σ2) fun _ σ7 =>
  some ((1 : Int32), σ7)

set_option maxHeartbeats 4000000 in
theorem s_J2_add {X : zX} (hX : zOk X RJ2 cJ2_add 2 6 150 (Option.some Jvm.ClassFile.FieldType.boolean) "add" []) {o : Nat} {p1 : Option Nat} {σ : zS} {Rt : Int32 × zS} (h : f_J2_add o p1 σ = some Rt) : zG X (zQ X (.inl (eI Rt.1)) Rt.2) 2 0 [(0, zA (some o)), (1, zA p1)] [] σ := by
  unfold f_J2_add at h
  refine z_aload_n hX 0 rfl rfl dJ2_add_0 (z_dup hX rfl dJ2_add_1 ?_)
  refine z_getI hX fl_J2_63_19 h dJ2_add_2 (fun x1 h => ?_)
  refine z_iconst hX (v := 1) (by decide) dJ2_add_5 (z_iadd hX dJ2_add_6 ?_)
  refine z_putI hX fp_J2_63_19 (fun h => nomatch h) h dJ2_add_7 (fun σ2 h => ?_)
  refine z_aload_n hX 0 rfl rfl dJ2_add_10 (z_aload_n hX 1 rfl rfl dJ2_add_11 (z_aload_n hX 0 rfl rfl dJ2_add_12 ?_))
  refine z_getR hX fl_J2_9_19 h dJ2_add_13 (fun r3 h => ?_)
  refine z_aload_n hX 0 rfl rfl dJ2_add_16 ?_
  refine z_getI hX fl_J2_48_19 h dJ2_add_17 (fun x4 h => ?_)
  obtain ⟨c5, h⟩ := z_ck h
  refine z_cNU hX (rest := []) h (fun r9 σ9 e9 => z_runV hX lk_J2_131 (c_J2_add_2 hX.tr e9) (ci := 19) zc9_19 c5 ⟨Nat.le_of_ble_eq_true rfl, Nat.le_of_ble_eq_true rfl⟩ rfl (Nat.le_of_ble_eq_true rfl) dJ2_add_20 rfl) (fun _ σ7 h => ?_)
  refine z_iconst hX (v := 1) (by decide) dJ2_add_23 ?_
  obtain rfl := Option.some.inj h
  exact z_zretT (r := 1) hX (by decide) dJ2_add_24

theorem c_J2_add {l : Launch} {D : va_G} {tys : zTy} (hl : l.stackTraces = false) {o : Nat} {p1 : Option Nat} {σ : zS} {Rt : Int32 × zS} (h : f_J2_add o p1 σ = some Rt) : zM l D tys yJ2_add (ws_ yJ2_add cJ2_add 2 (Option.some Jvm.ClassFile.FieldType.boolean)) 6 150 [zA (some o), zA p1] σ (.inl (eI Rt.1)) Rt.2 :=
  zM_in hl rfl (Nat.le_of_ble_eq_true rfl) (fun p e R s m args below meth c hX => z_L rfl (s_J2_add hX h))
def f_X8_init (o : Nat) (p1 : Int32) (σ : zS) : Option (Unit × zS) :=
  (pI σ o 7 0 p1).bind fun σ1 =>
  some ((), σ1)

set_option maxHeartbeats 4000000 in
theorem s_X8_init {X : zX} (hX : zOk X RX8 cX8_init 2 1 40 (Option.none : Option Jvm.ClassFile.FieldType) "<init>" []) {o : Nat} {p1 : Int32} {σ : zS} {Rt : Unit × zS} (h : f_X8_init o p1 σ = some Rt) : zG X (zQ X (.inl (eU Rt.1)) Rt.2) 2 0 [(0, zA (some o)), (1, zI p1)] [] σ := by
  unfold f_X8_init at h
  refine z_aload_n hX 0 rfl rfl dX8_init_0 (z_objInit hX q548 (Nat.le_of_ble_eq_true rfl) (Nat.le_of_ble_eq_true rfl) (Nat.le_of_ble_eq_true rfl) dX8_init_1 (z_aload_n hX 0 rfl rfl dX8_init_4 (z_iload_n hX 1 rfl rfl dX8_init_5 ?_)))
  refine z_putI hX fp_X8_7_7 (fun _ => rfl) h dX8_init_6 (fun σ1 h => ?_)
  obtain rfl := Option.some.inj h
  exact z_vret hX dX8_init_9

theorem c_X8_init {l : Launch} {D : va_G} {tys : zTy} (hl : l.stackTraces = false) {o : Nat} {p1 : Int32} {σ : zS} {Rt : Unit × zS} (h : f_X8_init o p1 σ = some Rt) : zM l D tys yX8_init (ws_ yX8_init cX8_init 2 (Option.none : Option Jvm.ClassFile.FieldType)) 1 40 [zA (some o), zI p1] σ (.inl (eU Rt.1)) Rt.2 :=
  zM_in hl rfl (Nat.le_of_ble_eq_true rfl) (fun p e R s m args below meth c hX => z_L rfl (s_X8_init hX h))
def f_X8_copy (o : Nat) (σ : zS) : Option ((Option Nat) × zS) :=
  zb2 (znewO σ 7 [.int 0, .int 0, .int 0]) fun a1 σ2 =>
  (gI σ2 o 7 0).bind fun x3 =>
  zb2 (f_X8_init a1 x3 σ2) fun _ σ5 =>
  (gI σ5 o 7 1).bind fun x6 =>
  (pI σ5 a1 7 1 x6).bind fun σ7 =>
  (gI σ7 o 7 2).bind fun x8 =>
  (pI σ7 a1 7 2 x8).bind fun σ9 =>
  some ((some a1), σ9)

set_option maxHeartbeats 4000000 in
theorem s_X8_copy {X : zX} (hX : zOk X RX8 cX8_copy 2 2 61 (Option.some (Jvm.ClassFile.FieldType.object "StepDebts$Turn")) "copy" []) {o : Nat} {σ : zS} {Rt : (Option Nat) × zS} (h : f_X8_copy o σ = some Rt) : zG X (zQ X (.inl (eA Rt.1)) Rt.2) 2 0 [(0, zA (some o))] [] σ := by
  unfold f_X8_copy at h
  refine z_new hX ne_X8_8 h dX8_copy_0 (fun a1 σ2 h => ?_)
  refine z_dup hX rfl dX8_copy_3 (z_aload_n hX 0 rfl rfl dX8_copy_4 ?_)
  refine z_getI hX fl_X8_7_7 h dX8_copy_5 (fun x3 h => ?_)
  refine z_cNU hX (rest := [zA (some a1)]) h (fun r9 σ9 e9 => z_runI hX lk_X8_13 (c_X8_init hX.tr e9) ⟨Nat.le_of_ble_eq_true rfl, Nat.le_of_ble_eq_true rfl⟩ rfl (Nat.le_of_ble_eq_true rfl) dX8_copy_8 rfl) (fun _ σ5 h => ?_)
  refine z_astore_n (L' := [(0, zA (some o)), (1, zA (some a1))]) hX rfl rfl (by decide) dX8_copy_11 (z_aload_n hX 1 rfl rfl dX8_copy_12 (z_aload_n hX 0 rfl rfl dX8_copy_13 ?_))
  refine z_getI hX fl_X8_16_7 h dX8_copy_14 (fun x6 h => ?_)
  refine z_putI hX fp_X8_16_7 (fun h => nomatch h) h dX8_copy_17 (fun σ7 h => ?_)
  refine z_aload_n hX 1 rfl rfl dX8_copy_20 (z_aload_n hX 0 rfl rfl dX8_copy_21 ?_)
  refine z_getI hX fl_X8_19_7 h dX8_copy_22 (fun x8 h => ?_)
  refine z_putI hX fp_X8_19_7 (fun h => nomatch h) h dX8_copy_25 (fun σ9 h => ?_)
  refine z_aload_n hX 1 rfl rfl dX8_copy_28 ?_
  obtain rfl := Option.some.inj h
  exact z_aret hX (Or.inl ⟨_, rfl⟩) dX8_copy_29

theorem c_X8_copy {l : Launch} {D : va_G} {tys : zTy} (hl : l.stackTraces = false) {o : Nat} {σ : zS} {Rt : (Option Nat) × zS} (h : f_X8_copy o σ = some Rt) : zM l D tys yX8_copy (ws_ yX8_copy cX8_copy 2 (Option.some (Jvm.ClassFile.FieldType.object "StepDebts$Turn"))) 2 61 [zA (some o)] σ (.inl (eA Rt.1)) Rt.2 :=
  zM_in hl rfl (Nat.le_of_ble_eq_true rfl) (fun p e R s m args below meth c hX => z_L rfl (s_X8_copy hX h))
def f_X9_init (o : Nat) (p1 : Int32) (p2 : Int32) (p3 : Int32) (p4 : Int32) (p5 : Int32) (p6 : Int32) (p7 : Int32) (σ : zS) : Option (Unit × zS) :=
  (pI σ o 8 0 p1).bind fun σ1 =>
  (pI σ1 o 8 1 p2).bind fun σ2 =>
  (pI σ2 o 8 2 p3).bind fun σ3 =>
  (pI σ3 o 8 3 p4).bind fun σ4 =>
  (pI σ4 o 8 4 p5).bind fun σ5 =>
  (pZ σ5 o 8 6 p6).bind fun σ6 =>
  (pI σ6 o 8 5 p7).bind fun σ7 =>
  some ((), σ7)

set_option maxHeartbeats 4000000 in
theorem s_X9_init {X : zX} (hX : zOk X RX9 cX9_init 8 1 40 (Option.none : Option Jvm.ClassFile.FieldType) "<init>" []) {o : Nat} {p1 : Int32} {p2 : Int32} {p3 : Int32} {p4 : Int32} {p5 : Int32} {p6 : Int32} {p7 : Int32} {σ : zS} {Rt : Unit × zS} (h : f_X9_init o p1 p2 p3 p4 p5 p6 p7 σ = some Rt) : zG X (zQ X (.inl (eU Rt.1)) Rt.2) 8 0 [(0, zA (some o)), (1, zI p1), (2, zI p2), (3, zI p3), (4, zI p4), (5, zI p5), (6, zI p6), (7, zI p7)] [] σ := by
  unfold f_X9_init at h
  refine z_aload_n hX 0 rfl rfl dX9_init_0 (z_objInit hX q574 (Nat.le_of_ble_eq_true rfl) (Nat.le_of_ble_eq_true rfl) (Nat.le_of_ble_eq_true rfl) dX9_init_1 (z_aload_n hX 0 rfl rfl dX9_init_4 (z_iload_n hX 1 rfl rfl dX9_init_5 ?_)))
  refine z_putI hX fp_X9_7_8 (fun _ => rfl) h dX9_init_6 (fun σ1 h => ?_)
  refine z_aload_n hX 0 rfl rfl dX9_init_9 (z_iload_n hX 2 rfl rfl dX9_init_10 ?_)
  refine z_putI hX fp_X9_13_8 (fun _ => rfl) h dX9_init_11 (fun σ2 h => ?_)
  refine z_aload_n hX 0 rfl rfl dX9_init_14 (z_iload_n hX 3 rfl rfl dX9_init_15 ?_)
  refine z_putI hX fp_X9_16_8 (fun _ => rfl) h dX9_init_16 (fun σ3 h => ?_)
  refine z_aload_n hX 0 rfl rfl dX9_init_19 (z_iload hX 4 rfl dX9_init_20 ?_)
  refine z_putI hX fp_X9_19_8 (fun _ => rfl) h dX9_init_22 (fun σ4 h => ?_)
  refine z_aload_n hX 0 rfl rfl dX9_init_25 (z_iload hX 5 rfl dX9_init_26 ?_)
  refine z_putI hX fp_X9_22_8 (fun _ => rfl) h dX9_init_28 (fun σ5 h => ?_)
  refine z_aload_n hX 0 rfl rfl dX9_init_31 (z_iload hX 6 rfl dX9_init_32 ?_)
  refine z_putZ hX fp_X9_25_8 (fun _ => rfl) h dX9_init_34 (fun σ6 h => ?_)
  refine z_aload_n hX 0 rfl rfl dX9_init_37 (z_iload hX 7 rfl dX9_init_38 ?_)
  refine z_putI hX fp_X9_29_8 (fun _ => rfl) h dX9_init_40 (fun σ7 h => ?_)
  obtain rfl := Option.some.inj h
  exact z_vret hX dX9_init_43

theorem c_X9_init {l : Launch} {D : va_G} {tys : zTy} (hl : l.stackTraces = false) {o : Nat} {p1 : Int32} {p2 : Int32} {p3 : Int32} {p4 : Int32} {p5 : Int32} {p6 : Int32} {p7 : Int32} {σ : zS} {Rt : Unit × zS} (h : f_X9_init o p1 p2 p3 p4 p5 p6 p7 σ = some Rt) : zM l D tys yX9_init (ws_ yX9_init cX9_init 8 (Option.none : Option Jvm.ClassFile.FieldType)) 1 40 [zA (some o), zI p1, zI p2, zI p3, zI p4, zI p5, zI p6, zI p7] σ (.inl (eU Rt.1)) Rt.2 :=
  zM_in hl rfl (Nat.le_of_ble_eq_true rfl) (fun p e R s m args below meth c hX => z_L rfl (s_X9_init hX h))
def f_X9_copy (o : Nat) (σ : zS) : Option ((Option Nat) × zS) :=
  zb2 (znewO σ 8 [.int 0, .int 0, .int 0, .int 0, .int 0, .int 0, .int 0, .int 0]) fun a1 σ2 =>
  (gI σ2 o 8 0).bind fun x3 =>
  (gI σ2 o 8 1).bind fun x4 =>
  (gI σ2 o 8 2).bind fun x5 =>
  (gI σ2 o 8 3).bind fun x6 =>
  (gI σ2 o 8 4).bind fun x7 =>
  (gI σ2 o 8 6).bind fun x8 =>
  (gI σ2 o 8 5).bind fun x9 =>
  zb2 (f_X9_init a1 x3 x4 x5 x6 x7 x8 x9 σ2) fun _ σ11 =>
  (gI σ11 o 8 7).bind fun x12 =>
  (pZ σ11 a1 8 7 x12).bind fun σ13 =>
  some ((some a1), σ13)

set_option maxHeartbeats 4000000 in
theorem s_X9_copy {X : zX} (hX : zOk X RX9 cX9_copy 2 2 67 (Option.some (Jvm.ClassFile.FieldType.object "StepDebts$Entry")) "copy" []) {o : Nat} {σ : zS} {Rt : (Option Nat) × zS} (h : f_X9_copy o σ = some Rt) : zG X (zQ X (.inl (eA Rt.1)) Rt.2) 2 0 [(0, zA (some o))] [] σ := by
  unfold f_X9_copy at h
  refine z_new hX ne_X9_8 h dX9_copy_0 (fun a1 σ2 h => ?_)
  refine z_dup hX rfl dX9_copy_3 (z_aload_n hX 0 rfl rfl dX9_copy_4 ?_)
  refine z_getI hX fl_X9_7_8 h dX9_copy_5 (fun x3 h => ?_)
  refine z_aload_n hX 0 rfl rfl dX9_copy_8 ?_
  refine z_getI hX fl_X9_13_8 h dX9_copy_9 (fun x4 h => ?_)
  refine z_aload_n hX 0 rfl rfl dX9_copy_12 ?_
  refine z_getI hX fl_X9_16_8 h dX9_copy_13 (fun x5 h => ?_)
  refine z_aload_n hX 0 rfl rfl dX9_copy_16 ?_
  refine z_getI hX fl_X9_19_8 h dX9_copy_17 (fun x6 h => ?_)
  refine z_aload_n hX 0 rfl rfl dX9_copy_20 ?_
  refine z_getI hX fl_X9_22_8 h dX9_copy_21 (fun x7 h => ?_)
  refine z_aload_n hX 0 rfl rfl dX9_copy_24 ?_
  refine z_getI hX fl_X9_25_8 h dX9_copy_25 (fun x8 h => ?_)
  refine z_aload_n hX 0 rfl rfl dX9_copy_28 ?_
  refine z_getI hX fl_X9_29_8 h dX9_copy_29 (fun x9 h => ?_)
  refine z_cNU hX (rest := [zA (some a1)]) h (fun r9 σ9 e9 => z_runI hX lk_X9_32 (c_X9_init hX.tr e9) ⟨Nat.le_of_ble_eq_true rfl, Nat.le_of_ble_eq_true rfl⟩ rfl (Nat.le_of_ble_eq_true rfl) dX9_copy_32 rfl) (fun _ σ11 h => ?_)
  refine z_astore_n (L' := [(0, zA (some o)), (1, zA (some a1))]) hX rfl rfl (by decide) dX9_copy_35 (z_aload_n hX 1 rfl rfl dX9_copy_36 (z_aload_n hX 0 rfl rfl dX9_copy_37 ?_))
  refine z_getI hX fl_X9_35_8 h dX9_copy_38 (fun x12 h => ?_)
  refine z_putZ hX fp_X9_35_8 (fun h => nomatch h) h dX9_copy_41 (fun σ13 h => ?_)
  refine z_aload_n hX 1 rfl rfl dX9_copy_44 ?_
  obtain rfl := Option.some.inj h
  exact z_aret hX (Or.inl ⟨_, rfl⟩) dX9_copy_45

theorem c_X9_copy {l : Launch} {D : va_G} {tys : zTy} (hl : l.stackTraces = false) {o : Nat} {σ : zS} {Rt : (Option Nat) × zS} (h : f_X9_copy o σ = some Rt) : zM l D tys yX9_copy (ws_ yX9_copy cX9_copy 2 (Option.some (Jvm.ClassFile.FieldType.object "StepDebts$Entry"))) 2 67 [zA (some o)] σ (.inl (eA Rt.1)) Rt.2 :=
  zM_in hl rfl (Nat.le_of_ble_eq_true rfl) (fun p e R s m args below meth c hX => z_L rfl (s_X9_copy hX h))
def f_J2_toArray (o : Nat) (σ : zS) : Option ((Option Nat) × zS) :=
  (gR σ o 19 1).bind fun r1 =>
  (gI σ o 19 2).bind fun x2 =>
  zb2 (f_J7_copyOf r1 x2 σ) fun r3 σ4 =>
  some (r3, σ4)

set_option maxHeartbeats 4000000 in
theorem s_J2_toArray {X : zX} (hX : zOk X RJ2 cJ2_toArray 1 3 84 (Option.some (Jvm.ClassFile.FieldType.array (Jvm.ClassFile.FieldType.object "java/lang/Object"))) "toArray" []) {o : Nat} {σ : zS} {Rt : (Option Nat) × zS} (h : f_J2_toArray o σ = some Rt) : zG X (zQ X (.inl (eA Rt.1)) Rt.2) 1 0 [(0, zA (some o))] [] σ := by
  unfold f_J2_toArray at h
  refine z_aload_n hX 0 rfl rfl dJ2_toArray_0 ?_
  refine z_getR hX fl_J2_9_19 h dJ2_toArray_1 (fun r1 h => ?_)
  refine z_aload_n hX 0 rfl rfl dJ2_toArray_4 ?_
  refine z_getI hX fl_J2_48_19 h dJ2_toArray_5 (fun x2 h => ?_)
  refine z_cNA hX (rest := []) h (fun r9 σ9 e9 => z_runS hX lk_J2_66 (c_J7_copyOf hX.tr e9) ⟨Nat.le_of_ble_eq_true rfl, Nat.le_of_ble_eq_true rfl⟩ rfl (Nat.le_of_ble_eq_true rfl) dJ2_toArray_8 rfl) (fun r3 σ4 h => ?_)
  obtain rfl := Option.some.inj h
  exact z_aret hX (Or.inr ⟨_, rfl⟩) dJ2_toArray_11

theorem c_J2_toArray {l : Launch} {D : va_G} {tys : zTy} (hl : l.stackTraces = false) {o : Nat} {σ : zS} {Rt : (Option Nat) × zS} (h : f_J2_toArray o σ = some Rt) : zM l D tys yJ2_toArray (ws_ yJ2_toArray cJ2_toArray 1 (Option.some (Jvm.ClassFile.FieldType.array (Jvm.ClassFile.FieldType.object "java/lang/Object")))) 3 84 [zA (some o)] σ (.inl (eA Rt.1)) Rt.2 :=
  zM_in hl rfl (Nat.le_of_ble_eq_true rfl) (fun p e R s m args below meth c hX => z_L rfl (s_J2_toArray hX h))
def f_J2_addAll_56 (o : Nat) (v2 : Option Nat) (v3 : Int32) (v4 : Option Nat) (v5 : Int32) (σ : zS) : Option (Int32 × zS) :=
  v4.bind fun a13 =>
  v2.bind fun a14 =>
  (zcpy σ a14 0 a13 v5 v3).bind fun σ15 =>
  (pI σ15 o 19 2 (v5 + v3)).bind fun σ16 =>
  some ((1 : Int32), σ16)

set_option maxHeartbeats 4000000 in
theorem s_J2_addAll_56 {X : zX} (hX : zOk X RJ2 cJ2_addAll 6 4 107 (Option.some Jvm.ClassFile.FieldType.boolean) "addAll" []) {o : Nat} {Rt : Int32 × zS} {v2 : Option Nat} {v3 : Int32} {v4 : Option Nat} {v5 : Int32} {σ : zS} (h : f_J2_addAll_56 o v2 v3 v4 v5 σ = some Rt) : zG X (zQ X (.inl (eI Rt.1)) Rt.2) 6 56 [(0, zA (some o)), (2, zA v2), (3, zI v3), (4, zA v4), (5, zI v5)] [] σ := by
  unfold f_J2_addAll_56 at h
  refine z_aload_n hX 1 rfl rfl dJ2_addAll_56 (z_iconst hX (v := 0) (by decide) dJ2_addAll_57 (z_aload hX 3 rfl dJ2_addAll_58 (z_iload hX 4 rfl dJ2_addAll_60 (z_iload_n hX 2 rfl rfl dJ2_addAll_62 ?_))))
  obtain ⟨a13, e9, k_a13⟩ := z_nn h
  subst e9
  have h := k_a13
  obtain ⟨a14, e9, k_a14⟩ := z_nn h
  subst e9
  have h := k_a14
  refine z_cpy hX zto q394 (Nat.le_of_ble_eq_true rfl) (Nat.le_of_ble_eq_true rfl) (Nat.le_of_ble_eq_true rfl) h dJ2_addAll_63 (fun σ15 h => ?_)
  refine z_aload_n hX 0 rfl rfl dJ2_addAll_66 (z_iload hX 4 rfl dJ2_addAll_67 (z_iload_n hX 2 rfl rfl dJ2_addAll_69 (z_iadd hX dJ2_addAll_70 ?_)))
  refine z_putI hX fp_J2_48_19 (fun h => nomatch h) h dJ2_addAll_71 (fun σ16 h => ?_)
  refine z_iconst hX (v := 1) (by decide) dJ2_addAll_74 ?_
  obtain rfl := Option.some.inj h
  exact z_zretT (r := 1) hX (by decide) dJ2_addAll_75

def f_J2_addAll (o : Nat) (p1 : Option Nat) (σ : zS) : Option (Int32 × zS) :=
  p1.bind fun a1 =>
  zif (zcl σ a1 = 19) <|
  zb2 (f_J2_toArray a1 σ) fun r3 σ4 =>
  (gI σ4 o 19 0).bind fun x5 =>
  (pI σ4 o 19 0 (x5 + 1)).bind fun σ6 =>
  r3.bind fun a7 =>
  (zaln σ6 a7).bind fun x8 =>
  if ¬ x8 = 0 then
    (gR σ6 o 19 1).bind fun r9 =>
    r9.bind fun a10 =>
    (zaln σ6 a10).bind fun x11 =>
    (gI σ6 o 19 2).bind fun x12 =>
    if x8 ≤ (x11 - x12) then
      f_J2_addAll_56 o (some a7) x8 (some a10) x12 σ6
    else
      zif (zcl σ6 o = 19) <|
      zb2 (f_J2_grow_2 o (x12 + x8) σ6) fun r18 σ19 =>
      f_J2_addAll_56 o (some a7) x8 r18 x12 σ19
  else
    some ((0 : Int32), σ6)

set_option maxHeartbeats 4000000 in
theorem s_J2_addAll {X : zX} (hX : zOk X RJ2 cJ2_addAll 6 4 107 (Option.some Jvm.ClassFile.FieldType.boolean) "addAll" []) {o : Nat} {p1 : Option Nat} {σ : zS} {Rt : Int32 × zS} (h : f_J2_addAll o p1 σ = some Rt) : zG X (zQ X (.inl (eI Rt.1)) Rt.2) 6 0 [(0, zA (some o)), (1, zA p1)] [] σ := by
  unfold f_J2_addAll at h
  refine z_aload_n hX 1 rfl rfl dJ2_addAll_0 ?_
  obtain ⟨a1, e9, k_a1⟩ := z_nn h
  subst e9
  have h := k_a1
  obtain ⟨c2, h⟩ := z_ck h
  refine z_cNA5 hX (rest := []) h (fun r9 σ9 e9 => z_runF hX lk_J2_42 hX.K.2.2.2.2.2.2.2.2.1 (c_J2_toArray hX.tr e9) (ci := 19) rfl c2 ⟨Nat.le_of_ble_eq_true rfl, Nat.le_of_ble_eq_true rfl⟩ rfl (Nat.le_of_ble_eq_true rfl) dJ2_addAll_1 rfl) (fun r3 σ4 h => ?_)
  refine z_astore_n (L' := [(0, zA (some o)), (1, zA (some a1)), (2, zA r3)]) hX rfl rfl (by decide) dJ2_addAll_6 (z_aload_n hX 0 rfl rfl dJ2_addAll_7 (z_dup hX rfl dJ2_addAll_8 ?_))
  refine z_getI hX fl_J2_63_19 h dJ2_addAll_9 (fun x5 h => ?_)
  refine z_iconst hX (v := 1) (by decide) dJ2_addAll_12 (z_iadd hX dJ2_addAll_13 ?_)
  refine z_putI hX fp_J2_63_19 (fun h => nomatch h) h dJ2_addAll_14 (fun σ6 h => ?_)
  refine z_aload_n hX 2 rfl rfl dJ2_addAll_17 ?_
  obtain ⟨a7, e9, k_a7⟩ := z_nn h
  subst e9
  have h := k_a7
  refine z_alen hX h dJ2_addAll_18 (fun x8 h => ?_)
  refine z_istore_n (L' := [(0, zA (some o)), (1, zA (some a1)), (2, zA (some a7)), (3, zI x8)]) hX rfl rfl (by decide) dJ2_addAll_19 (z_iload_n hX 3 rfl rfl dJ2_addAll_20 ?_)
  refine z_if_ne (tgt := 26) hX h dJ2_addAll_21 (by decide) (fun h => ?_) (fun h => ?_)
  · refine z_iload_n hX 3 rfl rfl dJ2_addAll_26 (z_aload_n hX 0 rfl rfl dJ2_addAll_27 ?_)
    refine z_getR hX fl_J2_9_19 h dJ2_addAll_28 (fun r9 h => ?_)
    refine z_dup hX rfl dJ2_addAll_31 (z_astore (L' := [(0, zA (some o)), (1, zA (some a1)), (2, zA (some a7)), (3, zI x8), (4, zA r9)]) hX rfl (by decide) dJ2_addAll_32 ?_)
    obtain ⟨a10, e9, k_a10⟩ := z_nn h
    subst e9
    have h := k_a10
    refine z_alen hX h dJ2_addAll_34 (fun x11 h => ?_)
    refine z_aload_n hX 0 rfl rfl dJ2_addAll_35 ?_
    refine z_getI hX fl_J2_48_19 h dJ2_addAll_36 (fun x12 h => ?_)
    refine z_dup hX rfl dJ2_addAll_39 (z_istore (L' := [(0, zA (some o)), (1, zA (some a1)), (2, zA (some a7)), (3, zI x8), (4, zA (some a10)), (5, zI x12)]) hX rfl (by decide) dJ2_addAll_40 (z_isub hX dJ2_addAll_42 ?_))
    refine z_icmp_le (tgt := 56) hX h dJ2_addAll_43 (by decide) (fun h => ?_) (fun h => ?_)
    · exact z_sub [0, 2, 3, 4, 5] rfl (s_J2_addAll_56 (o := o) hX  h)
    · refine z_aload_n hX 0 rfl rfl dJ2_addAll_46 (z_iload hX 5 rfl dJ2_addAll_47 (z_iload_n hX 3 rfl rfl dJ2_addAll_49 (z_iadd hX dJ2_addAll_50 ?_)))
      obtain ⟨c17, h⟩ := z_ck h
      refine z_cNA hX (rest := []) h (fun r9 σ9 e9 => z_runV hX lk_J2_69 (c_J2_grow_2 hX.tr e9) (ci := 19) zc9_19 c17 ⟨Nat.le_of_ble_eq_true rfl, Nat.le_of_ble_eq_true rfl⟩ rfl (Nat.le_of_ble_eq_true rfl) dJ2_addAll_51 rfl) (fun r18 σ19 h => ?_)
      refine z_astore (L' := [(0, zA (some o)), (1, zA (some a1)), (2, zA (some a7)), (3, zI x8), (4, zA r18), (5, zI x12)]) hX rfl (by decide) dJ2_addAll_54 ?_
      exact z_sub [0, 2, 3, 4, 5] rfl (s_J2_addAll_56 (o := o) hX  h)
  · refine z_iconst hX (v := 0) (by decide) dJ2_addAll_24 ?_
    obtain rfl := Option.some.inj h
    exact z_zretT (r := 0) hX (by decide) dJ2_addAll_25

theorem c_J2_addAll {l : Launch} {D : va_G} {tys : zTy} (hl : l.stackTraces = false) {o : Nat} {p1 : Option Nat} {σ : zS} {Rt : Int32 × zS} (h : f_J2_addAll o p1 σ = some Rt) : zM l D tys yJ2_addAll (ws_ yJ2_addAll cJ2_addAll 6 (Option.some Jvm.ClassFile.FieldType.boolean)) 4 107 [zA (some o), zA p1] σ (.inl (eI Rt.1)) Rt.2 :=
  zM_in hl rfl (Nat.le_of_ble_eq_true rfl) (fun p e R s m args below meth c hX => z_L rfl (s_J2_addAll hX h))
def f_X2_copy_171_b (o : Nat) (v1 : Option Nat) (rec171 : Int32 → zS → Option ((Option Nat) × zS)) (v2 : Int32) (σ : zS) : Option ((Option Nat) × zS) :=
  (gR σ o 1 11).bind fun r36 =>
  r36.bind fun a37 =>
  zif (zcl σ a37 = 19) <|
  zb2 (f_J2_size a37 σ) fun x39 σ40 =>
  if x39 ≤ v2 then
    v1.bind fun a41 =>
    (gR σ40 a41 1 10).bind fun r42 =>
    (gR σ40 o 1 10).bind fun r43 =>
    r42.bind fun a44 =>
    zif (zcl σ40 a44 = 19) <|
    zb2 (f_J2_addAll a44 r43 σ40) fun x46 σ47 =>
    some ((some a41), σ47)
  else
    v1.bind fun a48 =>
    (gR σ40 a48 1 11).bind fun r49 =>
    (gR σ40 o 1 11).bind fun r50 =>
    r50.bind fun a51 =>
    zif (zcl σ40 a51 = 19) <|
    zb2 (f_J2_get a51 v2 σ40) fun r53 σ54 =>
    zif (zckC σ54 r53 8 = true) <|
    r53.bind fun a55 =>
    zif (zcl σ54 a55 = 8) <|
    zb2 (f_X9_copy a55 σ54) fun r57 σ58 =>
    r49.bind fun a59 =>
    zif (zcl σ58 a59 = 19) <|
    zb2 (f_J2_add a59 r57 σ58) fun x61 σ62 =>
    zl (v2 + 1) fun x63 =>
    rec171 x63 σ62

def f_X2_copy_171 (o : Nat) (v1 : Option Nat) : Int32 → zS → Option ((Option Nat) × zS) := zlp1 (f_X2_copy_171_b o v1) NN
set_option maxHeartbeats 4000000 in
theorem s_X2_copy_171_b {X : zX} (hX : zOk X RX2 cX2_copy 3 7 171 (Option.some (Jvm.ClassFile.FieldType.object "StepDebts$World")) "copy" []) {o : Nat} {Rt : (Option Nat) × zS} {v1 : Option Nat} {rec171 : Int32 → zS → Option ((Option Nat) × zS)} (hrec171 : ∀ (v2 : Int32) (σ : zS), rec171 v2 σ = some Rt → zG X (zQ X (.inl (eA Rt.1)) Rt.2) 3 171 [(0, zA (some o)), (1, zA v1), (2, zI v2)] [] σ) {v2 : Int32} {σ : zS} (h : f_X2_copy_171_b o v1 rec171 v2 σ = some Rt) : zG X (zQ X (.inl (eA Rt.1)) Rt.2) 3 171 [(0, zA (some o)), (1, zA v1), (2, zI v2)] [] σ := by
  unfold f_X2_copy_171_b at h
  refine z_iload_n hX 2 rfl rfl dX2_copy_171 (z_aload_n hX 0 rfl rfl dX2_copy_172 ?_)
  refine z_getR hX fl_X2_35_1 h dX2_copy_173 (fun r36 h => ?_)
  obtain ⟨a37, e9, k_a37⟩ := z_nn h
  subst e9
  have h := k_a37
  obtain ⟨c38, h⟩ := z_ck h
  refine z_cNI hX (rest := [zI v2]) h (fun r9 σ9 e9 => z_runV hX lk_X2_64 (c_J2_size hX.tr e9) (ci := 19) zc9_19 c38 ⟨Nat.le_of_ble_eq_true rfl, Nat.le_of_ble_eq_true rfl⟩ rfl (Nat.le_of_ble_eq_true rfl) dX2_copy_176 rfl) (fun x39 σ40 h => ?_)
  refine z_icmp_ge (tgt := 210) hX h dX2_copy_179 (by decide) (fun h => ?_) (fun h => ?_)
  · refine z_aload_n hX 1 rfl rfl dX2_copy_210 ?_
    obtain ⟨a41, e9, k_a41⟩ := z_nn h
    subst e9
    have h := k_a41
    refine z_getR hX fl_X2_32_1 h dX2_copy_211 (fun r42 h => ?_)
    refine z_aload_n hX 0 rfl rfl dX2_copy_214 ?_
    refine z_getR hX fl_X2_32_1 h dX2_copy_215 (fun r43 h => ?_)
    obtain ⟨a44, e9, k_a44⟩ := z_nn h
    subst e9
    have h := k_a44
    obtain ⟨c45, h⟩ := z_ck h
    refine z_cNI hX (rest := []) h (fun r9 σ9 e9 => z_runV hX lk_X2_92 (c_J2_addAll hX.tr e9) (ci := 19) zc9_19 c45 ⟨Nat.le_of_ble_eq_true rfl, Nat.le_of_ble_eq_true rfl⟩ rfl (Nat.le_of_ble_eq_true rfl) dX2_copy_218 rfl) (fun x46 σ47 h => ?_)
    refine z_pop hX rfl dX2_copy_221 (z_aload_n hX 1 rfl rfl dX2_copy_222 ?_)
    obtain rfl := Option.some.inj h
    exact z_aret hX (Or.inl ⟨_, rfl⟩) dX2_copy_223
  · refine z_aload_n hX 1 rfl rfl dX2_copy_182 ?_
    obtain ⟨a48, e9, k_a48⟩ := z_nn h
    subst e9
    have h := k_a48
    refine z_getR hX fl_X2_35_1 h dX2_copy_183 (fun r49 h => ?_)
    refine z_aload_n hX 0 rfl rfl dX2_copy_186 ?_
    refine z_getR hX fl_X2_35_1 h dX2_copy_187 (fun r50 h => ?_)
    refine z_iload_n hX 2 rfl rfl dX2_copy_190 ?_
    obtain ⟨a51, e9, k_a51⟩ := z_nn h
    subst e9
    have h := k_a51
    obtain ⟨c52, h⟩ := z_ck h
    refine z_cNA hX (rest := [zA r49]) h (fun r9 σ9 e9 => z_runV hX lk_X2_68 (c_J2_get hX.tr e9) (ci := 19) zc9_19 c52 ⟨Nat.le_of_ble_eq_true rfl, Nat.le_of_ble_eq_true rfl⟩ rfl (Nat.le_of_ble_eq_true rfl) dX2_copy_191 rfl) (fun r53 σ54 h => ?_)
    refine z_castC hX (ci := 8) rfl q412 h dX2_copy_194 (fun h => ?_)
    obtain ⟨a55, e9, k_a55⟩ := z_nn h
    subst e9
    have h := k_a55
    obtain ⟨c56, h⟩ := z_ck h
    refine z_cNA hX (rest := [zA r49]) h (fun r9 σ9 e9 => z_runV hX lk_X2_89 (c_X9_copy hX.tr e9) (ci := 8) zc9_8 c56 ⟨Nat.le_of_ble_eq_true rfl, Nat.le_of_ble_eq_true rfl⟩ rfl (Nat.le_of_ble_eq_true rfl) dX2_copy_197 rfl) (fun r57 σ58 h => ?_)
    obtain ⟨a59, e9, k_a59⟩ := z_nn h
    subst e9
    have h := k_a59
    obtain ⟨c60, h⟩ := z_ck h
    refine z_cNI hX (rest := []) h (fun r9 σ9 e9 => z_runV hX lk_X2_78 (c_J2_add hX.tr e9) (ci := 19) zc9_19 c60 ⟨Nat.le_of_ble_eq_true rfl, Nat.le_of_ble_eq_true rfl⟩ rfl (Nat.le_of_ble_eq_true rfl) dX2_copy_200 rfl) (fun x61 σ62 h => ?_)
    refine z_pop hX rfl dX2_copy_203 ?_
    refine z_iinc hX (j := 2) h rfl (by decide) (by decide) dX2_copy_204 (fun x63 h => z_L (L' := [(0, zA (some o)), (1, zA (some a48)), (2, zI x63)]) rfl ?_)
    refine z_goto (tgt := 171) hX dX2_copy_207 (by decide) ?_
    exact z_sub [0, 1, 2] rfl (hrec171 _ _ h)

theorem s_X2_copy_171 {X : zX} (hX : zOk X RX2 cX2_copy 3 7 171 (Option.some (Jvm.ClassFile.FieldType.object "StepDebts$World")) "copy" []) {o : Nat} {Rt : (Option Nat) × zS} {v1 : Option Nat} {v2 : Int32} {σ : zS} (h : f_X2_copy_171 o v1 v2 σ = some Rt) : zG X (zQ X (.inl (eA Rt.1)) Rt.2) 3 171 [(0, zA (some o)), (1, zA v1), (2, zI v2)] [] σ :=
  zlp1_ok (P := fun v2 σ => zG X (zQ X (.inl (eA Rt.1)) Rt.2) 3 171 [(0, zA (some o)), (1, zA v1), (2, zI v2)] [] σ) (fun rec hr v2 σ h => s_X2_copy_171_b (o := o) hX hr h) NN v2 σ h
def f_X2_copy_130_b (o : Nat) (v1 : Option Nat) (rec130 : Int32 → zS → Option ((Option Nat) × zS)) (v2 : Int32) (σ : zS) : Option ((Option Nat) × zS) :=
  (gR σ o 1 9).bind fun r31 =>
  r31.bind fun a32 =>
  zif (zcl σ a32 = 19) <|
  zb2 (f_J2_size a32 σ) fun x34 σ35 =>
  if x34 ≤ v2 then
    f_X2_copy_171 o v1 0 σ35
  else
    v1.bind fun a64 =>
    (gR σ35 a64 1 9).bind fun r65 =>
    (gR σ35 o 1 9).bind fun r66 =>
    r66.bind fun a67 =>
    zif (zcl σ35 a67 = 19) <|
    zb2 (f_J2_get a67 v2 σ35) fun r69 σ70 =>
    zif (zckC σ70 r69 7 = true) <|
    r69.bind fun a71 =>
    zif (zcl σ70 a71 = 7) <|
    zb2 (f_X8_copy a71 σ70) fun r73 σ74 =>
    r65.bind fun a75 =>
    zif (zcl σ74 a75 = 19) <|
    zb2 (f_J2_add a75 r73 σ74) fun x77 σ78 =>
    zl (v2 + 1) fun x79 =>
    rec130 x79 σ78

def f_X2_copy_130 (o : Nat) (v1 : Option Nat) : Int32 → zS → Option ((Option Nat) × zS) := zlp1 (f_X2_copy_130_b o v1) NN
set_option maxHeartbeats 4000000 in
theorem s_X2_copy_130_b {X : zX} (hX : zOk X RX2 cX2_copy 3 7 171 (Option.some (Jvm.ClassFile.FieldType.object "StepDebts$World")) "copy" []) {o : Nat} {Rt : (Option Nat) × zS} {v1 : Option Nat} {rec130 : Int32 → zS → Option ((Option Nat) × zS)} (hrec130 : ∀ (v2 : Int32) (σ : zS), rec130 v2 σ = some Rt → zG X (zQ X (.inl (eA Rt.1)) Rt.2) 3 130 [(0, zA (some o)), (1, zA v1), (2, zI v2)] [] σ) {v2 : Int32} {σ : zS} (h : f_X2_copy_130_b o v1 rec130 v2 σ = some Rt) : zG X (zQ X (.inl (eA Rt.1)) Rt.2) 3 130 [(0, zA (some o)), (1, zA v1), (2, zI v2)] [] σ := by
  unfold f_X2_copy_130_b at h
  refine z_iload_n hX 2 rfl rfl dX2_copy_130 (z_aload_n hX 0 rfl rfl dX2_copy_131 ?_)
  refine z_getR hX fl_X2_29_1 h dX2_copy_132 (fun r31 h => ?_)
  obtain ⟨a32, e9, k_a32⟩ := z_nn h
  subst e9
  have h := k_a32
  obtain ⟨c33, h⟩ := z_ck h
  refine z_cNI hX (rest := [zI v2]) h (fun r9 σ9 e9 => z_runV hX lk_X2_64 (c_J2_size hX.tr e9) (ci := 19) zc9_19 c33 ⟨Nat.le_of_ble_eq_true rfl, Nat.le_of_ble_eq_true rfl⟩ rfl (Nat.le_of_ble_eq_true rfl) dX2_copy_135 rfl) (fun x34 σ35 h => ?_)
  refine z_icmp_ge (tgt := 169) hX h dX2_copy_138 (by decide) (fun h => ?_) (fun h => ?_)
  · refine z_iconst hX (v := 0) (by decide) dX2_copy_169 (z_istore_n (L' := [(0, zA (some o)), (1, zA v1), (2, zI 0)]) hX rfl rfl (by decide) dX2_copy_170 ?_)
    exact z_sub [0, 1, 2] rfl (s_X2_copy_171 (o := o) hX  h)
  · refine z_aload_n hX 1 rfl rfl dX2_copy_141 ?_
    obtain ⟨a64, e9, k_a64⟩ := z_nn h
    subst e9
    have h := k_a64
    refine z_getR hX fl_X2_29_1 h dX2_copy_142 (fun r65 h => ?_)
    refine z_aload_n hX 0 rfl rfl dX2_copy_145 ?_
    refine z_getR hX fl_X2_29_1 h dX2_copy_146 (fun r66 h => ?_)
    refine z_iload_n hX 2 rfl rfl dX2_copy_149 ?_
    obtain ⟨a67, e9, k_a67⟩ := z_nn h
    subst e9
    have h := k_a67
    obtain ⟨c68, h⟩ := z_ck h
    refine z_cNA hX (rest := [zA r65]) h (fun r9 σ9 e9 => z_runV hX lk_X2_68 (c_J2_get hX.tr e9) (ci := 19) zc9_19 c68 ⟨Nat.le_of_ble_eq_true rfl, Nat.le_of_ble_eq_true rfl⟩ rfl (Nat.le_of_ble_eq_true rfl) dX2_copy_150 rfl) (fun r69 σ70 h => ?_)
    refine z_castC hX (ci := 7) rfl q410 h dX2_copy_153 (fun h => ?_)
    obtain ⟨a71, e9, k_a71⟩ := z_nn h
    subst e9
    have h := k_a71
    obtain ⟨c72, h⟩ := z_ck h
    refine z_cNA hX (rest := [zA r65]) h (fun r9 σ9 e9 => z_runV hX lk_X2_84 (c_X8_copy hX.tr e9) (ci := 7) zc9_7 c72 ⟨Nat.le_of_ble_eq_true rfl, Nat.le_of_ble_eq_true rfl⟩ rfl (Nat.le_of_ble_eq_true rfl) dX2_copy_156 rfl) (fun r73 σ74 h => ?_)
    obtain ⟨a75, e9, k_a75⟩ := z_nn h
    subst e9
    have h := k_a75
    obtain ⟨c76, h⟩ := z_ck h
    refine z_cNI hX (rest := []) h (fun r9 σ9 e9 => z_runV hX lk_X2_78 (c_J2_add hX.tr e9) (ci := 19) zc9_19 c76 ⟨Nat.le_of_ble_eq_true rfl, Nat.le_of_ble_eq_true rfl⟩ rfl (Nat.le_of_ble_eq_true rfl) dX2_copy_159 rfl) (fun x77 σ78 h => ?_)
    refine z_pop hX rfl dX2_copy_162 ?_
    refine z_iinc hX (j := 2) h rfl (by decide) (by decide) dX2_copy_163 (fun x79 h => z_L (L' := [(0, zA (some o)), (1, zA (some a64)), (2, zI x79)]) rfl ?_)
    refine z_goto (tgt := 130) hX dX2_copy_166 (by decide) ?_
    exact z_sub [0, 1, 2] rfl (hrec130 _ _ h)

theorem s_X2_copy_130 {X : zX} (hX : zOk X RX2 cX2_copy 3 7 171 (Option.some (Jvm.ClassFile.FieldType.object "StepDebts$World")) "copy" []) {o : Nat} {Rt : (Option Nat) × zS} {v1 : Option Nat} {v2 : Int32} {σ : zS} (h : f_X2_copy_130 o v1 v2 σ = some Rt) : zG X (zQ X (.inl (eA Rt.1)) Rt.2) 3 130 [(0, zA (some o)), (1, zA v1), (2, zI v2)] [] σ :=
  zlp1_ok (P := fun v2 σ => zG X (zQ X (.inl (eA Rt.1)) Rt.2) 3 130 [(0, zA (some o)), (1, zA v1), (2, zI v2)] [] σ) (fun rec hr v2 σ h => s_X2_copy_130_b (o := o) hX hr h) NN v2 σ h
def f_X2_copy_89_b (o : Nat) (v1 : Option Nat) (rec89 : Int32 → zS → Option ((Option Nat) × zS)) (v2 : Int32) (σ : zS) : Option ((Option Nat) × zS) :=
  (gR σ o 1 8).bind fun r26 =>
  r26.bind fun a27 =>
  zif (zcl σ a27 = 19) <|
  zb2 (f_J2_size a27 σ) fun x29 σ30 =>
  if x29 ≤ v2 then
    f_X2_copy_130 o v1 0 σ30
  else
    v1.bind fun a80 =>
    (gR σ30 a80 1 8).bind fun r81 =>
    (gR σ30 o 1 8).bind fun r82 =>
    r82.bind fun a83 =>
    zif (zcl σ30 a83 = 19) <|
    zb2 (f_J2_get a83 v2 σ30) fun r85 σ86 =>
    zif (zckC σ86 r85 6 = true) <|
    r85.bind fun a87 =>
    zif (zcl σ86 a87 = 6) <|
    zb2 (f_X7_copy a87 σ86) fun r89 σ90 =>
    r81.bind fun a91 =>
    zif (zcl σ90 a91 = 19) <|
    zb2 (f_J2_add a91 r89 σ90) fun x93 σ94 =>
    zl (v2 + 1) fun x95 =>
    rec89 x95 σ94

def f_X2_copy_89 (o : Nat) (v1 : Option Nat) : Int32 → zS → Option ((Option Nat) × zS) := zlp1 (f_X2_copy_89_b o v1) NN
set_option maxHeartbeats 4000000 in
theorem s_X2_copy_89_b {X : zX} (hX : zOk X RX2 cX2_copy 3 7 171 (Option.some (Jvm.ClassFile.FieldType.object "StepDebts$World")) "copy" []) {o : Nat} {Rt : (Option Nat) × zS} {v1 : Option Nat} {rec89 : Int32 → zS → Option ((Option Nat) × zS)} (hrec89 : ∀ (v2 : Int32) (σ : zS), rec89 v2 σ = some Rt → zG X (zQ X (.inl (eA Rt.1)) Rt.2) 3 89 [(0, zA (some o)), (1, zA v1), (2, zI v2)] [] σ) {v2 : Int32} {σ : zS} (h : f_X2_copy_89_b o v1 rec89 v2 σ = some Rt) : zG X (zQ X (.inl (eA Rt.1)) Rt.2) 3 89 [(0, zA (some o)), (1, zA v1), (2, zI v2)] [] σ := by
  unfold f_X2_copy_89_b at h
  refine z_iload_n hX 2 rfl rfl dX2_copy_89 (z_aload_n hX 0 rfl rfl dX2_copy_90 ?_)
  refine z_getR hX fl_X2_25_1 h dX2_copy_91 (fun r26 h => ?_)
  obtain ⟨a27, e9, k_a27⟩ := z_nn h
  subst e9
  have h := k_a27
  obtain ⟨c28, h⟩ := z_ck h
  refine z_cNI hX (rest := [zI v2]) h (fun r9 σ9 e9 => z_runV hX lk_X2_64 (c_J2_size hX.tr e9) (ci := 19) zc9_19 c28 ⟨Nat.le_of_ble_eq_true rfl, Nat.le_of_ble_eq_true rfl⟩ rfl (Nat.le_of_ble_eq_true rfl) dX2_copy_94 rfl) (fun x29 σ30 h => ?_)
  refine z_icmp_ge (tgt := 128) hX h dX2_copy_97 (by decide) (fun h => ?_) (fun h => ?_)
  · refine z_iconst hX (v := 0) (by decide) dX2_copy_128 (z_istore_n (L' := [(0, zA (some o)), (1, zA v1), (2, zI 0)]) hX rfl rfl (by decide) dX2_copy_129 ?_)
    exact z_sub [0, 1, 2] rfl (s_X2_copy_130 (o := o) hX  h)
  · refine z_aload_n hX 1 rfl rfl dX2_copy_100 ?_
    obtain ⟨a80, e9, k_a80⟩ := z_nn h
    subst e9
    have h := k_a80
    refine z_getR hX fl_X2_25_1 h dX2_copy_101 (fun r81 h => ?_)
    refine z_aload_n hX 0 rfl rfl dX2_copy_104 ?_
    refine z_getR hX fl_X2_25_1 h dX2_copy_105 (fun r82 h => ?_)
    refine z_iload_n hX 2 rfl rfl dX2_copy_108 ?_
    obtain ⟨a83, e9, k_a83⟩ := z_nn h
    subst e9
    have h := k_a83
    obtain ⟨c84, h⟩ := z_ck h
    refine z_cNA hX (rest := [zA r81]) h (fun r9 σ9 e9 => z_runV hX lk_X2_68 (c_J2_get hX.tr e9) (ci := 19) zc9_19 c84 ⟨Nat.le_of_ble_eq_true rfl, Nat.le_of_ble_eq_true rfl⟩ rfl (Nat.le_of_ble_eq_true rfl) dX2_copy_109 rfl) (fun r85 σ86 h => ?_)
    refine z_castC hX (ci := 6) rfl q436 h dX2_copy_112 (fun h => ?_)
    obtain ⟨a87, e9, k_a87⟩ := z_nn h
    subst e9
    have h := k_a87
    obtain ⟨c88, h⟩ := z_ck h
    refine z_cNA hX (rest := [zA r81]) h (fun r9 σ9 e9 => z_runV hX lk_X2_74 (c_X7_copy hX.tr e9) (ci := 6) zc9_6 c88 ⟨Nat.le_of_ble_eq_true rfl, Nat.le_of_ble_eq_true rfl⟩ rfl (Nat.le_of_ble_eq_true rfl) dX2_copy_115 rfl) (fun r89 σ90 h => ?_)
    obtain ⟨a91, e9, k_a91⟩ := z_nn h
    subst e9
    have h := k_a91
    obtain ⟨c92, h⟩ := z_ck h
    refine z_cNI hX (rest := []) h (fun r9 σ9 e9 => z_runV hX lk_X2_78 (c_J2_add hX.tr e9) (ci := 19) zc9_19 c92 ⟨Nat.le_of_ble_eq_true rfl, Nat.le_of_ble_eq_true rfl⟩ rfl (Nat.le_of_ble_eq_true rfl) dX2_copy_118 rfl) (fun x93 σ94 h => ?_)
    refine z_pop hX rfl dX2_copy_121 ?_
    refine z_iinc hX (j := 2) h rfl (by decide) (by decide) dX2_copy_122 (fun x95 h => z_L (L' := [(0, zA (some o)), (1, zA (some a80)), (2, zI x95)]) rfl ?_)
    refine z_goto (tgt := 89) hX dX2_copy_125 (by decide) ?_
    exact z_sub [0, 1, 2] rfl (hrec89 _ _ h)

theorem s_X2_copy_89 {X : zX} (hX : zOk X RX2 cX2_copy 3 7 171 (Option.some (Jvm.ClassFile.FieldType.object "StepDebts$World")) "copy" []) {o : Nat} {Rt : (Option Nat) × zS} {v1 : Option Nat} {v2 : Int32} {σ : zS} (h : f_X2_copy_89 o v1 v2 σ = some Rt) : zG X (zQ X (.inl (eA Rt.1)) Rt.2) 3 89 [(0, zA (some o)), (1, zA v1), (2, zI v2)] [] σ :=
  zlp1_ok (P := fun v2 σ => zG X (zQ X (.inl (eA Rt.1)) Rt.2) 3 89 [(0, zA (some o)), (1, zA v1), (2, zI v2)] [] σ) (fun rec hr v2 σ h => s_X2_copy_89_b (o := o) hX hr h) NN v2 σ h
def f_X2_copy (o : Nat) (σ : zS) : Option ((Option Nat) × zS) :=
  zb2 (znewO σ 1 [.int 0, .int 0, .int 0, .int 0, .int 0, .int 0, .int 0, .null, .null, .null, .null, .null, .null]) fun a1 σ2 =>
  zb2 (f_X2_init a1 σ2) fun _ σ4 =>
  (gI σ4 o 1 0).bind fun x5 =>
  (pI σ4 a1 1 0 x5).bind fun σ6 =>
  (gI σ6 o 1 1).bind fun x7 =>
  (pI σ6 a1 1 1 x7).bind fun σ8 =>
  (gI σ8 o 1 2).bind fun x9 =>
  (pI σ8 a1 1 2 x9).bind fun σ10 =>
  (gI σ10 o 1 3).bind fun x11 =>
  (pI σ10 a1 1 3 x11).bind fun σ12 =>
  (gI σ12 o 1 4).bind fun x13 =>
  (pI σ12 a1 1 4 x13).bind fun σ14 =>
  (gI σ14 o 1 5).bind fun x15 =>
  (pI σ14 a1 1 5 x15).bind fun σ16 =>
  (gI σ16 o 1 6).bind fun x17 =>
  (pI σ16 a1 1 6 x17).bind fun σ18 =>
  (gR σ18 o 1 12).bind fun r19 =>
  (pR σ18 a1 1 12 r19).bind fun σ20 =>
  (gR σ20 o 1 7).bind fun r21 =>
  (gR σ20 a1 1 7).bind fun r22 =>
  r22.bind fun a23 =>
  r21.bind fun a24 =>
  (zcpy σ20 a24 0 a23 0 8).bind fun σ25 =>
  f_X2_copy_89 o (some a1) 0 σ25

set_option maxHeartbeats 4000000 in
theorem s_X2_copy {X : zX} (hX : zOk X RX2 cX2_copy 3 7 171 (Option.some (Jvm.ClassFile.FieldType.object "StepDebts$World")) "copy" []) {o : Nat} {σ : zS} {Rt : (Option Nat) × zS} (h : f_X2_copy o σ = some Rt) : zG X (zQ X (.inl (eA Rt.1)) Rt.2) 3 0 [(0, zA (some o))] [] σ := by
  unfold f_X2_copy at h
  refine z_new hX ne_X2_10 h dX2_copy_0 (fun a1 σ2 h => ?_)
  refine z_dup hX rfl dX2_copy_3 ?_
  refine z_cNU hX (rest := [zA (some a1)]) h (fun r9 σ9 e9 => z_runI hX lk_X2_38 (c_X2_init hX.tr e9) ⟨Nat.le_of_ble_eq_true rfl, Nat.le_of_ble_eq_true rfl⟩ rfl (Nat.le_of_ble_eq_true rfl) dX2_copy_4 rfl) (fun _ σ4 h => ?_)
  refine z_astore_n (L' := [(0, zA (some o)), (1, zA (some a1))]) hX rfl rfl (by decide) dX2_copy_7 (z_aload_n hX 1 rfl rfl dX2_copy_8 (z_aload_n hX 0 rfl rfl dX2_copy_9 ?_))
  refine z_getI hX fl_X2_39_1 h dX2_copy_10 (fun x5 h => ?_)
  refine z_putI hX fp_X2_39_1 (fun h => nomatch h) h dX2_copy_13 (fun σ6 h => ?_)
  refine z_aload_n hX 1 rfl rfl dX2_copy_16 (z_aload_n hX 0 rfl rfl dX2_copy_17 ?_)
  refine z_getI hX fl_X2_42_1 h dX2_copy_18 (fun x7 h => ?_)
  refine z_putI hX fp_X2_42_1 (fun h => nomatch h) h dX2_copy_21 (fun σ8 h => ?_)
  refine z_aload_n hX 1 rfl rfl dX2_copy_24 (z_aload_n hX 0 rfl rfl dX2_copy_25 ?_)
  refine z_getI hX fl_X2_9_1 h dX2_copy_26 (fun x9 h => ?_)
  refine z_putI hX fp_X2_9_1 (fun h => nomatch h) h dX2_copy_29 (fun σ10 h => ?_)
  refine z_aload_n hX 1 rfl rfl dX2_copy_32 (z_aload_n hX 0 rfl rfl dX2_copy_33 ?_)
  refine z_getI hX fl_X2_45_1 h dX2_copy_34 (fun x11 h => ?_)
  refine z_putI hX fp_X2_45_1 (fun h => nomatch h) h dX2_copy_37 (fun σ12 h => ?_)
  refine z_aload_n hX 1 rfl rfl dX2_copy_40 (z_aload_n hX 0 rfl rfl dX2_copy_41 ?_)
  refine z_getI hX fl_X2_48_1 h dX2_copy_42 (fun x13 h => ?_)
  refine z_putI hX fp_X2_48_1 (fun h => nomatch h) h dX2_copy_45 (fun σ14 h => ?_)
  refine z_aload_n hX 1 rfl rfl dX2_copy_48 (z_aload_n hX 0 rfl rfl dX2_copy_49 ?_)
  refine z_getI hX fl_X2_15_1 h dX2_copy_50 (fun x15 h => ?_)
  refine z_putI hX fp_X2_15_1 (fun h => nomatch h) h dX2_copy_53 (fun σ16 h => ?_)
  refine z_aload_n hX 1 rfl rfl dX2_copy_56 (z_aload_n hX 0 rfl rfl dX2_copy_57 ?_)
  refine z_getI hX fl_X2_51_1 h dX2_copy_58 (fun x17 h => ?_)
  refine z_putI hX fp_X2_51_1 (fun h => nomatch h) h dX2_copy_61 (fun σ18 h => ?_)
  refine z_aload_n hX 1 rfl rfl dX2_copy_64 (z_aload_n hX 0 rfl rfl dX2_copy_65 ?_)
  refine z_getR hX fl_X2_54_1 h dX2_copy_66 (fun r19 h => ?_)
  refine z_putR hX fp_X2_54_1 (Or.inl ⟨_, rfl⟩) (fun h => nomatch h) h dX2_copy_69 (fun σ20 h => ?_)
  refine z_aload_n hX 0 rfl rfl dX2_copy_72 ?_
  refine z_getR hX fl_X2_18_1 h dX2_copy_73 (fun r21 h => ?_)
  refine z_iconst hX (v := 0) (by decide) dX2_copy_76 (z_aload_n hX 1 rfl rfl dX2_copy_77 ?_)
  refine z_getR hX fl_X2_18_1 h dX2_copy_78 (fun r22 h => ?_)
  refine z_iconst hX (v := 0) (by decide) dX2_copy_81 (z_bipush hX (v := 8) (by decide) dX2_copy_82 ?_)
  obtain ⟨a23, e9, k_a23⟩ := z_nn h
  subst e9
  have h := k_a23
  obtain ⟨a24, e9, k_a24⟩ := z_nn h
  subst e9
  have h := k_a24
  refine z_cpy hX zto q435 (Nat.le_of_ble_eq_true rfl) (Nat.le_of_ble_eq_true rfl) (Nat.le_of_ble_eq_true rfl) h dX2_copy_84 (fun σ25 h => ?_)
  refine z_iconst hX (v := 0) (by decide) dX2_copy_87 (z_istore_n (L' := [(0, zA (some o)), (1, zA (some a1)), (2, zI 0)]) hX rfl rfl (by decide) dX2_copy_88 ?_)
  exact z_sub [0, 1, 2] rfl (s_X2_copy_89 (o := o) hX  h)

theorem c_X2_copy {l : Launch} {D : va_G} {tys : zTy} (hl : l.stackTraces = false) {o : Nat} {σ : zS} {Rt : (Option Nat) × zS} (h : f_X2_copy o σ = some Rt) : zM l D tys yX2_copy (ws_ yX2_copy cX2_copy 3 (Option.some (Jvm.ClassFile.FieldType.object "StepDebts$World"))) 7 171 [zA (some o)] σ (.inl (eA Rt.1)) Rt.2 :=
  zM_in hl rfl (Nat.le_of_ble_eq_true rfl) (fun p e R s m args below meth c hX => z_L rfl (s_X2_copy hX h))
def f_X3_byteAt (o : Nat) (p1 : Int32) (σ : zS) : Option (Int32 × zS) :=
  (gI σ o 2 2).bind fun x1 =>
  if x1 ≤ p1 then
    some (((-1) : Int32), σ)
  else
    (gR σ o 2 0).bind fun r2 =>
    r2.bind fun a3 =>
    (lI σ a3 1 p1).bind fun x4 =>
    some (x4, σ)

set_option maxHeartbeats 4000000 in
theorem s_X3_byteAt {X : zX} (hX : zOk X RX3 cX3_byteAt 2 1 40 (Option.some Jvm.ClassFile.FieldType.int) "byteAt" []) {o : Nat} {p1 : Int32} {σ : zS} {Rt : Int32 × zS} (h : f_X3_byteAt o p1 σ = some Rt) : zG X (zQ X (.inl (eI Rt.1)) Rt.2) 2 0 [(0, zA (some o)), (1, zI p1)] [] σ := by
  unfold f_X3_byteAt at h
  refine z_iload_n hX 1 rfl rfl dX3_byteAt_0 (z_aload_n hX 0 rfl rfl dX3_byteAt_1 ?_)
  refine z_getI hX fl_X3_22_2 h dX3_byteAt_2 (fun x1 h => ?_)
  refine z_icmp_ge (tgt := 17) hX h dX3_byteAt_5 (by decide) (fun h => ?_) (fun h => ?_)
  · refine z_iconst hX (v := (-1)) (by decide) dX3_byteAt_17 ?_
    obtain rfl := Option.some.inj h
    exact z_iret hX dX3_byteAt_18
  · refine z_aload_n hX 0 rfl rfl dX3_byteAt_8 ?_
    refine z_getR hX fl_X3_9_2 h dX3_byteAt_9 (fun r2 h => ?_)
    refine z_iload_n hX 1 rfl rfl dX3_byteAt_12 ?_
    obtain ⟨a3, e9, k_a3⟩ := z_nn h
    subst e9
    have h := k_a3
    refine z_bald hX h dX3_byteAt_13 (fun x4 h => ?_)
    refine z_goto (tgt := 18) hX dX3_byteAt_14 (by decide) ?_
    obtain rfl := Option.some.inj h
    exact z_iret hX dX3_byteAt_18

theorem c_X3_byteAt {l : Launch} {D : va_G} {tys : zTy} (hl : l.stackTraces = false) {o : Nat} {p1 : Int32} {σ : zS} {Rt : Int32 × zS} (h : f_X3_byteAt o p1 σ = some Rt) : zM l D tys yX3_byteAt (ws_ yX3_byteAt cX3_byteAt 2 (Option.some Jvm.ClassFile.FieldType.int)) 1 40 [zA (some o), zI p1] σ (.inl (eI Rt.1)) Rt.2 :=
  zM_in hl rfl (Nat.le_of_ble_eq_true rfl) (fun p e R s m args below meth c hX => z_L rfl (s_X3_byteAt hX h))
def f_X3_blanks_0_b (o : Nat) (rec0 : zS → Option (Unit × zS)) (σ : zS) : Option (Unit × zS) :=
  (gI σ o 2 3).bind fun x1 =>
  zif (zcl σ o = 2) <|
  zb2 (f_X3_byteAt o x1 σ) fun x3 σ4 =>
  if ¬ x3 = 32 then
    (gI σ4 o 2 3).bind fun x5 =>
    (pI σ4 o 2 4 x5).bind fun σ6 =>
    some ((), σ6)
  else
    (gI σ4 o 2 3).bind fun x7 =>
    (pI σ4 o 2 3 (x7 + 1)).bind fun σ8 =>
    rec0 σ8

def f_X3_blanks_0 (o : Nat) : zS → Option (Unit × zS) := zlp0 (f_X3_blanks_0_b o) NN
set_option maxHeartbeats 4000000 in
theorem s_X3_blanks_0_b {X : zX} (hX : zOk X RX3 cX3_blanks 1 2 61 (Option.none : Option Jvm.ClassFile.FieldType) "blanks" []) {o : Nat} {Rt : Unit × zS} {rec0 : zS → Option (Unit × zS)} (hrec0 : ∀ (σ : zS), rec0 σ = some Rt → zG X (zQ X (.inl (eU Rt.1)) Rt.2) 1 0 [(0, zA (some o))] [] σ) {σ : zS} (h : f_X3_blanks_0_b o rec0 σ = some Rt) : zG X (zQ X (.inl (eU Rt.1)) Rt.2) 1 0 [(0, zA (some o))] [] σ := by
  unfold f_X3_blanks_0_b at h
  refine z_aload_n hX 0 rfl rfl dX3_blanks_0 (z_aload_n hX 0 rfl rfl dX3_blanks_1 ?_)
  refine z_getI hX fl_X3_25_2 h dX3_blanks_2 (fun x1 h => ?_)
  obtain ⟨c2, h⟩ := z_ck h
  refine z_cNI hX (rest := []) h (fun r9 σ9 e9 => z_runV hX lk_X3_31 (c_X3_byteAt hX.tr e9) (ci := 2) zc9_2 c2 ⟨Nat.le_of_ble_eq_true rfl, Nat.le_of_ble_eq_true rfl⟩ rfl (Nat.le_of_ble_eq_true rfl) dX3_blanks_5 rfl) (fun x3 σ4 h => ?_)
  refine z_bipush hX (v := 32) (by decide) dX3_blanks_8 ?_
  refine z_icmp_ne (tgt := 26) hX h dX3_blanks_10 (by decide) (fun h => ?_) (fun h => ?_)
  · refine z_aload_n hX 0 rfl rfl dX3_blanks_26 (z_aload_n hX 0 rfl rfl dX3_blanks_27 ?_)
    refine z_getI hX fl_X3_25_2 h dX3_blanks_28 (fun x5 h => ?_)
    refine z_putI hX fp_X3_35_2 (fun h => nomatch h) h dX3_blanks_31 (fun σ6 h => ?_)
    obtain rfl := Option.some.inj h
    exact z_vret hX dX3_blanks_34
  · refine z_aload_n hX 0 rfl rfl dX3_blanks_13 (z_dup hX rfl dX3_blanks_14 ?_)
    refine z_getI hX fl_X3_25_2 h dX3_blanks_15 (fun x7 h => ?_)
    refine z_iconst hX (v := 1) (by decide) dX3_blanks_18 (z_iadd hX dX3_blanks_19 ?_)
    refine z_putI hX fp_X3_25_2 (fun h => nomatch h) h dX3_blanks_20 (fun σ8 h => ?_)
    refine z_goto (tgt := 0) hX dX3_blanks_23 (by decide) ?_
    exact z_sub [0] rfl (hrec0  _ h)

theorem s_X3_blanks_0 {X : zX} (hX : zOk X RX3 cX3_blanks 1 2 61 (Option.none : Option Jvm.ClassFile.FieldType) "blanks" []) {o : Nat} {Rt : Unit × zS} {σ : zS} (h : f_X3_blanks_0 o σ = some Rt) : zG X (zQ X (.inl (eU Rt.1)) Rt.2) 1 0 [(0, zA (some o))] [] σ :=
  zlp0_ok (P := fun σ => zG X (zQ X (.inl (eU Rt.1)) Rt.2) 1 0 [(0, zA (some o))] [] σ) (fun rec hr σ h => s_X3_blanks_0_b (o := o) hX hr h) NN σ h
def f_X3_blanks (o : Nat) (σ : zS) : Option (Unit × zS) :=
  f_X3_blanks_0 o σ

set_option maxHeartbeats 4000000 in
theorem s_X3_blanks {X : zX} (hX : zOk X RX3 cX3_blanks 1 2 61 (Option.none : Option Jvm.ClassFile.FieldType) "blanks" []) {o : Nat} {σ : zS} {Rt : Unit × zS} (h : f_X3_blanks o σ = some Rt) : zG X (zQ X (.inl (eU Rt.1)) Rt.2) 1 0 [(0, zA (some o))] [] σ := by
  unfold f_X3_blanks at h
  exact z_sub [0] rfl (s_X3_blanks_0 (o := o) hX  h)

theorem c_X3_blanks {l : Launch} {D : va_G} {tys : zTy} (hl : l.stackTraces = false) {o : Nat} {σ : zS} {Rt : Unit × zS} (h : f_X3_blanks o σ = some Rt) : zM l D tys yX3_blanks (ws_ yX3_blanks cX3_blanks 1 (Option.none : Option Jvm.ClassFile.FieldType)) 2 61 [zA (some o)] σ (.inl (eU Rt.1)) Rt.2 :=
  zM_in hl rfl (Nat.le_of_ble_eq_true rfl) (fun p e R s m args below meth c hX => z_L rfl (s_X3_blanks hX h))
def f_X3_isOver (o : Nat) (σ : zS) : Option (Int32 × zS) :=
  zif (zcl σ o = 2) <|
  zb2 (f_X3_blanks o σ) fun _ σ3 =>
  (gI σ3 o 2 3).bind fun x4 =>
  (gI σ3 o 2 2).bind fun x5 =>
  if ¬ x4 = x5 then
    some ((0 : Int32), σ3)
  else
    some ((1 : Int32), σ3)

set_option maxHeartbeats 4000000 in
theorem s_X3_isOver {X : zX} (hX : zOk X RX3 cX3_isOver 1 3 81 (Option.some Jvm.ClassFile.FieldType.boolean) "isOver" []) {o : Nat} {σ : zS} {Rt : Int32 × zS} (h : f_X3_isOver o σ = some Rt) : zG X (zQ X (.inl (eI Rt.1)) Rt.2) 1 0 [(0, zA (some o))] [] σ := by
  unfold f_X3_isOver at h
  refine z_aload_n hX 0 rfl rfl dX3_isOver_0 ?_
  obtain ⟨c1, h⟩ := z_ck h
  refine z_cNU hX (rest := []) h (fun r9 σ9 e9 => z_runV hX lk_X3_38 (c_X3_blanks hX.tr e9) (ci := 2) zc9_2 c1 ⟨Nat.le_of_ble_eq_true rfl, Nat.le_of_ble_eq_true rfl⟩ rfl (Nat.le_of_ble_eq_true rfl) dX3_isOver_1 rfl) (fun _ σ3 h => ?_)
  refine z_aload_n hX 0 rfl rfl dX3_isOver_4 ?_
  refine z_getI hX fl_X3_25_2 h dX3_isOver_5 (fun x4 h => ?_)
  refine z_aload_n hX 0 rfl rfl dX3_isOver_8 ?_
  refine z_getI hX fl_X3_22_2 h dX3_isOver_9 (fun x5 h => ?_)
  refine z_icmp_ne (tgt := 19) hX h dX3_isOver_12 (by decide) (fun h => ?_) (fun h => ?_)
  · refine z_iconst hX (v := 0) (by decide) dX3_isOver_19 ?_
    obtain rfl := Option.some.inj h
    exact z_zretT (r := 0) hX (by decide) dX3_isOver_20
  · refine z_iconst hX (v := 1) (by decide) dX3_isOver_15 (z_goto (tgt := 20) hX dX3_isOver_16 (by decide) ?_)
    obtain rfl := Option.some.inj h
    exact z_zretT (r := 1) hX (by decide) dX3_isOver_20

theorem c_X3_isOver {l : Launch} {D : va_G} {tys : zTy} (hl : l.stackTraces = false) {o : Nat} {σ : zS} {Rt : Int32 × zS} (h : f_X3_isOver o σ = some Rt) : zM l D tys yX3_isOver (ws_ yX3_isOver cX3_isOver 1 (Option.some Jvm.ClassFile.FieldType.boolean)) 3 81 [zA (some o)] σ (.inl (eI Rt.1)) Rt.2 :=
  zM_in hl rfl (Nat.le_of_ble_eq_true rfl) (fun p e R s m args below meth c hX => z_L rfl (s_X3_isOver hX h))
def f_X1_in (p1 : Int32) (p2 : Int32) (p3 : Int32) (σ : zS) : Option (Int32 × zS) :=
  if p1 < p2 then
    some ((0 : Int32), σ)
  else
    if p3 < p1 then
      some ((0 : Int32), σ)
    else
      some ((1 : Int32), σ)

set_option maxHeartbeats 4000000 in
theorem s_X1_in {X : zX} (hX : zOk X RX1 cX1_in 3 1 40 (Option.some Jvm.ClassFile.FieldType.boolean) "in" []) {p1 : Int32} {p2 : Int32} {p3 : Int32} {σ : zS} {Rt : Int32 × zS} (h : f_X1_in p1 p2 p3 σ = some Rt) : zG X (zQ X (.inl (eI Rt.1)) Rt.2) 3 0 [(0, zI p1), (1, zI p2), (2, zI p3)] [] σ := by
  unfold f_X1_in at h
  refine z_iload_n hX 0 rfl rfl dX1_in_0 (z_iload_n hX 1 rfl rfl dX1_in_1 ?_)
  refine z_icmp_lt (tgt := 14) hX h dX1_in_2 (by decide) (fun h => ?_) (fun h => ?_)
  · refine z_iconst hX (v := 0) (by decide) dX1_in_14 ?_
    obtain rfl := Option.some.inj h
    exact z_zretT (r := 0) hX (by decide) dX1_in_15
  · refine z_iload_n hX 0 rfl rfl dX1_in_5 (z_iload_n hX 2 rfl rfl dX1_in_6 ?_)
    refine z_icmp_gt (tgt := 14) hX h dX1_in_7 (by decide) (fun h => ?_) (fun h => ?_)
    · refine z_iconst hX (v := 0) (by decide) dX1_in_14 ?_
      obtain rfl := Option.some.inj h
      exact z_zretT (r := 0) hX (by decide) dX1_in_15
    · refine z_iconst hX (v := 1) (by decide) dX1_in_10 (z_goto (tgt := 15) hX dX1_in_11 (by decide) ?_)
      obtain rfl := Option.some.inj h
      exact z_zretT (r := 1) hX (by decide) dX1_in_15

theorem c_X1_in {l : Launch} {D : va_G} {tys : zTy} (hl : l.stackTraces = false) {p1 : Int32} {p2 : Int32} {p3 : Int32} {σ : zS} {Rt : Int32 × zS} (h : f_X1_in p1 p2 p3 σ = some Rt) : zM l D tys yX1_in (ws_ yX1_in cX1_in 3 (Option.some Jvm.ClassFile.FieldType.boolean)) 1 40 [zI p1, zI p2, zI p3] σ (.inl (eI Rt.1)) Rt.2 :=
  zM_in hl rfl (Nat.le_of_ble_eq_true rfl) (fun p e R s m args below meth c hX => z_L rfl (s_X1_in hX h))
def f_J8_init (o : Nat) (p1 : Int32) (σ : zS) : Option (Unit × zS) :=
  if (1 : Int32) = 0 then
    none
  else
    zb2 (znewB σ p1) fun a1 σ2 =>
    (pR σ2 o 20 0 (some a1)).bind fun σ3 =>
    (pB σ3 o 20 1 0).bind fun σ4 =>
    some ((), σ4)

set_option maxHeartbeats 4000000 in
theorem s_J8_init {X : zX} (hX : zOk X RJ8 cJ8_init 2 1 40 (Option.none : Option Jvm.ClassFile.FieldType) "<init>" []) {o : Nat} {p1 : Int32} {σ : zS} {Rt : Unit × zS} (h : f_J8_init o p1 σ = some Rt) : zG X (zQ X (.inl (eU Rt.1)) Rt.2) 2 0 [(0, zA (some o)), (1, zI p1)] [] σ := by
  unfold f_J8_init at h
  refine z_aload_n hX 0 rfl rfl dJ8_init_0 (z_objInit hX q693 (Nat.le_of_ble_eq_true rfl) (Nat.le_of_ble_eq_true rfl) (Nat.le_of_ble_eq_true rfl) dJ8_init_1 (z_getsI hX (C := "java/lang/String") (n := "COMPACT_STRINGS") (dsc := "Z") (v := 1) (by simp [zStI]) q694 dJ8_init_4 ?_))
  refine z_if_eq (tgt := 25) hX h dJ8_init_7 (by decide) (fun h => ?_) (fun h => ?_)
  · refine z_aload_n hX 0 rfl rfl dJ8_init_25 (z_iload_n hX 1 rfl rfl dJ8_init_26 ?_)
    cases h
  · refine z_aload_n hX 0 rfl rfl dJ8_init_10 (z_iload_n hX 1 rfl rfl dJ8_init_11 ?_)
    refine z_newB hX h dJ8_init_12 (fun a1 σ2 h => ?_)
    refine z_putR hX fp_J8_15_20 (Or.inr ⟨_, rfl⟩) (fun h => nomatch h) h dJ8_init_14 (fun σ3 h => ?_)
    refine z_aload_n hX 0 rfl rfl dJ8_init_17 (z_iconst hX (v := 0) (by decide) dJ8_init_18 ?_)
    refine z_putB hX fp_J8_22_20 (fun h => nomatch h) h dJ8_init_19 (fun σ4 h => ?_)
    refine z_goto (tgt := 38) hX dJ8_init_22 (by decide) ?_
    obtain rfl := Option.some.inj h
    exact z_vret hX dJ8_init_38

theorem c_J8_init {l : Launch} {D : va_G} {tys : zTy} (hl : l.stackTraces = false) {o : Nat} {p1 : Int32} {σ : zS} {Rt : Unit × zS} (h : f_J8_init o p1 σ = some Rt) : zM l D tys yJ8_init (ws_ yJ8_init cJ8_init 2 (Option.none : Option Jvm.ClassFile.FieldType)) 1 40 [zA (some o), zI p1] σ (.inl (eU Rt.1)) Rt.2 :=
  zM_in hl rfl (Nat.le_of_ble_eq_true rfl) (fun p e R s m args below meth c hX => z_L rfl (s_J8_init hX h))
def f_J9_init (o : Nat) (σ : zS) : Option (Unit × zS) :=
  zb2 (f_J8_init o 16 σ) fun _ σ2 =>
  some ((), σ2)

set_option maxHeartbeats 4000000 in
theorem s_J9_init {X : zX} (hX : zOk X RJ9 cJ9_init 1 2 61 (Option.none : Option Jvm.ClassFile.FieldType) "<init>" []) {o : Nat} {σ : zS} {Rt : Unit × zS} (h : f_J9_init o σ = some Rt) : zG X (zQ X (.inl (eU Rt.1)) Rt.2) 1 0 [(0, zA (some o))] [] σ := by
  unfold f_J9_init at h
  refine z_aload_n hX 0 rfl rfl dJ9_init_0 (z_bipush hX (v := 16) (by decide) dJ9_init_1 ?_)
  refine z_cNU hX (rest := []) h (fun r9 σ9 e9 => z_runI hX lk_J9_1 (c_J8_init hX.tr e9) ⟨Nat.le_of_ble_eq_true rfl, Nat.le_of_ble_eq_true rfl⟩ rfl (Nat.le_of_ble_eq_true rfl) dJ9_init_3 rfl) (fun _ σ2 h => ?_)
  obtain rfl := Option.some.inj h
  exact z_vret hX dJ9_init_6

theorem c_J9_init {l : Launch} {D : va_G} {tys : zTy} (hl : l.stackTraces = false) {o : Nat} {σ : zS} {Rt : Unit × zS} (h : f_J9_init o σ = some Rt) : zM l D tys yJ9_init (ws_ yJ9_init cJ9_init 1 (Option.none : Option Jvm.ClassFile.FieldType)) 2 61 [zA (some o)] σ (.inl (eU Rt.1)) Rt.2 :=
  zM_in hl rfl (Nat.le_of_ble_eq_true rfl) (fun p e R s m args below meth c hX => z_L rfl (s_J9_init hX h))
def f_J8_newCapacity (o : Nat) (p1 : Int32) (σ : zS) : Option (Int32 × zS) :=
  (gR σ o 20 0).bind fun r1 =>
  r1.bind fun a2 =>
  (zaln σ a2).bind fun x3 =>
  (gI σ o 20 1).bind fun x4 =>
  zl (p1 <<< (x4 &&& 31)) fun x5 =>
  zl (x5 - x3) fun x6 =>
  (gI σ o 20 1).bind fun x7 =>
  zb2 (f_J5_newLength x3 x6 (x3 + (2 <<< (x7 &&& 31))) σ) fun x8 σ9 =>
  if ¬ x8 = 2147483647 then
    (gI σ9 o 20 1).bind fun x10 =>
    some (x8 >>> (x10 &&& 31), σ9)
  else
    none

set_option maxHeartbeats 4000000 in
theorem s_J8_newCapacity {X : zX} (hX : zOk X RJ8 cJ8_newCapacity 6 2 63 (Option.some Jvm.ClassFile.FieldType.int) "newCapacity" []) {o : Nat} {p1 : Int32} {σ : zS} {Rt : Int32 × zS} (h : f_J8_newCapacity o p1 σ = some Rt) : zG X (zQ X (.inl (eI Rt.1)) Rt.2) 6 0 [(0, zA (some o)), (1, zI p1)] [] σ := by
  unfold f_J8_newCapacity at h
  refine z_aload_n hX 0 rfl rfl dJ8_newCapacity_0 ?_
  refine z_getR hX fl_J8_15_20 h dJ8_newCapacity_1 (fun r1 h => ?_)
  obtain ⟨a2, e9, k_a2⟩ := z_nn h
  subst e9
  have h := k_a2
  refine z_alen hX h dJ8_newCapacity_4 (fun x3 h => ?_)
  refine z_istore_n (L' := [(0, zA (some o)), (1, zI p1), (2, zI x3)]) hX rfl rfl (by decide) dJ8_newCapacity_5 (z_iload_n hX 1 rfl rfl dJ8_newCapacity_6 (z_aload_n hX 0 rfl rfl dJ8_newCapacity_7 ?_))
  refine z_getI hX fl_J8_22_20 h dJ8_newCapacity_8 (fun x4 h => ?_)
  refine z_ishl hX dJ8_newCapacity_11 ?_
  refine z_nmI h (fun x5 h => ?_)
  refine z_istore_n (L' := [(0, zA (some o)), (1, zI p1), (2, zI x3), (3, zI x5)]) hX rfl rfl (by decide) dJ8_newCapacity_12 (z_iload_n hX 3 rfl rfl dJ8_newCapacity_13 (z_iload_n hX 2 rfl rfl dJ8_newCapacity_14 (z_isub hX dJ8_newCapacity_15 ?_)))
  refine z_nmI h (fun x6 h => ?_)
  refine z_istore (L' := [(0, zA (some o)), (1, zI p1), (2, zI x3), (3, zI x5), (4, zI x6)]) hX rfl (by decide) dJ8_newCapacity_16 (z_iload_n hX 2 rfl rfl dJ8_newCapacity_18 (z_iload hX 4 rfl dJ8_newCapacity_19 (z_iload_n hX 2 rfl rfl dJ8_newCapacity_21 (z_iconst hX (v := 2) (by decide) dJ8_newCapacity_22 (z_aload_n hX 0 rfl rfl dJ8_newCapacity_23 ?_)))))
  refine z_getI hX fl_J8_22_20 h dJ8_newCapacity_24 (fun x7 h => ?_)
  refine z_ishl hX dJ8_newCapacity_27 (z_iadd hX dJ8_newCapacity_28 ?_)
  refine z_cNI hX (rest := []) h (fun r9 σ9 e9 => z_runS hX lk_J8_114 (c_J5_newLength hX.tr e9) ⟨Nat.le_of_ble_eq_true rfl, Nat.le_of_ble_eq_true rfl⟩ rfl (Nat.le_of_ble_eq_true rfl) dJ8_newCapacity_29 rfl) (fun x8 σ9 h => ?_)
  refine z_istore (L' := [(0, zA (some o)), (1, zI p1), (2, zI x3), (3, zI x5), (4, zI x6), (5, zI x8)]) hX rfl (by decide) dJ8_newCapacity_32 (z_iload hX 5 rfl dJ8_newCapacity_34 (z_ldc hX (v := 2147483647) q732 dJ8_newCapacity_36 ?_))
  refine z_icmp_ne (tgt := 51) hX h dJ8_newCapacity_38 (by decide) (fun h => ?_) (fun h => ?_)
  · refine z_iload hX 5 rfl dJ8_newCapacity_51 (z_aload_n hX 0 rfl rfl dJ8_newCapacity_53 ?_)
    refine z_getI hX fl_J8_22_20 h dJ8_newCapacity_54 (fun x10 h => ?_)
    refine z_ishr hX dJ8_newCapacity_57 ?_
    obtain rfl := Option.some.inj h
    exact z_iret hX dJ8_newCapacity_58
  · cases h

theorem c_J8_newCapacity {l : Launch} {D : va_G} {tys : zTy} (hl : l.stackTraces = false) {o : Nat} {p1 : Int32} {σ : zS} {Rt : Int32 × zS} (h : f_J8_newCapacity o p1 σ = some Rt) : zM l D tys yJ8_newCapacity (ws_ yJ8_newCapacity cJ8_newCapacity 6 (Option.some Jvm.ClassFile.FieldType.int)) 2 63 [zA (some o), zI p1] σ (.inl (eI Rt.1)) Rt.2 :=
  zM_in hl rfl (Nat.le_of_ble_eq_true rfl) (fun p e R s m args below meth c hX => z_L rfl (s_J8_newCapacity hX h))
def f_J7_copyOf_3 (p1 : Option Nat) (p2 : Int32) (σ : zS) : Option ((Option Nat) × zS) :=
  p1.bind fun a1 =>
  (zaln σ a1).bind fun x2 =>
  if ¬ p2 = x2 then
    zb2 (znewB σ p2) fun a3 σ4 =>
    (zaln σ4 a1).bind fun x5 =>
    (zcpy σ4 a1 0 a3 0 (zmin x5 p2)).bind fun σ6 =>
    some ((some a3), σ6)
  else
    zb2 (zcloB σ a1) fun a7 σ8 =>
    zif (zckA σ8 (some a7) 1 = true) <|
    some ((some a7), σ8)

set_option maxHeartbeats 4000000 in
theorem s_J7_copyOf_3 {X : zX} (hX : zOk X RJ7 cJ7_copyOf_3 3 1 40 (Option.some (Jvm.ClassFile.FieldType.array Jvm.ClassFile.FieldType.byte)) "copyOf" []) {p1 : Option Nat} {p2 : Int32} {σ : zS} {Rt : (Option Nat) × zS} (h : f_J7_copyOf_3 p1 p2 σ = some Rt) : zG X (zQ X (.inl (eA Rt.1)) Rt.2) 3 0 [(0, zA p1), (1, zI p2)] [] σ := by
  unfold f_J7_copyOf_3 at h
  refine z_iload_n hX 1 rfl rfl dJ7_copyOf_3_0 (z_aload_n hX 0 rfl rfl dJ7_copyOf_3_1 ?_)
  obtain ⟨a1, e9, k_a1⟩ := z_nn h
  subst e9
  have h := k_a1
  refine z_alen hX h dJ7_copyOf_3_2 (fun x2 h => ?_)
  refine z_icmp_ne (tgt := 14) hX h dJ7_copyOf_3_3 (by decide) (fun h => ?_) (fun h => ?_)
  · refine z_iload_n hX 1 rfl rfl dJ7_copyOf_3_14 ?_
    refine z_newB hX h dJ7_copyOf_3_15 (fun a3 σ4 h => ?_)
    refine z_astore_n (L' := [(0, zA (some a1)), (1, zI p2), (2, zA (some a3))]) hX rfl rfl (by decide) dJ7_copyOf_3_17 (z_aload_n hX 0 rfl rfl dJ7_copyOf_3_18 (z_iconst hX (v := 0) (by decide) dJ7_copyOf_3_19 (z_aload_n hX 2 rfl rfl dJ7_copyOf_3_20 (z_iconst hX (v := 0) (by decide) dJ7_copyOf_3_21 (z_aload_n hX 0 rfl rfl dJ7_copyOf_3_22 ?_)))))
    refine z_alen hX h dJ7_copyOf_3_23 (fun x5 h => ?_)
    refine z_iload_n hX 1 rfl rfl dJ7_copyOf_3_24 (z_mmin hX q533 (Nat.le_of_ble_eq_true rfl) (Nat.le_of_ble_eq_true rfl) (Nat.le_of_ble_eq_true rfl) dJ7_copyOf_3_25 ?_)
    refine z_cpy hX zto q536 (Nat.le_of_ble_eq_true rfl) (Nat.le_of_ble_eq_true rfl) (Nat.le_of_ble_eq_true rfl) h dJ7_copyOf_3_28 (fun σ6 h => ?_)
    refine z_aload_n hX 2 rfl rfl dJ7_copyOf_3_31 ?_
    obtain rfl := Option.some.inj h
    exact z_aret hX (Or.inr ⟨_, rfl⟩) dJ7_copyOf_3_32
  · refine z_aload_n hX 0 rfl rfl dJ7_copyOf_3_6 ?_
    refine z_cloneB hX q736 (Nat.le_of_ble_eq_true rfl) (Nat.le_of_ble_eq_true rfl) (Nat.le_of_ble_eq_true rfl) h dJ7_copyOf_3_7 (fun a7 σ8 h => ?_)
    refine z_castA hX (t := 1) rfl (by decide) q742 h dJ7_copyOf_3_10 (fun h => ?_)
    obtain rfl := Option.some.inj h
    exact z_aret hX (Or.inr ⟨_, rfl⟩) dJ7_copyOf_3_13

theorem c_J7_copyOf_3 {l : Launch} {D : va_G} {tys : zTy} (hl : l.stackTraces = false) {p1 : Option Nat} {p2 : Int32} {σ : zS} {Rt : (Option Nat) × zS} (h : f_J7_copyOf_3 p1 p2 σ = some Rt) : zM l D tys yJ7_copyOf_3 (ws_ yJ7_copyOf_3 cJ7_copyOf_3 3 (Option.some (Jvm.ClassFile.FieldType.array Jvm.ClassFile.FieldType.byte))) 1 40 [zA p1, zI p2] σ (.inl (eA Rt.1)) Rt.2 :=
  zM_in hl rfl (Nat.le_of_ble_eq_true rfl) (fun p e R s m args below meth c hX => z_L rfl (s_J7_copyOf_3 hX h))
def f_J8_ensureCapacityInternal (o : Nat) (p1 : Int32) (σ : zS) : Option (Unit × zS) :=
  (gR σ o 20 0).bind fun r1 =>
  r1.bind fun a2 =>
  (zaln σ a2).bind fun x3 =>
  (gI σ o 20 1).bind fun x4 =>
  zl (x3 >>> (x4 &&& 31)) fun x5 =>
  if (p1 - x5) ≤ 0 then
    some ((), σ)
  else
    (gR σ o 20 0).bind fun r6 =>
    zif (zcl σ o = 20) <|
    zb2 (f_J8_newCapacity o p1 σ) fun x8 σ9 =>
    (gI σ9 o 20 1).bind fun x10 =>
    zb2 (f_J7_copyOf_3 r6 (x8 <<< (x10 &&& 31)) σ9) fun r11 σ12 =>
    (pR σ12 o 20 0 r11).bind fun σ13 =>
    some ((), σ13)

set_option maxHeartbeats 4000000 in
theorem s_J8_ensureCapacityInternal {X : zX} (hX : zOk X RJ8 cJ8_ensureCapacityInternal 3 3 88 (Option.none : Option Jvm.ClassFile.FieldType) "ensureCapacityInternal" []) {o : Nat} {p1 : Int32} {σ : zS} {Rt : Unit × zS} (h : f_J8_ensureCapacityInternal o p1 σ = some Rt) : zG X (zQ X (.inl (eU Rt.1)) Rt.2) 3 0 [(0, zA (some o)), (1, zI p1)] [] σ := by
  unfold f_J8_ensureCapacityInternal at h
  refine z_aload_n hX 0 rfl rfl dJ8_ensureCapacityInternal_0 ?_
  refine z_getR hX fl_J8_15_20 h dJ8_ensureCapacityInternal_1 (fun r1 h => ?_)
  obtain ⟨a2, e9, k_a2⟩ := z_nn h
  subst e9
  have h := k_a2
  refine z_alen hX h dJ8_ensureCapacityInternal_4 (fun x3 h => ?_)
  refine z_aload_n hX 0 rfl rfl dJ8_ensureCapacityInternal_5 ?_
  refine z_getI hX fl_J8_22_20 h dJ8_ensureCapacityInternal_6 (fun x4 h => ?_)
  refine z_ishr hX dJ8_ensureCapacityInternal_9 ?_
  refine z_nmI h (fun x5 h => ?_)
  refine z_istore_n (L' := [(0, zA (some o)), (1, zI p1), (2, zI x5)]) hX rfl rfl (by decide) dJ8_ensureCapacityInternal_10 (z_iload_n hX 1 rfl rfl dJ8_ensureCapacityInternal_11 (z_iload_n hX 2 rfl rfl dJ8_ensureCapacityInternal_12 (z_isub hX dJ8_ensureCapacityInternal_13 ?_)))
  refine z_if_le (tgt := 38) hX h dJ8_ensureCapacityInternal_14 (by decide) (fun h => ?_) (fun h => ?_)
  · obtain rfl := Option.some.inj h
    exact z_vret hX dJ8_ensureCapacityInternal_38
  · refine z_aload_n hX 0 rfl rfl dJ8_ensureCapacityInternal_17 (z_aload_n hX 0 rfl rfl dJ8_ensureCapacityInternal_18 ?_)
    refine z_getR hX fl_J8_15_20 h dJ8_ensureCapacityInternal_19 (fun r6 h => ?_)
    refine z_aload_n hX 0 rfl rfl dJ8_ensureCapacityInternal_22 (z_iload_n hX 1 rfl rfl dJ8_ensureCapacityInternal_23 ?_)
    obtain ⟨c7, h⟩ := z_ck h
    refine z_cNI hX (rest := [zA r6, zA (some o)]) h (fun r9 σ9 e9 => z_runG hX lk_J8_104 (c_J8_newCapacity hX.tr e9) (ci := 20) zc9_20 c7 ⟨Nat.le_of_ble_eq_true rfl, Nat.le_of_ble_eq_true rfl⟩ rfl (Nat.le_of_ble_eq_true rfl) dJ8_ensureCapacityInternal_24 rfl) (fun x8 σ9 h => ?_)
    refine z_aload_n hX 0 rfl rfl dJ8_ensureCapacityInternal_27 ?_
    refine z_getI hX fl_J8_22_20 h dJ8_ensureCapacityInternal_28 (fun x10 h => ?_)
    refine z_ishl hX dJ8_ensureCapacityInternal_31 ?_
    refine z_cNA hX (rest := [zA (some o)]) h (fun r9 σ9 e9 => z_runS hX lk_J8_108 (c_J7_copyOf_3 hX.tr e9) ⟨Nat.le_of_ble_eq_true rfl, Nat.le_of_ble_eq_true rfl⟩ rfl (Nat.le_of_ble_eq_true rfl) dJ8_ensureCapacityInternal_32 rfl) (fun r11 σ12 h => ?_)
    refine z_putR hX fp_J8_15_20 (Or.inr ⟨_, rfl⟩) (fun h => nomatch h) h dJ8_ensureCapacityInternal_35 (fun σ13 h => ?_)
    obtain rfl := Option.some.inj h
    exact z_vret hX dJ8_ensureCapacityInternal_38

theorem c_J8_ensureCapacityInternal {l : Launch} {D : va_G} {tys : zTy} (hl : l.stackTraces = false) {o : Nat} {p1 : Int32} {σ : zS} {Rt : Unit × zS} (h : f_J8_ensureCapacityInternal o p1 σ = some Rt) : zM l D tys yJ8_ensureCapacityInternal (ws_ yJ8_ensureCapacityInternal cJ8_ensureCapacityInternal 3 (Option.none : Option Jvm.ClassFile.FieldType)) 3 88 [zA (some o), zI p1] σ (.inl (eU Rt.1)) Rt.2 :=
  zM_in hl rfl (Nat.le_of_ble_eq_true rfl) (fun p e R s m args below meth c hX => z_L rfl (s_J8_ensureCapacityInternal hX h))
def f_J8_isLatin1 (o : Nat) (σ : zS) : Option (Int32 × zS) :=
  if (1 : Int32) = 0 then
    some ((0 : Int32), σ)
  else
    (gI σ o 20 1).bind fun x1 =>
    if ¬ x1 = 0 then
      some ((0 : Int32), σ)
    else
      some ((1 : Int32), σ)

set_option maxHeartbeats 4000000 in
theorem s_J8_isLatin1 {X : zX} (hX : zOk X RJ8 cJ8_isLatin1 1 1 40 (Option.some Jvm.ClassFile.FieldType.boolean) "isLatin1" []) {o : Nat} {σ : zS} {Rt : Int32 × zS} (h : f_J8_isLatin1 o σ = some Rt) : zG X (zQ X (.inl (eI Rt.1)) Rt.2) 1 0 [(0, zA (some o))] [] σ := by
  unfold f_J8_isLatin1 at h
  refine z_getsI hX (C := "java/lang/String") (n := "COMPACT_STRINGS") (dsc := "Z") (v := 1) (by simp [zStI]) q694 dJ8_isLatin1_0 ?_
  refine z_if_eq (tgt := 17) hX h dJ8_isLatin1_3 (by decide) (fun h => ?_) (fun h => ?_)
  · refine z_iconst hX (v := 0) (by decide) dJ8_isLatin1_17 ?_
    obtain rfl := Option.some.inj h
    exact z_zretT (r := 0) hX (by decide) dJ8_isLatin1_18
  · refine z_aload_n hX 0 rfl rfl dJ8_isLatin1_6 ?_
    refine z_getI hX fl_J8_22_20 h dJ8_isLatin1_7 (fun x1 h => ?_)
    refine z_if_ne (tgt := 17) hX h dJ8_isLatin1_10 (by decide) (fun h => ?_) (fun h => ?_)
    · refine z_iconst hX (v := 0) (by decide) dJ8_isLatin1_17 ?_
      obtain rfl := Option.some.inj h
      exact z_zretT (r := 0) hX (by decide) dJ8_isLatin1_18
    · refine z_iconst hX (v := 1) (by decide) dJ8_isLatin1_13 (z_goto (tgt := 18) hX dJ8_isLatin1_14 (by decide) ?_)
      obtain rfl := Option.some.inj h
      exact z_zretT (r := 1) hX (by decide) dJ8_isLatin1_18

theorem c_J8_isLatin1 {l : Launch} {D : va_G} {tys : zTy} (hl : l.stackTraces = false) {o : Nat} {σ : zS} {Rt : Int32 × zS} (h : f_J8_isLatin1 o σ = some Rt) : zM l D tys yJ8_isLatin1 (ws_ yJ8_isLatin1 cJ8_isLatin1 1 (Option.some Jvm.ClassFile.FieldType.boolean)) 1 40 [zA (some o)] σ (.inl (eI Rt.1)) Rt.2 :=
  zM_in hl rfl (Nat.le_of_ble_eq_true rfl) (fun p e R s m args below meth c hX => z_L rfl (s_J8_isLatin1 hX h))
def f_J12_canEncode (p1 : Int32) (σ : zS) : Option (Int32 × zS) :=
  if 255 < p1 then
    some ((0 : Int32), σ)
  else
    some ((1 : Int32), σ)

set_option maxHeartbeats 4000000 in
theorem s_J12_canEncode {X : zX} (hX : zOk X RJ12 cJ12_canEncode 1 1 40 (Option.some Jvm.ClassFile.FieldType.boolean) "canEncode" []) {p1 : Int32} {σ : zS} {Rt : Int32 × zS} (h : f_J12_canEncode p1 σ = some Rt) : zG X (zQ X (.inl (eI Rt.1)) Rt.2) 1 0 [(0, zI p1)] [] σ := by
  unfold f_J12_canEncode at h
  refine z_iload_n hX 0 rfl rfl dJ12_canEncode_0 (z_sipush hX (v := 255) (by decide) dJ12_canEncode_1 ?_)
  refine z_icmp_gt (tgt := 11) hX h dJ12_canEncode_4 (by decide) (fun h => ?_) (fun h => ?_)
  · refine z_iconst hX (v := 0) (by decide) dJ12_canEncode_11 ?_
    obtain rfl := Option.some.inj h
    exact z_zretT (r := 0) hX (by decide) dJ12_canEncode_12
  · refine z_iconst hX (v := 1) (by decide) dJ12_canEncode_7 (z_goto (tgt := 12) hX dJ12_canEncode_8 (by decide) ?_)
    obtain rfl := Option.some.inj h
    exact z_zretT (r := 1) hX (by decide) dJ12_canEncode_12

theorem c_J12_canEncode {l : Launch} {D : va_G} {tys : zTy} (hl : l.stackTraces = false) {p1 : Int32} {σ : zS} {Rt : Int32 × zS} (h : f_J12_canEncode p1 σ = some Rt) : zM l D tys yJ12_canEncode (ws_ yJ12_canEncode cJ12_canEncode 1 (Option.some Jvm.ClassFile.FieldType.boolean)) 1 40 [zI p1] σ (.inl (eI Rt.1)) Rt.2 :=
  zM_in hl rfl (Nat.le_of_ble_eq_true rfl) (fun p e R s m args below meth c hX => z_L rfl (s_J12_canEncode hX h))
def f_J8_append_45 (o : Nat) (v1 : Int32) (σ : zS) : Option ((Option Nat) × zS) :=
  zif (zcl σ o = 20) <|
  zb2 (f_J8_isLatin1 o σ) fun x9 σ10 =>
  if x9 = 0 then
    (gR σ10 o 20 0).bind fun r11 =>
    (gI σ10 o 20 3).bind fun x12 =>
    (pI σ10 o 20 3 (x12 + 1)).bind fun σ13 =>
    none
  else
    none

set_option maxHeartbeats 4000000 in
theorem s_J8_append_45 {X : zX} (hX : zOk X RJ8 cJ8_append 2 4 110 (Option.some (Jvm.ClassFile.FieldType.object "java/lang/AbstractStringBuilder")) "append" []) {o : Nat} {Rt : (Option Nat) × zS} {v1 : Int32} {σ : zS} (h : f_J8_append_45 o v1 σ = some Rt) : zG X (zQ X (.inl (eA Rt.1)) Rt.2) 2 45 [(0, zA (some o)), (1, zI v1)] [] σ := by
  unfold f_J8_append_45 at h
  refine z_aload_n hX 0 rfl rfl dJ8_append_45 ?_
  obtain ⟨c8, h⟩ := z_ck h
  refine z_cNI hX (rest := []) h (fun r9 σ9 e9 => z_runG hX lk_J8_83 (c_J8_isLatin1 hX.tr e9) (ci := 20) zc9_20 c8 ⟨Nat.le_of_ble_eq_true rfl, Nat.le_of_ble_eq_true rfl⟩ rfl (Nat.le_of_ble_eq_true rfl) dJ8_append_46 rfl) (fun x9 σ10 h => ?_)
  refine z_if_eq (tgt := 56) hX h dJ8_append_49 (by decide) (fun h => ?_) (fun h => ?_)
  · refine z_aload_n hX 0 rfl rfl dJ8_append_56 ?_
    refine z_getR hX fl_J8_15_20 h dJ8_append_57 (fun r11 h => ?_)
    refine z_aload_n hX 0 rfl rfl dJ8_append_60 (z_dup hX rfl dJ8_append_61 ?_)
    refine z_getI hX fl_J8_79_20 h dJ8_append_62 (fun x12 h => ?_)
    refine z_dup_x1 hX rfl rfl dJ8_append_65 (z_iconst hX (v := 1) (by decide) dJ8_append_66 (z_iadd hX dJ8_append_67 ?_))
    refine z_putI hX fp_J8_79_20 (fun h => nomatch h) h dJ8_append_68 (fun σ13 h => ?_)
    refine z_iload_n hX 1 rfl rfl dJ8_append_71 ?_
    cases h
  · refine z_aload_n hX 0 rfl rfl dJ8_append_52 ?_
    cases h

def f_J8_append (o : Nat) (p1 : Int32) (σ : zS) : Option ((Option Nat) × zS) :=
  (gI σ o 20 3).bind fun x1 =>
  zif (zcl σ o = 20) <|
  zb2 (f_J8_ensureCapacityInternal o (x1 + 1) σ) fun _ σ4 =>
  zif (zcl σ4 o = 20) <|
  zb2 (f_J8_isLatin1 o σ4) fun x6 σ7 =>
  if x6 = 0 then
    f_J8_append_45 o p1 σ7
  else
    zb2 (f_J12_canEncode p1 σ7) fun x14 σ15 =>
    if x14 = 0 then
      f_J8_append_45 o p1 σ15
    else
      (gR σ15 o 20 0).bind fun r16 =>
      (gI σ15 o 20 3).bind fun x17 =>
      (pI σ15 o 20 3 (x17 + 1)).bind fun σ18 =>
      r16.bind fun a19 =>
      (sB σ18 a19 x17 p1.toInt8.toInt32).bind fun σ20 =>
      some ((some o), σ20)

set_option maxHeartbeats 4000000 in
theorem s_J8_append {X : zX} (hX : zOk X RJ8 cJ8_append 2 4 110 (Option.some (Jvm.ClassFile.FieldType.object "java/lang/AbstractStringBuilder")) "append" []) {o : Nat} {p1 : Int32} {σ : zS} {Rt : (Option Nat) × zS} (h : f_J8_append o p1 σ = some Rt) : zG X (zQ X (.inl (eA Rt.1)) Rt.2) 2 0 [(0, zA (some o)), (1, zI p1)] [] σ := by
  unfold f_J8_append at h
  refine z_aload_n hX 0 rfl rfl dJ8_append_0 (z_aload_n hX 0 rfl rfl dJ8_append_1 ?_)
  refine z_getI hX fl_J8_79_20 h dJ8_append_2 (fun x1 h => ?_)
  refine z_iconst hX (v := 1) (by decide) dJ8_append_5 (z_iadd hX dJ8_append_6 ?_)
  obtain ⟨c2, h⟩ := z_ck h
  refine z_cNU hX (rest := []) h (fun r9 σ9 e9 => z_runG hX lk_J8_100 (c_J8_ensureCapacityInternal hX.tr e9) (ci := 20) zc9_20 c2 ⟨Nat.le_of_ble_eq_true rfl, Nat.le_of_ble_eq_true rfl⟩ rfl (Nat.le_of_ble_eq_true rfl) dJ8_append_7 rfl) (fun _ σ4 h => ?_)
  refine z_aload_n hX 0 rfl rfl dJ8_append_10 ?_
  obtain ⟨c5, h⟩ := z_ck h
  refine z_cNI hX (rest := []) h (fun r9 σ9 e9 => z_runG hX lk_J8_83 (c_J8_isLatin1 hX.tr e9) (ci := 20) zc9_20 c5 ⟨Nat.le_of_ble_eq_true rfl, Nat.le_of_ble_eq_true rfl⟩ rfl (Nat.le_of_ble_eq_true rfl) dJ8_append_11 rfl) (fun x6 σ7 h => ?_)
  refine z_if_eq (tgt := 45) hX h dJ8_append_14 (by decide) (fun h => ?_) (fun h => ?_)
  · exact z_sub [0, 1] rfl (s_J8_append_45 (o := o) hX  h)
  · refine z_iload_n hX 1 rfl rfl dJ8_append_17 ?_
    refine z_cNI hX (rest := []) h (fun r9 σ9 e9 => z_runS hX lk_J8_191 (c_J12_canEncode hX.tr e9) ⟨Nat.le_of_ble_eq_true rfl, Nat.le_of_ble_eq_true rfl⟩ rfl (Nat.le_of_ble_eq_true rfl) dJ8_append_18 rfl) (fun x14 σ15 h => ?_)
    refine z_if_eq (tgt := 45) hX h dJ8_append_21 (by decide) (fun h => ?_) (fun h => ?_)
    · exact z_sub [0, 1] rfl (s_J8_append_45 (o := o) hX  h)
    · refine z_aload_n hX 0 rfl rfl dJ8_append_24 ?_
      refine z_getR hX fl_J8_15_20 h dJ8_append_25 (fun r16 h => ?_)
      refine z_aload_n hX 0 rfl rfl dJ8_append_28 (z_dup hX rfl dJ8_append_29 ?_)
      refine z_getI hX fl_J8_79_20 h dJ8_append_30 (fun x17 h => ?_)
      refine z_dup_x1 hX rfl rfl dJ8_append_33 (z_iconst hX (v := 1) (by decide) dJ8_append_34 (z_iadd hX dJ8_append_35 ?_))
      refine z_putI hX fp_J8_79_20 (fun h => nomatch h) h dJ8_append_36 (fun σ18 h => ?_)
      refine z_iload_n hX 1 rfl rfl dJ8_append_39 (z_i2b hX dJ8_append_40 ?_)
      obtain ⟨a19, e9, k_a19⟩ := z_nn h
      subst e9
      have h := k_a19
      refine z_bast hX h dJ8_append_41 (fun σ20 h => ?_)
      refine z_goto (tgt := 75) hX dJ8_append_42 (by decide) (z_aload_n hX 0 rfl rfl dJ8_append_75 ?_)
      obtain rfl := Option.some.inj h
      exact z_aret hX (Or.inl ⟨_, rfl⟩) dJ8_append_76

theorem c_J8_append {l : Launch} {D : va_G} {tys : zTy} (hl : l.stackTraces = false) {o : Nat} {p1 : Int32} {σ : zS} {Rt : (Option Nat) × zS} (h : f_J8_append o p1 σ = some Rt) : zM l D tys yJ8_append (ws_ yJ8_append cJ8_append 2 (Option.some (Jvm.ClassFile.FieldType.object "java/lang/AbstractStringBuilder"))) 4 110 [zA (some o), zI p1] σ (.inl (eA Rt.1)) Rt.2 :=
  zM_in hl rfl (Nat.le_of_ble_eq_true rfl) (fun p e R s m args below meth c hX => z_L rfl (s_J8_append hX h))
def f_J9_append (o : Nat) (p1 : Int32) (σ : zS) : Option ((Option Nat) × zS) :=
  zif (zcl σ o = 20) <|
  zb2 (f_J8_append o p1 σ) fun r2 σ3 =>
  some ((some o), σ3)

set_option maxHeartbeats 4000000 in
theorem s_J9_append {X : zX} (hX : zOk X RJ9 cJ9_append 2 5 131 (Option.some (Jvm.ClassFile.FieldType.object "java/lang/StringBuilder")) "append" []) {o : Nat} {p1 : Int32} {σ : zS} {Rt : (Option Nat) × zS} (h : f_J9_append o p1 σ = some Rt) : zG X (zQ X (.inl (eA Rt.1)) Rt.2) 2 0 [(0, zA (some o)), (1, zI p1)] [] σ := by
  unfold f_J9_append at h
  refine z_aload_n hX 0 rfl rfl dJ9_append_0 (z_iload_n hX 1 rfl rfl dJ9_append_1 ?_)
  obtain ⟨c1, h⟩ := z_ck h
  refine z_cNA hX (rest := []) h (fun r9 σ9 e9 => z_runSU hX lk_J9_50 (c_J8_append hX.tr e9) (ci := 20) rfl c1 ⟨Nat.le_of_ble_eq_true rfl, Nat.le_of_ble_eq_true rfl⟩ rfl (Nat.le_of_ble_eq_true rfl) dJ9_append_2 rfl) (fun r2 σ3 h => ?_)
  refine z_pop hX rfl dJ9_append_5 (z_aload_n hX 0 rfl rfl dJ9_append_6 ?_)
  obtain rfl := Option.some.inj h
  exact z_aret hX (Or.inl ⟨_, rfl⟩) dJ9_append_7

theorem c_J9_append {l : Launch} {D : va_G} {tys : zTy} (hl : l.stackTraces = false) {o : Nat} {p1 : Int32} {σ : zS} {Rt : (Option Nat) × zS} (h : f_J9_append o p1 σ = some Rt) : zM l D tys yJ9_append (ws_ yJ9_append cJ9_append 2 (Option.some (Jvm.ClassFile.FieldType.object "java/lang/StringBuilder"))) 5 131 [zA (some o), zI p1] σ (.inl (eA Rt.1)) Rt.2 :=
  zM_in hl rfl (Nat.le_of_ble_eq_true rfl) (fun p e R s m args below meth c hX => z_L rfl (s_J9_append hX h))
def f_J8_getValue (o : Nat) (σ : zS) : Option ((Option Nat) × zS) :=
  (gR σ o 20 0).bind fun r1 =>
  some (r1, σ)

set_option maxHeartbeats 4000000 in
theorem s_J8_getValue {X : zX} (hX : zOk X RJ8 cJ8_getValue 1 1 40 (Option.some (Jvm.ClassFile.FieldType.array Jvm.ClassFile.FieldType.byte)) "getValue" []) {o : Nat} {σ : zS} {Rt : (Option Nat) × zS} (h : f_J8_getValue o σ = some Rt) : zG X (zQ X (.inl (eA Rt.1)) Rt.2) 1 0 [(0, zA (some o))] [] σ := by
  unfold f_J8_getValue at h
  refine z_aload_n hX 0 rfl rfl dJ8_getValue_0 ?_
  refine z_getR hX fl_J8_15_20 h dJ8_getValue_1 (fun r1 h => ?_)
  obtain rfl := Option.some.inj h
  exact z_aret hX (Or.inr ⟨_, rfl⟩) dJ8_getValue_4

theorem c_J8_getValue {l : Launch} {D : va_G} {tys : zTy} (hl : l.stackTraces = false) {o : Nat} {σ : zS} {Rt : (Option Nat) × zS} (h : f_J8_getValue o σ = some Rt) : zM l D tys yJ8_getValue (ws_ yJ8_getValue cJ8_getValue 1 (Option.some (Jvm.ClassFile.FieldType.array Jvm.ClassFile.FieldType.byte))) 1 40 [zA (some o)] σ (.inl (eA Rt.1)) Rt.2 :=
  zM_in hl rfl (Nat.le_of_ble_eq_true rfl) (fun p e R s m args below meth c hX => z_L rfl (s_J8_getValue hX h))
def f_J8_length (o : Nat) (σ : zS) : Option (Int32 × zS) :=
  (gI σ o 20 3).bind fun x1 =>
  some (x1, σ)

set_option maxHeartbeats 4000000 in
theorem s_J8_length {X : zX} (hX : zOk X RJ8 cJ8_length 1 1 40 (Option.some Jvm.ClassFile.FieldType.int) "length" []) {o : Nat} {σ : zS} {Rt : Int32 × zS} (h : f_J8_length o σ = some Rt) : zG X (zQ X (.inl (eI Rt.1)) Rt.2) 1 0 [(0, zA (some o))] [] σ := by
  unfold f_J8_length at h
  refine z_aload_n hX 0 rfl rfl dJ8_length_0 ?_
  refine z_getI hX fl_J8_79_20 h dJ8_length_1 (fun x1 h => ?_)
  obtain rfl := Option.some.inj h
  exact z_iret hX dJ8_length_4

theorem c_J8_length {l : Launch} {D : va_G} {tys : zTy} (hl : l.stackTraces = false) {o : Nat} {σ : zS} {Rt : Int32 × zS} (h : f_J8_length o σ = some Rt) : zM l D tys yJ8_length (ws_ yJ8_length cJ8_length 1 (Option.some Jvm.ClassFile.FieldType.int)) 1 40 [zA (some o)] σ (.inl (eI Rt.1)) Rt.2 :=
  zM_in hl rfl (Nat.le_of_ble_eq_true rfl) (fun p e R s m args below meth c hX => z_L rfl (s_J8_length hX h))
def f_J9_length (o : Nat) (σ : zS) : Option (Int32 × zS) :=
  zif (zcl σ o = 20) <|
  zb2 (f_J8_length o σ) fun x2 σ3 =>
  some (x2, σ3)

set_option maxHeartbeats 4000000 in
theorem s_J9_length {X : zX} (hX : zOk X RJ9 cJ9_length 1 2 60 (Option.some Jvm.ClassFile.FieldType.int) "length" []) {o : Nat} {σ : zS} {Rt : Int32 × zS} (h : f_J9_length o σ = some Rt) : zG X (zQ X (.inl (eI Rt.1)) Rt.2) 1 0 [(0, zA (some o))] [] σ := by
  unfold f_J9_length at h
  refine z_aload_n hX 0 rfl rfl dJ9_length_0 ?_
  obtain ⟨c1, h⟩ := z_ck h
  refine z_cNI hX (rest := []) h (fun r9 σ9 e9 => z_runSU hX lk_J9_343 (c_J8_length hX.tr e9) (ci := 20) rfl c1 ⟨Nat.le_of_ble_eq_true rfl, Nat.le_of_ble_eq_true rfl⟩ rfl (Nat.le_of_ble_eq_true rfl) dJ9_length_1 rfl) (fun x2 σ3 h => ?_)
  obtain rfl := Option.some.inj h
  exact z_iret hX dJ9_length_4

theorem c_J9_length {l : Launch} {D : va_G} {tys : zTy} (hl : l.stackTraces = false) {o : Nat} {σ : zS} {Rt : Int32 × zS} (h : f_J9_length o σ = some Rt) : zM l D tys yJ9_length (ws_ yJ9_length cJ9_length 1 (Option.some Jvm.ClassFile.FieldType.int)) 2 60 [zA (some o)] σ (.inl (eI Rt.1)) Rt.2 :=
  zM_in hl rfl (Nat.le_of_ble_eq_true rfl) (fun p e R s m args below meth c hX => z_L rfl (s_J9_length hX h))
def f_J7_checkLength (p1 : Int32) (p2 : Int32) (σ : zS) : Option (Unit × zS) :=
  if p1 ≤ p2 then
    some ((), σ)
  else
    none

set_option maxHeartbeats 4000000 in
theorem s_J7_checkLength {X : zX} (hX : zOk X RJ7 cJ7_checkLength 2 7 110 (Option.none : Option Jvm.ClassFile.FieldType) "checkLength" []) {p1 : Int32} {p2 : Int32} {σ : zS} {Rt : Unit × zS} (h : f_J7_checkLength p1 p2 σ = some Rt) : zG X (zQ X (.inl (eU Rt.1)) Rt.2) 2 0 [(0, zI p1), (1, zI p2)] [] σ := by
  unfold f_J7_checkLength at h
  refine z_iload_n hX 1 rfl rfl dJ7_checkLength_0 (z_iload_n hX 0 rfl rfl dJ7_checkLength_1 ?_)
  refine z_icmp_ge (tgt := 37) hX h dJ7_checkLength_2 (by decide) (fun h => ?_) (fun h => ?_)
  · obtain rfl := Option.some.inj h
    exact z_vret hX dJ7_checkLength_37
  · cases h

theorem c_J7_checkLength {l : Launch} {D : va_G} {tys : zTy} (hl : l.stackTraces = false) {p1 : Int32} {p2 : Int32} {σ : zS} {Rt : Unit × zS} (h : f_J7_checkLength p1 p2 σ = some Rt) : zM l D tys yJ7_checkLength (ws_ yJ7_checkLength cJ7_checkLength 2 (Option.none : Option Jvm.ClassFile.FieldType)) 7 110 [zI p1, zI p2] σ (.inl (eU Rt.1)) Rt.2 :=
  zM_in hl rfl (Nat.le_of_ble_eq_true rfl) (fun p e R s m args below meth c hX => z_L rfl (s_J7_checkLength hX h))
def f_J7_copyOfRangeByte (p1 : Option Nat) (p2 : Int32) (p3 : Int32) (σ : zS) : Option ((Option Nat) × zS) :=
  zb2 (f_J7_checkLength p2 p3 σ) fun _ σ2 =>
  zl (p3 - p2) fun x3 =>
  zb2 (znewB σ2 x3) fun a4 σ5 =>
  p1.bind fun a6 =>
  (zaln σ5 a6).bind fun x7 =>
  (zcpy σ5 a6 p2 a4 0 (zmin (x7 - p2) x3)).bind fun σ8 =>
  some ((some a4), σ8)

set_option maxHeartbeats 4000000 in
theorem s_J7_copyOfRangeByte {X : zX} (hX : zOk X RJ7 cJ7_copyOfRangeByte 5 8 131 (Option.some (Jvm.ClassFile.FieldType.array Jvm.ClassFile.FieldType.byte)) "copyOfRangeByte" []) {p1 : Option Nat} {p2 : Int32} {p3 : Int32} {σ : zS} {Rt : (Option Nat) × zS} (h : f_J7_copyOfRangeByte p1 p2 p3 σ = some Rt) : zG X (zQ X (.inl (eA Rt.1)) Rt.2) 5 0 [(0, zA p1), (1, zI p2), (2, zI p3)] [] σ := by
  unfold f_J7_copyOfRangeByte at h
  refine z_iload_n hX 1 rfl rfl dJ7_copyOfRangeByte_0 (z_iload_n hX 2 rfl rfl dJ7_copyOfRangeByte_1 ?_)
  refine z_cNU hX (rest := []) h (fun r9 σ9 e9 => z_runS hX lk_J7_343 (c_J7_checkLength hX.tr e9) ⟨Nat.le_of_ble_eq_true rfl, Nat.le_of_ble_eq_true rfl⟩ rfl (Nat.le_of_ble_eq_true rfl) dJ7_copyOfRangeByte_2 rfl) (fun _ σ2 h => ?_)
  refine z_iload_n hX 2 rfl rfl dJ7_copyOfRangeByte_5 (z_iload_n hX 1 rfl rfl dJ7_copyOfRangeByte_6 (z_isub hX dJ7_copyOfRangeByte_7 ?_))
  refine z_nmI h (fun x3 h => ?_)
  refine z_istore_n (L' := [(0, zA p1), (1, zI p2), (2, zI p3), (3, zI x3)]) hX rfl rfl (by decide) dJ7_copyOfRangeByte_8 (z_iload_n hX 3 rfl rfl dJ7_copyOfRangeByte_9 ?_)
  refine z_newB hX h dJ7_copyOfRangeByte_10 (fun a4 σ5 h => ?_)
  refine z_astore (L' := [(0, zA p1), (1, zI p2), (2, zI p3), (3, zI x3), (4, zA (some a4))]) hX rfl (by decide) dJ7_copyOfRangeByte_12 (z_aload_n hX 0 rfl rfl dJ7_copyOfRangeByte_14 (z_iload_n hX 1 rfl rfl dJ7_copyOfRangeByte_15 (z_aload hX 4 rfl dJ7_copyOfRangeByte_16 (z_iconst hX (v := 0) (by decide) dJ7_copyOfRangeByte_18 (z_aload_n hX 0 rfl rfl dJ7_copyOfRangeByte_19 ?_)))))
  obtain ⟨a6, e9, k_a6⟩ := z_nn h
  subst e9
  have h := k_a6
  refine z_alen hX h dJ7_copyOfRangeByte_20 (fun x7 h => ?_)
  refine z_iload_n hX 1 rfl rfl dJ7_copyOfRangeByte_21 (z_isub hX dJ7_copyOfRangeByte_22 (z_iload_n hX 3 rfl rfl dJ7_copyOfRangeByte_23 (z_mmin hX q533 (Nat.le_of_ble_eq_true rfl) (Nat.le_of_ble_eq_true rfl) (Nat.le_of_ble_eq_true rfl) dJ7_copyOfRangeByte_24 ?_)))
  refine z_cpy hX zto q536 (Nat.le_of_ble_eq_true rfl) (Nat.le_of_ble_eq_true rfl) (Nat.le_of_ble_eq_true rfl) h dJ7_copyOfRangeByte_27 (fun σ8 h => ?_)
  refine z_aload hX 4 rfl dJ7_copyOfRangeByte_30 ?_
  obtain rfl := Option.some.inj h
  exact z_aret hX (Or.inr ⟨_, rfl⟩) dJ7_copyOfRangeByte_32

theorem c_J7_copyOfRangeByte {l : Launch} {D : va_G} {tys : zTy} (hl : l.stackTraces = false) {p1 : Option Nat} {p2 : Int32} {p3 : Int32} {σ : zS} {Rt : (Option Nat) × zS} (h : f_J7_copyOfRangeByte p1 p2 p3 σ = some Rt) : zM l D tys yJ7_copyOfRangeByte (ws_ yJ7_copyOfRangeByte cJ7_copyOfRangeByte 5 (Option.some (Jvm.ClassFile.FieldType.array Jvm.ClassFile.FieldType.byte))) 8 131 [zA p1, zI p2, zI p3] σ (.inl (eA Rt.1)) Rt.2 :=
  zM_in hl rfl (Nat.le_of_ble_eq_true rfl) (fun p e R s m args below meth c hX => z_L rfl (s_J7_copyOfRangeByte hX h))
def f_J7_copyOfRange_10 (v0 : Option Nat) (v1 : Int32) (v2 : Int32) (σ : zS) : Option ((Option Nat) × zS) :=
  zb2 (f_J7_copyOfRangeByte v0 v1 v2 σ) fun r1 σ2 =>
  some (r1, σ2)

set_option maxHeartbeats 4000000 in
theorem s_J7_copyOfRange_10 {X : zX} (hX : zOk X RJ7 cJ7_copyOfRange 3 9 155 (Option.some (Jvm.ClassFile.FieldType.array Jvm.ClassFile.FieldType.byte)) "copyOfRange" []) {Rt : (Option Nat) × zS} {v0 : Option Nat} {v1 : Int32} {v2 : Int32} {σ : zS} (h : f_J7_copyOfRange_10 v0 v1 v2 σ = some Rt) : zG X (zQ X (.inl (eA Rt.1)) Rt.2) 3 10 [(0, zA v0), (1, zI v1), (2, zI v2)] [] σ := by
  unfold f_J7_copyOfRange_10 at h
  refine z_aload_n hX 0 rfl rfl dJ7_copyOfRange_10 (z_iload_n hX 1 rfl rfl dJ7_copyOfRange_11 (z_iload_n hX 2 rfl rfl dJ7_copyOfRange_12 ?_))
  refine z_cNA hX (rest := []) h (fun r9 σ9 e9 => z_runS hX lk_J7_339 (c_J7_copyOfRangeByte hX.tr e9) ⟨Nat.le_of_ble_eq_true rfl, Nat.le_of_ble_eq_true rfl⟩ rfl (Nat.le_of_ble_eq_true rfl) dJ7_copyOfRange_13 rfl) (fun r1 σ2 h => ?_)
  obtain rfl := Option.some.inj h
  exact z_aret hX (Or.inr ⟨_, rfl⟩) dJ7_copyOfRange_16

def f_J7_copyOfRange (p1 : Option Nat) (p2 : Int32) (p3 : Int32) (σ : zS) : Option ((Option Nat) × zS) :=
  if ¬ p2 = 0 then
    f_J7_copyOfRange_10 p1 p2 p3 σ
  else
    p1.bind fun a3 =>
    (zaln σ a3).bind fun x4 =>
    if p3 = x4 then
      zb2 (zcloB σ a3) fun a5 σ6 =>
      zif (zckA σ6 (some a5) 1 = true) <|
      some ((some a5), σ6)
    else
      f_J7_copyOfRange_10 (some a3) p2 p3 σ

set_option maxHeartbeats 4000000 in
theorem s_J7_copyOfRange {X : zX} (hX : zOk X RJ7 cJ7_copyOfRange 3 9 155 (Option.some (Jvm.ClassFile.FieldType.array Jvm.ClassFile.FieldType.byte)) "copyOfRange" []) {p1 : Option Nat} {p2 : Int32} {p3 : Int32} {σ : zS} {Rt : (Option Nat) × zS} (h : f_J7_copyOfRange p1 p2 p3 σ = some Rt) : zG X (zQ X (.inl (eA Rt.1)) Rt.2) 3 0 [(0, zA p1), (1, zI p2), (2, zI p3)] [] σ := by
  unfold f_J7_copyOfRange at h
  refine z_iload_n hX 1 rfl rfl dJ7_copyOfRange_0 ?_
  refine z_if_ne (tgt := 10) hX h dJ7_copyOfRange_1 (by decide) (fun h => ?_) (fun h => ?_)
  · exact z_sub [0, 1, 2] rfl (s_J7_copyOfRange_10 hX  h)
  · refine z_iload_n hX 2 rfl rfl dJ7_copyOfRange_4 (z_aload_n hX 0 rfl rfl dJ7_copyOfRange_5 ?_)
    obtain ⟨a3, e9, k_a3⟩ := z_nn h
    subst e9
    have h := k_a3
    refine z_alen hX h dJ7_copyOfRange_6 (fun x4 h => ?_)
    refine z_icmp_eq (tgt := 17) hX h dJ7_copyOfRange_7 (by decide) (fun h => ?_) (fun h => ?_)
    · refine z_aload_n hX 0 rfl rfl dJ7_copyOfRange_17 ?_
      refine z_cloneB hX q736 (Nat.le_of_ble_eq_true rfl) (Nat.le_of_ble_eq_true rfl) (Nat.le_of_ble_eq_true rfl) h dJ7_copyOfRange_18 (fun a5 σ6 h => ?_)
      refine z_castA hX (t := 1) rfl (by decide) q742 h dJ7_copyOfRange_21 (fun h => ?_)
      obtain rfl := Option.some.inj h
      exact z_aret hX (Or.inr ⟨_, rfl⟩) dJ7_copyOfRange_24
    · exact z_sub [0, 1, 2] rfl (s_J7_copyOfRange_10 hX  h)

theorem c_J7_copyOfRange {l : Launch} {D : va_G} {tys : zTy} (hl : l.stackTraces = false) {p1 : Option Nat} {p2 : Int32} {p3 : Int32} {σ : zS} {Rt : (Option Nat) × zS} (h : f_J7_copyOfRange p1 p2 p3 σ = some Rt) : zM l D tys yJ7_copyOfRange (ws_ yJ7_copyOfRange cJ7_copyOfRange 3 (Option.some (Jvm.ClassFile.FieldType.array Jvm.ClassFile.FieldType.byte))) 9 155 [zA p1, zI p2, zI p3] σ (.inl (eA Rt.1)) Rt.2 :=
  zM_in hl rfl (Nat.le_of_ble_eq_true rfl) (fun p e R s m args below meth c hX => z_L rfl (s_J7_copyOfRange hX h))
def f_J10_init_2_79 (o : Nat) (v3 : Option Nat) (v4 : Int32) (σ : zS) : Option (Unit × zS) :=
  (pB σ o 21 1 1).bind fun σ11 =>
  zb2 (f_J7_copyOfRange v3 0 (v4 <<< (1 &&& 31)) σ11) fun r12 σ13 =>
  (pR σ13 o 21 0 r12).bind fun σ14 =>
  some ((), σ14)

set_option maxHeartbeats 4000000 in
theorem s_J10_init_2_79 {X : zX} (hX : zOk X RJ10 cJ10_init_2 5 10 177 (Option.none : Option Jvm.ClassFile.FieldType) "<init>" []) {o : Nat} {Rt : Unit × zS} {v3 : Option Nat} {v4 : Int32} {σ : zS} (h : f_J10_init_2_79 o v3 v4 σ = some Rt) : zG X (zQ X (.inl (eU Rt.1)) Rt.2) 5 79 [(0, zA (some o)), (3, zA v3), (4, zI v4)] [] σ := by
  unfold f_J10_init_2_79 at h
  refine z_aload_n hX 0 rfl rfl dJ10_init_2_79 (z_iconst hX (v := 1) (by decide) dJ10_init_2_80 ?_)
  refine z_putB hX fp_J10_15_21 (fun _ => rfl) h dJ10_init_2_81 (fun σ11 h => ?_)
  refine z_aload_n hX 0 rfl rfl dJ10_init_2_84 (z_aload_n hX 1 rfl rfl dJ10_init_2_85 (z_iconst hX (v := 0) (by decide) dJ10_init_2_86 (z_iload hX 2 rfl dJ10_init_2_87 (z_iconst hX (v := 1) (by decide) dJ10_init_2_89 (z_ishl hX dJ10_init_2_90 ?_)))))
  refine z_cNA hX (rest := [zA (some o)]) h (fun r9 σ9 e9 => z_runS hX lk_J10_54 (c_J7_copyOfRange hX.tr e9) ⟨Nat.le_of_ble_eq_true rfl, Nat.le_of_ble_eq_true rfl⟩ rfl (Nat.le_of_ble_eq_true rfl) dJ10_init_2_91 rfl) (fun r12 σ13 h => ?_)
  refine z_putR hX fp_J10_9_21 (Or.inr ⟨_, rfl⟩) (fun _ => rfl) h dJ10_init_2_94 (fun σ14 h => ?_)
  obtain rfl := Option.some.inj h
  exact z_vret hX dJ10_init_2_97

def f_J10_init_2 (o : Nat) (p1 : Option Nat) (p2 : Option Nat) (σ : zS) : Option (Unit × zS) :=
  p1.bind fun a1 =>
  zif (zcl σ a1 = 20) <|
  zb2 (f_J8_getValue a1 σ) fun r3 σ4 =>
  zif (zcl σ4 a1 = 20) <|
  zb2 (f_J9_length a1 σ4) fun x6 σ7 =>
  zif (zcl σ7 a1 = 20) <|
  zb2 (f_J8_isLatin1 a1 σ7) fun x9 σ10 =>
  if x9 = 0 then
    if (1 : Int32) = 0 then
      f_J10_init_2_79 o r3 x6 σ10
    else
      (gI σ10 a1 20 2).bind fun x15 =>
      if x15 = 0 then
        f_J10_init_2_79 o r3 x6 σ10
      else
        none
  else
    (pB σ10 o 21 1 0).bind fun σ16 =>
    zb2 (f_J7_copyOfRange r3 0 x6 σ16) fun r17 σ18 =>
    (pR σ18 o 21 0 r17).bind fun σ19 =>
    some ((), σ19)

set_option maxHeartbeats 4000000 in
theorem s_J10_init_2 {X : zX} (hX : zOk X RJ10 cJ10_init_2 5 10 177 (Option.none : Option Jvm.ClassFile.FieldType) "<init>" []) {o : Nat} {p1 : Option Nat} {p2 : Option Nat} {σ : zS} {Rt : Unit × zS} (h : f_J10_init_2 o p1 p2 σ = some Rt) : zG X (zQ X (.inl (eU Rt.1)) Rt.2) 5 0 [(0, zA (some o)), (1, zA p1), (2, zA p2)] [] σ := by
  unfold f_J10_init_2 at h
  refine z_aload_n hX 0 rfl rfl dJ10_init_2_0 (z_objInit hX q806 (Nat.le_of_ble_eq_true rfl) (Nat.le_of_ble_eq_true rfl) (Nat.le_of_ble_eq_true rfl) dJ10_init_2_1 (z_aload_n hX 1 rfl rfl dJ10_init_2_4 ?_))
  obtain ⟨a1, e9, k_a1⟩ := z_nn h
  subst e9
  have h := k_a1
  obtain ⟨c2, h⟩ := z_ck h
  refine z_cNA hX (rest := []) h (fun r9 σ9 e9 => z_runG hX lk_J10_552 (c_J8_getValue hX.tr e9) (ci := 20) zc9_20 c2 ⟨Nat.le_of_ble_eq_true rfl, Nat.le_of_ble_eq_true rfl⟩ rfl (Nat.le_of_ble_eq_true rfl) dJ10_init_2_5 rfl) (fun r3 σ4 h => ?_)
  refine z_astore_n (L' := [(0, zA (some o)), (1, zA (some a1)), (2, zA p2), (3, zA r3)]) hX rfl rfl (by decide) dJ10_init_2_8 (z_aload_n hX 1 rfl rfl dJ10_init_2_9 ?_)
  obtain ⟨c5, h⟩ := z_ck h
  refine z_cNI hX (rest := []) h (fun r9 σ9 e9 => z_runG hX lk_J10_549 (c_J9_length hX.tr e9) (ci := 20) zc9_20 c5 ⟨Nat.le_of_ble_eq_true rfl, Nat.le_of_ble_eq_true rfl⟩ rfl (Nat.le_of_ble_eq_true rfl) dJ10_init_2_10 rfl) (fun x6 σ7 h => ?_)
  refine z_istore (L' := [(0, zA (some o)), (1, zA (some a1)), (2, zA p2), (3, zA r3), (4, zI x6)]) hX rfl (by decide) dJ10_init_2_13 (z_aload_n hX 1 rfl rfl dJ10_init_2_15 ?_)
  obtain ⟨c8, h⟩ := z_ck h
  refine z_cNI hX (rest := []) h (fun r9 σ9 e9 => z_runG hX lk_J10_1047 (c_J8_isLatin1 hX.tr e9) (ci := 20) zc9_20 c8 ⟨Nat.le_of_ble_eq_true rfl, Nat.le_of_ble_eq_true rfl⟩ rfl (Nat.le_of_ble_eq_true rfl) dJ10_init_2_16 rfl) (fun x9 σ10 h => ?_)
  refine z_if_eq (tgt := 41) hX h dJ10_init_2_19 (by decide) (fun h => ?_) (fun h => ?_)
  · refine z_getsI hX (C := "java/lang/String") (n := "COMPACT_STRINGS") (dsc := "Z") (v := 1) (by simp [zStI]) q934 dJ10_init_2_41 ?_
    refine z_if_eq (tgt := 79) hX h dJ10_init_2_44 (by decide) (fun h => ?_) (fun h => ?_)
    · exact z_sub [0, 3, 4] rfl (s_J10_init_2_79 (o := o) hX  h)
    · refine z_aload_n hX 1 rfl rfl dJ10_init_2_47 ?_
      refine z_getI hX fl_J10_1048_20 h dJ10_init_2_48 (fun x15 h => ?_)
      refine z_if_eq (tgt := 79) hX h dJ10_init_2_51 (by decide) (fun h => ?_) (fun h => ?_)
      · exact z_sub [0, 3, 4] rfl (s_J10_init_2_79 (o := o) hX  h)
      · refine z_aload_n hX 0 rfl rfl dJ10_init_2_54 (z_aload_n hX 3 rfl rfl dJ10_init_2_55 (z_iconst hX (v := 0) (by decide) dJ10_init_2_56 (z_iload hX 4 rfl dJ10_init_2_57 ?_)))
        cases h
  · refine z_aload_n hX 0 rfl rfl dJ10_init_2_22 (z_iconst hX (v := 0) (by decide) dJ10_init_2_23 ?_)
    refine z_putB hX fp_J10_15_21 (fun _ => rfl) h dJ10_init_2_24 (fun σ16 h => ?_)
    refine z_aload_n hX 0 rfl rfl dJ10_init_2_27 (z_aload_n hX 3 rfl rfl dJ10_init_2_28 (z_iconst hX (v := 0) (by decide) dJ10_init_2_29 (z_iload hX 4 rfl dJ10_init_2_30 ?_)))
    refine z_cNA hX (rest := [zA (some o)]) h (fun r9 σ9 e9 => z_runS hX lk_J10_54 (c_J7_copyOfRange hX.tr e9) ⟨Nat.le_of_ble_eq_true rfl, Nat.le_of_ble_eq_true rfl⟩ rfl (Nat.le_of_ble_eq_true rfl) dJ10_init_2_32 rfl) (fun r17 σ18 h => ?_)
    refine z_putR hX fp_J10_9_21 (Or.inr ⟨_, rfl⟩) (fun _ => rfl) h dJ10_init_2_35 (fun σ19 h => ?_)
    refine z_goto (tgt := 97) hX dJ10_init_2_38 (by decide) ?_
    obtain rfl := Option.some.inj h
    exact z_vret hX dJ10_init_2_97

theorem c_J10_init_2 {l : Launch} {D : va_G} {tys : zTy} (hl : l.stackTraces = false) {o : Nat} {p1 : Option Nat} {p2 : Option Nat} {σ : zS} {Rt : Unit × zS} (h : f_J10_init_2 o p1 p2 σ = some Rt) : zM l D tys yJ10_init_2 (ws_ yJ10_init_2 cJ10_init_2 5 (Option.none : Option Jvm.ClassFile.FieldType)) 10 177 [zA (some o), zA p1, zA p2] σ (.inl (eU Rt.1)) Rt.2 :=
  zM_in hl rfl (Nat.le_of_ble_eq_true rfl) (fun p e R s m args below meth c hX => z_L rfl (s_J10_init_2 hX h))
def f_J10_init (o : Nat) (p1 : Option Nat) (σ : zS) : Option (Unit × zS) :=
  zb2 (f_J10_init_2 o p1 none σ) fun _ σ2 =>
  some ((), σ2)

set_option maxHeartbeats 4000000 in
theorem s_J10_init {X : zX} (hX : zOk X RJ10 cJ10_init 2 11 201 (Option.none : Option Jvm.ClassFile.FieldType) "<init>" []) {o : Nat} {p1 : Option Nat} {σ : zS} {Rt : Unit × zS} (h : f_J10_init o p1 σ = some Rt) : zG X (zQ X (.inl (eU Rt.1)) Rt.2) 2 0 [(0, zA (some o)), (1, zA p1)] [] σ := by
  unfold f_J10_init at h
  refine z_aload_n hX 0 rfl rfl dJ10_init_0 (z_aload_n hX 1 rfl rfl dJ10_init_1 (z_null hX dJ10_init_2 ?_))
  refine z_cNU hX (rest := []) h (fun r9 σ9 e9 => z_runI hX lk_J10_489 (c_J10_init_2 hX.tr e9) ⟨Nat.le_of_ble_eq_true rfl, Nat.le_of_ble_eq_true rfl⟩ rfl (Nat.le_of_ble_eq_true rfl) dJ10_init_3 rfl) (fun _ σ2 h => ?_)
  obtain rfl := Option.some.inj h
  exact z_vret hX dJ10_init_6

theorem c_J10_init {l : Launch} {D : va_G} {tys : zTy} (hl : l.stackTraces = false) {o : Nat} {p1 : Option Nat} {σ : zS} {Rt : Unit × zS} (h : f_J10_init o p1 σ = some Rt) : zM l D tys yJ10_init (ws_ yJ10_init cJ10_init 2 (Option.none : Option Jvm.ClassFile.FieldType)) 11 201 [zA (some o), zA p1] σ (.inl (eU Rt.1)) Rt.2 :=
  zM_in hl rfl (Nat.le_of_ble_eq_true rfl) (fun p e R s m args below meth c hX => z_L rfl (s_J10_init hX h))
def f_J9_toString (o : Nat) (σ : zS) : Option ((Option Nat) × zS) :=
  zb2 (znewO σ 21 [.null, .int 0, .int 0, .int 0]) fun a1 σ2 =>
  zb2 (f_J10_init a1 (some o) σ2) fun _ σ4 =>
  some ((some a1), σ4)

set_option maxHeartbeats 4000000 in
theorem s_J9_toString {X : zX} (hX : zOk X RJ9 cJ9_toString 1 12 222 (Option.some (Jvm.ClassFile.FieldType.object "java/lang/String")) "toString" []) {o : Nat} {σ : zS} {Rt : (Option Nat) × zS} (h : f_J9_toString o σ = some Rt) : zG X (zQ X (.inl (eA Rt.1)) Rt.2) 1 0 [(0, zA (some o))] [] σ := by
  unfold f_J9_toString at h
  refine z_new hX ne_J9_18 h dJ9_toString_0 (fun a1 σ2 h => ?_)
  refine z_dup hX rfl dJ9_toString_3 (z_aload_n hX 0 rfl rfl dJ9_toString_4 ?_)
  refine z_cNU hX (rest := [zA (some a1)]) h (fun r9 σ9 e9 => z_runI hX lk_J9_137 (c_J10_init hX.tr e9) ⟨Nat.le_of_ble_eq_true rfl, Nat.le_of_ble_eq_true rfl⟩ rfl (Nat.le_of_ble_eq_true rfl) dJ9_toString_5 rfl) (fun _ σ4 h => ?_)
  obtain rfl := Option.some.inj h
  exact z_aret hX (Or.inl ⟨_, rfl⟩) dJ9_toString_8

theorem c_J9_toString {l : Launch} {D : va_G} {tys : zTy} (hl : l.stackTraces = false) {o : Nat} {σ : zS} {Rt : (Option Nat) × zS} (h : f_J9_toString o σ = some Rt) : zM l D tys yJ9_toString (ws_ yJ9_toString cJ9_toString 1 (Option.some (Jvm.ClassFile.FieldType.object "java/lang/String"))) 12 222 [zA (some o)] σ (.inl (eA Rt.1)) Rt.2 :=
  zM_in hl rfl (Nat.le_of_ble_eq_true rfl) (fun p e R s m args below meth c hX => z_L rfl (s_J9_toString hX h))
def f_X3_word_48_b (o : Nat) (v1 : Option Nat) (rec48 : Int32 → zS → Option ((Option Nat) × zS)) (v2 : Int32) (σ : zS) : Option ((Option Nat) × zS) :=
  (gI σ o 2 3).bind fun x15 =>
  if x15 ≤ v2 then
    v1.bind fun a16 =>
    zif (zcl σ a16 = 20) <|
    zb2 (f_J9_toString a16 σ) fun r18 σ19 =>
    some (r18, σ19)
  else
    (gR σ o 2 0).bind fun r20 =>
    r20.bind fun a21 =>
    (lI σ a21 1 v2).bind fun x22 =>
    v1.bind fun a23 =>
    zif (zcl σ a23 = 20) <|
    zb2 (f_J9_append a23 ((x22.toUInt32 % 65536).toInt32) σ) fun r25 σ26 =>
    zl (v2 + 1) fun x27 =>
    rec48 x27 σ26

def f_X3_word_48 (o : Nat) (v1 : Option Nat) : Int32 → zS → Option ((Option Nat) × zS) := zlp1 (f_X3_word_48_b o v1) NN
set_option maxHeartbeats 4000000 in
theorem s_X3_word_48_b {X : zX} (hX : zOk X RX3 cX3_word 3 13 242 (Option.some (Jvm.ClassFile.FieldType.object "java/lang/String")) "word" []) {o : Nat} {Rt : (Option Nat) × zS} {v1 : Option Nat} {rec48 : Int32 → zS → Option ((Option Nat) × zS)} (hrec48 : ∀ (v2 : Int32) (σ : zS), rec48 v2 σ = some Rt → zG X (zQ X (.inl (eA Rt.1)) Rt.2) 3 48 [(0, zA (some o)), (1, zA v1), (2, zI v2)] [] σ) {v2 : Int32} {σ : zS} (h : f_X3_word_48_b o v1 rec48 v2 σ = some Rt) : zG X (zQ X (.inl (eA Rt.1)) Rt.2) 3 48 [(0, zA (some o)), (1, zA v1), (2, zI v2)] [] σ := by
  unfold f_X3_word_48_b at h
  refine z_iload_n hX 2 rfl rfl dX3_word_48 (z_aload_n hX 0 rfl rfl dX3_word_49 ?_)
  refine z_getI hX fl_X3_25_2 h dX3_word_50 (fun x15 h => ?_)
  refine z_icmp_ge (tgt := 74) hX h dX3_word_53 (by decide) (fun h => ?_) (fun h => ?_)
  · refine z_aload_n hX 1 rfl rfl dX3_word_74 ?_
    obtain ⟨a16, e9, k_a16⟩ := z_nn h
    subst e9
    have h := k_a16
    obtain ⟨c17, h⟩ := z_ck h
    refine z_cNA hX (rest := []) h (fun r9 σ9 e9 => z_runV hX lk_X3_52 (c_J9_toString hX.tr e9) (ci := 20) zc9_20 c17 ⟨Nat.le_of_ble_eq_true rfl, Nat.le_of_ble_eq_true rfl⟩ rfl (Nat.le_of_ble_eq_true rfl) dX3_word_75 rfl) (fun r18 σ19 h => ?_)
    obtain rfl := Option.some.inj h
    exact z_aret hX (Or.inl ⟨_, rfl⟩) dX3_word_78
  · refine z_aload_n hX 1 rfl rfl dX3_word_56 (z_aload_n hX 0 rfl rfl dX3_word_57 ?_)
    refine z_getR hX fl_X3_9_2 h dX3_word_58 (fun r20 h => ?_)
    refine z_iload_n hX 2 rfl rfl dX3_word_61 ?_
    obtain ⟨a21, e9, k_a21⟩ := z_nn h
    subst e9
    have h := k_a21
    refine z_bald hX h dX3_word_62 (fun x22 h => ?_)
    refine z_i2c hX dX3_word_63 ?_
    obtain ⟨a23, e9, k_a23⟩ := z_nn h
    subst e9
    have h := k_a23
    obtain ⟨c24, h⟩ := z_ck h
    refine z_cNA hX (rest := []) h (fun r9 σ9 e9 => z_runV hX lk_X3_48 (c_J9_append hX.tr e9) (ci := 20) zc9_20 c24 ⟨Nat.le_of_ble_eq_true rfl, Nat.le_of_ble_eq_true rfl⟩ rfl (Nat.le_of_ble_eq_true rfl) dX3_word_64 rfl) (fun r25 σ26 h => ?_)
    refine z_pop hX rfl dX3_word_67 ?_
    refine z_iinc hX (j := 2) h rfl (by decide) (by decide) dX3_word_68 (fun x27 h => z_L (L' := [(0, zA (some o)), (1, zA (some a23)), (2, zI x27)]) rfl ?_)
    refine z_goto (tgt := 48) hX dX3_word_71 (by decide) ?_
    exact z_sub [0, 1, 2] rfl (hrec48 _ _ h)

theorem s_X3_word_48 {X : zX} (hX : zOk X RX3 cX3_word 3 13 242 (Option.some (Jvm.ClassFile.FieldType.object "java/lang/String")) "word" []) {o : Nat} {Rt : (Option Nat) × zS} {v1 : Option Nat} {v2 : Int32} {σ : zS} (h : f_X3_word_48 o v1 v2 σ = some Rt) : zG X (zQ X (.inl (eA Rt.1)) Rt.2) 3 48 [(0, zA (some o)), (1, zA v1), (2, zI v2)] [] σ :=
  zlp1_ok (P := fun v2 σ => zG X (zQ X (.inl (eA Rt.1)) Rt.2) 3 48 [(0, zA (some o)), (1, zA v1), (2, zI v2)] [] σ) (fun rec hr v2 σ h => s_X3_word_48_b (o := o) hX hr h) NN v2 σ h
def f_X3_word_4_b (o : Nat) (rec4 : zS → Option ((Option Nat) × zS)) (σ : zS) : Option ((Option Nat) × zS) :=
  (gI σ o 2 3).bind fun x4 =>
  zif (zcl σ o = 2) <|
  zb2 (f_X3_byteAt o x4 σ) fun x6 σ7 =>
  zb2 (f_X1_in x6 97 122 σ7) fun x8 σ9 =>
  if x8 = 0 then
    zb2 (znewO σ9 20 [.null, .int 0, .int 0, .int 0]) fun a10 σ11 =>
    zb2 (f_J9_init a10 σ11) fun _ σ13 =>
    (gI σ13 o 2 4).bind fun x14 =>
    f_X3_word_48 o (some a10) x14 σ13
  else
    (gI σ9 o 2 3).bind fun x28 =>
    (pI σ9 o 2 3 (x28 + 1)).bind fun σ29 =>
    rec4 σ29

def f_X3_word_4 (o : Nat) : zS → Option ((Option Nat) × zS) := zlp0 (f_X3_word_4_b o) NN
set_option maxHeartbeats 4000000 in
theorem s_X3_word_4_b {X : zX} (hX : zOk X RX3 cX3_word 3 13 242 (Option.some (Jvm.ClassFile.FieldType.object "java/lang/String")) "word" []) {o : Nat} {Rt : (Option Nat) × zS} {rec4 : zS → Option ((Option Nat) × zS)} (hrec4 : ∀ (σ : zS), rec4 σ = some Rt → zG X (zQ X (.inl (eA Rt.1)) Rt.2) 3 4 [(0, zA (some o))] [] σ) {σ : zS} (h : f_X3_word_4_b o rec4 σ = some Rt) : zG X (zQ X (.inl (eA Rt.1)) Rt.2) 3 4 [(0, zA (some o))] [] σ := by
  unfold f_X3_word_4_b at h
  refine z_aload_n hX 0 rfl rfl dX3_word_4 (z_aload_n hX 0 rfl rfl dX3_word_5 ?_)
  refine z_getI hX fl_X3_25_2 h dX3_word_6 (fun x4 h => ?_)
  obtain ⟨c5, h⟩ := z_ck h
  refine z_cNI hX (rest := []) h (fun r9 σ9 e9 => z_runV hX lk_X3_31 (c_X3_byteAt hX.tr e9) (ci := 2) zc9_2 c5 ⟨Nat.le_of_ble_eq_true rfl, Nat.le_of_ble_eq_true rfl⟩ rfl (Nat.le_of_ble_eq_true rfl) dX3_word_9 rfl) (fun x6 σ7 h => ?_)
  refine z_bipush hX (v := 97) (by decide) dX3_word_12 (z_bipush hX (v := 122) (by decide) dX3_word_14 ?_)
  refine z_cNI hX (rest := []) h (fun r9 σ9 e9 => z_runSN hX lk_X3_41 (c_X1_in hX.tr e9) ⟨Nat.le_of_ble_eq_true rfl, Nat.le_of_ble_eq_true rfl⟩ rfl (Nat.le_of_ble_eq_true rfl) dX3_word_16 rfl) (fun x8 σ9 h => ?_)
  refine z_if_eq (tgt := 35) hX h dX3_word_19 (by decide) (fun h => ?_) (fun h => ?_)
  · refine z_new hX ne_X3_45 h dX3_word_35 (fun a10 σ11 h => ?_)
    refine z_dup hX rfl dX3_word_38 ?_
    refine z_cNU hX (rest := [zA (some a10)]) h (fun r9 σ9 e9 => z_runI hX lk_X3_47 (c_J9_init hX.tr e9) ⟨Nat.le_of_ble_eq_true rfl, Nat.le_of_ble_eq_true rfl⟩ rfl (Nat.le_of_ble_eq_true rfl) dX3_word_39 rfl) (fun _ σ13 h => ?_)
    refine z_astore_n (L' := [(0, zA (some o)), (1, zA (some a10))]) hX rfl rfl (by decide) dX3_word_42 (z_aload_n hX 0 rfl rfl dX3_word_43 ?_)
    refine z_getI hX fl_X3_35_2 h dX3_word_44 (fun x14 h => ?_)
    refine z_istore_n (L' := [(0, zA (some o)), (1, zA (some a10)), (2, zI x14)]) hX rfl rfl (by decide) dX3_word_47 ?_
    exact z_sub [0, 1, 2] rfl (s_X3_word_48 (o := o) hX  h)
  · refine z_aload_n hX 0 rfl rfl dX3_word_22 (z_dup hX rfl dX3_word_23 ?_)
    refine z_getI hX fl_X3_25_2 h dX3_word_24 (fun x28 h => ?_)
    refine z_iconst hX (v := 1) (by decide) dX3_word_27 (z_iadd hX dX3_word_28 ?_)
    refine z_putI hX fp_X3_25_2 (fun h => nomatch h) h dX3_word_29 (fun σ29 h => ?_)
    refine z_goto (tgt := 4) hX dX3_word_32 (by decide) ?_
    exact z_sub [0] rfl (hrec4  _ h)

theorem s_X3_word_4 {X : zX} (hX : zOk X RX3 cX3_word 3 13 242 (Option.some (Jvm.ClassFile.FieldType.object "java/lang/String")) "word" []) {o : Nat} {Rt : (Option Nat) × zS} {σ : zS} (h : f_X3_word_4 o σ = some Rt) : zG X (zQ X (.inl (eA Rt.1)) Rt.2) 3 4 [(0, zA (some o))] [] σ :=
  zlp0_ok (P := fun σ => zG X (zQ X (.inl (eA Rt.1)) Rt.2) 3 4 [(0, zA (some o))] [] σ) (fun rec hr σ h => s_X3_word_4_b (o := o) hX hr h) NN σ h
def f_X3_word (o : Nat) (σ : zS) : Option ((Option Nat) × zS) :=
  zif (zcl σ o = 2) <|
  zb2 (f_X3_blanks o σ) fun _ σ3 =>
  f_X3_word_4 o σ3

set_option maxHeartbeats 4000000 in
theorem s_X3_word {X : zX} (hX : zOk X RX3 cX3_word 3 13 242 (Option.some (Jvm.ClassFile.FieldType.object "java/lang/String")) "word" []) {o : Nat} {σ : zS} {Rt : (Option Nat) × zS} (h : f_X3_word o σ = some Rt) : zG X (zQ X (.inl (eA Rt.1)) Rt.2) 3 0 [(0, zA (some o))] [] σ := by
  unfold f_X3_word at h
  refine z_aload_n hX 0 rfl rfl dX3_word_0 ?_
  obtain ⟨c1, h⟩ := z_ck h
  refine z_cNU hX (rest := []) h (fun r9 σ9 e9 => z_runV hX lk_X3_38 (c_X3_blanks hX.tr e9) (ci := 2) zc9_2 c1 ⟨Nat.le_of_ble_eq_true rfl, Nat.le_of_ble_eq_true rfl⟩ rfl (Nat.le_of_ble_eq_true rfl) dX3_word_1 rfl) (fun _ σ3 h => ?_)
  exact z_sub [0] rfl (s_X3_word_4 (o := o) hX  h)

theorem c_X3_word {l : Launch} {D : va_G} {tys : zTy} (hl : l.stackTraces = false) {o : Nat} {σ : zS} {Rt : (Option Nat) × zS} (h : f_X3_word o σ = some Rt) : zM l D tys yX3_word (ws_ yX3_word cX3_word 3 (Option.some (Jvm.ClassFile.FieldType.object "java/lang/String"))) 13 242 [zA (some o)] σ (.inl (eA Rt.1)) Rt.2 :=
  zM_in hl rfl (Nat.le_of_ble_eq_true rfl) (fun p e R s m args below meth c hX => z_L rfl (s_X3_word hX h))
def f_J13_init_3_41 (o : Nat) (v1 : Option Nat) (v2 : Option Nat) (v3 : Int32) (σ : zS) : Option (Unit × zS) :=
  (pR σ o 9 3 v1).bind fun σ7 =>
  (pR σ7 o 9 0 v2).bind fun σ8 =>
  if ¬ v3 = 0 then
    some ((), σ8)
  else
    (pR σ8 o 9 2 none).bind fun σ9 =>
    some ((), σ9)

set_option maxHeartbeats 4000000 in
theorem s_J13_init_3_41 {X : zX} (hX : zOk X RJ13 cJ13_init_3 5 1 40 (Option.none : Option Jvm.ClassFile.FieldType) "<init>" []) {o : Nat} {Rt : Unit × zS} {v1 : Option Nat} {v2 : Option Nat} {v3 : Int32} {σ : zS} (h : f_J13_init_3_41 o v1 v2 v3 σ = some Rt) : zG X (zQ X (.inl (eU Rt.1)) Rt.2) 5 41 [(0, zA (some o)), (1, zA v1), (2, zA v2), (3, zI v3)] [] σ := by
  unfold f_J13_init_3_41 at h
  refine z_aload_n hX 0 rfl rfl dJ13_init_3_41 (z_aload_n hX 1 rfl rfl dJ13_init_3_42 ?_)
  refine z_putR hX fp_J13_31_9 (Or.inl ⟨_, rfl⟩) (fun h => nomatch h) h dJ13_init_3_43 (fun σ7 h => ?_)
  refine z_aload_n hX 0 rfl rfl dJ13_init_3_46 (z_aload_n hX 2 rfl rfl dJ13_init_3_47 ?_)
  refine z_putR hX fp_J13_7_9 (Or.inl ⟨_, rfl⟩) (fun h => nomatch h) h dJ13_init_3_48 (fun σ8 h => ?_)
  refine z_iload_n hX 3 rfl rfl dJ13_init_3_51 ?_
  refine z_if_ne (tgt := 60) hX h dJ13_init_3_52 (by decide) (fun h => ?_) (fun h => ?_)
  · obtain rfl := Option.some.inj h
    exact z_vret hX dJ13_init_3_60
  · refine z_aload_n hX 0 rfl rfl dJ13_init_3_55 (z_null hX dJ13_init_3_56 ?_)
    refine z_putR hX fp_J13_24_9 (Or.inl ⟨_, rfl⟩) (fun h => nomatch h) h dJ13_init_3_57 (fun σ9 h => ?_)
    obtain rfl := Option.some.inj h
    exact z_vret hX dJ13_init_3_60

def f_J13_init_3 (o : Nat) (p1 : Option Nat) (p2 : Option Nat) (p3 : Int32) (p4 : Int32) (σ : zS) : Option (Unit × zS) :=
  (pR σ o 9 0 (some o)).bind fun σ1 =>
  zl (zk σ1 2) fun r2 =>
  (pR σ1 o 9 1 r2).bind fun σ3 =>
  zl (zk σ3 3) fun r4 =>
  (pR σ3 o 9 2 r4).bind fun σ5 =>
  if p4 = 0 then
    (pR σ5 o 9 1 none).bind fun σ6 =>
    f_J13_init_3_41 o p1 p2 p3 σ6
  else
    none

set_option maxHeartbeats 4000000 in
theorem s_J13_init_3 {X : zX} (hX : zOk X RJ13 cJ13_init_3 5 1 40 (Option.none : Option Jvm.ClassFile.FieldType) "<init>" []) {o : Nat} {p1 : Option Nat} {p2 : Option Nat} {p3 : Int32} {p4 : Int32} {σ : zS} {Rt : Unit × zS} (h : f_J13_init_3 o p1 p2 p3 p4 σ = some Rt) : zG X (zQ X (.inl (eU Rt.1)) Rt.2) 5 0 [(0, zA (some o)), (1, zA p1), (2, zA p2), (3, zI p3), (4, zI p4)] [] σ := by
  unfold f_J13_init_3 at h
  refine z_aload_n hX 0 rfl rfl dJ13_init_3_0 (z_objInit hX q855 (Nat.le_of_ble_eq_true rfl) (Nat.le_of_ble_eq_true rfl) (Nat.le_of_ble_eq_true rfl) dJ13_init_3_1 (z_aload_n hX 0 rfl rfl dJ13_init_3_4 (z_aload_n hX 0 rfl rfl dJ13_init_3_5 ?_)))
  refine z_putR hX fp_J13_7_9 (Or.inl ⟨_, rfl⟩) (fun h => nomatch h) h dJ13_init_3_6 (fun σ1 h => ?_)
  refine z_aload_n hX 0 rfl rfl dJ13_init_3_9 ?_
  refine z_gets hX (k := 2) (C := "java/lang/Throwable") (n := "UNASSIGNED_STACK") (dsc := "[Ljava/lang/StackTraceElement;") (by simp [zSt]) q856 h dJ13_init_3_10 (fun r2 _ h => ?_)
  refine z_putR hX fp_J13_17_9 (Or.inr ⟨_, rfl⟩) (fun h => nomatch h) h dJ13_init_3_13 (fun σ3 h => ?_)
  refine z_aload_n hX 0 rfl rfl dJ13_init_3_16 ?_
  refine z_gets hX (k := 3) (C := "java/lang/Throwable") (n := "SUPPRESSED_SENTINEL") (dsc := "Ljava/util/List;") (by simp [zSt]) q858 h dJ13_init_3_17 (fun r4 _ h => ?_)
  refine z_putR hX fp_J13_24_9 (Or.inl ⟨_, rfl⟩) (fun h => nomatch h) h dJ13_init_3_20 (fun σ5 h => ?_)
  refine z_iload hX 4 rfl dJ13_init_3_23 ?_
  refine z_if_eq (tgt := 36) hX h dJ13_init_3_25 (by decide) (fun h => ?_) (fun h => ?_)
  · refine z_aload_n hX 0 rfl rfl dJ13_init_3_36 (z_null hX dJ13_init_3_37 ?_)
    refine z_putR hX fp_J13_17_9 (Or.inr ⟨_, rfl⟩) (fun h => nomatch h) h dJ13_init_3_38 (fun σ6 h => ?_)
    exact z_sub [0, 1, 2, 3] rfl (s_J13_init_3_41 (o := o) hX  h)
  · refine z_aload_n hX 0 rfl rfl dJ13_init_3_28 ?_
    cases h

theorem c_J13_init_3 {l : Launch} {D : va_G} {tys : zTy} (hl : l.stackTraces = false) {o : Nat} {p1 : Option Nat} {p2 : Option Nat} {p3 : Int32} {p4 : Int32} {σ : zS} {Rt : Unit × zS} (h : f_J13_init_3 o p1 p2 p3 p4 σ = some Rt) : zM l D tys yJ13_init_3 (ws_ yJ13_init_3 cJ13_init_3 5 (Option.none : Option Jvm.ClassFile.FieldType)) 1 40 [zA (some o), zA p1, zA p2, zI p3, zI p4] σ (.inl (eU Rt.1)) Rt.2 :=
  zM_in hl rfl (Nat.le_of_ble_eq_true rfl) (fun p e R s m args below meth c hX => z_L rfl (s_J13_init_3 hX h))
def f_J14_init_2 (o : Nat) (p1 : Option Nat) (p2 : Option Nat) (p3 : Int32) (p4 : Int32) (σ : zS) : Option (Unit × zS) :=
  zb2 (f_J13_init_3 o p1 p2 p3 p4 σ) fun _ σ2 =>
  some ((), σ2)

set_option maxHeartbeats 4000000 in
theorem s_J14_init_2 {X : zX} (hX : zOk X RJ14 cJ14_init_2 5 2 64 (Option.none : Option Jvm.ClassFile.FieldType) "<init>" []) {o : Nat} {p1 : Option Nat} {p2 : Option Nat} {p3 : Int32} {p4 : Int32} {σ : zS} {Rt : Unit × zS} (h : f_J14_init_2 o p1 p2 p3 p4 σ = some Rt) : zG X (zQ X (.inl (eU Rt.1)) Rt.2) 5 0 [(0, zA (some o)), (1, zA p1), (2, zA p2), (3, zI p3), (4, zI p4)] [] σ := by
  unfold f_J14_init_2 at h
  refine z_aload_n hX 0 rfl rfl dJ14_init_2_0 (z_aload_n hX 1 rfl rfl dJ14_init_2_1 (z_aload_n hX 2 rfl rfl dJ14_init_2_2 (z_iload_n hX 3 rfl rfl dJ14_init_2_3 (z_iload hX 4 rfl dJ14_init_2_4 ?_))))
  refine z_cNU hX (rest := []) h (fun r9 σ9 e9 => z_runI hX lk_J14_16 (c_J13_init_3 hX.tr e9) ⟨Nat.le_of_ble_eq_true rfl, Nat.le_of_ble_eq_true rfl⟩ rfl (Nat.le_of_ble_eq_true rfl) dJ14_init_2_6 rfl) (fun _ σ2 h => ?_)
  obtain rfl := Option.some.inj h
  exact z_vret hX dJ14_init_2_9

theorem c_J14_init_2 {l : Launch} {D : va_G} {tys : zTy} (hl : l.stackTraces = false) {o : Nat} {p1 : Option Nat} {p2 : Option Nat} {p3 : Int32} {p4 : Int32} {σ : zS} {Rt : Unit × zS} (h : f_J14_init_2 o p1 p2 p3 p4 σ = some Rt) : zM l D tys yJ14_init_2 (ws_ yJ14_init_2 cJ14_init_2 5 (Option.none : Option Jvm.ClassFile.FieldType)) 2 64 [zA (some o), zA p1, zA p2, zI p3, zI p4] σ (.inl (eU Rt.1)) Rt.2 :=
  zM_in hl rfl (Nat.le_of_ble_eq_true rfl) (fun p e R s m args below meth c hX => z_L rfl (s_J14_init_2 hX h))
def f_X10_init (o : Nat) (σ : zS) : Option (Unit × zS) :=
  zb2 (f_J14_init_2 o none none 0 0 σ) fun _ σ2 =>
  some ((), σ2)

set_option maxHeartbeats 4000000 in
theorem s_X10_init {X : zX} (hX : zOk X RX10 cX10_init 1 3 88 (Option.none : Option Jvm.ClassFile.FieldType) "<init>" []) {o : Nat} {σ : zS} {Rt : Unit × zS} (h : f_X10_init o σ = some Rt) : zG X (zQ X (.inl (eU Rt.1)) Rt.2) 1 0 [(0, zA (some o))] [] σ := by
  unfold f_X10_init at h
  refine z_aload_n hX 0 rfl rfl dX10_init_0 (z_null hX dX10_init_1 (z_null hX dX10_init_2 (z_iconst hX (v := 0) (by decide) dX10_init_3 (z_iconst hX (v := 0) (by decide) dX10_init_4 ?_))))
  refine z_cNU hX (rest := []) h (fun r9 σ9 e9 => z_runI hX lk_X10_1 (c_J14_init_2 hX.tr e9) ⟨Nat.le_of_ble_eq_true rfl, Nat.le_of_ble_eq_true rfl⟩ rfl (Nat.le_of_ble_eq_true rfl) dX10_init_5 rfl) (fun _ σ2 h => ?_)
  obtain rfl := Option.some.inj h
  exact z_vret hX dX10_init_8

theorem c_X10_init {l : Launch} {D : va_G} {tys : zTy} (hl : l.stackTraces = false) {o : Nat} {σ : zS} {Rt : Unit × zS} (h : f_X10_init o σ = some Rt) : zM l D tys yX10_init (ws_ yX10_init cX10_init 1 (Option.none : Option Jvm.ClassFile.FieldType)) 3 88 [zA (some o)] σ (.inl (eU Rt.1)) Rt.2 :=
  zM_in hl rfl (Nat.le_of_ble_eq_true rfl) (fun p e R s m args below meth c hX => z_L rfl (s_X10_init hX h))
def f_X3_wrong (o : Nat) (σ : zS) : Option ((Option Nat) × zS) :=
  zb2 (znewO σ 9 [.null, .null, .null, .null, .null, .int 0]) fun a1 σ2 =>
  zb2 (f_X10_init a1 σ2) fun _ σ4 =>
  some ((some a1), σ4)

set_option maxHeartbeats 4000000 in
theorem s_X3_wrong {X : zX} (hX : zOk X RX3 cX3_wrong 1 7 110 (Option.some (Jvm.ClassFile.FieldType.object "StepDebts$Wrong")) "wrong" []) {o : Nat} {σ : zS} {Rt : (Option Nat) × zS} (h : f_X3_wrong o σ = some Rt) : zG X (zQ X (.inl (eA Rt.1)) Rt.2) 1 0 [(0, zA (some o))] [] σ := by
  unfold f_X3_wrong at h
  refine z_new hX ne_X3_76 h dX3_wrong_0 (fun a1 σ2 h => ?_)
  refine z_dup hX rfl dX3_wrong_3 ?_
  refine z_cNU hX (rest := [zA (some a1)]) h (fun r9 σ9 e9 => z_runI hX lk_X3_78 (c_X10_init hX.tr e9) ⟨Nat.le_of_ble_eq_true rfl, Nat.le_of_ble_eq_true rfl⟩ rfl (Nat.le_of_ble_eq_true rfl) dX3_wrong_4 rfl) (fun _ σ4 h => ?_)
  obtain rfl := Option.some.inj h
  exact z_aret hX (Or.inl ⟨_, rfl⟩) dX3_wrong_7

theorem c_X3_wrong {l : Launch} {D : va_G} {tys : zTy} (hl : l.stackTraces = false) {o : Nat} {σ : zS} {Rt : (Option Nat) × zS} (h : f_X3_wrong o σ = some Rt) : zM l D tys yX3_wrong (ws_ yX3_wrong cX3_wrong 1 (Option.some (Jvm.ClassFile.FieldType.object "StepDebts$Wrong"))) 7 110 [zA (some o)] σ (.inl (eA Rt.1)) Rt.2 :=
  zM_in hl rfl (Nat.le_of_ble_eq_true rfl) (fun p e R s m args below meth c hX => z_L rfl (s_X3_wrong hX h))
def f_X1_noMore (o : Nat) (p1 : Int32) (p2 : Int32) (σ : zS) : Option ((Unit ⊕ Nat) × zS) :=
  if p2 ≤ p1 then
    (gR σ o 0 2).bind fun r1 =>
    r1.bind fun a2 =>
    zif (zcl σ a2 = 2) <|
    zb2 (f_X3_word a2 σ) fun r4 σ5 =>
    (gR σ5 o 0 2).bind fun r6 =>
    r6.bind fun a7 =>
    zif (zcl σ5 a7 = 2) <|
    zb2 (f_X3_wrong a7 σ5) fun r9 σ10 =>
    r9.bind fun a11 =>
    zif (zcl σ10 a11 = 9) <| some (.inr 5, σ10)
  else
    some (.inl (), σ)

set_option maxHeartbeats 4000000 in
theorem s_X1_noMore {X : zX} (hX : zOk X RX1 cX1_noMore 3 14 264 (Option.none : Option Jvm.ClassFile.FieldType) "noMore" []) {o : Nat} {p1 : Int32} {p2 : Int32} {σ : zS} {Rt : (Unit ⊕ Nat) × zS} (h : f_X1_noMore o p1 p2 σ = some Rt) : zG X (zQ X (zot eU Rt.1) Rt.2) 3 0 [(0, zA (some o)), (1, zI p1), (2, zI p2)] [] σ := by
  unfold f_X1_noMore at h
  refine z_iload_n hX 1 rfl rfl dX1_noMore_0 (z_iload_n hX 2 rfl rfl dX1_noMore_1 ?_)
  refine z_icmp_ge (tgt := 6) hX h dX1_noMore_2 (by decide) (fun h => ?_) (fun h => ?_)
  · refine z_aload_n hX 0 rfl rfl dX1_noMore_6 ?_
    refine z_getR hX fl_X1_19_0 h dX1_noMore_7 (fun r1 h => ?_)
    obtain ⟨a2, e9, k_a2⟩ := z_nn h
    subst e9
    have h := k_a2
    obtain ⟨c3, h⟩ := z_ck h
    refine z_cNA hX (rest := []) h (fun r9 σ9 e9 => z_runV hX lk_X1_73 (c_X3_word hX.tr e9) (ci := 2) zc9_2 c3 ⟨Nat.le_of_ble_eq_true rfl, Nat.le_of_ble_eq_true rfl⟩ rfl (Nat.le_of_ble_eq_true rfl) dX1_noMore_10 rfl) (fun r4 σ5 h => ?_)
    refine z_pop hX rfl dX1_noMore_13 (z_aload_n hX 0 rfl rfl dX1_noMore_14 ?_)
    refine z_getR hX fl_X1_19_0 h dX1_noMore_15 (fun r6 h => ?_)
    obtain ⟨a7, e9, k_a7⟩ := z_nn h
    subst e9
    have h := k_a7
    obtain ⟨c8, h⟩ := z_ck h
    refine z_cNA hX (rest := []) h (fun r9 σ9 e9 => z_runV hX lk_X1_65 (c_X3_wrong hX.tr e9) (ci := 2) zc9_2 c8 ⟨Nat.le_of_ble_eq_true rfl, Nat.le_of_ble_eq_true rfl⟩ rfl (Nat.le_of_ble_eq_true rfl) dX1_noMore_18 rfl) (fun r9 σ10 h => ?_)
    obtain ⟨a11, e9, k_a11⟩ := z_nn h
    subst e9
    have h := k_a11
    refine z_athrow hX (k := 5) (ci := 9) rfl h dX1_noMore_21 (fun h => ?_)
    obtain rfl := Option.some.inj h
    exact z_out hX (fun x hx => nomatch hx)
  · obtain rfl := Option.some.inj h
    exact z_vret hX dX1_noMore_5

theorem c_X1_noMore {l : Launch} {D : va_G} {tys : zTy} (hl : l.stackTraces = false) {o : Nat} {p1 : Int32} {p2 : Int32} {σ : zS} {Rt : (Unit ⊕ Nat) × zS} (h : f_X1_noMore o p1 p2 σ = some Rt) : zM l D tys yX1_noMore (ws_ yX1_noMore cX1_noMore 3 (Option.none : Option Jvm.ClassFile.FieldType)) 14 264 [zA (some o), zI p1, zI p2] σ (zot eU Rt.1) Rt.2 :=
  zM_in hl rfl (Nat.le_of_ble_eq_true rfl) (fun p e R s m args below meth c hX => z_L rfl (s_X1_noMore hX h))
def f_J10_isLatin1 (o : Nat) (σ : zS) : Option (Int32 × zS) :=
  if (1 : Int32) = 0 then
    some ((0 : Int32), σ)
  else
    (gI σ o 21 1).bind fun x1 =>
    if ¬ x1 = 0 then
      some ((0 : Int32), σ)
    else
      some ((1 : Int32), σ)

set_option maxHeartbeats 4000000 in
theorem s_J10_isLatin1 {X : zX} (hX : zOk X RJ10 cJ10_isLatin1 1 1 40 (Option.some Jvm.ClassFile.FieldType.boolean) "isLatin1" []) {o : Nat} {σ : zS} {Rt : Int32 × zS} (h : f_J10_isLatin1 o σ = some Rt) : zG X (zQ X (.inl (eI Rt.1)) Rt.2) 1 0 [(0, zA (some o))] [] σ := by
  unfold f_J10_isLatin1 at h
  refine z_getsI hX (C := "java/lang/String") (n := "COMPACT_STRINGS") (dsc := "Z") (v := 1) (by simp [zStI]) q934 dJ10_isLatin1_0 ?_
  refine z_if_eq (tgt := 17) hX h dJ10_isLatin1_3 (by decide) (fun h => ?_) (fun h => ?_)
  · refine z_iconst hX (v := 0) (by decide) dJ10_isLatin1_17 ?_
    obtain rfl := Option.some.inj h
    exact z_zretT (r := 0) hX (by decide) dJ10_isLatin1_18
  · refine z_aload_n hX 0 rfl rfl dJ10_isLatin1_6 ?_
    refine z_getI hX fl_J10_15_21 h dJ10_isLatin1_7 (fun x1 h => ?_)
    refine z_if_ne (tgt := 17) hX h dJ10_isLatin1_10 (by decide) (fun h => ?_) (fun h => ?_)
    · refine z_iconst hX (v := 0) (by decide) dJ10_isLatin1_17 ?_
      obtain rfl := Option.some.inj h
      exact z_zretT (r := 0) hX (by decide) dJ10_isLatin1_18
    · refine z_iconst hX (v := 1) (by decide) dJ10_isLatin1_13 (z_goto (tgt := 18) hX dJ10_isLatin1_14 (by decide) ?_)
      obtain rfl := Option.some.inj h
      exact z_zretT (r := 1) hX (by decide) dJ10_isLatin1_18

theorem c_J10_isLatin1 {l : Launch} {D : va_G} {tys : zTy} (hl : l.stackTraces = false) {o : Nat} {σ : zS} {Rt : Int32 × zS} (h : f_J10_isLatin1 o σ = some Rt) : zM l D tys yJ10_isLatin1 (ws_ yJ10_isLatin1 cJ10_isLatin1 1 (Option.some Jvm.ClassFile.FieldType.boolean)) 1 40 [zA (some o)] σ (.inl (eI Rt.1)) Rt.2 :=
  zM_in hl rfl (Nat.le_of_ble_eq_true rfl) (fun p e R s m args below meth c hX => z_L rfl (s_J10_isLatin1 hX h))
def f_J5_signedHashCode_8_b (v1 : Option Nat) (v4 : Int32) (rec8 : Int32 → Int32 → zS → Option (Int32 × zS)) (v0 : Int32) (v5 : Int32) (σ : zS) : Option (Int32 × zS) :=
  if v4 ≤ v5 then
    some (v0, σ)
  else
    v1.bind fun a2 =>
    (lI σ a2 1 v5).bind fun x3 =>
    zl ((31 * v0) + (x3 &&& 255)) fun x4 =>
    zl (v5 + 1) fun x5 =>
    rec8 x4 x5 σ

def f_J5_signedHashCode_8 (v1 : Option Nat) (v4 : Int32) : Int32 → Int32 → zS → Option (Int32 × zS) := zlp2 (f_J5_signedHashCode_8_b v1 v4) NN
set_option maxHeartbeats 4000000 in
theorem s_J5_signedHashCode_8_b {X : zX} (hX : zOk X RJ5 cJ5_signedHashCode 6 1 40 (Option.some Jvm.ClassFile.FieldType.int) "signedHashCode" []) {Rt : Int32 × zS} {v1 : Option Nat} {v4 : Int32} {rec8 : Int32 → Int32 → zS → Option (Int32 × zS)} (hrec8 : ∀ (v0 : Int32) (v5 : Int32) (σ : zS), rec8 v0 v5 σ = some Rt → zG X (zQ X (.inl (eI Rt.1)) Rt.2) 6 8 [(0, zI v0), (1, zA v1), (4, zI v4), (5, zI v5)] [] σ) {v0 : Int32} {v5 : Int32} {σ : zS} (h : f_J5_signedHashCode_8_b v1 v4 rec8 v0 v5 σ = some Rt) : zG X (zQ X (.inl (eI Rt.1)) Rt.2) 6 8 [(0, zI v0), (1, zA v1), (4, zI v4), (5, zI v5)] [] σ := by
  unfold f_J5_signedHashCode_8_b at h
  refine z_iload hX 3 rfl dJ5_signedHashCode_8 (z_iload hX 2 rfl dJ5_signedHashCode_10 ?_)
  refine z_icmp_ge (tgt := 35) hX h dJ5_signedHashCode_12 (by decide) (fun h => ?_) (fun h => ?_)
  · refine z_iload_n hX 0 rfl rfl dJ5_signedHashCode_35 ?_
    obtain rfl := Option.some.inj h
    exact z_iret hX dJ5_signedHashCode_36
  · refine z_bipush hX (v := 31) (by decide) dJ5_signedHashCode_15 (z_iload_n hX 0 rfl rfl dJ5_signedHashCode_17 (z_imul hX dJ5_signedHashCode_18 (z_aload_n hX 1 rfl rfl dJ5_signedHashCode_19 (z_iload hX 3 rfl dJ5_signedHashCode_20 ?_))))
    obtain ⟨a2, e9, k_a2⟩ := z_nn h
    subst e9
    have h := k_a2
    refine z_bald hX h dJ5_signedHashCode_22 (fun x3 h => ?_)
    refine z_sipush hX (v := 255) (by decide) dJ5_signedHashCode_23 (z_iand hX dJ5_signedHashCode_26 (z_iadd hX dJ5_signedHashCode_27 ?_))
    refine z_nmI h (fun x4 h => ?_)
    refine z_istore_n (L' := [(0, zI x4), (1, zA (some a2)), (4, zI v4), (5, zI v5)]) hX rfl rfl (by decide) dJ5_signedHashCode_28 ?_
    refine z_iinc hX (j := 3) h rfl (by decide) (by decide) dJ5_signedHashCode_29 (fun x5 h => z_L (L' := [(0, zI x4), (1, zA (some a2)), (4, zI v4), (5, zI x5)]) rfl ?_)
    refine z_goto (tgt := 8) hX dJ5_signedHashCode_32 (by decide) ?_
    exact z_sub [0, 1, 2, 3] rfl (hrec8 _ _ _ h)

theorem s_J5_signedHashCode_8 {X : zX} (hX : zOk X RJ5 cJ5_signedHashCode 6 1 40 (Option.some Jvm.ClassFile.FieldType.int) "signedHashCode" []) {Rt : Int32 × zS} {v1 : Option Nat} {v4 : Int32} {v0 : Int32} {v5 : Int32} {σ : zS} (h : f_J5_signedHashCode_8 v1 v4 v0 v5 σ = some Rt) : zG X (zQ X (.inl (eI Rt.1)) Rt.2) 6 8 [(0, zI v0), (1, zA v1), (4, zI v4), (5, zI v5)] [] σ :=
  zlp2_ok (P := fun v0 v5 σ => zG X (zQ X (.inl (eI Rt.1)) Rt.2) 6 8 [(0, zI v0), (1, zA v1), (4, zI v4), (5, zI v5)] [] σ) (fun rec hr v0 v5 σ h => s_J5_signedHashCode_8_b hX hr h) NN v0 v5 σ h
def f_J5_signedHashCode (p1 : Int32) (p2 : Option Nat) (p3 : Int32) (p4 : Int32) (σ : zS) : Option (Int32 × zS) :=
  zl (p3 + p4) fun x1 =>
  f_J5_signedHashCode_8 p2 x1 p1 p3 σ

set_option maxHeartbeats 4000000 in
theorem s_J5_signedHashCode {X : zX} (hX : zOk X RJ5 cJ5_signedHashCode 6 1 40 (Option.some Jvm.ClassFile.FieldType.int) "signedHashCode" []) {p1 : Int32} {p2 : Option Nat} {p3 : Int32} {p4 : Int32} {σ : zS} {Rt : Int32 × zS} (h : f_J5_signedHashCode p1 p2 p3 p4 σ = some Rt) : zG X (zQ X (.inl (eI Rt.1)) Rt.2) 6 0 [(0, zI p1), (1, zA p2), (2, zI p3), (3, zI p4)] [] σ := by
  unfold f_J5_signedHashCode at h
  refine z_iload_n hX 2 rfl rfl dJ5_signedHashCode_0 (z_iload_n hX 3 rfl rfl dJ5_signedHashCode_1 (z_iadd hX dJ5_signedHashCode_2 ?_))
  refine z_nmI h (fun x1 h => ?_)
  refine z_istore (L' := [(0, zI p1), (1, zA p2), (2, zI p3), (3, zI p4), (4, zI x1)]) hX rfl (by decide) dJ5_signedHashCode_3 (z_iload_n hX 2 rfl rfl dJ5_signedHashCode_5 (z_istore (L' := [(0, zI p1), (1, zA p2), (2, zI p3), (3, zI p4), (4, zI x1), (5, zI p3)]) hX rfl (by decide) dJ5_signedHashCode_6 ?_))
  exact z_sub [0, 1, 4, 5] rfl (s_J5_signedHashCode_8 hX  h)

theorem c_J5_signedHashCode {l : Launch} {D : va_G} {tys : zTy} (hl : l.stackTraces = false) {p1 : Int32} {p2 : Option Nat} {p3 : Int32} {p4 : Int32} {σ : zS} {Rt : Int32 × zS} (h : f_J5_signedHashCode p1 p2 p3 p4 σ = some Rt) : zM l D tys yJ5_signedHashCode (ws_ yJ5_signedHashCode cJ5_signedHashCode 6 (Option.some Jvm.ClassFile.FieldType.int)) 1 40 [zI p1, zA p2, zI p3, zI p4] σ (.inl (eI Rt.1)) Rt.2 :=
  zM_in hl rfl (Nat.le_of_ble_eq_true rfl) (fun p e R s m args below meth c hX => z_L rfl (s_J5_signedHashCode hX h))
def f_J5_hashCode_2_8_b (v1 : Option Nat) (v4 : Int32) (rec8 : Int32 → Int32 → zS → Option (Int32 × zS)) (v0 : Int32) (v5 : Int32) (σ : zS) : Option (Int32 × zS) :=
  if v4 ≤ v5 then
    some (v0, σ)
  else
    v1.bind fun a2 =>
    (lI σ a2 1 v5).bind fun x3 =>
    zl ((31 * v0) + x3) fun x4 =>
    zl (v5 + 1) fun x5 =>
    rec8 x4 x5 σ

def f_J5_hashCode_2_8 (v1 : Option Nat) (v4 : Int32) : Int32 → Int32 → zS → Option (Int32 × zS) := zlp2 (f_J5_hashCode_2_8_b v1 v4) NN
set_option maxHeartbeats 4000000 in
theorem s_J5_hashCode_2_8_b {X : zX} (hX : zOk X RJ5 cJ5_hashCode_2 6 1 40 (Option.some Jvm.ClassFile.FieldType.int) "hashCode" []) {Rt : Int32 × zS} {v1 : Option Nat} {v4 : Int32} {rec8 : Int32 → Int32 → zS → Option (Int32 × zS)} (hrec8 : ∀ (v0 : Int32) (v5 : Int32) (σ : zS), rec8 v0 v5 σ = some Rt → zG X (zQ X (.inl (eI Rt.1)) Rt.2) 6 8 [(0, zI v0), (1, zA v1), (4, zI v4), (5, zI v5)] [] σ) {v0 : Int32} {v5 : Int32} {σ : zS} (h : f_J5_hashCode_2_8_b v1 v4 rec8 v0 v5 σ = some Rt) : zG X (zQ X (.inl (eI Rt.1)) Rt.2) 6 8 [(0, zI v0), (1, zA v1), (4, zI v4), (5, zI v5)] [] σ := by
  unfold f_J5_hashCode_2_8_b at h
  refine z_iload hX 3 rfl dJ5_hashCode_2_8 (z_iload hX 2 rfl dJ5_hashCode_2_10 ?_)
  refine z_icmp_ge (tgt := 31) hX h dJ5_hashCode_2_12 (by decide) (fun h => ?_) (fun h => ?_)
  · refine z_iload_n hX 0 rfl rfl dJ5_hashCode_2_31 ?_
    obtain rfl := Option.some.inj h
    exact z_iret hX dJ5_hashCode_2_32
  · refine z_bipush hX (v := 31) (by decide) dJ5_hashCode_2_15 (z_iload_n hX 0 rfl rfl dJ5_hashCode_2_17 (z_imul hX dJ5_hashCode_2_18 (z_aload_n hX 1 rfl rfl dJ5_hashCode_2_19 (z_iload hX 3 rfl dJ5_hashCode_2_20 ?_))))
    obtain ⟨a2, e9, k_a2⟩ := z_nn h
    subst e9
    have h := k_a2
    refine z_bald hX h dJ5_hashCode_2_22 (fun x3 h => ?_)
    refine z_iadd hX dJ5_hashCode_2_23 ?_
    refine z_nmI h (fun x4 h => ?_)
    refine z_istore_n (L' := [(0, zI x4), (1, zA (some a2)), (4, zI v4), (5, zI v5)]) hX rfl rfl (by decide) dJ5_hashCode_2_24 ?_
    refine z_iinc hX (j := 3) h rfl (by decide) (by decide) dJ5_hashCode_2_25 (fun x5 h => z_L (L' := [(0, zI x4), (1, zA (some a2)), (4, zI v4), (5, zI x5)]) rfl ?_)
    refine z_goto (tgt := 8) hX dJ5_hashCode_2_28 (by decide) ?_
    exact z_sub [0, 1, 2, 3] rfl (hrec8 _ _ _ h)

theorem s_J5_hashCode_2_8 {X : zX} (hX : zOk X RJ5 cJ5_hashCode_2 6 1 40 (Option.some Jvm.ClassFile.FieldType.int) "hashCode" []) {Rt : Int32 × zS} {v1 : Option Nat} {v4 : Int32} {v0 : Int32} {v5 : Int32} {σ : zS} (h : f_J5_hashCode_2_8 v1 v4 v0 v5 σ = some Rt) : zG X (zQ X (.inl (eI Rt.1)) Rt.2) 6 8 [(0, zI v0), (1, zA v1), (4, zI v4), (5, zI v5)] [] σ :=
  zlp2_ok (P := fun v0 v5 σ => zG X (zQ X (.inl (eI Rt.1)) Rt.2) 6 8 [(0, zI v0), (1, zA v1), (4, zI v4), (5, zI v5)] [] σ) (fun rec hr v0 v5 σ h => s_J5_hashCode_2_8_b hX hr h) NN v0 v5 σ h
def f_J5_hashCode_2 (p1 : Int32) (p2 : Option Nat) (p3 : Int32) (p4 : Int32) (σ : zS) : Option (Int32 × zS) :=
  zl (p3 + p4) fun x1 =>
  f_J5_hashCode_2_8 p2 x1 p1 p3 σ

set_option maxHeartbeats 4000000 in
theorem s_J5_hashCode_2 {X : zX} (hX : zOk X RJ5 cJ5_hashCode_2 6 1 40 (Option.some Jvm.ClassFile.FieldType.int) "hashCode" []) {p1 : Int32} {p2 : Option Nat} {p3 : Int32} {p4 : Int32} {σ : zS} {Rt : Int32 × zS} (h : f_J5_hashCode_2 p1 p2 p3 p4 σ = some Rt) : zG X (zQ X (.inl (eI Rt.1)) Rt.2) 6 0 [(0, zI p1), (1, zA p2), (2, zI p3), (3, zI p4)] [] σ := by
  unfold f_J5_hashCode_2 at h
  refine z_iload_n hX 2 rfl rfl dJ5_hashCode_2_0 (z_iload_n hX 3 rfl rfl dJ5_hashCode_2_1 (z_iadd hX dJ5_hashCode_2_2 ?_))
  refine z_nmI h (fun x1 h => ?_)
  refine z_istore (L' := [(0, zI p1), (1, zA p2), (2, zI p3), (3, zI p4), (4, zI x1)]) hX rfl (by decide) dJ5_hashCode_2_3 (z_iload_n hX 2 rfl rfl dJ5_hashCode_2_5 (z_istore (L' := [(0, zI p1), (1, zA p2), (2, zI p3), (3, zI p4), (4, zI x1), (5, zI p3)]) hX rfl (by decide) dJ5_hashCode_2_6 ?_))
  exact z_sub [0, 1, 4, 5] rfl (s_J5_hashCode_2_8 hX  h)

theorem c_J5_hashCode_2 {l : Launch} {D : va_G} {tys : zTy} (hl : l.stackTraces = false) {p1 : Int32} {p2 : Option Nat} {p3 : Int32} {p4 : Int32} {σ : zS} {Rt : Int32 × zS} (h : f_J5_hashCode_2 p1 p2 p3 p4 σ = some Rt) : zM l D tys yJ5_hashCode_2 (ws_ yJ5_hashCode_2 cJ5_hashCode_2 6 (Option.some Jvm.ClassFile.FieldType.int)) 1 40 [zI p1, zA p2, zI p3, zI p4] σ (.inl (eI Rt.1)) Rt.2 :=
  zM_in hl rfl (Nat.le_of_ble_eq_true rfl) (fun p e R s m args below meth c hX => z_L rfl (s_J5_hashCode_2 hX h))
def f_J5_hashCode_4_8_b (v1 : Option Nat) (v4 : Int32) (rec8 : Int32 → Int32 → zS → Option (Int32 × zS)) (v0 : Int32) (v5 : Int32) (σ : zS) : Option (Int32 × zS) :=
  if v4 ≤ v5 then
    some (v0, σ)
  else
    v1.bind fun a2 =>
    (lI σ a2 0 v5).bind fun x3 =>
    zl ((31 * v0) + x3) fun x4 =>
    zl (v5 + 1) fun x5 =>
    rec8 x4 x5 σ

def f_J5_hashCode_4_8 (v1 : Option Nat) (v4 : Int32) : Int32 → Int32 → zS → Option (Int32 × zS) := zlp2 (f_J5_hashCode_4_8_b v1 v4) NN
set_option maxHeartbeats 4000000 in
theorem s_J5_hashCode_4_8_b {X : zX} (hX : zOk X RJ5 cJ5_hashCode_4 6 1 40 (Option.some Jvm.ClassFile.FieldType.int) "hashCode" []) {Rt : Int32 × zS} {v1 : Option Nat} {v4 : Int32} {rec8 : Int32 → Int32 → zS → Option (Int32 × zS)} (hrec8 : ∀ (v0 : Int32) (v5 : Int32) (σ : zS), rec8 v0 v5 σ = some Rt → zG X (zQ X (.inl (eI Rt.1)) Rt.2) 6 8 [(0, zI v0), (1, zA v1), (4, zI v4), (5, zI v5)] [] σ) {v0 : Int32} {v5 : Int32} {σ : zS} (h : f_J5_hashCode_4_8_b v1 v4 rec8 v0 v5 σ = some Rt) : zG X (zQ X (.inl (eI Rt.1)) Rt.2) 6 8 [(0, zI v0), (1, zA v1), (4, zI v4), (5, zI v5)] [] σ := by
  unfold f_J5_hashCode_4_8_b at h
  refine z_iload hX 3 rfl dJ5_hashCode_4_8 (z_iload hX 2 rfl dJ5_hashCode_4_10 ?_)
  refine z_icmp_ge (tgt := 31) hX h dJ5_hashCode_4_12 (by decide) (fun h => ?_) (fun h => ?_)
  · refine z_iload_n hX 0 rfl rfl dJ5_hashCode_4_31 ?_
    obtain rfl := Option.some.inj h
    exact z_iret hX dJ5_hashCode_4_32
  · refine z_bipush hX (v := 31) (by decide) dJ5_hashCode_4_15 (z_iload_n hX 0 rfl rfl dJ5_hashCode_4_17 (z_imul hX dJ5_hashCode_4_18 (z_aload_n hX 1 rfl rfl dJ5_hashCode_4_19 (z_iload hX 3 rfl dJ5_hashCode_4_20 ?_))))
    obtain ⟨a2, e9, k_a2⟩ := z_nn h
    subst e9
    have h := k_a2
    refine z_iald hX h dJ5_hashCode_4_22 (fun x3 h => ?_)
    refine z_iadd hX dJ5_hashCode_4_23 ?_
    refine z_nmI h (fun x4 h => ?_)
    refine z_istore_n (L' := [(0, zI x4), (1, zA (some a2)), (4, zI v4), (5, zI v5)]) hX rfl rfl (by decide) dJ5_hashCode_4_24 ?_
    refine z_iinc hX (j := 3) h rfl (by decide) (by decide) dJ5_hashCode_4_25 (fun x5 h => z_L (L' := [(0, zI x4), (1, zA (some a2)), (4, zI v4), (5, zI x5)]) rfl ?_)
    refine z_goto (tgt := 8) hX dJ5_hashCode_4_28 (by decide) ?_
    exact z_sub [0, 1, 2, 3] rfl (hrec8 _ _ _ h)

theorem s_J5_hashCode_4_8 {X : zX} (hX : zOk X RJ5 cJ5_hashCode_4 6 1 40 (Option.some Jvm.ClassFile.FieldType.int) "hashCode" []) {Rt : Int32 × zS} {v1 : Option Nat} {v4 : Int32} {v0 : Int32} {v5 : Int32} {σ : zS} (h : f_J5_hashCode_4_8 v1 v4 v0 v5 σ = some Rt) : zG X (zQ X (.inl (eI Rt.1)) Rt.2) 6 8 [(0, zI v0), (1, zA v1), (4, zI v4), (5, zI v5)] [] σ :=
  zlp2_ok (P := fun v0 v5 σ => zG X (zQ X (.inl (eI Rt.1)) Rt.2) 6 8 [(0, zI v0), (1, zA v1), (4, zI v4), (5, zI v5)] [] σ) (fun rec hr v0 v5 σ h => s_J5_hashCode_4_8_b hX hr h) NN v0 v5 σ h
def f_J5_hashCode_4 (p1 : Int32) (p2 : Option Nat) (p3 : Int32) (p4 : Int32) (σ : zS) : Option (Int32 × zS) :=
  zl (p3 + p4) fun x1 =>
  f_J5_hashCode_4_8 p2 x1 p1 p3 σ

set_option maxHeartbeats 4000000 in
theorem s_J5_hashCode_4 {X : zX} (hX : zOk X RJ5 cJ5_hashCode_4 6 1 40 (Option.some Jvm.ClassFile.FieldType.int) "hashCode" []) {p1 : Int32} {p2 : Option Nat} {p3 : Int32} {p4 : Int32} {σ : zS} {Rt : Int32 × zS} (h : f_J5_hashCode_4 p1 p2 p3 p4 σ = some Rt) : zG X (zQ X (.inl (eI Rt.1)) Rt.2) 6 0 [(0, zI p1), (1, zA p2), (2, zI p3), (3, zI p4)] [] σ := by
  unfold f_J5_hashCode_4 at h
  refine z_iload_n hX 2 rfl rfl dJ5_hashCode_4_0 (z_iload_n hX 3 rfl rfl dJ5_hashCode_4_1 (z_iadd hX dJ5_hashCode_4_2 ?_))
  refine z_nmI h (fun x1 h => ?_)
  refine z_istore (L' := [(0, zI p1), (1, zA p2), (2, zI p3), (3, zI p4), (4, zI x1)]) hX rfl (by decide) dJ5_hashCode_4_3 (z_iload_n hX 2 rfl rfl dJ5_hashCode_4_5 (z_istore (L' := [(0, zI p1), (1, zA p2), (2, zI p3), (3, zI p4), (4, zI x1), (5, zI p3)]) hX rfl (by decide) dJ5_hashCode_4_6 ?_))
  exact z_sub [0, 1, 4, 5] rfl (s_J5_hashCode_4_8 hX  h)

theorem c_J5_hashCode_4 {l : Launch} {D : va_G} {tys : zTy} (hl : l.stackTraces = false) {p1 : Int32} {p2 : Option Nat} {p3 : Int32} {p4 : Int32} {σ : zS} {Rt : Int32 × zS} (h : f_J5_hashCode_4 p1 p2 p3 p4 σ = some Rt) : zM l D tys yJ5_hashCode_4 (ws_ yJ5_hashCode_4 cJ5_hashCode_4 6 (Option.some Jvm.ClassFile.FieldType.int)) 1 40 [zI p1, zA p2, zI p3, zI p4] σ (.inl (eI Rt.1)) Rt.2 :=
  zM_in hl rfl (Nat.le_of_ble_eq_true rfl) (fun p e R s m args below meth c hX => z_L rfl (s_J5_hashCode_4 hX h))
def f_J5_vectorizedHashCode (p1 : Option Nat) (p2 : Int32) (p3 : Int32) (p4 : Int32) (p5 : Int32) (σ : zS) : Option (Int32 × zS) :=
  if p5.toInt < 4 ∨ 10 < p5.toInt then
    none
  else if p5 = 4 then
    zif (zckA σ p1 1 = true) <|
    zb2 (f_J5_signedHashCode p4 p1 p2 p3 σ) fun x1 σ2 =>
    some (x1, σ2)
  else if p5 = 5 then
    none
  else if p5 = 6 then
    none
  else if p5 = 7 then
    none
  else if p5 = 8 then
    zif (zckA σ p1 1 = true) <|
    zb2 (f_J5_hashCode_2 p4 p1 p2 p3 σ) fun x3 σ4 =>
    some (x3, σ4)
  else if p5 = 9 then
    none
  else if p5 = 10 then
    none
  else none

set_option maxHeartbeats 4000000 in
theorem s_J5_vectorizedHashCode {X : zX} (hX : zOk X RJ5 cJ5_vectorizedHashCode 5 7 110 (Option.some Jvm.ClassFile.FieldType.int) "vectorizedHashCode" []) {p1 : Option Nat} {p2 : Int32} {p3 : Int32} {p4 : Int32} {p5 : Int32} {σ : zS} {Rt : Int32 × zS} (h : f_J5_vectorizedHashCode p1 p2 p3 p4 p5 σ = some Rt) : zG X (zQ X (.inl (eI Rt.1)) Rt.2) 5 0 [(0, zA p1), (1, zI p2), (2, zI p3), (3, zI p4), (4, zI p5)] [] σ := by
  unfold f_J5_vectorizedHashCode at h
  refine z_iload hX 4 rfl dJ5_vectorizedHashCode_0 ?_
  rcases z_ite h with ⟨c9, h⟩ | ⟨c9, h⟩
  · refine z_tableOut (tgt := 129) hX dJ5_vectorizedHashCode_2 c9 (by decide) ?_
    cases h
  · rcases z_ite h with ⟨e9, h⟩ | ⟨-, h⟩
    · rw [e9]
      refine z_tableIn (tgt := 44) hX dJ5_vectorizedHashCode_2 (by decide) (by decide) rfl (by decide) ?_
      refine z_iload_n hX 3 rfl rfl dJ5_vectorizedHashCode_44 (z_aload_n hX 0 rfl rfl dJ5_vectorizedHashCode_45 ?_)
      refine z_castA hX (t := 1) rfl (by decide) q1044 h dJ5_vectorizedHashCode_46 (fun h => ?_)
      refine z_iload_n hX 1 rfl rfl dJ5_vectorizedHashCode_49 (z_iload_n hX 2 rfl rfl dJ5_vectorizedHashCode_50 ?_)
      refine z_cNI hX (rest := []) h (fun r9 σ9 e9 => z_runS hX lk_J5_62 (c_J5_signedHashCode hX.tr e9) ⟨Nat.le_of_ble_eq_true rfl, Nat.le_of_ble_eq_true rfl⟩ rfl (Nat.le_of_ble_eq_true rfl) dJ5_vectorizedHashCode_51 rfl) (fun x1 σ2 h => ?_)
      refine z_goto (tgt := 157) hX dJ5_vectorizedHashCode_54 (by decide) ?_
      obtain rfl := Option.some.inj h
      exact z_iret hX dJ5_vectorizedHashCode_157
    rcases z_ite h with ⟨e9, h⟩ | ⟨-, h⟩
    · rw [e9]
      refine z_tableIn (tgt := 57) hX dJ5_vectorizedHashCode_2 (by decide) (by decide) rfl (by decide) ?_
      refine z_aload_n hX 0 rfl rfl dJ5_vectorizedHashCode_57 ?_
      cases h
    rcases z_ite h with ⟨e9, h⟩ | ⟨-, h⟩
    · rw [e9]
      refine z_tableIn (tgt := 129) hX dJ5_vectorizedHashCode_2 (by decide) (by decide) rfl (by decide) ?_
      cases h
    rcases z_ite h with ⟨e9, h⟩ | ⟨-, h⟩
    · rw [e9]
      refine z_tableIn (tgt := 129) hX dJ5_vectorizedHashCode_2 (by decide) (by decide) rfl (by decide) ?_
      cases h
    rcases z_ite h with ⟨e9, h⟩ | ⟨-, h⟩
    · rw [e9]
      refine z_tableIn (tgt := 90) hX dJ5_vectorizedHashCode_2 (by decide) (by decide) rfl (by decide) ?_
      refine z_iload_n hX 3 rfl rfl dJ5_vectorizedHashCode_90 (z_aload_n hX 0 rfl rfl dJ5_vectorizedHashCode_91 ?_)
      refine z_castA hX (t := 1) rfl (by decide) q1044 h dJ5_vectorizedHashCode_92 (fun h => ?_)
      refine z_iload_n hX 1 rfl rfl dJ5_vectorizedHashCode_95 (z_iload_n hX 2 rfl rfl dJ5_vectorizedHashCode_96 ?_)
      refine z_cNI hX (rest := []) h (fun r9 σ9 e9 => z_runS hX lk_J5_75 (c_J5_hashCode_2 hX.tr e9) ⟨Nat.le_of_ble_eq_true rfl, Nat.le_of_ble_eq_true rfl⟩ rfl (Nat.le_of_ble_eq_true rfl) dJ5_vectorizedHashCode_97 rfl) (fun x3 σ4 h => ?_)
      refine z_goto (tgt := 157) hX dJ5_vectorizedHashCode_100 (by decide) ?_
      obtain rfl := Option.some.inj h
      exact z_iret hX dJ5_vectorizedHashCode_157
    rcases z_ite h with ⟨e9, h⟩ | ⟨-, h⟩
    · rw [e9]
      refine z_tableIn (tgt := 103) hX dJ5_vectorizedHashCode_2 (by decide) (by decide) rfl (by decide) ?_
      refine z_iload_n hX 3 rfl rfl dJ5_vectorizedHashCode_103 (z_aload_n hX 0 rfl rfl dJ5_vectorizedHashCode_104 ?_)
      cases h
    rcases z_ite h with ⟨e9, h⟩ | ⟨-, h⟩
    · rw [e9]
      refine z_tableIn (tgt := 116) hX dJ5_vectorizedHashCode_2 (by decide) (by decide) rfl (by decide) ?_
      refine z_iload_n hX 3 rfl rfl dJ5_vectorizedHashCode_116 (z_aload_n hX 0 rfl rfl dJ5_vectorizedHashCode_117 ?_)
      cases h
    cases h

theorem c_J5_vectorizedHashCode {l : Launch} {D : va_G} {tys : zTy} (hl : l.stackTraces = false) {p1 : Option Nat} {p2 : Int32} {p3 : Int32} {p4 : Int32} {p5 : Int32} {σ : zS} {Rt : Int32 × zS} (h : f_J5_vectorizedHashCode p1 p2 p3 p4 p5 σ = some Rt) : zM l D tys yJ5_vectorizedHashCode (ws_ yJ5_vectorizedHashCode cJ5_vectorizedHashCode 5 (Option.some Jvm.ClassFile.FieldType.int)) 7 110 [zA p1, zI p2, zI p3, zI p4, zI p5] σ (.inl (eI Rt.1)) Rt.2 :=
  zM_in hl rfl (Nat.le_of_ble_eq_true rfl) (fun p e R s m args below meth c hX => z_L rfl (s_J5_vectorizedHashCode hX h))
def f_J12_hashCode (p1 : Option Nat) (σ : zS) : Option (Int32 × zS) :=
  p1.bind fun a1 =>
  (zaln σ a1).bind fun x2 =>
  if x2 = 0 then
    some ((0 : Int32), σ)
  else if x2 = 1 then
    (lI σ a1 1 0).bind fun x3 =>
    some (x3 &&& 255, σ)
  else
    (zaln σ a1).bind fun x4 =>
    zb2 (f_J5_vectorizedHashCode (some a1) 0 x4 0 4 σ) fun x5 σ6 =>
    some (x5, σ6)

set_option maxHeartbeats 4000000 in
theorem s_J12_hashCode {X : zX} (hX : zOk X RJ12 cJ12_hashCode 1 8 134 (Option.some Jvm.ClassFile.FieldType.int) "hashCode" []) {p1 : Option Nat} {σ : zS} {Rt : Int32 × zS} (h : f_J12_hashCode p1 σ = some Rt) : zG X (zQ X (.inl (eI Rt.1)) Rt.2) 1 0 [(0, zA p1)] [] σ := by
  unfold f_J12_hashCode at h
  refine z_aload_n hX 0 rfl rfl dJ12_hashCode_0 ?_
  obtain ⟨a1, e9, k_a1⟩ := z_nn h
  subst e9
  have h := k_a1
  refine z_alen hX h dJ12_hashCode_1 (fun x2 h => ?_)
  rcases z_ite h with ⟨e9, h⟩ | ⟨n0, h⟩
  · rw [e9]
    refine z_lookup (tgt := 28) (off := 26) hX dJ12_hashCode_2 rfl (by decide) (by decide) ?_
    refine z_iconst hX (v := 0) (by decide) dJ12_hashCode_28 (z_goto (tgt := 51) hX dJ12_hashCode_29 (by decide) ?_)
    obtain rfl := Option.some.inj h
    exact z_iret hX dJ12_hashCode_51
  rcases z_ite h with ⟨e9, h⟩ | ⟨n1, h⟩
  · rw [e9]
    refine z_lookup (tgt := 32) (off := 30) hX dJ12_hashCode_2 rfl (by decide) (by decide) ?_
    refine z_aload_n hX 0 rfl rfl dJ12_hashCode_32 (z_iconst hX (v := 0) (by decide) dJ12_hashCode_33 ?_)
    refine z_bald hX h dJ12_hashCode_34 (fun x3 h => ?_)
    refine z_sipush hX (v := 255) (by decide) dJ12_hashCode_35 (z_iand hX dJ12_hashCode_38 (z_goto (tgt := 51) hX dJ12_hashCode_39 (by decide) ?_))
    obtain rfl := Option.some.inj h
    exact z_iret hX dJ12_hashCode_51
  refine z_lookup (tgt := 42) hX dJ12_hashCode_2 rfl (zlk_dflt _ (zlk_cons n0 (by decide) (zlk_cons n1 (by decide) zlk_nil))) (by decide) ?_
  refine z_aload_n hX 0 rfl rfl dJ12_hashCode_42 (z_iconst hX (v := 0) (by decide) dJ12_hashCode_43 (z_aload_n hX 0 rfl rfl dJ12_hashCode_44 ?_))
  refine z_alen hX h dJ12_hashCode_45 (fun x4 h => ?_)
  refine z_iconst hX (v := 0) (by decide) dJ12_hashCode_46 (z_iconst hX (v := 4) (by decide) dJ12_hashCode_47 ?_)
  refine z_cNI hX (rest := []) h (fun r9 σ9 e9 => z_runS hX lk_J12_84 (c_J5_vectorizedHashCode hX.tr e9) ⟨Nat.le_of_ble_eq_true rfl, Nat.le_of_ble_eq_true rfl⟩ rfl (Nat.le_of_ble_eq_true rfl) dJ12_hashCode_48 rfl) (fun x5 σ6 h => ?_)
  obtain rfl := Option.some.inj h
  exact z_iret hX dJ12_hashCode_51

theorem c_J12_hashCode {l : Launch} {D : va_G} {tys : zTy} (hl : l.stackTraces = false) {p1 : Option Nat} {σ : zS} {Rt : Int32 × zS} (h : f_J12_hashCode p1 σ = some Rt) : zM l D tys yJ12_hashCode (ws_ yJ12_hashCode cJ12_hashCode 1 (Option.some Jvm.ClassFile.FieldType.int)) 8 134 [zA p1] σ (.inl (eI Rt.1)) Rt.2 :=
  zM_in hl rfl (Nat.le_of_ble_eq_true rfl) (fun p e R s m args below meth c hX => z_L rfl (s_J12_hashCode hX h))
def f_J10_hashCode (o : Nat) (σ : zS) : Option (Int32 × zS) :=
  (gI σ o 21 2).bind fun x1 =>
  if ¬ x1 = 0 then
    some (x1, σ)
  else
    (gI σ o 21 3).bind fun x2 =>
    if ¬ x2 = 0 then
      some (x1, σ)
    else
      zif (zcl σ o = 21) <|
      zb2 (f_J10_isLatin1 o σ) fun x4 σ5 =>
      if x4 = 0 then
        (gR σ5 o 21 0).bind fun r6 =>
        none
      else
        (gR σ5 o 21 0).bind fun r7 =>
        zb2 (f_J12_hashCode r7 σ5) fun x8 σ9 =>
        if ¬ x8 = 0 then
          (pI σ9 o 21 2 x8).bind fun σ10 =>
          some (x8, σ10)
        else
          (pZ σ9 o 21 3 1).bind fun σ11 =>
          some (x8, σ11)

set_option maxHeartbeats 4000000 in
theorem s_J10_hashCode {X : zX} (hX : zOk X RJ10 cJ10_hashCode 2 9 154 (Option.some Jvm.ClassFile.FieldType.int) "hashCode" []) {o : Nat} {σ : zS} {Rt : Int32 × zS} (h : f_J10_hashCode o σ = some Rt) : zG X (zQ X (.inl (eI Rt.1)) Rt.2) 2 0 [(0, zA (some o))] [] σ := by
  unfold f_J10_hashCode at h
  refine z_aload_n hX 0 rfl rfl dJ10_hashCode_0 ?_
  refine z_getI hX fl_J10_19_21 h dJ10_hashCode_1 (fun x1 h => ?_)
  refine z_istore_n (L' := [(0, zA (some o)), (1, zI x1)]) hX rfl rfl (by decide) dJ10_hashCode_4 (z_iload_n hX 1 rfl rfl dJ10_hashCode_5 ?_)
  refine z_if_ne (tgt := 58) hX h dJ10_hashCode_6 (by decide) (fun h => ?_) (fun h => ?_)
  · refine z_iload_n hX 1 rfl rfl dJ10_hashCode_58 ?_
    obtain rfl := Option.some.inj h
    exact z_iret hX dJ10_hashCode_59
  · refine z_aload_n hX 0 rfl rfl dJ10_hashCode_9 ?_
    refine z_getI hX fl_J10_23_21 h dJ10_hashCode_10 (fun x2 h => ?_)
    refine z_if_ne (tgt := 58) hX h dJ10_hashCode_13 (by decide) (fun h => ?_) (fun h => ?_)
    · refine z_iload_n hX 1 rfl rfl dJ10_hashCode_58 ?_
      obtain rfl := Option.some.inj h
      exact z_iret hX dJ10_hashCode_59
    · refine z_aload_n hX 0 rfl rfl dJ10_hashCode_16 ?_
      obtain ⟨c3, h⟩ := z_ck h
      refine z_cNI hX (rest := []) h (fun r9 σ9 e9 => z_runV hX lk_J10_492 (c_J10_isLatin1 hX.tr e9) (ci := 21) zc9_21 c3 ⟨Nat.le_of_ble_eq_true rfl, Nat.le_of_ble_eq_true rfl⟩ rfl (Nat.le_of_ble_eq_true rfl) dJ10_hashCode_17 rfl) (fun x4 σ5 h => ?_)
      refine z_if_eq (tgt := 33) hX h dJ10_hashCode_20 (by decide) (fun h => ?_) (fun h => ?_)
      · refine z_aload_n hX 0 rfl rfl dJ10_hashCode_33 ?_
        refine z_getR hX fl_J10_9_21 h dJ10_hashCode_34 (fun r6 h => ?_)
        cases h
      · refine z_aload_n hX 0 rfl rfl dJ10_hashCode_23 ?_
        refine z_getR hX fl_J10_9_21 h dJ10_hashCode_24 (fun r7 h => ?_)
        refine z_cNI hX (rest := []) h (fun r9 σ9 e9 => z_runS hX lk_J10_628 (c_J12_hashCode hX.tr e9) ⟨Nat.le_of_ble_eq_true rfl, Nat.le_of_ble_eq_true rfl⟩ rfl (Nat.le_of_ble_eq_true rfl) dJ10_hashCode_27 rfl) (fun x8 σ9 h => ?_)
        refine z_goto (tgt := 40) hX dJ10_hashCode_30 (by decide) (z_istore_n (L' := [(0, zA (some o)), (1, zI x8)]) hX rfl rfl (by decide) dJ10_hashCode_40 (z_iload_n hX 1 rfl rfl dJ10_hashCode_41 ?_))
        refine z_if_ne (tgt := 53) hX h dJ10_hashCode_42 (by decide) (fun h => ?_) (fun h => ?_)
        · refine z_aload_n hX 0 rfl rfl dJ10_hashCode_53 (z_iload_n hX 1 rfl rfl dJ10_hashCode_54 ?_)
          refine z_putI hX fp_J10_19_21 (fun h => nomatch h) h dJ10_hashCode_55 (fun σ10 h => ?_)
          refine z_iload_n hX 1 rfl rfl dJ10_hashCode_58 ?_
          obtain rfl := Option.some.inj h
          exact z_iret hX dJ10_hashCode_59
        · refine z_aload_n hX 0 rfl rfl dJ10_hashCode_45 (z_iconst hX (v := 1) (by decide) dJ10_hashCode_46 ?_)
          refine z_putZ hX fp_J10_23_21 (fun h => nomatch h) h dJ10_hashCode_47 (fun σ11 h => ?_)
          refine z_goto (tgt := 58) hX dJ10_hashCode_50 (by decide) (z_iload_n hX 1 rfl rfl dJ10_hashCode_58 ?_)
          obtain rfl := Option.some.inj h
          exact z_iret hX dJ10_hashCode_59

theorem c_J10_hashCode {l : Launch} {D : va_G} {tys : zTy} (hl : l.stackTraces = false) {o : Nat} {σ : zS} {Rt : Int32 × zS} (h : f_J10_hashCode o σ = some Rt) : zM l D tys yJ10_hashCode (ws_ yJ10_hashCode cJ10_hashCode 2 (Option.some Jvm.ClassFile.FieldType.int)) 9 154 [zA (some o)] σ (.inl (eI Rt.1)) Rt.2 :=
  zM_in hl rfl (Nat.le_of_ble_eq_true rfl) (fun p e R s m args below meth c hX => z_L rfl (s_J10_hashCode hX h))
def f_J12_equals_9_b (v0 : Option Nat) (v1 : Option Nat) (rec9 : Int32 → zS → Option (Int32 × zS)) (v2 : Int32) (σ : zS) : Option (Int32 × zS) :=
  v0.bind fun a5 =>
  (zaln σ a5).bind fun x6 =>
  if x6 ≤ v2 then
    some ((1 : Int32), σ)
  else
    (lI σ a5 1 v2).bind fun x7 =>
    v1.bind fun a8 =>
    (lI σ a8 1 v2).bind fun x9 =>
    if x7 = x9 then
      zl (v2 + 1) fun x10 =>
      rec9 x10 σ
    else
      some ((0 : Int32), σ)

def f_J12_equals_9 (v0 : Option Nat) (v1 : Option Nat) : Int32 → zS → Option (Int32 × zS) := zlp1 (f_J12_equals_9_b v0 v1) NN
set_option maxHeartbeats 4000000 in
theorem s_J12_equals_9_b {X : zX} (hX : zOk X RJ12 cJ12_equals 3 1 40 (Option.some Jvm.ClassFile.FieldType.boolean) "equals" []) {Rt : Int32 × zS} {v0 : Option Nat} {v1 : Option Nat} {rec9 : Int32 → zS → Option (Int32 × zS)} (hrec9 : ∀ (v2 : Int32) (σ : zS), rec9 v2 σ = some Rt → zG X (zQ X (.inl (eI Rt.1)) Rt.2) 3 9 [(0, zA v0), (1, zA v1), (2, zI v2)] [] σ) {v2 : Int32} {σ : zS} (h : f_J12_equals_9_b v0 v1 rec9 v2 σ = some Rt) : zG X (zQ X (.inl (eI Rt.1)) Rt.2) 3 9 [(0, zA v0), (1, zA v1), (2, zI v2)] [] σ := by
  unfold f_J12_equals_9_b at h
  refine z_iload_n hX 2 rfl rfl dJ12_equals_9 (z_aload_n hX 0 rfl rfl dJ12_equals_10 ?_)
  obtain ⟨a5, e9, k_a5⟩ := z_nn h
  subst e9
  have h := k_a5
  refine z_alen hX h dJ12_equals_11 (fun x6 h => ?_)
  refine z_icmp_ge (tgt := 32) hX h dJ12_equals_12 (by decide) (fun h => ?_) (fun h => ?_)
  · refine z_iconst hX (v := 1) (by decide) dJ12_equals_32 ?_
    obtain rfl := Option.some.inj h
    exact z_zretT (r := 1) hX (by decide) dJ12_equals_33
  · refine z_aload_n hX 0 rfl rfl dJ12_equals_15 (z_iload_n hX 2 rfl rfl dJ12_equals_16 ?_)
    refine z_bald hX h dJ12_equals_17 (fun x7 h => ?_)
    refine z_aload_n hX 1 rfl rfl dJ12_equals_18 (z_iload_n hX 2 rfl rfl dJ12_equals_19 ?_)
    obtain ⟨a8, e9, k_a8⟩ := z_nn h
    subst e9
    have h := k_a8
    refine z_bald hX h dJ12_equals_20 (fun x9 h => ?_)
    refine z_icmp_eq (tgt := 26) hX h dJ12_equals_21 (by decide) (fun h => ?_) (fun h => ?_)
    · refine z_iinc hX (j := 2) h rfl (by decide) (by decide) dJ12_equals_26 (fun x10 h => z_L (L' := [(0, zA (some a5)), (1, zA (some a8)), (2, zI x10)]) rfl ?_)
      refine z_goto (tgt := 9) hX dJ12_equals_29 (by decide) ?_
      exact z_sub [0, 1, 2] rfl (hrec9 _ _ h)
    · refine z_iconst hX (v := 0) (by decide) dJ12_equals_24 ?_
      obtain rfl := Option.some.inj h
      exact z_zretT (r := 0) hX (by decide) dJ12_equals_25

theorem s_J12_equals_9 {X : zX} (hX : zOk X RJ12 cJ12_equals 3 1 40 (Option.some Jvm.ClassFile.FieldType.boolean) "equals" []) {Rt : Int32 × zS} {v0 : Option Nat} {v1 : Option Nat} {v2 : Int32} {σ : zS} (h : f_J12_equals_9 v0 v1 v2 σ = some Rt) : zG X (zQ X (.inl (eI Rt.1)) Rt.2) 3 9 [(0, zA v0), (1, zA v1), (2, zI v2)] [] σ :=
  zlp1_ok (P := fun v2 σ => zG X (zQ X (.inl (eI Rt.1)) Rt.2) 3 9 [(0, zA v0), (1, zA v1), (2, zI v2)] [] σ) (fun rec hr v2 σ h => s_J12_equals_9_b hX hr h) NN v2 σ h
def f_J12_equals (p1 : Option Nat) (p2 : Option Nat) (σ : zS) : Option (Int32 × zS) :=
  p1.bind fun a1 =>
  (zaln σ a1).bind fun x2 =>
  p2.bind fun a3 =>
  (zaln σ a3).bind fun x4 =>
  if ¬ x2 = x4 then
    some ((0 : Int32), σ)
  else
    f_J12_equals_9 (some a1) (some a3) 0 σ

set_option maxHeartbeats 4000000 in
theorem s_J12_equals {X : zX} (hX : zOk X RJ12 cJ12_equals 3 1 40 (Option.some Jvm.ClassFile.FieldType.boolean) "equals" []) {p1 : Option Nat} {p2 : Option Nat} {σ : zS} {Rt : Int32 × zS} (h : f_J12_equals p1 p2 σ = some Rt) : zG X (zQ X (.inl (eI Rt.1)) Rt.2) 3 0 [(0, zA p1), (1, zA p2)] [] σ := by
  unfold f_J12_equals at h
  refine z_aload_n hX 0 rfl rfl dJ12_equals_0 ?_
  obtain ⟨a1, e9, k_a1⟩ := z_nn h
  subst e9
  have h := k_a1
  refine z_alen hX h dJ12_equals_1 (fun x2 h => ?_)
  refine z_aload_n hX 1 rfl rfl dJ12_equals_2 ?_
  obtain ⟨a3, e9, k_a3⟩ := z_nn h
  subst e9
  have h := k_a3
  refine z_alen hX h dJ12_equals_3 (fun x4 h => ?_)
  refine z_icmp_ne (tgt := 34) hX h dJ12_equals_4 (by decide) (fun h => ?_) (fun h => ?_)
  · refine z_iconst hX (v := 0) (by decide) dJ12_equals_34 ?_
    obtain rfl := Option.some.inj h
    exact z_zretT (r := 0) hX (by decide) dJ12_equals_35
  · refine z_iconst hX (v := 0) (by decide) dJ12_equals_7 (z_istore_n (L' := [(0, zA (some a1)), (1, zA (some a3)), (2, zI 0)]) hX rfl rfl (by decide) dJ12_equals_8 ?_)
    exact z_sub [0, 1, 2] rfl (s_J12_equals_9 hX  h)

theorem c_J12_equals {l : Launch} {D : va_G} {tys : zTy} (hl : l.stackTraces = false) {p1 : Option Nat} {p2 : Option Nat} {σ : zS} {Rt : Int32 × zS} (h : f_J12_equals p1 p2 σ = some Rt) : zM l D tys yJ12_equals (ws_ yJ12_equals cJ12_equals 3 (Option.some Jvm.ClassFile.FieldType.boolean)) 1 40 [zA p1, zA p2] σ (.inl (eI Rt.1)) Rt.2 :=
  zM_in hl rfl (Nat.le_of_ble_eq_true rfl) (fun p e R s m args below meth c hX => z_L rfl (s_J12_equals hX h))
def f_J10_equals_36 (o : Nat) (v2 : Option Nat) (σ : zS) : Option (Int32 × zS) :=
  (gR σ o 21 0).bind fun r2 =>
  v2.bind fun a3 =>
  (gR σ a3 21 0).bind fun r4 =>
  zb2 (f_J12_equals r2 r4 σ) fun x5 σ6 =>
  if x5 = 0 then
    some ((0 : Int32), σ6)
  else
    some ((1 : Int32), σ6)

set_option maxHeartbeats 4000000 in
theorem s_J10_equals_36 {X : zX} (hX : zOk X RJ10 cJ10_equals 3 2 62 (Option.some Jvm.ClassFile.FieldType.boolean) "equals" []) {o : Nat} {Rt : Int32 × zS} {v2 : Option Nat} {σ : zS} (h : f_J10_equals_36 o v2 σ = some Rt) : zG X (zQ X (.inl (eI Rt.1)) Rt.2) 3 36 [(0, zA (some o)), (2, zA v2)] [] σ := by
  unfold f_J10_equals_36 at h
  refine z_aload_n hX 0 rfl rfl dJ10_equals_36 ?_
  refine z_getR hX fl_J10_9_21 h dJ10_equals_37 (fun r2 h => ?_)
  refine z_aload_n hX 1 rfl rfl dJ10_equals_40 ?_
  obtain ⟨a3, e9, k_a3⟩ := z_nn h
  subst e9
  have h := k_a3
  refine z_getR hX fl_J10_9_21 h dJ10_equals_41 (fun r4 h => ?_)
  refine z_cNI hX (rest := []) h (fun r9 σ9 e9 => z_runS hX lk_J10_541 (c_J12_equals hX.tr e9) ⟨Nat.le_of_ble_eq_true rfl, Nat.le_of_ble_eq_true rfl⟩ rfl (Nat.le_of_ble_eq_true rfl) dJ10_equals_44 rfl) (fun x5 σ6 h => ?_)
  refine z_if_eq (tgt := 54) hX h dJ10_equals_47 (by decide) (fun h => ?_) (fun h => ?_)
  · refine z_iconst hX (v := 0) (by decide) dJ10_equals_54 ?_
    obtain rfl := Option.some.inj h
    exact z_zretT (r := 0) hX (by decide) dJ10_equals_55
  · refine z_iconst hX (v := 1) (by decide) dJ10_equals_50 (z_goto (tgt := 55) hX dJ10_equals_51 (by decide) ?_)
    obtain rfl := Option.some.inj h
    exact z_zretT (r := 1) hX (by decide) dJ10_equals_55

def f_J10_equals (o : Nat) (p1 : Option Nat) (σ : zS) : Option (Int32 × zS) :=
  if ¬ (some o) = p1 then
    p1.bind fun a1 =>
    zif (zcl σ a1 = 21) <|
    if (1 : Int32) = 0 then
      some ((0 : Int32), σ)
    else
      zif (zckC σ (some a1) 21 = true) <|
      if (1 : Int32) = 0 then
        f_J10_equals_36 o (some a1) σ
      else
        (gI σ o 21 1).bind fun x7 =>
        (gI σ a1 21 1).bind fun x8 =>
        if ¬ x7 = x8 then
          some ((0 : Int32), σ)
        else
          f_J10_equals_36 o (some a1) σ
  else
    some ((1 : Int32), σ)

set_option maxHeartbeats 4000000 in
theorem s_J10_equals {X : zX} (hX : zOk X RJ10 cJ10_equals 3 2 62 (Option.some Jvm.ClassFile.FieldType.boolean) "equals" []) {o : Nat} {p1 : Option Nat} {σ : zS} {Rt : Int32 × zS} (h : f_J10_equals o p1 σ = some Rt) : zG X (zQ X (.inl (eI Rt.1)) Rt.2) 3 0 [(0, zA (some o)), (1, zA p1)] [] σ := by
  unfold f_J10_equals at h
  refine z_aload_n hX 0 rfl rfl dJ10_equals_0 (z_aload_n hX 1 rfl rfl dJ10_equals_1 ?_)
  refine z_acmp_ne (tgt := 7) hX h dJ10_equals_2 (by decide) (fun h => ?_) (fun h => ?_)
  · refine z_aload_n hX 1 rfl rfl dJ10_equals_7 ?_
    obtain ⟨a1, e9, k_a1⟩ := z_nn h
    subst e9
    have h := k_a1
    refine z_instC hX (ci := 21) rfl q1096 h dJ10_equals_8 (fun h => ?_)
    refine z_if_eq (tgt := 54) hX h dJ10_equals_11 (by decide) (fun h => ?_) (fun h => ?_)
    · refine z_iconst hX (v := 0) (by decide) dJ10_equals_54 ?_
      obtain rfl := Option.some.inj h
      exact z_zretT (r := 0) hX (by decide) dJ10_equals_55
    · refine z_aload_n hX 1 rfl rfl dJ10_equals_14 ?_
      refine z_castC hX (ci := 21) rfl q1096 h dJ10_equals_15 (fun h => ?_)
      refine z_astore_n (L' := [(0, zA (some o)), (1, zA (some a1)), (2, zA (some a1))]) hX rfl rfl (by decide) dJ10_equals_18 (z_getsI hX (C := "java/lang/String") (n := "COMPACT_STRINGS") (dsc := "Z") (v := 1) (by simp [zStI]) q934 dJ10_equals_19 ?_)
      refine z_if_eq (tgt := 36) hX h dJ10_equals_22 (by decide) (fun h => ?_) (fun h => ?_)
      · exact z_sub [0, 2] rfl (s_J10_equals_36 (o := o) hX  h)
      · refine z_aload_n hX 0 rfl rfl dJ10_equals_25 ?_
        refine z_getI hX fl_J10_15_21 h dJ10_equals_26 (fun x7 h => ?_)
        refine z_aload_n hX 2 rfl rfl dJ10_equals_29 ?_
        refine z_getI hX fl_J10_15_21 h dJ10_equals_30 (fun x8 h => ?_)
        refine z_icmp_ne (tgt := 54) hX h dJ10_equals_33 (by decide) (fun h => ?_) (fun h => ?_)
        · refine z_iconst hX (v := 0) (by decide) dJ10_equals_54 ?_
          obtain rfl := Option.some.inj h
          exact z_zretT (r := 0) hX (by decide) dJ10_equals_55
        · exact z_sub [0, 2] rfl (s_J10_equals_36 (o := o) hX  h)
  · refine z_iconst hX (v := 1) (by decide) dJ10_equals_5 ?_
    obtain rfl := Option.some.inj h
    exact z_zretT (r := 1) hX (by decide) dJ10_equals_6

theorem c_J10_equals {l : Launch} {D : va_G} {tys : zTy} (hl : l.stackTraces = false) {o : Nat} {p1 : Option Nat} {σ : zS} {Rt : Int32 × zS} (h : f_J10_equals o p1 σ = some Rt) : zM l D tys yJ10_equals (ws_ yJ10_equals cJ10_equals 3 (Option.some Jvm.ClassFile.FieldType.boolean)) 2 62 [zA (some o), zA p1] σ (.inl (eI Rt.1)) Rt.2 :=
  zM_in hl rfl (Nat.le_of_ble_eq_true rfl) (fun p e R s m args below meth c hX => z_L rfl (s_J10_equals hX h))
def f_X3_figures_109 (o : Nat) (σ : zS) : Option ((Int32 ⊕ Nat) × zS) :=
  zif (zcl σ o = 2) <|
  zb2 (f_X3_wrong o σ) fun r13 σ14 =>
  r13.bind fun a15 =>
  zif (zcl σ14 a15 = 9) <| some (.inr 5, σ14)

set_option maxHeartbeats 4000000 in
theorem s_X3_figures_109 {X : zX} (hX : zOk X RX3 cX3_figures 5 8 130 (Option.some Jvm.ClassFile.FieldType.int) "figures" []) {o : Nat} {Rt : (Int32 ⊕ Nat) × zS} {σ : zS} (h : f_X3_figures_109 o σ = some Rt) : zG X (zQ X (zot eI Rt.1) Rt.2) 5 109 [(0, zA (some o))] [] σ := by
  unfold f_X3_figures_109 at h
  refine z_aload_n hX 0 rfl rfl dX3_figures_109 ?_
  obtain ⟨c12, h⟩ := z_ck h
  refine z_cNA hX (rest := []) h (fun r9 σ9 e9 => z_runV hX lk_X3_69 (c_X3_wrong hX.tr e9) (ci := 2) zc9_2 c12 ⟨Nat.le_of_ble_eq_true rfl, Nat.le_of_ble_eq_true rfl⟩ rfl (Nat.le_of_ble_eq_true rfl) dX3_figures_110 rfl) (fun r13 σ14 h => ?_)
  obtain ⟨a15, e9, k_a15⟩ := z_nn h
  subst e9
  have h := k_a15
  refine z_athrow hX (k := 5) (ci := 9) rfl h dX3_figures_113 (fun h => ?_)
  obtain rfl := Option.some.inj h
  exact z_out hX (fun x hx => nomatch hx)

def f_X3_figures_60 (o : Nat) (rec7 : Int32 → zS → Option ((Int32 ⊕ Nat) × zS)) (v1 : Int32) (v2 : Int32) (v3 : Int32) (t0 : Int32) (σ : zS) : Option ((Int32 ⊕ Nat) × zS) :=
  (gI σ o 2 3).bind fun x22 =>
  (pI σ o 2 3 (x22 + 1)).bind fun σ23 =>
  rec7 t0 σ23

set_option maxHeartbeats 4000000 in
theorem s_X3_figures_60 {X : zX} (hX : zOk X RX3 cX3_figures 5 8 130 (Option.some Jvm.ClassFile.FieldType.int) "figures" []) {o : Nat} {Rt : (Int32 ⊕ Nat) × zS} {rec7 : Int32 → zS → Option ((Int32 ⊕ Nat) × zS)} {v1 : Int32} {v2 : Int32} {v3 : Int32} (hrec7 : ∀ (v4 : Int32) (σ : zS), rec7 v4 σ = some Rt → zG X (zQ X (zot eI Rt.1) Rt.2) 5 7 [(0, zA (some o)), (1, zI v1), (2, zI v2), (3, zI v3), (4, zI v4)] [] σ) {t0 : Int32} {σ : zS} (h : f_X3_figures_60 o rec7 v1 v2 v3 t0 σ = some Rt) : zG X (zQ X (zot eI Rt.1) Rt.2) 5 60 [(0, zA (some o)), (1, zI v1), (2, zI v2), (3, zI v3)] [zI t0] σ := by
  unfold f_X3_figures_60 at h
  refine z_istore (L' := [(0, zA (some o)), (1, zI v1), (2, zI v2), (3, zI v3), (4, zI t0)]) hX rfl (by decide) dX3_figures_60 (z_aload_n hX 0 rfl rfl dX3_figures_62 (z_dup hX rfl dX3_figures_63 ?_))
  refine z_getI hX fl_X3_25_2 h dX3_figures_64 (fun x22 h => ?_)
  refine z_iconst hX (v := 1) (by decide) dX3_figures_67 (z_iadd hX dX3_figures_68 ?_)
  refine z_putI hX fp_X3_25_2 (fun h => nomatch h) h dX3_figures_69 (fun σ23 h => ?_)
  refine z_goto (tgt := 7) hX dX3_figures_72 (by decide) ?_
  exact z_sub [0, 1, 2, 3, 4] rfl (hrec7 _ _ h)

def f_X3_figures_7_b (o : Nat) (v1 : Int32) (v2 : Int32) (v3 : Int32) (rec7 : Int32 → zS → Option ((Int32 ⊕ Nat) × zS)) (v4 : Int32) (σ : zS) : Option ((Int32 ⊕ Nat) × zS) :=
  (gI σ o 2 3).bind fun x4 =>
  zif (zcl σ o = 2) <|
  zb2 (f_X3_byteAt o x4 σ) fun x6 σ7 =>
  zb2 (f_X1_in x6 48 57 σ7) fun x8 σ9 =>
  if x8 = 0 then
    (gI σ9 o 2 3).bind fun x10 =>
    (gI σ9 o 2 4).bind fun x11 =>
    if x10 = x11 then
      f_X3_figures_109 o σ9
    else
      (gI σ9 o 2 3).bind fun x16 =>
      (gI σ9 o 2 4).bind fun x17 =>
      if v3 < (x16 - x17) then
        f_X3_figures_109 o σ9
      else
        zb2 (f_X1_in v4 v1 v2 σ9) fun x18 σ19 =>
        if ¬ x18 = 0 then
          some (.inl v4, σ19)
        else
          f_X3_figures_109 o σ19
  else
    (gI σ9 o 2 3).bind fun x20 =>
    (gI σ9 o 2 4).bind fun x21 =>
    if v3 ≤ (x20 - x21) then
      f_X3_figures_60 o rec7 v1 v2 v3 v4 σ9
    else
      (gI σ9 o 2 3).bind fun x24 =>
      zif (zcl σ9 o = 2) <|
      zb2 (f_X3_byteAt o x24 σ9) fun x26 σ27 =>
      f_X3_figures_60 o rec7 v1 v2 v3 (((10 * v4) + x26) - 48) σ27

def f_X3_figures_7 (o : Nat) (v1 : Int32) (v2 : Int32) (v3 : Int32) : Int32 → zS → Option ((Int32 ⊕ Nat) × zS) := zlp1 (f_X3_figures_7_b o v1 v2 v3) NN
set_option maxHeartbeats 4000000 in
theorem s_X3_figures_7_b {X : zX} (hX : zOk X RX3 cX3_figures 5 8 130 (Option.some Jvm.ClassFile.FieldType.int) "figures" []) {o : Nat} {Rt : (Int32 ⊕ Nat) × zS} {v1 : Int32} {v2 : Int32} {v3 : Int32} {rec7 : Int32 → zS → Option ((Int32 ⊕ Nat) × zS)} (hrec7 : ∀ (v4 : Int32) (σ : zS), rec7 v4 σ = some Rt → zG X (zQ X (zot eI Rt.1) Rt.2) 5 7 [(0, zA (some o)), (1, zI v1), (2, zI v2), (3, zI v3), (4, zI v4)] [] σ) {v4 : Int32} {σ : zS} (h : f_X3_figures_7_b o v1 v2 v3 rec7 v4 σ = some Rt) : zG X (zQ X (zot eI Rt.1) Rt.2) 5 7 [(0, zA (some o)), (1, zI v1), (2, zI v2), (3, zI v3), (4, zI v4)] [] σ := by
  unfold f_X3_figures_7_b at h
  refine z_aload_n hX 0 rfl rfl dX3_figures_7 (z_aload_n hX 0 rfl rfl dX3_figures_8 ?_)
  refine z_getI hX fl_X3_25_2 h dX3_figures_9 (fun x4 h => ?_)
  obtain ⟨c5, h⟩ := z_ck h
  refine z_cNI hX (rest := []) h (fun r9 σ9 e9 => z_runV hX lk_X3_31 (c_X3_byteAt hX.tr e9) (ci := 2) zc9_2 c5 ⟨Nat.le_of_ble_eq_true rfl, Nat.le_of_ble_eq_true rfl⟩ rfl (Nat.le_of_ble_eq_true rfl) dX3_figures_12 rfl) (fun x6 σ7 h => ?_)
  refine z_bipush hX (v := 48) (by decide) dX3_figures_15 (z_bipush hX (v := 57) (by decide) dX3_figures_17 ?_)
  refine z_cNI hX (rest := []) h (fun r9 σ9 e9 => z_runSN hX lk_X3_41 (c_X1_in hX.tr e9) ⟨Nat.le_of_ble_eq_true rfl, Nat.le_of_ble_eq_true rfl⟩ rfl (Nat.le_of_ble_eq_true rfl) dX3_figures_19 rfl) (fun x8 σ9 h => ?_)
  refine z_if_eq (tgt := 75) hX h dX3_figures_22 (by decide) (fun h => ?_) (fun h => ?_)
  · refine z_aload_n hX 0 rfl rfl dX3_figures_75 ?_
    refine z_getI hX fl_X3_25_2 h dX3_figures_76 (fun x10 h => ?_)
    refine z_aload_n hX 0 rfl rfl dX3_figures_79 ?_
    refine z_getI hX fl_X3_35_2 h dX3_figures_80 (fun x11 h => ?_)
    refine z_icmp_eq (tgt := 109) hX h dX3_figures_83 (by decide) (fun h => ?_) (fun h => ?_)
    · exact z_sub [0] rfl (s_X3_figures_109 (o := o) hX  h)
    · refine z_aload_n hX 0 rfl rfl dX3_figures_86 ?_
      refine z_getI hX fl_X3_25_2 h dX3_figures_87 (fun x16 h => ?_)
      refine z_aload_n hX 0 rfl rfl dX3_figures_90 ?_
      refine z_getI hX fl_X3_35_2 h dX3_figures_91 (fun x17 h => ?_)
      refine z_isub hX dX3_figures_94 (z_iload_n hX 3 rfl rfl dX3_figures_95 ?_)
      refine z_icmp_gt (tgt := 109) hX h dX3_figures_96 (by decide) (fun h => ?_) (fun h => ?_)
      · exact z_sub [0] rfl (s_X3_figures_109 (o := o) hX  h)
      · refine z_iload hX 4 rfl dX3_figures_99 (z_iload_n hX 1 rfl rfl dX3_figures_101 (z_iload_n hX 2 rfl rfl dX3_figures_102 ?_))
        refine z_cNI hX (rest := []) h (fun r9 σ9 e9 => z_runSN hX lk_X3_41 (c_X1_in hX.tr e9) ⟨Nat.le_of_ble_eq_true rfl, Nat.le_of_ble_eq_true rfl⟩ rfl (Nat.le_of_ble_eq_true rfl) dX3_figures_103 rfl) (fun x18 σ19 h => ?_)
        refine z_if_ne (tgt := 114) hX h dX3_figures_106 (by decide) (fun h => ?_) (fun h => ?_)
        · refine z_iload hX 4 rfl dX3_figures_114 ?_
          obtain rfl := Option.some.inj h
          exact z_iret hX dX3_figures_116
        · exact z_sub [0] rfl (s_X3_figures_109 (o := o) hX  h)
  · refine z_aload_n hX 0 rfl rfl dX3_figures_25 ?_
    refine z_getI hX fl_X3_25_2 h dX3_figures_26 (fun x20 h => ?_)
    refine z_aload_n hX 0 rfl rfl dX3_figures_29 ?_
    refine z_getI hX fl_X3_35_2 h dX3_figures_30 (fun x21 h => ?_)
    refine z_isub hX dX3_figures_33 (z_iload_n hX 3 rfl rfl dX3_figures_34 ?_)
    refine z_icmp_ge (tgt := 58) hX h dX3_figures_35 (by decide) (fun h => ?_) (fun h => ?_)
    · refine z_iload hX 4 rfl dX3_figures_58 ?_
      exact z_sub [0, 1, 2, 3] rfl (s_X3_figures_60 (o := o) hX hrec7 h)
    · refine z_bipush hX (v := 10) (by decide) dX3_figures_38 (z_iload hX 4 rfl dX3_figures_40 (z_imul hX dX3_figures_42 (z_aload_n hX 0 rfl rfl dX3_figures_43 (z_aload_n hX 0 rfl rfl dX3_figures_44 ?_))))
      refine z_getI hX fl_X3_25_2 h dX3_figures_45 (fun x24 h => ?_)
      obtain ⟨c25, h⟩ := z_ck h
      refine z_cNI hX (rest := [zI (10 * v4)]) h (fun r9 σ9 e9 => z_runV hX lk_X3_31 (c_X3_byteAt hX.tr e9) (ci := 2) zc9_2 c25 ⟨Nat.le_of_ble_eq_true rfl, Nat.le_of_ble_eq_true rfl⟩ rfl (Nat.le_of_ble_eq_true rfl) dX3_figures_48 rfl) (fun x26 σ27 h => ?_)
      refine z_iadd hX dX3_figures_51 (z_bipush hX (v := 48) (by decide) dX3_figures_52 (z_isub hX dX3_figures_54 (z_goto (tgt := 60) hX dX3_figures_55 (by decide) ?_)))
      exact z_sub [0, 1, 2, 3] rfl (s_X3_figures_60 (o := o) hX hrec7 h)

theorem s_X3_figures_7 {X : zX} (hX : zOk X RX3 cX3_figures 5 8 130 (Option.some Jvm.ClassFile.FieldType.int) "figures" []) {o : Nat} {Rt : (Int32 ⊕ Nat) × zS} {v1 : Int32} {v2 : Int32} {v3 : Int32} {v4 : Int32} {σ : zS} (h : f_X3_figures_7 o v1 v2 v3 v4 σ = some Rt) : zG X (zQ X (zot eI Rt.1) Rt.2) 5 7 [(0, zA (some o)), (1, zI v1), (2, zI v2), (3, zI v3), (4, zI v4)] [] σ :=
  zlp1_ok (P := fun v4 σ => zG X (zQ X (zot eI Rt.1) Rt.2) 5 7 [(0, zA (some o)), (1, zI v1), (2, zI v2), (3, zI v3), (4, zI v4)] [] σ) (fun rec hr v4 σ h => s_X3_figures_7_b (o := o) hX hr h) NN v4 σ h
def f_X3_figures (o : Nat) (p1 : Int32) (p2 : Int32) (p3 : Int32) (σ : zS) : Option ((Int32 ⊕ Nat) × zS) :=
  zif (zcl σ o = 2) <|
  zb2 (f_X3_blanks o σ) fun _ σ3 =>
  f_X3_figures_7 o p1 p2 p3 0 σ3

set_option maxHeartbeats 4000000 in
theorem s_X3_figures {X : zX} (hX : zOk X RX3 cX3_figures 5 8 130 (Option.some Jvm.ClassFile.FieldType.int) "figures" []) {o : Nat} {p1 : Int32} {p2 : Int32} {p3 : Int32} {σ : zS} {Rt : (Int32 ⊕ Nat) × zS} (h : f_X3_figures o p1 p2 p3 σ = some Rt) : zG X (zQ X (zot eI Rt.1) Rt.2) 5 0 [(0, zA (some o)), (1, zI p1), (2, zI p2), (3, zI p3)] [] σ := by
  unfold f_X3_figures at h
  refine z_aload_n hX 0 rfl rfl dX3_figures_0 ?_
  obtain ⟨c1, h⟩ := z_ck h
  refine z_cNU hX (rest := []) h (fun r9 σ9 e9 => z_runV hX lk_X3_38 (c_X3_blanks hX.tr e9) (ci := 2) zc9_2 c1 ⟨Nat.le_of_ble_eq_true rfl, Nat.le_of_ble_eq_true rfl⟩ rfl (Nat.le_of_ble_eq_true rfl) dX3_figures_1 rfl) (fun _ σ3 h => ?_)
  refine z_iconst hX (v := 0) (by decide) dX3_figures_4 (z_istore (L' := [(0, zA (some o)), (1, zI p1), (2, zI p2), (3, zI p3), (4, zI 0)]) hX rfl (by decide) dX3_figures_5 ?_)
  exact z_sub [0, 1, 2, 3, 4] rfl (s_X3_figures_7 (o := o) hX  h)

theorem c_X3_figures {l : Launch} {D : va_G} {tys : zTy} (hl : l.stackTraces = false) {o : Nat} {p1 : Int32} {p2 : Int32} {p3 : Int32} {σ : zS} {Rt : (Int32 ⊕ Nat) × zS} (h : f_X3_figures o p1 p2 p3 σ = some Rt) : zM l D tys yX3_figures (ws_ yX3_figures cX3_figures 5 (Option.some Jvm.ClassFile.FieldType.int)) 8 130 [zA (some o), zI p1, zI p2, zI p3] σ (zot eI Rt.1) Rt.2 :=
  zM_in hl rfl (Nat.le_of_ble_eq_true rfl) (fun p e R s m args below meth c hX => z_L rfl (s_X3_figures hX h))
def f_X3_number (o : Nat) (p1 : Int32) (p2 : Int32) (σ : zS) : Option ((Int32 ⊕ Nat) × zS) :=
  zif (zcl σ o = 2) <|
  zbt (f_X3_figures o p1 p2 3 σ) (fun k9 σ9 => some (.inr k9, σ9)) fun x2 σ3 =>
  some (.inl x2, σ3)

set_option maxHeartbeats 4000000 in
theorem s_X3_number {X : zX} (hX : zOk X RX3 cX3_number 3 9 154 (Option.some Jvm.ClassFile.FieldType.int) "number" []) {o : Nat} {p1 : Int32} {p2 : Int32} {σ : zS} {Rt : (Int32 ⊕ Nat) × zS} (h : f_X3_number o p1 p2 σ = some Rt) : zG X (zQ X (zot eI Rt.1) Rt.2) 3 0 [(0, zA (some o)), (1, zI p1), (2, zI p2)] [] σ := by
  unfold f_X3_number at h
  refine z_aload_n hX 0 rfl rfl dX3_number_0 (z_iload_n hX 1 rfl rfl dX3_number_1 (z_iload_n hX 2 rfl rfl dX3_number_2 (z_iconst hX (v := 3) (by decide) dX3_number_3 ?_)))
  obtain ⟨c1, h⟩ := z_ck h
  refine z_cTI hX (rest := []) h (fun r9 σ9 e9 => z_runV hX lk_X3_65 (c_X3_figures hX.tr e9) (ci := 2) zc9_2 c1 ⟨Nat.le_of_ble_eq_true rfl, Nat.le_of_ble_eq_true rfl⟩ rfl (Nat.le_of_ble_eq_true rfl) dX3_number_4 rfl) (fun k9 σ9 h => z_prop hX h (fun x hx => nomatch hx)) (fun x2 σ3 h => ?_)
  obtain rfl := Option.some.inj h
  exact z_iret hX dX3_number_7

theorem c_X3_number {l : Launch} {D : va_G} {tys : zTy} (hl : l.stackTraces = false) {o : Nat} {p1 : Int32} {p2 : Int32} {σ : zS} {Rt : (Int32 ⊕ Nat) × zS} (h : f_X3_number o p1 p2 σ = some Rt) : zM l D tys yX3_number (ws_ yX3_number cX3_number 3 (Option.some Jvm.ClassFile.FieldType.int)) 9 154 [zA (some o), zI p1, zI p2] σ (zot eI Rt.1) Rt.2 :=
  zM_in hl rfl (Nat.le_of_ble_eq_true rfl) (fun p e R s m args below meth c hX => z_L rfl (s_X3_number hX h))
def f_X3_passes (o : Nat) (p1 : Option Nat) (σ : zS) : Option (Int32 × zS) :=
  zif (zcl σ o = 2) <|
  zb2 (f_X3_word o σ) fun r2 σ3 =>
  r2.bind fun a4 =>
  zif (zcl σ3 a4 = 21) <|
  zb2 (f_J10_equals a4 p1 σ3) fun x6 σ7 =>
  if x6 = 0 then
    (gI σ7 o 2 4).bind fun x8 =>
    (pI σ7 o 2 3 x8).bind fun σ9 =>
    some ((0 : Int32), σ9)
  else
    some ((1 : Int32), σ7)

set_option maxHeartbeats 4000000 in
theorem s_X3_passes {X : zX} (hX : zOk X RX3 cX3_passes 2 14 264 (Option.some Jvm.ClassFile.FieldType.boolean) "passes" []) {o : Nat} {p1 : Option Nat} {σ : zS} {Rt : Int32 × zS} (h : f_X3_passes o p1 σ = some Rt) : zG X (zQ X (.inl (eI Rt.1)) Rt.2) 2 0 [(0, zA (some o)), (1, zA p1)] [] σ := by
  unfold f_X3_passes at h
  refine z_aload_n hX 0 rfl rfl dX3_passes_0 ?_
  obtain ⟨c1, h⟩ := z_ck h
  refine z_cNA hX (rest := []) h (fun r9 σ9 e9 => z_runV hX lk_X3_56 (c_X3_word hX.tr e9) (ci := 2) zc9_2 c1 ⟨Nat.le_of_ble_eq_true rfl, Nat.le_of_ble_eq_true rfl⟩ rfl (Nat.le_of_ble_eq_true rfl) dX3_passes_1 rfl) (fun r2 σ3 h => ?_)
  refine z_aload_n hX 1 rfl rfl dX3_passes_4 ?_
  obtain ⟨a4, e9, k_a4⟩ := z_nn h
  subst e9
  have h := k_a4
  obtain ⟨c5, h⟩ := z_ck h
  refine z_cNI hX (rest := []) h (fun r9 σ9 e9 => z_runV hX lk_X3_59 (c_J10_equals hX.tr e9) (ci := 21) zc9_21 c5 ⟨Nat.le_of_ble_eq_true rfl, Nat.le_of_ble_eq_true rfl⟩ rfl (Nat.le_of_ble_eq_true rfl) dX3_passes_5 rfl) (fun x6 σ7 h => ?_)
  refine z_if_eq (tgt := 13) hX h dX3_passes_8 (by decide) (fun h => ?_) (fun h => ?_)
  · refine z_aload_n hX 0 rfl rfl dX3_passes_13 (z_aload_n hX 0 rfl rfl dX3_passes_14 ?_)
    refine z_getI hX fl_X3_35_2 h dX3_passes_15 (fun x8 h => ?_)
    refine z_putI hX fp_X3_25_2 (fun h => nomatch h) h dX3_passes_18 (fun σ9 h => ?_)
    refine z_iconst hX (v := 0) (by decide) dX3_passes_21 ?_
    obtain rfl := Option.some.inj h
    exact z_zretT (r := 0) hX (by decide) dX3_passes_22
  · refine z_iconst hX (v := 1) (by decide) dX3_passes_11 ?_
    obtain rfl := Option.some.inj h
    exact z_zretT (r := 1) hX (by decide) dX3_passes_12

theorem c_X3_passes {l : Launch} {D : va_G} {tys : zTy} (hl : l.stackTraces = false) {o : Nat} {p1 : Option Nat} {σ : zS} {Rt : Int32 × zS} (h : f_X3_passes o p1 σ = some Rt) : zM l D tys yX3_passes (ws_ yX3_passes cX3_passes 2 (Option.some Jvm.ClassFile.FieldType.boolean)) 14 264 [zA (some o), zA p1] σ (.inl (eI Rt.1)) Rt.2 :=
  zM_in hl rfl (Nat.le_of_ble_eq_true rfl) (fun p e R s m args below meth c hX => z_L rfl (s_X3_passes hX h))
def f_X1_walkerTold_95 (o : Nat) (t0 : Option Nat) (t1 : Option Nat) (t2 : Option Nat) (t3 : Int32) (t4 : Int32) (t5 : Int32) (t6 : Int32) (σ : zS) : Option ((Unit ⊕ Nat) × zS) :=
  t2.bind fun a31 =>
  zb2 (f_X7_init a31 t3 t4 t5 t6 σ) fun _ σ33 =>
  t0.bind fun a34 =>
  zif (zcl σ33 a34 = 19) <|
  zb2 (f_J2_add a34 t1 σ33) fun x36 σ37 =>
  some (.inl (), σ37)

set_option maxHeartbeats 4000000 in
theorem s_X1_walkerTold_95 {X : zX} (hX : zOk X RX1 cX1_walkerTold 6 15 285 (Option.none : Option Jvm.ClassFile.FieldType) "walkerTold" []) {o : Nat} {Rt : (Unit ⊕ Nat) × zS} {t0 : Option Nat} {t1 : Option Nat} {t2 : Option Nat} {t3 : Int32} {t4 : Int32} {t5 : Int32} {t6 : Int32} {σ : zS} (h : f_X1_walkerTold_95 o t0 t1 t2 t3 t4 t5 t6 σ = some Rt) : zG X (zQ X (zot eU Rt.1) Rt.2) 6 95 [] [zI t6, zI t5, zI t4, zI t3, zA t2, zA t1, zA t0] σ := by
  unfold f_X1_walkerTold_95 at h
  obtain ⟨a31, e9, k_a31⟩ := z_nn h
  subst e9
  have h := k_a31
  refine z_cNU hX (rest := [zA t1, zA t0]) h (fun r9 σ9 e9 => z_runI hX lk_X1_96 (c_X7_init hX.tr e9) ⟨Nat.le_of_ble_eq_true rfl, Nat.le_of_ble_eq_true rfl⟩ rfl (Nat.le_of_ble_eq_true rfl) dX1_walkerTold_95 rfl) (fun _ σ33 h => ?_)
  obtain ⟨a34, e9, k_a34⟩ := z_nn h
  subst e9
  have h := k_a34
  obtain ⟨c35, h⟩ := z_ck h
  refine z_cNI hX (rest := []) h (fun r9 σ9 e9 => z_runV hX lk_X1_99 (c_J2_add hX.tr e9) (ci := 19) zc9_19 c35 ⟨Nat.le_of_ble_eq_true rfl, Nat.le_of_ble_eq_true rfl⟩ rfl (Nat.le_of_ble_eq_true rfl) dX1_walkerTold_98 rfl) (fun x36 σ37 h => ?_)
  refine z_pop hX rfl dX1_walkerTold_101 ?_
  obtain rfl := Option.some.inj h
  exact z_vret hX dX1_walkerTold_102

def f_X1_walkerTold (o : Nat) (p1 : Option Nat) (p2 : Int32) (σ : zS) : Option ((Unit ⊕ Nat) × zS) :=
  (gR σ o 0 2).bind fun r1 =>
  p1.bind fun a2 =>
  (gR σ a2 1 8).bind fun r3 =>
  r3.bind fun a4 =>
  zif (zcl σ a4 = 19) <|
  zb2 (f_J2_size a4 σ) fun x6 σ7 =>
  if ¬ x6 = 12 then
    r1.bind fun a8 =>
    zif (zcl σ7 a8 = 2) <|
    zbt (f_X3_number a8 0 99 σ7) (fun k9 σ9 => some (.inr k9, σ9)) fun x10 σ11 =>
    zif (zcl σ11 a8 = 2) <|
    zb2 (f_X3_word a8 σ11) fun r13 σ14 =>
    (zk σ14 109).bind fun a15 =>
    r13.bind fun a16 =>
    zif (zcl σ14 a16 = 21) <|
    zb2 (f_J10_equals a16 (some a15) σ14) fun x18 σ19 =>
    if ¬ x18 = 0 then
      (gI σ19 a2 1 1).bind fun x20 =>
      zif (zcl σ19 a8 = 2) <|
      zbt (f_X3_number a8 0 (x20 - 1) σ19) (fun k9 σ9 => some (.inr k9, σ9)) fun x22 σ23 =>
      (gR σ23 a2 1 8).bind fun r24 =>
      zb2 (znewO σ23 6 [.int 0, .int 0, .int 0, .int 0]) fun a25 σ26 =>
      (zk σ26 110).bind fun a27 =>
      zif (zcl σ26 a8 = 2) <|
      zb2 (f_X3_passes a8 (some a27) σ26) fun x29 σ30 =>
      if x29 = 0 then
        f_X1_walkerTold_95 o  r24 (some a25) (some a25) p2 x10 x22 50 σ30
      else
        zif (zcl σ30 a8 = 2) <|
        zbt (f_X3_number a8 0 100 σ30) (fun k9 σ9 => some (.inr k9, σ9)) fun x39 σ40 =>
        f_X1_walkerTold_95 o  r24 (some a25) (some a25) p2 x10 x22 x39 σ40
    else
      zif (zcl σ19 a8 = 2) <|
      zb2 (f_X3_wrong a8 σ19) fun r42 σ43 =>
      r42.bind fun a44 =>
      zif (zcl σ43 a44 = 9) <| some (.inr 5, σ43)
  else
    r1.bind fun a45 =>
    zif (zcl σ7 a45 = 2) <|
    zb2 (f_X3_wrong a45 σ7) fun r47 σ48 =>
    r47.bind fun a49 =>
    zif (zcl σ48 a49 = 9) <| some (.inr 5, σ48)

set_option maxHeartbeats 4000000 in
theorem s_X1_walkerTold {X : zX} (hX : zOk X RX1 cX1_walkerTold 6 15 285 (Option.none : Option Jvm.ClassFile.FieldType) "walkerTold" []) {o : Nat} {p1 : Option Nat} {p2 : Int32} {σ : zS} {Rt : (Unit ⊕ Nat) × zS} (h : f_X1_walkerTold o p1 p2 σ = some Rt) : zG X (zQ X (zot eU Rt.1) Rt.2) 6 0 [(0, zA (some o)), (1, zA p1), (2, zI p2)] [] σ := by
  unfold f_X1_walkerTold at h
  refine z_aload_n hX 0 rfl rfl dX1_walkerTold_0 ?_
  refine z_getR hX fl_X1_19_0 h dX1_walkerTold_1 (fun r1 h => ?_)
  refine z_astore_n (L' := [(0, zA (some o)), (1, zA p1), (2, zI p2), (3, zA r1)]) hX rfl rfl (by decide) dX1_walkerTold_4 (z_aload_n hX 1 rfl rfl dX1_walkerTold_5 ?_)
  obtain ⟨a2, e9, k_a2⟩ := z_nn h
  subst e9
  have h := k_a2
  refine z_getR hX fl_X1_55_1 h dX1_walkerTold_6 (fun r3 h => ?_)
  obtain ⟨a4, e9, k_a4⟩ := z_nn h
  subst e9
  have h := k_a4
  obtain ⟨c5, h⟩ := z_ck h
  refine z_cNI hX (rest := []) h (fun r9 σ9 e9 => z_runV hX lk_X1_59 (c_J2_size hX.tr e9) (ci := 19) zc9_19 c5 ⟨Nat.le_of_ble_eq_true rfl, Nat.le_of_ble_eq_true rfl⟩ rfl (Nat.le_of_ble_eq_true rfl) dX1_walkerTold_9 rfl) (fun x6 σ7 h => ?_)
  refine z_bipush hX (v := 12) (by decide) dX1_walkerTold_12 ?_
  refine z_icmp_ne (tgt := 22) hX h dX1_walkerTold_14 (by decide) (fun h => ?_) (fun h => ?_)
  · refine z_aload_n hX 3 rfl rfl dX1_walkerTold_22 (z_iconst hX (v := 0) (by decide) dX1_walkerTold_23 (z_bipush hX (v := 99) (by decide) dX1_walkerTold_24 ?_))
    obtain ⟨a8, e9, k_a8⟩ := z_nn h
    subst e9
    have h := k_a8
    obtain ⟨c9, h⟩ := z_ck h
    refine z_cTI hX (rest := []) h (fun r9 σ9 e9 => z_runV hX lk_X1_69 (c_X3_number hX.tr e9) (ci := 2) zc9_2 c9 ⟨Nat.le_of_ble_eq_true rfl, Nat.le_of_ble_eq_true rfl⟩ rfl (Nat.le_of_ble_eq_true rfl) dX1_walkerTold_26 rfl) (fun k9 σ9 h => z_prop hX h (fun x hx => nomatch hx)) (fun x10 σ11 h => ?_)
    refine z_istore (L' := [(0, zA (some o)), (1, zA (some a2)), (2, zI p2), (3, zA (some a8)), (4, zI x10)]) hX rfl (by decide) dX1_walkerTold_29 (z_aload_n hX 3 rfl rfl dX1_walkerTold_31 ?_)
    obtain ⟨c12, h⟩ := z_ck h
    refine z_cNA hX (rest := []) h (fun r9 σ9 e9 => z_runV hX lk_X1_73 (c_X3_word hX.tr e9) (ci := 2) zc9_2 c12 ⟨Nat.le_of_ble_eq_true rfl, Nat.le_of_ble_eq_true rfl⟩ rfl (Nat.le_of_ble_eq_true rfl) dX1_walkerTold_32 rfl) (fun r13 σ14 h => ?_)
    refine z_ldcS hX st_X1_77 h dX1_walkerTold_35 (fun a15 _ h => ?_)
    obtain ⟨a16, e9, k_a16⟩ := z_nn h
    subst e9
    have h := k_a16
    obtain ⟨c17, h⟩ := z_ck h
    refine z_cNI hX (rest := []) h (fun r9 σ9 e9 => z_runV hX lk_X1_79 (c_J10_equals hX.tr e9) (ci := 21) zc9_21 c17 ⟨Nat.le_of_ble_eq_true rfl, Nat.le_of_ble_eq_true rfl⟩ rfl (Nat.le_of_ble_eq_true rfl) dX1_walkerTold_37 rfl) (fun x18 σ19 h => ?_)
    refine z_if_ne (tgt := 48) hX h dX1_walkerTold_40 (by decide) (fun h => ?_) (fun h => ?_)
    · refine z_aload_n hX 3 rfl rfl dX1_walkerTold_48 (z_iconst hX (v := 0) (by decide) dX1_walkerTold_49 (z_aload_n hX 1 rfl rfl dX1_walkerTold_50 ?_))
      refine z_getI hX fl_X1_85_1 h dX1_walkerTold_51 (fun x20 h => ?_)
      refine z_iconst hX (v := 1) (by decide) dX1_walkerTold_54 (z_isub hX dX1_walkerTold_55 ?_)
      obtain ⟨c21, h⟩ := z_ck h
      refine z_cTI hX (rest := []) h (fun r9 σ9 e9 => z_runV hX lk_X1_69 (c_X3_number hX.tr e9) (ci := 2) zc9_2 c21 ⟨Nat.le_of_ble_eq_true rfl, Nat.le_of_ble_eq_true rfl⟩ rfl (Nat.le_of_ble_eq_true rfl) dX1_walkerTold_56 rfl) (fun k9 σ9 h => z_prop hX h (fun x hx => nomatch hx)) (fun x22 σ23 h => ?_)
      refine z_istore (L' := [(0, zA (some o)), (1, zA (some a2)), (2, zI p2), (3, zA (some a8)), (4, zI x10), (5, zI x22)]) hX rfl (by decide) dX1_walkerTold_59 (z_aload_n hX 1 rfl rfl dX1_walkerTold_61 ?_)
      refine z_getR hX fl_X1_55_1 h dX1_walkerTold_62 (fun r24 h => ?_)
      refine z_new hX ne_X1_88 h dX1_walkerTold_65 (fun a25 σ26 h => ?_)
      refine z_dup hX rfl dX1_walkerTold_68 (z_iload_n hX 2 rfl rfl dX1_walkerTold_69 (z_iload hX 4 rfl dX1_walkerTold_70 (z_iload hX 5 rfl dX1_walkerTold_72 (z_aload_n hX 3 rfl rfl dX1_walkerTold_74 ?_))))
      refine z_ldcS hX st_X1_90 h dX1_walkerTold_75 (fun a27 _ h => ?_)
      obtain ⟨c28, h⟩ := z_ck h
      refine z_cNI hX (rest := [zI x22, zI x10, zI p2, zA (some a25), zA (some a25), zA r24]) h (fun r9 σ9 e9 => z_runV hX lk_X1_92 (c_X3_passes hX.tr e9) (ci := 2) zc9_2 c28 ⟨Nat.le_of_ble_eq_true rfl, Nat.le_of_ble_eq_true rfl⟩ rfl (Nat.le_of_ble_eq_true rfl) dX1_walkerTold_77 rfl) (fun x29 σ30 h => ?_)
      refine z_if_eq (tgt := 93) hX h dX1_walkerTold_80 (by decide) (fun h => ?_) (fun h => ?_)
      · refine z_bipush hX (v := 50) (by decide) dX1_walkerTold_93 ?_
        exact z_sub [] rfl (s_X1_walkerTold_95 (o := o) hX  h)
      · refine z_aload_n hX 3 rfl rfl dX1_walkerTold_83 (z_iconst hX (v := 0) (by decide) dX1_walkerTold_84 (z_bipush hX (v := 100) (by decide) dX1_walkerTold_85 ?_))
        obtain ⟨c38, h⟩ := z_ck h
        refine z_cTI hX (rest := [zI x22, zI x10, zI p2, zA (some a25), zA (some a25), zA r24]) h (fun r9 σ9 e9 => z_runV hX lk_X1_69 (c_X3_number hX.tr e9) (ci := 2) zc9_2 c38 ⟨Nat.le_of_ble_eq_true rfl, Nat.le_of_ble_eq_true rfl⟩ rfl (Nat.le_of_ble_eq_true rfl) dX1_walkerTold_87 rfl) (fun k9 σ9 h => z_prop hX h (fun x hx => nomatch hx)) (fun x39 σ40 h => ?_)
        refine z_goto (tgt := 95) hX dX1_walkerTold_90 (by decide) ?_
        exact z_sub [] rfl (s_X1_walkerTold_95 (o := o) hX  h)
    · refine z_aload_n hX 3 rfl rfl dX1_walkerTold_43 ?_
      obtain ⟨c41, h⟩ := z_ck h
      refine z_cNA hX (rest := []) h (fun r9 σ9 e9 => z_runV hX lk_X1_65 (c_X3_wrong hX.tr e9) (ci := 2) zc9_2 c41 ⟨Nat.le_of_ble_eq_true rfl, Nat.le_of_ble_eq_true rfl⟩ rfl (Nat.le_of_ble_eq_true rfl) dX1_walkerTold_44 rfl) (fun r42 σ43 h => ?_)
      obtain ⟨a44, e9, k_a44⟩ := z_nn h
      subst e9
      have h := k_a44
      refine z_athrow hX (k := 5) (ci := 9) rfl h dX1_walkerTold_47 (fun h => ?_)
      obtain rfl := Option.some.inj h
      exact z_out hX (fun x hx => nomatch hx)
  · refine z_aload_n hX 3 rfl rfl dX1_walkerTold_17 ?_
    obtain ⟨a45, e9, k_a45⟩ := z_nn h
    subst e9
    have h := k_a45
    obtain ⟨c46, h⟩ := z_ck h
    refine z_cNA hX (rest := []) h (fun r9 σ9 e9 => z_runV hX lk_X1_65 (c_X3_wrong hX.tr e9) (ci := 2) zc9_2 c46 ⟨Nat.le_of_ble_eq_true rfl, Nat.le_of_ble_eq_true rfl⟩ rfl (Nat.le_of_ble_eq_true rfl) dX1_walkerTold_18 rfl) (fun r47 σ48 h => ?_)
    obtain ⟨a49, e9, k_a49⟩ := z_nn h
    subst e9
    have h := k_a49
    refine z_athrow hX (k := 5) (ci := 9) rfl h dX1_walkerTold_21 (fun h => ?_)
    obtain rfl := Option.some.inj h
    exact z_out hX (fun x hx => nomatch hx)

theorem c_X1_walkerTold {l : Launch} {D : va_G} {tys : zTy} (hl : l.stackTraces = false) {o : Nat} {p1 : Option Nat} {p2 : Int32} {σ : zS} {Rt : (Unit ⊕ Nat) × zS} (h : f_X1_walkerTold o p1 p2 σ = some Rt) : zM l D tys yX1_walkerTold (ws_ yX1_walkerTold cX1_walkerTold 6 (Option.none : Option Jvm.ClassFile.FieldType)) 15 285 [zA (some o), zA p1, zI p2] σ (zot eU Rt.1) Rt.2 :=
  zM_in hl rfl (Nat.le_of_ble_eq_true rfl) (fun p e R s m args below meth c hX => z_L rfl (s_X1_walkerTold hX h))
def f_X11_init (o : Nat) (p1 : Int32) (p2 : Int32) (σ : zS) : Option (Unit × zS) :=
  (pI σ o 10 0 p1).bind fun σ1 =>
  (pI σ1 o 10 1 p2).bind fun σ2 =>
  some ((), σ2)

set_option maxHeartbeats 4000000 in
theorem s_X11_init {X : zX} (hX : zOk X RX11 cX11_init 3 1 40 (Option.none : Option Jvm.ClassFile.FieldType) "<init>" []) {o : Nat} {p1 : Int32} {p2 : Int32} {σ : zS} {Rt : Unit × zS} (h : f_X11_init o p1 p2 σ = some Rt) : zG X (zQ X (.inl (eU Rt.1)) Rt.2) 3 0 [(0, zA (some o)), (1, zI p1), (2, zI p2)] [] σ := by
  unfold f_X11_init at h
  refine z_aload_n hX 0 rfl rfl dX11_init_0 (z_objInit hX q1145 (Nat.le_of_ble_eq_true rfl) (Nat.le_of_ble_eq_true rfl) (Nat.le_of_ble_eq_true rfl) dX11_init_1 (z_aload_n hX 0 rfl rfl dX11_init_4 (z_iload_n hX 1 rfl rfl dX11_init_5 ?_)))
  refine z_putI hX fp_X11_7_10 (fun _ => rfl) h dX11_init_6 (fun σ1 h => ?_)
  refine z_aload_n hX 0 rfl rfl dX11_init_9 (z_iload_n hX 2 rfl rfl dX11_init_10 ?_)
  refine z_putI hX fp_X11_13_10 (fun _ => rfl) h dX11_init_11 (fun σ2 h => ?_)
  obtain rfl := Option.some.inj h
  exact z_vret hX dX11_init_14

theorem c_X11_init {l : Launch} {D : va_G} {tys : zTy} (hl : l.stackTraces = false) {o : Nat} {p1 : Int32} {p2 : Int32} {σ : zS} {Rt : Unit × zS} (h : f_X11_init o p1 p2 σ = some Rt) : zM l D tys yX11_init (ws_ yX11_init cX11_init 3 (Option.none : Option Jvm.ClassFile.FieldType)) 1 40 [zA (some o), zI p1, zI p2] σ (.inl (eU Rt.1)) Rt.2 :=
  zM_in hl rfl (Nat.le_of_ble_eq_true rfl) (fun p e R s m args below meth c hX => z_L rfl (s_X11_init hX h))
def f_X1_offerTold (o : Nat) (p1 : Option Nat) (σ : zS) : Option ((Unit ⊕ Nat) × zS) :=
  (gR σ o 0 2).bind fun r1 =>
  p1.bind fun a2 =>
  (gR σ a2 1 10).bind fun r3 =>
  r3.bind fun a4 =>
  zif (zcl σ a4 = 19) <|
  zb2 (f_J2_size a4 σ) fun x6 σ7 =>
  if ¬ x6 = 12 then
    r1.bind fun a8 =>
    zif (zcl σ7 a8 = 2) <|
    zbt (f_X3_figures a8 1 99999 5 σ7) (fun k9 σ9 => some (.inr k9, σ9)) fun x10 σ11 =>
    zif (zcl σ11 a8 = 2) <|
    zb2 (f_X3_word a8 σ11) fun r13 σ14 =>
    (zk σ14 111).bind fun a15 =>
    r13.bind fun a16 =>
    zif (zcl σ14 a16 = 21) <|
    zb2 (f_J10_equals a16 (some a15) σ14) fun x18 σ19 =>
    if ¬ x18 = 0 then
      (gR σ19 a2 1 10).bind fun r20 =>
      zb2 (znewO σ19 10 [.int 0, .int 0]) fun a21 σ22 =>
      zif (zcl σ22 a8 = 2) <|
      zbt (f_X3_number a8 0 999 σ22) (fun k9 σ9 => some (.inr k9, σ9)) fun x24 σ25 =>
      zb2 (f_X11_init a21 x10 x24 σ25) fun _ σ27 =>
      r20.bind fun a28 =>
      zif (zcl σ27 a28 = 19) <|
      zb2 (f_J2_add a28 (some a21) σ27) fun x30 σ31 =>
      some (.inl (), σ31)
    else
      zif (zcl σ19 a8 = 2) <|
      zb2 (f_X3_wrong a8 σ19) fun r33 σ34 =>
      r33.bind fun a35 =>
      zif (zcl σ34 a35 = 9) <| some (.inr 5, σ34)
  else
    r1.bind fun a36 =>
    zif (zcl σ7 a36 = 2) <|
    zb2 (f_X3_wrong a36 σ7) fun r38 σ39 =>
    r38.bind fun a40 =>
    zif (zcl σ39 a40 = 9) <| some (.inr 5, σ39)

set_option maxHeartbeats 4000000 in
theorem s_X1_offerTold {X : zX} (hX : zOk X RX1 cX1_offerTold 4 14 264 (Option.none : Option Jvm.ClassFile.FieldType) "offerTold" []) {o : Nat} {p1 : Option Nat} {σ : zS} {Rt : (Unit ⊕ Nat) × zS} (h : f_X1_offerTold o p1 σ = some Rt) : zG X (zQ X (zot eU Rt.1) Rt.2) 4 0 [(0, zA (some o)), (1, zA p1)] [] σ := by
  unfold f_X1_offerTold at h
  refine z_aload_n hX 0 rfl rfl dX1_offerTold_0 ?_
  refine z_getR hX fl_X1_19_0 h dX1_offerTold_1 (fun r1 h => ?_)
  refine z_astore_n (L' := [(0, zA (some o)), (1, zA p1), (2, zA r1)]) hX rfl rfl (by decide) dX1_offerTold_4 (z_aload_n hX 1 rfl rfl dX1_offerTold_5 ?_)
  obtain ⟨a2, e9, k_a2⟩ := z_nn h
  subst e9
  have h := k_a2
  refine z_getR hX fl_X1_101_1 h dX1_offerTold_6 (fun r3 h => ?_)
  obtain ⟨a4, e9, k_a4⟩ := z_nn h
  subst e9
  have h := k_a4
  obtain ⟨c5, h⟩ := z_ck h
  refine z_cNI hX (rest := []) h (fun r9 σ9 e9 => z_runV hX lk_X1_59 (c_J2_size hX.tr e9) (ci := 19) zc9_19 c5 ⟨Nat.le_of_ble_eq_true rfl, Nat.le_of_ble_eq_true rfl⟩ rfl (Nat.le_of_ble_eq_true rfl) dX1_offerTold_9 rfl) (fun x6 σ7 h => ?_)
  refine z_bipush hX (v := 12) (by decide) dX1_offerTold_12 ?_
  refine z_icmp_ne (tgt := 22) hX h dX1_offerTold_14 (by decide) (fun h => ?_) (fun h => ?_)
  · refine z_aload_n hX 2 rfl rfl dX1_offerTold_22 (z_iconst hX (v := 1) (by decide) dX1_offerTold_23 (z_ldc hX (v := 99999) q1108 dX1_offerTold_24 (z_iconst hX (v := 5) (by decide) dX1_offerTold_26 ?_)))
    obtain ⟨a8, e9, k_a8⟩ := z_nn h
    subst e9
    have h := k_a8
    obtain ⟨c9, h⟩ := z_ck h
    refine z_cTI hX (rest := []) h (fun r9 σ9 e9 => z_runV hX lk_X1_105 (c_X3_figures hX.tr e9) (ci := 2) zc9_2 c9 ⟨Nat.le_of_ble_eq_true rfl, Nat.le_of_ble_eq_true rfl⟩ rfl (Nat.le_of_ble_eq_true rfl) dX1_offerTold_27 rfl) (fun k9 σ9 h => z_prop hX h (fun x hx => nomatch hx)) (fun x10 σ11 h => ?_)
    refine z_istore_n (L' := [(0, zA (some o)), (1, zA (some a2)), (2, zA (some a8)), (3, zI x10)]) hX rfl rfl (by decide) dX1_offerTold_30 (z_aload_n hX 2 rfl rfl dX1_offerTold_31 ?_)
    obtain ⟨c12, h⟩ := z_ck h
    refine z_cNA hX (rest := []) h (fun r9 σ9 e9 => z_runV hX lk_X1_73 (c_X3_word hX.tr e9) (ci := 2) zc9_2 c12 ⟨Nat.le_of_ble_eq_true rfl, Nat.le_of_ble_eq_true rfl⟩ rfl (Nat.le_of_ble_eq_true rfl) dX1_offerTold_32 rfl) (fun r13 σ14 h => ?_)
    refine z_ldcS hX st_X1_109 h dX1_offerTold_35 (fun a15 _ h => ?_)
    obtain ⟨a16, e9, k_a16⟩ := z_nn h
    subst e9
    have h := k_a16
    obtain ⟨c17, h⟩ := z_ck h
    refine z_cNI hX (rest := []) h (fun r9 σ9 e9 => z_runV hX lk_X1_79 (c_J10_equals hX.tr e9) (ci := 21) zc9_21 c17 ⟨Nat.le_of_ble_eq_true rfl, Nat.le_of_ble_eq_true rfl⟩ rfl (Nat.le_of_ble_eq_true rfl) dX1_offerTold_37 rfl) (fun x18 σ19 h => ?_)
    refine z_if_ne (tgt := 48) hX h dX1_offerTold_40 (by decide) (fun h => ?_) (fun h => ?_)
    · refine z_aload_n hX 1 rfl rfl dX1_offerTold_48 ?_
      refine z_getR hX fl_X1_101_1 h dX1_offerTold_49 (fun r20 h => ?_)
      refine z_new hX ne_X1_111 h dX1_offerTold_52 (fun a21 σ22 h => ?_)
      refine z_dup hX rfl dX1_offerTold_55 (z_iload_n hX 3 rfl rfl dX1_offerTold_56 (z_aload_n hX 2 rfl rfl dX1_offerTold_57 (z_iconst hX (v := 0) (by decide) dX1_offerTold_58 (z_sipush hX (v := 999) (by decide) dX1_offerTold_59 ?_))))
      obtain ⟨c23, h⟩ := z_ck h
      refine z_cTI hX (rest := [zI x10, zA (some a21), zA (some a21), zA r20]) h (fun r9 σ9 e9 => z_runV hX lk_X1_69 (c_X3_number hX.tr e9) (ci := 2) zc9_2 c23 ⟨Nat.le_of_ble_eq_true rfl, Nat.le_of_ble_eq_true rfl⟩ rfl (Nat.le_of_ble_eq_true rfl) dX1_offerTold_62 rfl) (fun k9 σ9 h => z_prop hX h (fun x hx => nomatch hx)) (fun x24 σ25 h => ?_)
      refine z_cNU hX (rest := [zA (some a21), zA r20]) h (fun r9 σ9 e9 => z_runI hX lk_X1_113 (c_X11_init hX.tr e9) ⟨Nat.le_of_ble_eq_true rfl, Nat.le_of_ble_eq_true rfl⟩ rfl (Nat.le_of_ble_eq_true rfl) dX1_offerTold_65 rfl) (fun _ σ27 h => ?_)
      obtain ⟨a28, e9, k_a28⟩ := z_nn h
      subst e9
      have h := k_a28
      obtain ⟨c29, h⟩ := z_ck h
      refine z_cNI hX (rest := []) h (fun r9 σ9 e9 => z_runV hX lk_X1_99 (c_J2_add hX.tr e9) (ci := 19) zc9_19 c29 ⟨Nat.le_of_ble_eq_true rfl, Nat.le_of_ble_eq_true rfl⟩ rfl (Nat.le_of_ble_eq_true rfl) dX1_offerTold_68 rfl) (fun x30 σ31 h => ?_)
      refine z_pop hX rfl dX1_offerTold_71 ?_
      obtain rfl := Option.some.inj h
      exact z_vret hX dX1_offerTold_72
    · refine z_aload_n hX 2 rfl rfl dX1_offerTold_43 ?_
      obtain ⟨c32, h⟩ := z_ck h
      refine z_cNA hX (rest := []) h (fun r9 σ9 e9 => z_runV hX lk_X1_65 (c_X3_wrong hX.tr e9) (ci := 2) zc9_2 c32 ⟨Nat.le_of_ble_eq_true rfl, Nat.le_of_ble_eq_true rfl⟩ rfl (Nat.le_of_ble_eq_true rfl) dX1_offerTold_44 rfl) (fun r33 σ34 h => ?_)
      obtain ⟨a35, e9, k_a35⟩ := z_nn h
      subst e9
      have h := k_a35
      refine z_athrow hX (k := 5) (ci := 9) rfl h dX1_offerTold_47 (fun h => ?_)
      obtain rfl := Option.some.inj h
      exact z_out hX (fun x hx => nomatch hx)
  · refine z_aload_n hX 2 rfl rfl dX1_offerTold_17 ?_
    obtain ⟨a36, e9, k_a36⟩ := z_nn h
    subst e9
    have h := k_a36
    obtain ⟨c37, h⟩ := z_ck h
    refine z_cNA hX (rest := []) h (fun r9 σ9 e9 => z_runV hX lk_X1_65 (c_X3_wrong hX.tr e9) (ci := 2) zc9_2 c37 ⟨Nat.le_of_ble_eq_true rfl, Nat.le_of_ble_eq_true rfl⟩ rfl (Nat.le_of_ble_eq_true rfl) dX1_offerTold_18 rfl) (fun r38 σ39 h => ?_)
    obtain ⟨a40, e9, k_a40⟩ := z_nn h
    subst e9
    have h := k_a40
    refine z_athrow hX (k := 5) (ci := 9) rfl h dX1_offerTold_21 (fun h => ?_)
    obtain rfl := Option.some.inj h
    exact z_out hX (fun x hx => nomatch hx)

theorem c_X1_offerTold {l : Launch} {D : va_G} {tys : zTy} (hl : l.stackTraces = false) {o : Nat} {p1 : Option Nat} {σ : zS} {Rt : (Unit ⊕ Nat) × zS} (h : f_X1_offerTold o p1 σ = some Rt) : zM l D tys yX1_offerTold (ws_ yX1_offerTold cX1_offerTold 4 (Option.none : Option Jvm.ClassFile.FieldType)) 14 264 [zA (some o), zA p1] σ (zot eU Rt.1) Rt.2 :=
  zM_in hl rfl (Nat.le_of_ble_eq_true rfl) (fun p e R s m args below meth c hX => z_L rfl (s_X1_offerTold hX h))
def f_X1_peopleLine_235 (o : Nat) (v1 : Option Nat) (v2 : Option Nat) (v4 : Int32) (σ : zS) : Option ((Unit ⊕ Nat) × zS) :=
  if v4.toInt < 0 ∨ 8 < v4.toInt then
    v2.bind fun a14 =>
    zif (zcl σ a14 = 2) <|
    zb2 (f_X3_wrong a14 σ) fun r16 σ17 =>
    r16.bind fun a18 =>
    zif (zcl σ17 a18 = 9) <| some (.inr 5, σ17)
  else if v4 = 0 then
    v1.bind fun a19 =>
    (gI σ a19 1 1).bind fun x20 =>
    if ¬ x20 = 8 then
      (gR σ a19 1 7).bind fun r21 =>
      (gI σ a19 1 1).bind fun x22 =>
      v2.bind fun a23 =>
      zif (zcl σ a23 = 2) <|
      zbt (f_X3_figures a23 0 99999 5 σ) (fun k9 σ9 => some (.inr k9, σ9)) fun x25 σ26 =>
      r21.bind fun a27 =>
      (sI σ26 a27 x22 x25).bind fun σ28 =>
      (gI σ28 a19 1 1).bind fun x29 =>
      (pI σ28 a19 1 1 (x29 + 1)).bind fun σ30 =>
      some (.inl (), σ30)
    else
      v2.bind fun a31 =>
      zif (zcl σ a31 = 2) <|
      zb2 (f_X3_wrong a31 σ) fun r33 σ34 =>
      r33.bind fun a35 =>
      zif (zcl σ34 a35 = 9) <| some (.inr 5, σ34)
  else if v4 = 1 then
    zif (zcl σ o = 0) <|
    zbt (f_X1_walkerTold o v1 0 σ) (fun k9 σ9 => some (.inr k9, σ9)) fun _ σ38 =>
    some (.inl (), σ38)
  else if v4 = 2 then
    zif (zcl σ o = 0) <|
    zbt (f_X1_walkerTold o v1 1 σ) (fun k9 σ9 => some (.inr k9, σ9)) fun _ σ41 =>
    some (.inl (), σ41)
  else if v4 = 3 then
    zif (zcl σ o = 0) <|
    zbt (f_X1_walkerTold o v1 2 σ) (fun k9 σ9 => some (.inr k9, σ9)) fun _ σ44 =>
    some (.inl (), σ44)
  else if v4 = 4 then
    zif (zcl σ o = 0) <|
    zbt (f_X1_walkerTold o v1 3 σ) (fun k9 σ9 => some (.inr k9, σ9)) fun _ σ47 =>
    some (.inl (), σ47)
  else if v4 = 5 then
    v1.bind fun a48 =>
    (gR σ a48 1 9).bind fun r49 =>
    r49.bind fun a50 =>
    zif (zcl σ a50 = 19) <|
    zb2 (f_J2_size a50 σ) fun x52 σ53 =>
    if ¬ x52 = 10 then
      (gR σ53 a48 1 9).bind fun r54 =>
      zb2 (znewO σ53 7 [.int 0, .int 0, .int 0]) fun a55 σ56 =>
      v2.bind fun a57 =>
      zif (zcl σ56 a57 = 2) <|
      zbt (f_X3_number a57 1 99 σ56) (fun k9 σ9 => some (.inr k9, σ9)) fun x59 σ60 =>
      zb2 (f_X8_init a55 x59 σ60) fun _ σ62 =>
      r54.bind fun a63 =>
      zif (zcl σ62 a63 = 19) <|
      zb2 (f_J2_add a63 (some a55) σ62) fun x65 σ66 =>
      some (.inl (), σ66)
    else
      v2.bind fun a67 =>
      zif (zcl σ53 a67 = 2) <|
      zb2 (f_X3_wrong a67 σ53) fun r69 σ70 =>
      r69.bind fun a71 =>
      zif (zcl σ70 a71 = 9) <| some (.inr 5, σ70)
  else if v4 = 6 then
    v2.bind fun a72 =>
    zif (zcl σ a72 = 2) <|
    zbt (f_X3_number a72 1 999 σ) (fun k9 σ9 => some (.inr k9, σ9)) fun x74 σ75 =>
    v1.bind fun a76 =>
    (pI σ75 a76 1 2 x74).bind fun σ77 =>
    some (.inl (), σ77)
  else if v4 = 7 then
    v2.bind fun a78 =>
    zif (zcl σ a78 = 2) <|
    zbt (f_X3_number a78 0 3 σ) (fun k9 σ9 => some (.inr k9, σ9)) fun x80 σ81 =>
    v1.bind fun a82 =>
    (pI σ81 a82 1 3 x80).bind fun σ83 =>
    some (.inl (), σ83)
  else if v4 = 8 then
    zif (zcl σ o = 0) <|
    zbt (f_X1_offerTold o v1 σ) (fun k9 σ9 => some (.inr k9, σ9)) fun _ σ86 =>
    some (.inl (), σ86)
  else none

set_option maxHeartbeats 4000000 in
theorem s_X1_peopleLine_235 {X : zX} (hX : zOk X RX1 cX1_peopleLine 5 16 310 (Option.none : Option Jvm.ClassFile.FieldType) "peopleLine" []) {o : Nat} {Rt : (Unit ⊕ Nat) × zS} {v1 : Option Nat} {v2 : Option Nat} {v4 : Int32} {σ : zS} (h : f_X1_peopleLine_235 o v1 v2 v4 σ = some Rt) : zG X (zQ X (zot eU Rt.1) Rt.2) 5 235 [(0, zA (some o)), (1, zA v1), (2, zA v2), (4, zI v4)] [] σ := by
  unfold f_X1_peopleLine_235 at h
  refine z_iload hX 3 rfl dX1_peopleLine_235 ?_
  rcases z_ite h with ⟨c9, h⟩ | ⟨c9, h⟩
  · refine z_tableOut (tgt := 428) hX dX1_peopleLine_237 c9 (by decide) ?_
    refine z_aload_n hX 2 rfl rfl dX1_peopleLine_428 ?_
    obtain ⟨a14, e9, k_a14⟩ := z_nn h
    subst e9
    have h := k_a14
    obtain ⟨c15, h⟩ := z_ck h
    refine z_cNA hX (rest := []) h (fun r9 σ9 e9 => z_runV hX lk_X1_65 (c_X3_wrong hX.tr e9) (ci := 2) zc9_2 c15 ⟨Nat.le_of_ble_eq_true rfl, Nat.le_of_ble_eq_true rfl⟩ rfl (Nat.le_of_ble_eq_true rfl) dX1_peopleLine_429 rfl) (fun r16 σ17 h => ?_)
    obtain ⟨a18, e9, k_a18⟩ := z_nn h
    subst e9
    have h := k_a18
    refine z_athrow hX (k := 5) (ci := 9) rfl h dX1_peopleLine_432 (fun h => ?_)
    obtain rfl := Option.some.inj h
    exact z_out hX (fun x hx => nomatch hx)
  · rcases z_ite h with ⟨e9, h⟩ | ⟨-, h⟩
    · rw [e9]
      refine z_tableIn (tgt := 288) hX dX1_peopleLine_237 (by decide) (by decide) rfl (by decide) ?_
      refine z_aload_n hX 1 rfl rfl dX1_peopleLine_288 ?_
      obtain ⟨a19, e9, k_a19⟩ := z_nn h
      subst e9
      have h := k_a19
      refine z_getI hX fl_X1_85_1 h dX1_peopleLine_289 (fun x20 h => ?_)
      refine z_bipush hX (v := 8) (by decide) dX1_peopleLine_292 ?_
      refine z_icmp_ne (tgt := 302) hX h dX1_peopleLine_294 (by decide) (fun h => ?_) (fun h => ?_)
      · refine z_aload_n hX 1 rfl rfl dX1_peopleLine_302 ?_
        refine z_getR hX fl_X1_137_1 h dX1_peopleLine_303 (fun r21 h => ?_)
        refine z_aload_n hX 1 rfl rfl dX1_peopleLine_306 ?_
        refine z_getI hX fl_X1_85_1 h dX1_peopleLine_307 (fun x22 h => ?_)
        refine z_aload_n hX 2 rfl rfl dX1_peopleLine_310 (z_iconst hX (v := 0) (by decide) dX1_peopleLine_311 (z_ldc hX (v := 99999) q1108 dX1_peopleLine_312 (z_iconst hX (v := 5) (by decide) dX1_peopleLine_314 ?_)))
        obtain ⟨a23, e9, k_a23⟩ := z_nn h
        subst e9
        have h := k_a23
        obtain ⟨c24, h⟩ := z_ck h
        refine z_cTI hX (rest := [zI x22, zA r21]) h (fun r9 σ9 e9 => z_runV hX lk_X1_105 (c_X3_figures hX.tr e9) (ci := 2) zc9_2 c24 ⟨Nat.le_of_ble_eq_true rfl, Nat.le_of_ble_eq_true rfl⟩ rfl (Nat.le_of_ble_eq_true rfl) dX1_peopleLine_315 rfl) (fun k9 σ9 h => z_prop hX h (fun x hx => nomatch hx)) (fun x25 σ26 h => ?_)
        obtain ⟨a27, e9, k_a27⟩ := z_nn h
        subst e9
        have h := k_a27
        refine z_iast hX h dX1_peopleLine_318 (fun σ28 h => ?_)
        refine z_aload_n hX 1 rfl rfl dX1_peopleLine_319 (z_dup hX rfl dX1_peopleLine_320 ?_)
        refine z_getI hX fl_X1_85_1 h dX1_peopleLine_321 (fun x29 h => ?_)
        refine z_iconst hX (v := 1) (by decide) dX1_peopleLine_324 (z_iadd hX dX1_peopleLine_325 ?_)
        refine z_putI hX fp_X1_85_1 (fun h => nomatch h) h dX1_peopleLine_326 (fun σ30 h => ?_)
        obtain rfl := Option.some.inj h
        exact z_vret hX dX1_peopleLine_329
      · refine z_aload_n hX 2 rfl rfl dX1_peopleLine_297 ?_
        obtain ⟨a31, e9, k_a31⟩ := z_nn h
        subst e9
        have h := k_a31
        obtain ⟨c32, h⟩ := z_ck h
        refine z_cNA hX (rest := []) h (fun r9 σ9 e9 => z_runV hX lk_X1_65 (c_X3_wrong hX.tr e9) (ci := 2) zc9_2 c32 ⟨Nat.le_of_ble_eq_true rfl, Nat.le_of_ble_eq_true rfl⟩ rfl (Nat.le_of_ble_eq_true rfl) dX1_peopleLine_298 rfl) (fun r33 σ34 h => ?_)
        obtain ⟨a35, e9, k_a35⟩ := z_nn h
        subst e9
        have h := k_a35
        refine z_athrow hX (k := 5) (ci := 9) rfl h dX1_peopleLine_301 (fun h => ?_)
        obtain rfl := Option.some.inj h
        exact z_out hX (fun x hx => nomatch hx)
    rcases z_ite h with ⟨e9, h⟩ | ⟨-, h⟩
    · rw [e9]
      refine z_tableIn (tgt := 330) hX dX1_peopleLine_237 (by decide) (by decide) rfl (by decide) ?_
      refine z_aload_n hX 0 rfl rfl dX1_peopleLine_330 (z_aload_n hX 1 rfl rfl dX1_peopleLine_331 (z_iconst hX (v := 0) (by decide) dX1_peopleLine_332 ?_))
      obtain ⟨c36, h⟩ := z_ck h
      refine z_cTU hX (rest := []) h (fun r9 σ9 e9 => z_runV hX lk_X1_140 (c_X1_walkerTold hX.tr e9) (ci := 0) zc9_0 c36 ⟨Nat.le_of_ble_eq_true rfl, Nat.le_of_ble_eq_true rfl⟩ rfl (Nat.le_of_ble_eq_true rfl) dX1_peopleLine_333 rfl) (fun k9 σ9 h => z_prop hX h (fun x hx => nomatch hx)) (fun _ σ38 h => ?_)
      obtain rfl := Option.some.inj h
      exact z_vret hX dX1_peopleLine_336
    rcases z_ite h with ⟨e9, h⟩ | ⟨-, h⟩
    · rw [e9]
      refine z_tableIn (tgt := 337) hX dX1_peopleLine_237 (by decide) (by decide) rfl (by decide) ?_
      refine z_aload_n hX 0 rfl rfl dX1_peopleLine_337 (z_aload_n hX 1 rfl rfl dX1_peopleLine_338 (z_iconst hX (v := 1) (by decide) dX1_peopleLine_339 ?_))
      obtain ⟨c39, h⟩ := z_ck h
      refine z_cTU hX (rest := []) h (fun r9 σ9 e9 => z_runV hX lk_X1_140 (c_X1_walkerTold hX.tr e9) (ci := 0) zc9_0 c39 ⟨Nat.le_of_ble_eq_true rfl, Nat.le_of_ble_eq_true rfl⟩ rfl (Nat.le_of_ble_eq_true rfl) dX1_peopleLine_340 rfl) (fun k9 σ9 h => z_prop hX h (fun x hx => nomatch hx)) (fun _ σ41 h => ?_)
      obtain rfl := Option.some.inj h
      exact z_vret hX dX1_peopleLine_343
    rcases z_ite h with ⟨e9, h⟩ | ⟨-, h⟩
    · rw [e9]
      refine z_tableIn (tgt := 344) hX dX1_peopleLine_237 (by decide) (by decide) rfl (by decide) ?_
      refine z_aload_n hX 0 rfl rfl dX1_peopleLine_344 (z_aload_n hX 1 rfl rfl dX1_peopleLine_345 (z_iconst hX (v := 2) (by decide) dX1_peopleLine_346 ?_))
      obtain ⟨c42, h⟩ := z_ck h
      refine z_cTU hX (rest := []) h (fun r9 σ9 e9 => z_runV hX lk_X1_140 (c_X1_walkerTold hX.tr e9) (ci := 0) zc9_0 c42 ⟨Nat.le_of_ble_eq_true rfl, Nat.le_of_ble_eq_true rfl⟩ rfl (Nat.le_of_ble_eq_true rfl) dX1_peopleLine_347 rfl) (fun k9 σ9 h => z_prop hX h (fun x hx => nomatch hx)) (fun _ σ44 h => ?_)
      obtain rfl := Option.some.inj h
      exact z_vret hX dX1_peopleLine_350
    rcases z_ite h with ⟨e9, h⟩ | ⟨-, h⟩
    · rw [e9]
      refine z_tableIn (tgt := 351) hX dX1_peopleLine_237 (by decide) (by decide) rfl (by decide) ?_
      refine z_aload_n hX 0 rfl rfl dX1_peopleLine_351 (z_aload_n hX 1 rfl rfl dX1_peopleLine_352 (z_iconst hX (v := 3) (by decide) dX1_peopleLine_353 ?_))
      obtain ⟨c45, h⟩ := z_ck h
      refine z_cTU hX (rest := []) h (fun r9 σ9 e9 => z_runV hX lk_X1_140 (c_X1_walkerTold hX.tr e9) (ci := 0) zc9_0 c45 ⟨Nat.le_of_ble_eq_true rfl, Nat.le_of_ble_eq_true rfl⟩ rfl (Nat.le_of_ble_eq_true rfl) dX1_peopleLine_354 rfl) (fun k9 σ9 h => z_prop hX h (fun x hx => nomatch hx)) (fun _ σ47 h => ?_)
      obtain rfl := Option.some.inj h
      exact z_vret hX dX1_peopleLine_357
    rcases z_ite h with ⟨e9, h⟩ | ⟨-, h⟩
    · rw [e9]
      refine z_tableIn (tgt := 358) hX dX1_peopleLine_237 (by decide) (by decide) rfl (by decide) ?_
      refine z_aload_n hX 1 rfl rfl dX1_peopleLine_358 ?_
      obtain ⟨a48, e9, k_a48⟩ := z_nn h
      subst e9
      have h := k_a48
      refine z_getR hX fl_X1_144_1 h dX1_peopleLine_359 (fun r49 h => ?_)
      obtain ⟨a50, e9, k_a50⟩ := z_nn h
      subst e9
      have h := k_a50
      obtain ⟨c51, h⟩ := z_ck h
      refine z_cNI hX (rest := []) h (fun r9 σ9 e9 => z_runV hX lk_X1_59 (c_J2_size hX.tr e9) (ci := 19) zc9_19 c51 ⟨Nat.le_of_ble_eq_true rfl, Nat.le_of_ble_eq_true rfl⟩ rfl (Nat.le_of_ble_eq_true rfl) dX1_peopleLine_362 rfl) (fun x52 σ53 h => ?_)
      refine z_bipush hX (v := 10) (by decide) dX1_peopleLine_365 ?_
      refine z_icmp_ne (tgt := 375) hX h dX1_peopleLine_367 (by decide) (fun h => ?_) (fun h => ?_)
      · refine z_aload_n hX 1 rfl rfl dX1_peopleLine_375 ?_
        refine z_getR hX fl_X1_144_1 h dX1_peopleLine_376 (fun r54 h => ?_)
        refine z_new hX ne_X1_147 h dX1_peopleLine_379 (fun a55 σ56 h => ?_)
        refine z_dup hX rfl dX1_peopleLine_382 (z_aload_n hX 2 rfl rfl dX1_peopleLine_383 (z_iconst hX (v := 1) (by decide) dX1_peopleLine_384 (z_bipush hX (v := 99) (by decide) dX1_peopleLine_385 ?_)))
        obtain ⟨a57, e9, k_a57⟩ := z_nn h
        subst e9
        have h := k_a57
        obtain ⟨c58, h⟩ := z_ck h
        refine z_cTI hX (rest := [zA (some a55), zA (some a55), zA r54]) h (fun r9 σ9 e9 => z_runV hX lk_X1_69 (c_X3_number hX.tr e9) (ci := 2) zc9_2 c58 ⟨Nat.le_of_ble_eq_true rfl, Nat.le_of_ble_eq_true rfl⟩ rfl (Nat.le_of_ble_eq_true rfl) dX1_peopleLine_387 rfl) (fun k9 σ9 h => z_prop hX h (fun x hx => nomatch hx)) (fun x59 σ60 h => ?_)
        refine z_cNU hX (rest := [zA (some a55), zA r54]) h (fun r9 σ9 e9 => z_runI hX lk_X1_149 (c_X8_init hX.tr e9) ⟨Nat.le_of_ble_eq_true rfl, Nat.le_of_ble_eq_true rfl⟩ rfl (Nat.le_of_ble_eq_true rfl) dX1_peopleLine_390 rfl) (fun _ σ62 h => ?_)
        obtain ⟨a63, e9, k_a63⟩ := z_nn h
        subst e9
        have h := k_a63
        obtain ⟨c64, h⟩ := z_ck h
        refine z_cNI hX (rest := []) h (fun r9 σ9 e9 => z_runV hX lk_X1_99 (c_J2_add hX.tr e9) (ci := 19) zc9_19 c64 ⟨Nat.le_of_ble_eq_true rfl, Nat.le_of_ble_eq_true rfl⟩ rfl (Nat.le_of_ble_eq_true rfl) dX1_peopleLine_393 rfl) (fun x65 σ66 h => ?_)
        refine z_pop hX rfl dX1_peopleLine_396 ?_
        obtain rfl := Option.some.inj h
        exact z_vret hX dX1_peopleLine_397
      · refine z_aload_n hX 2 rfl rfl dX1_peopleLine_370 ?_
        obtain ⟨a67, e9, k_a67⟩ := z_nn h
        subst e9
        have h := k_a67
        obtain ⟨c68, h⟩ := z_ck h
        refine z_cNA hX (rest := []) h (fun r9 σ9 e9 => z_runV hX lk_X1_65 (c_X3_wrong hX.tr e9) (ci := 2) zc9_2 c68 ⟨Nat.le_of_ble_eq_true rfl, Nat.le_of_ble_eq_true rfl⟩ rfl (Nat.le_of_ble_eq_true rfl) dX1_peopleLine_371 rfl) (fun r69 σ70 h => ?_)
        obtain ⟨a71, e9, k_a71⟩ := z_nn h
        subst e9
        have h := k_a71
        refine z_athrow hX (k := 5) (ci := 9) rfl h dX1_peopleLine_374 (fun h => ?_)
        obtain rfl := Option.some.inj h
        exact z_out hX (fun x hx => nomatch hx)
    rcases z_ite h with ⟨e9, h⟩ | ⟨-, h⟩
    · rw [e9]
      refine z_tableIn (tgt := 398) hX dX1_peopleLine_237 (by decide) (by decide) rfl (by decide) ?_
      refine z_aload_n hX 1 rfl rfl dX1_peopleLine_398 (z_aload_n hX 2 rfl rfl dX1_peopleLine_399 (z_iconst hX (v := 1) (by decide) dX1_peopleLine_400 (z_sipush hX (v := 999) (by decide) dX1_peopleLine_401 ?_)))
      obtain ⟨a72, e9, k_a72⟩ := z_nn h
      subst e9
      have h := k_a72
      obtain ⟨c73, h⟩ := z_ck h
      refine z_cTI hX (rest := [zA v1]) h (fun r9 σ9 e9 => z_runV hX lk_X1_69 (c_X3_number hX.tr e9) (ci := 2) zc9_2 c73 ⟨Nat.le_of_ble_eq_true rfl, Nat.le_of_ble_eq_true rfl⟩ rfl (Nat.le_of_ble_eq_true rfl) dX1_peopleLine_404 rfl) (fun k9 σ9 h => z_prop hX h (fun x hx => nomatch hx)) (fun x74 σ75 h => ?_)
      obtain ⟨a76, e9, k_a76⟩ := z_nn h
      subst e9
      have h := k_a76
      refine z_putI hX fp_X1_152_1 (fun h => nomatch h) h dX1_peopleLine_407 (fun σ77 h => ?_)
      obtain rfl := Option.some.inj h
      exact z_vret hX dX1_peopleLine_410
    rcases z_ite h with ⟨e9, h⟩ | ⟨-, h⟩
    · rw [e9]
      refine z_tableIn (tgt := 411) hX dX1_peopleLine_237 (by decide) (by decide) rfl (by decide) ?_
      refine z_aload_n hX 1 rfl rfl dX1_peopleLine_411 (z_aload_n hX 2 rfl rfl dX1_peopleLine_412 (z_iconst hX (v := 0) (by decide) dX1_peopleLine_413 (z_iconst hX (v := 3) (by decide) dX1_peopleLine_414 ?_)))
      obtain ⟨a78, e9, k_a78⟩ := z_nn h
      subst e9
      have h := k_a78
      obtain ⟨c79, h⟩ := z_ck h
      refine z_cTI hX (rest := [zA v1]) h (fun r9 σ9 e9 => z_runV hX lk_X1_69 (c_X3_number hX.tr e9) (ci := 2) zc9_2 c79 ⟨Nat.le_of_ble_eq_true rfl, Nat.le_of_ble_eq_true rfl⟩ rfl (Nat.le_of_ble_eq_true rfl) dX1_peopleLine_415 rfl) (fun k9 σ9 h => z_prop hX h (fun x hx => nomatch hx)) (fun x80 σ81 h => ?_)
      obtain ⟨a82, e9, k_a82⟩ := z_nn h
      subst e9
      have h := k_a82
      refine z_putI hX fp_X1_154_1 (fun h => nomatch h) h dX1_peopleLine_418 (fun σ83 h => ?_)
      obtain rfl := Option.some.inj h
      exact z_vret hX dX1_peopleLine_421
    rcases z_ite h with ⟨e9, h⟩ | ⟨-, h⟩
    · rw [e9]
      refine z_tableIn (tgt := 422) hX dX1_peopleLine_237 (by decide) (by decide) rfl (by decide) ?_
      refine z_aload_n hX 0 rfl rfl dX1_peopleLine_422 (z_aload_n hX 1 rfl rfl dX1_peopleLine_423 ?_)
      obtain ⟨c84, h⟩ := z_ck h
      refine z_cTU hX (rest := []) h (fun r9 σ9 e9 => z_runV hX lk_X1_156 (c_X1_offerTold hX.tr e9) (ci := 0) zc9_0 c84 ⟨Nat.le_of_ble_eq_true rfl, Nat.le_of_ble_eq_true rfl⟩ rfl (Nat.le_of_ble_eq_true rfl) dX1_peopleLine_424 rfl) (fun k9 σ9 h => z_prop hX h (fun x hx => nomatch hx)) (fun _ σ86 h => ?_)
      obtain rfl := Option.some.inj h
      exact z_vret hX dX1_peopleLine_427
    cases h

def f_X1_peopleLine (o : Nat) (p1 : Option Nat) (σ : zS) : Option ((Unit ⊕ Nat) × zS) :=
  (gR σ o 0 2).bind fun r1 =>
  r1.bind fun a2 =>
  zif (zcl σ a2 = 2) <|
  zb2 (f_X3_word a2 σ) fun r4 σ5 =>
  r4.bind fun a6 =>
  zif (zcl σ5 a6 = 21) <|
  zb2 (f_J10_hashCode a6 σ5) fun x8 σ9 =>
  if x8 = (-1326158276) then
    (zk σ9 103).bind fun a10 =>
    zif (zcl σ9 a6 = 21) <|
    zb2 (f_J10_equals a6 (some a10) σ9) fun x12 σ13 =>
    if x12 = 0 then
      f_X1_peopleLine_235 o p1 (some a2) (-1) σ13
    else
      f_X1_peopleLine_235 o p1 (some a2) 3 σ13
  else if x8 = 107866 then
    (zk σ9 101).bind fun a87 =>
    zif (zcl σ9 a6 = 21) <|
    zb2 (f_J10_equals a6 (some a87) σ9) fun x89 σ90 =>
    if x89 = 0 then
      f_X1_peopleLine_235 o p1 (some a2) (-1) σ90
    else
      f_X1_peopleLine_235 o p1 (some a2) 1 σ90
  else if x8 = 3496916 then
    (zk σ9 107).bind fun a91 =>
    zif (zcl σ9 a6 = 21) <|
    zb2 (f_J10_equals a6 (some a91) σ9) fun x93 σ94 =>
    if x93 = 0 then
      f_X1_peopleLine_235 o p1 (some a2) (-1) σ94
    else
      f_X1_peopleLine_235 o p1 (some a2) 7 σ94
  else if x8 = 3571837 then
    (zk σ9 105).bind fun a95 =>
    zif (zcl σ9 a6 = 21) <|
    zb2 (f_J10_equals a6 (some a95) σ9) fun x97 σ98 =>
    if x97 = 0 then
      f_X1_peopleLine_235 o p1 (some a2) (-1) σ98
    else
      f_X1_peopleLine_235 o p1 (some a2) 5 σ98
  else if x8 = 94631196 then
    (zk σ9 102).bind fun a99 =>
    zif (zcl σ9 a6 = 21) <|
    zb2 (f_J10_equals a6 (some a99) σ9) fun x101 σ102 =>
    if x101 = 0 then
      f_X1_peopleLine_235 o p1 (some a2) (-1) σ102
    else
      f_X1_peopleLine_235 o p1 (some a2) 2 σ102
  else if x8 = 99469088 then
    (zk σ9 100).bind fun a103 =>
    zif (zcl σ9 a6 = 21) <|
    zb2 (f_J10_equals a6 (some a103) σ9) fun x105 σ106 =>
    if x105 = 0 then
      f_X1_peopleLine_235 o p1 (some a2) (-1) σ106
    else
      f_X1_peopleLine_235 o p1 (some a2) 0 σ106
  else if x8 = 102976443 then
    (zk σ9 106).bind fun a107 =>
    zif (zcl σ9 a6 = 21) <|
    zb2 (f_J10_equals a6 (some a107) σ9) fun x109 σ110 =>
    if x109 = 0 then
      f_X1_peopleLine_235 o p1 (some a2) (-1) σ110
    else
      f_X1_peopleLine_235 o p1 (some a2) 6 σ110
  else if x8 = 105650780 then
    (zk σ9 108).bind fun a111 =>
    zif (zcl σ9 a6 = 21) <|
    zb2 (f_J10_equals a6 (some a111) σ9) fun x113 σ114 =>
    if x113 = 0 then
      f_X1_peopleLine_235 o p1 (some a2) (-1) σ114
    else
      f_X1_peopleLine_235 o p1 (some a2) 8 σ114
  else if x8 = 1032691795 then
    (zk σ9 104).bind fun a115 =>
    zif (zcl σ9 a6 = 21) <|
    zb2 (f_J10_equals a6 (some a115) σ9) fun x117 σ118 =>
    if x117 = 0 then
      f_X1_peopleLine_235 o p1 (some a2) (-1) σ118
    else
      f_X1_peopleLine_235 o p1 (some a2) 4 σ118
  else
    f_X1_peopleLine_235 o p1 (some a2) (-1) σ9

set_option maxHeartbeats 4000000 in
theorem s_X1_peopleLine {X : zX} (hX : zOk X RX1 cX1_peopleLine 5 16 310 (Option.none : Option Jvm.ClassFile.FieldType) "peopleLine" []) {o : Nat} {p1 : Option Nat} {σ : zS} {Rt : (Unit ⊕ Nat) × zS} (h : f_X1_peopleLine o p1 σ = some Rt) : zG X (zQ X (zot eU Rt.1) Rt.2) 5 0 [(0, zA (some o)), (1, zA p1)] [] σ := by
  unfold f_X1_peopleLine at h
  refine z_aload_n hX 0 rfl rfl dX1_peopleLine_0 ?_
  refine z_getR hX fl_X1_19_0 h dX1_peopleLine_1 (fun r1 h => ?_)
  refine z_astore_n (L' := [(0, zA (some o)), (1, zA p1), (2, zA r1)]) hX rfl rfl (by decide) dX1_peopleLine_4 (z_aload_n hX 2 rfl rfl dX1_peopleLine_5 ?_)
  obtain ⟨a2, e9, k_a2⟩ := z_nn h
  subst e9
  have h := k_a2
  obtain ⟨c3, h⟩ := z_ck h
  refine z_cNA hX (rest := []) h (fun r9 σ9 e9 => z_runV hX lk_X1_73 (c_X3_word hX.tr e9) (ci := 2) zc9_2 c3 ⟨Nat.le_of_ble_eq_true rfl, Nat.le_of_ble_eq_true rfl⟩ rfl (Nat.le_of_ble_eq_true rfl) dX1_peopleLine_6 rfl) (fun r4 σ5 h => ?_)
  refine z_astore_n (L' := [(0, zA (some o)), (1, zA p1), (2, zA (some a2)), (3, zA r4)]) hX rfl rfl (by decide) dX1_peopleLine_9 (z_iconst hX (v := (-1)) (by decide) dX1_peopleLine_10 (z_istore (L' := [(0, zA (some o)), (1, zA p1), (2, zA (some a2)), (3, zA r4), (4, zI (-1))]) hX rfl (by decide) dX1_peopleLine_11 (z_aload_n hX 3 rfl rfl dX1_peopleLine_13 ?_)))
  obtain ⟨a6, e9, k_a6⟩ := z_nn h
  subst e9
  have h := k_a6
  obtain ⟨c7, h⟩ := z_ck h
  refine z_cNI hX (rest := []) h (fun r9 σ9 e9 => z_runV hX lk_X1_116 (c_J10_hashCode hX.tr e9) (ci := 21) zc9_21 c7 ⟨Nat.le_of_ble_eq_true rfl, Nat.le_of_ble_eq_true rfl⟩ rfl (Nat.le_of_ble_eq_true rfl) dX1_peopleLine_14 rfl) (fun x8 σ9 h => ?_)
  rcases z_ite h with ⟨e9, h⟩ | ⟨n0, h⟩
  · rw [e9]
    refine z_lookup (tgt := 145) (off := 128) hX dX1_peopleLine_17 rfl (by decide) (by decide) ?_
    refine z_aload_n hX 3 rfl rfl dX1_peopleLine_145 ?_
    refine z_ldcS hX st_X1_125 h dX1_peopleLine_146 (fun a10 _ h => ?_)
    obtain ⟨c11, h⟩ := z_ck h
    refine z_cNI hX (rest := []) h (fun r9 σ9 e9 => z_runV hX lk_X1_79 (c_J10_equals hX.tr e9) (ci := 21) zc9_21 c11 ⟨Nat.le_of_ble_eq_true rfl, Nat.le_of_ble_eq_true rfl⟩ rfl (Nat.le_of_ble_eq_true rfl) dX1_peopleLine_148 rfl) (fun x12 σ13 h => ?_)
    refine z_if_eq (tgt := 235) hX h dX1_peopleLine_151 (by decide) (fun h => ?_) (fun h => ?_)
    · exact z_sub [0, 1, 2, 4] rfl (s_X1_peopleLine_235 (o := o) hX  h)
    · refine z_iconst hX (v := 3) (by decide) dX1_peopleLine_154 (z_istore (L' := [(0, zA (some o)), (1, zA p1), (2, zA (some a2)), (3, zA (some a6)), (4, zI 3)]) hX rfl (by decide) dX1_peopleLine_155 (z_goto (tgt := 235) hX dX1_peopleLine_157 (by decide) ?_))
      exact z_sub [0, 1, 2, 4] rfl (s_X1_peopleLine_235 (o := o) hX  h)
  rcases z_ite h with ⟨e9, h⟩ | ⟨n1, h⟩
  · rw [e9]
    refine z_lookup (tgt := 115) (off := 98) hX dX1_peopleLine_17 rfl (by decide) (by decide) ?_
    refine z_aload_n hX 3 rfl rfl dX1_peopleLine_115 ?_
    refine z_ldcS hX st_X1_121 h dX1_peopleLine_116 (fun a87 _ h => ?_)
    obtain ⟨c88, h⟩ := z_ck h
    refine z_cNI hX (rest := []) h (fun r9 σ9 e9 => z_runV hX lk_X1_79 (c_J10_equals hX.tr e9) (ci := 21) zc9_21 c88 ⟨Nat.le_of_ble_eq_true rfl, Nat.le_of_ble_eq_true rfl⟩ rfl (Nat.le_of_ble_eq_true rfl) dX1_peopleLine_118 rfl) (fun x89 σ90 h => ?_)
    refine z_if_eq (tgt := 235) hX h dX1_peopleLine_121 (by decide) (fun h => ?_) (fun h => ?_)
    · exact z_sub [0, 1, 2, 4] rfl (s_X1_peopleLine_235 (o := o) hX  h)
    · refine z_iconst hX (v := 1) (by decide) dX1_peopleLine_124 (z_istore (L' := [(0, zA (some o)), (1, zA p1), (2, zA (some a2)), (3, zA (some a6)), (4, zI 1)]) hX rfl (by decide) dX1_peopleLine_125 (z_goto (tgt := 235) hX dX1_peopleLine_127 (by decide) ?_))
      exact z_sub [0, 1, 2, 4] rfl (s_X1_peopleLine_235 (o := o) hX  h)
  rcases z_ite h with ⟨e9, h⟩ | ⟨n2, h⟩
  · rw [e9]
    refine z_lookup (tgt := 206) (off := 189) hX dX1_peopleLine_17 rfl (by decide) (by decide) ?_
    refine z_aload_n hX 3 rfl rfl dX1_peopleLine_206 ?_
    refine z_ldcS hX st_X1_133 h dX1_peopleLine_207 (fun a91 _ h => ?_)
    obtain ⟨c92, h⟩ := z_ck h
    refine z_cNI hX (rest := []) h (fun r9 σ9 e9 => z_runV hX lk_X1_79 (c_J10_equals hX.tr e9) (ci := 21) zc9_21 c92 ⟨Nat.le_of_ble_eq_true rfl, Nat.le_of_ble_eq_true rfl⟩ rfl (Nat.le_of_ble_eq_true rfl) dX1_peopleLine_209 rfl) (fun x93 σ94 h => ?_)
    refine z_if_eq (tgt := 235) hX h dX1_peopleLine_212 (by decide) (fun h => ?_) (fun h => ?_)
    · exact z_sub [0, 1, 2, 4] rfl (s_X1_peopleLine_235 (o := o) hX  h)
    · refine z_bipush hX (v := 7) (by decide) dX1_peopleLine_215 (z_istore (L' := [(0, zA (some o)), (1, zA p1), (2, zA (some a2)), (3, zA (some a6)), (4, zI 7)]) hX rfl (by decide) dX1_peopleLine_217 (z_goto (tgt := 235) hX dX1_peopleLine_219 (by decide) ?_))
      exact z_sub [0, 1, 2, 4] rfl (s_X1_peopleLine_235 (o := o) hX  h)
  rcases z_ite h with ⟨e9, h⟩ | ⟨n3, h⟩
  · rw [e9]
    refine z_lookup (tgt := 175) (off := 158) hX dX1_peopleLine_17 rfl (by decide) (by decide) ?_
    refine z_aload_n hX 3 rfl rfl dX1_peopleLine_175 ?_
    refine z_ldcS hX st_X1_129 h dX1_peopleLine_176 (fun a95 _ h => ?_)
    obtain ⟨c96, h⟩ := z_ck h
    refine z_cNI hX (rest := []) h (fun r9 σ9 e9 => z_runV hX lk_X1_79 (c_J10_equals hX.tr e9) (ci := 21) zc9_21 c96 ⟨Nat.le_of_ble_eq_true rfl, Nat.le_of_ble_eq_true rfl⟩ rfl (Nat.le_of_ble_eq_true rfl) dX1_peopleLine_178 rfl) (fun x97 σ98 h => ?_)
    refine z_if_eq (tgt := 235) hX h dX1_peopleLine_181 (by decide) (fun h => ?_) (fun h => ?_)
    · exact z_sub [0, 1, 2, 4] rfl (s_X1_peopleLine_235 (o := o) hX  h)
    · refine z_iconst hX (v := 5) (by decide) dX1_peopleLine_184 (z_istore (L' := [(0, zA (some o)), (1, zA p1), (2, zA (some a2)), (3, zA (some a6)), (4, zI 5)]) hX rfl (by decide) dX1_peopleLine_185 (z_goto (tgt := 235) hX dX1_peopleLine_187 (by decide) ?_))
      exact z_sub [0, 1, 2, 4] rfl (s_X1_peopleLine_235 (o := o) hX  h)
  rcases z_ite h with ⟨e9, h⟩ | ⟨n4, h⟩
  · rw [e9]
    refine z_lookup (tgt := 130) (off := 113) hX dX1_peopleLine_17 rfl (by decide) (by decide) ?_
    refine z_aload_n hX 3 rfl rfl dX1_peopleLine_130 ?_
    refine z_ldcS hX st_X1_123 h dX1_peopleLine_131 (fun a99 _ h => ?_)
    obtain ⟨c100, h⟩ := z_ck h
    refine z_cNI hX (rest := []) h (fun r9 σ9 e9 => z_runV hX lk_X1_79 (c_J10_equals hX.tr e9) (ci := 21) zc9_21 c100 ⟨Nat.le_of_ble_eq_true rfl, Nat.le_of_ble_eq_true rfl⟩ rfl (Nat.le_of_ble_eq_true rfl) dX1_peopleLine_133 rfl) (fun x101 σ102 h => ?_)
    refine z_if_eq (tgt := 235) hX h dX1_peopleLine_136 (by decide) (fun h => ?_) (fun h => ?_)
    · exact z_sub [0, 1, 2, 4] rfl (s_X1_peopleLine_235 (o := o) hX  h)
    · refine z_iconst hX (v := 2) (by decide) dX1_peopleLine_139 (z_istore (L' := [(0, zA (some o)), (1, zA p1), (2, zA (some a2)), (3, zA (some a6)), (4, zI 2)]) hX rfl (by decide) dX1_peopleLine_140 (z_goto (tgt := 235) hX dX1_peopleLine_142 (by decide) ?_))
      exact z_sub [0, 1, 2, 4] rfl (s_X1_peopleLine_235 (o := o) hX  h)
  rcases z_ite h with ⟨e9, h⟩ | ⟨n5, h⟩
  · rw [e9]
    refine z_lookup (tgt := 100) (off := 83) hX dX1_peopleLine_17 rfl (by decide) (by decide) ?_
    refine z_aload_n hX 3 rfl rfl dX1_peopleLine_100 ?_
    refine z_ldcS hX st_X1_119 h dX1_peopleLine_101 (fun a103 _ h => ?_)
    obtain ⟨c104, h⟩ := z_ck h
    refine z_cNI hX (rest := []) h (fun r9 σ9 e9 => z_runV hX lk_X1_79 (c_J10_equals hX.tr e9) (ci := 21) zc9_21 c104 ⟨Nat.le_of_ble_eq_true rfl, Nat.le_of_ble_eq_true rfl⟩ rfl (Nat.le_of_ble_eq_true rfl) dX1_peopleLine_103 rfl) (fun x105 σ106 h => ?_)
    refine z_if_eq (tgt := 235) hX h dX1_peopleLine_106 (by decide) (fun h => ?_) (fun h => ?_)
    · exact z_sub [0, 1, 2, 4] rfl (s_X1_peopleLine_235 (o := o) hX  h)
    · refine z_iconst hX (v := 0) (by decide) dX1_peopleLine_109 (z_istore (L' := [(0, zA (some o)), (1, zA p1), (2, zA (some a2)), (3, zA (some a6)), (4, zI 0)]) hX rfl (by decide) dX1_peopleLine_110 (z_goto (tgt := 235) hX dX1_peopleLine_112 (by decide) ?_))
      exact z_sub [0, 1, 2, 4] rfl (s_X1_peopleLine_235 (o := o) hX  h)
  rcases z_ite h with ⟨e9, h⟩ | ⟨n6, h⟩
  · rw [e9]
    refine z_lookup (tgt := 190) (off := 173) hX dX1_peopleLine_17 rfl (by decide) (by decide) ?_
    refine z_aload_n hX 3 rfl rfl dX1_peopleLine_190 ?_
    refine z_ldcS hX st_X1_131 h dX1_peopleLine_191 (fun a107 _ h => ?_)
    obtain ⟨c108, h⟩ := z_ck h
    refine z_cNI hX (rest := []) h (fun r9 σ9 e9 => z_runV hX lk_X1_79 (c_J10_equals hX.tr e9) (ci := 21) zc9_21 c108 ⟨Nat.le_of_ble_eq_true rfl, Nat.le_of_ble_eq_true rfl⟩ rfl (Nat.le_of_ble_eq_true rfl) dX1_peopleLine_193 rfl) (fun x109 σ110 h => ?_)
    refine z_if_eq (tgt := 235) hX h dX1_peopleLine_196 (by decide) (fun h => ?_) (fun h => ?_)
    · exact z_sub [0, 1, 2, 4] rfl (s_X1_peopleLine_235 (o := o) hX  h)
    · refine z_bipush hX (v := 6) (by decide) dX1_peopleLine_199 (z_istore (L' := [(0, zA (some o)), (1, zA p1), (2, zA (some a2)), (3, zA (some a6)), (4, zI 6)]) hX rfl (by decide) dX1_peopleLine_201 (z_goto (tgt := 235) hX dX1_peopleLine_203 (by decide) ?_))
      exact z_sub [0, 1, 2, 4] rfl (s_X1_peopleLine_235 (o := o) hX  h)
  rcases z_ite h with ⟨e9, h⟩ | ⟨n7, h⟩
  · rw [e9]
    refine z_lookup (tgt := 222) (off := 205) hX dX1_peopleLine_17 rfl (by decide) (by decide) ?_
    refine z_aload_n hX 3 rfl rfl dX1_peopleLine_222 ?_
    refine z_ldcS hX st_X1_135 h dX1_peopleLine_223 (fun a111 _ h => ?_)
    obtain ⟨c112, h⟩ := z_ck h
    refine z_cNI hX (rest := []) h (fun r9 σ9 e9 => z_runV hX lk_X1_79 (c_J10_equals hX.tr e9) (ci := 21) zc9_21 c112 ⟨Nat.le_of_ble_eq_true rfl, Nat.le_of_ble_eq_true rfl⟩ rfl (Nat.le_of_ble_eq_true rfl) dX1_peopleLine_225 rfl) (fun x113 σ114 h => ?_)
    refine z_if_eq (tgt := 235) hX h dX1_peopleLine_228 (by decide) (fun h => ?_) (fun h => ?_)
    · exact z_sub [0, 1, 2, 4] rfl (s_X1_peopleLine_235 (o := o) hX  h)
    · refine z_bipush hX (v := 8) (by decide) dX1_peopleLine_231 (z_istore (L' := [(0, zA (some o)), (1, zA p1), (2, zA (some a2)), (3, zA (some a6)), (4, zI 8)]) hX rfl (by decide) dX1_peopleLine_233 ?_)
      exact z_sub [0, 1, 2, 4] rfl (s_X1_peopleLine_235 (o := o) hX  h)
  rcases z_ite h with ⟨e9, h⟩ | ⟨n8, h⟩
  · rw [e9]
    refine z_lookup (tgt := 160) (off := 143) hX dX1_peopleLine_17 rfl (by decide) (by decide) ?_
    refine z_aload_n hX 3 rfl rfl dX1_peopleLine_160 ?_
    refine z_ldcS hX st_X1_127 h dX1_peopleLine_161 (fun a115 _ h => ?_)
    obtain ⟨c116, h⟩ := z_ck h
    refine z_cNI hX (rest := []) h (fun r9 σ9 e9 => z_runV hX lk_X1_79 (c_J10_equals hX.tr e9) (ci := 21) zc9_21 c116 ⟨Nat.le_of_ble_eq_true rfl, Nat.le_of_ble_eq_true rfl⟩ rfl (Nat.le_of_ble_eq_true rfl) dX1_peopleLine_163 rfl) (fun x117 σ118 h => ?_)
    refine z_if_eq (tgt := 235) hX h dX1_peopleLine_166 (by decide) (fun h => ?_) (fun h => ?_)
    · exact z_sub [0, 1, 2, 4] rfl (s_X1_peopleLine_235 (o := o) hX  h)
    · refine z_iconst hX (v := 4) (by decide) dX1_peopleLine_169 (z_istore (L' := [(0, zA (some o)), (1, zA p1), (2, zA (some a2)), (3, zA (some a6)), (4, zI 4)]) hX rfl (by decide) dX1_peopleLine_170 (z_goto (tgt := 235) hX dX1_peopleLine_172 (by decide) ?_))
      exact z_sub [0, 1, 2, 4] rfl (s_X1_peopleLine_235 (o := o) hX  h)
  refine z_lookup (tgt := 235) hX dX1_peopleLine_17 rfl (zlk_dflt _ (zlk_cons n0 (by decide) (zlk_cons n1 (by decide) (zlk_cons n2 (by decide) (zlk_cons n3 (by decide) (zlk_cons n4 (by decide) (zlk_cons n5 (by decide) (zlk_cons n6 (by decide) (zlk_cons n7 (by decide) (zlk_cons n8 (by decide) zlk_nil)))))))))) (by decide) ?_
  exact z_sub [0, 1, 2, 4] rfl (s_X1_peopleLine_235 (o := o) hX  h)

theorem c_X1_peopleLine {l : Launch} {D : va_G} {tys : zTy} (hl : l.stackTraces = false) {o : Nat} {p1 : Option Nat} {σ : zS} {Rt : (Unit ⊕ Nat) × zS} (h : f_X1_peopleLine o p1 σ = some Rt) : zM l D tys yX1_peopleLine (ws_ yX1_peopleLine cX1_peopleLine 5 (Option.none : Option Jvm.ClassFile.FieldType)) 16 310 [zA (some o), zA p1] σ (zot eU Rt.1) Rt.2 :=
  zM_in hl rfl (Nat.le_of_ble_eq_true rfl) (fun p e R s m args below meth c hX => z_L rfl (s_X1_peopleLine hX h))
def f_X3_sign (o : Nat) (p1 : Int32) (σ : zS) : Option (Int32 × zS) :=
  zif (zcl σ o = 2) <|
  zb2 (f_X3_blanks o σ) fun _ σ3 =>
  (gI σ3 o 2 3).bind fun x4 =>
  zif (zcl σ3 o = 2) <|
  zb2 (f_X3_byteAt o x4 σ3) fun x6 σ7 =>
  if x6 = p1 then
    (gI σ7 o 2 3).bind fun x8 =>
    (pI σ7 o 2 3 (x8 + 1)).bind fun σ9 =>
    some ((1 : Int32), σ9)
  else
    some ((0 : Int32), σ7)

set_option maxHeartbeats 4000000 in
theorem s_X3_sign {X : zX} (hX : zOk X RX3 cX3_sign 2 3 81 (Option.some Jvm.ClassFile.FieldType.boolean) "sign" []) {o : Nat} {p1 : Int32} {σ : zS} {Rt : Int32 × zS} (h : f_X3_sign o p1 σ = some Rt) : zG X (zQ X (.inl (eI Rt.1)) Rt.2) 2 0 [(0, zA (some o)), (1, zI p1)] [] σ := by
  unfold f_X3_sign at h
  refine z_aload_n hX 0 rfl rfl dX3_sign_0 ?_
  obtain ⟨c1, h⟩ := z_ck h
  refine z_cNU hX (rest := []) h (fun r9 σ9 e9 => z_runV hX lk_X3_38 (c_X3_blanks hX.tr e9) (ci := 2) zc9_2 c1 ⟨Nat.le_of_ble_eq_true rfl, Nat.le_of_ble_eq_true rfl⟩ rfl (Nat.le_of_ble_eq_true rfl) dX3_sign_1 rfl) (fun _ σ3 h => ?_)
  refine z_aload_n hX 0 rfl rfl dX3_sign_4 (z_aload_n hX 0 rfl rfl dX3_sign_5 ?_)
  refine z_getI hX fl_X3_25_2 h dX3_sign_6 (fun x4 h => ?_)
  obtain ⟨c5, h⟩ := z_ck h
  refine z_cNI hX (rest := []) h (fun r9 σ9 e9 => z_runV hX lk_X3_31 (c_X3_byteAt hX.tr e9) (ci := 2) zc9_2 c5 ⟨Nat.le_of_ble_eq_true rfl, Nat.le_of_ble_eq_true rfl⟩ rfl (Nat.le_of_ble_eq_true rfl) dX3_sign_9 rfl) (fun x6 σ7 h => ?_)
  refine z_iload_n hX 1 rfl rfl dX3_sign_12 ?_
  refine z_icmp_eq (tgt := 18) hX h dX3_sign_13 (by decide) (fun h => ?_) (fun h => ?_)
  · refine z_aload_n hX 0 rfl rfl dX3_sign_18 (z_dup hX rfl dX3_sign_19 ?_)
    refine z_getI hX fl_X3_25_2 h dX3_sign_20 (fun x8 h => ?_)
    refine z_iconst hX (v := 1) (by decide) dX3_sign_23 (z_iadd hX dX3_sign_24 ?_)
    refine z_putI hX fp_X3_25_2 (fun h => nomatch h) h dX3_sign_25 (fun σ9 h => ?_)
    refine z_iconst hX (v := 1) (by decide) dX3_sign_28 ?_
    obtain rfl := Option.some.inj h
    exact z_zretT (r := 1) hX (by decide) dX3_sign_29
  · refine z_iconst hX (v := 0) (by decide) dX3_sign_16 ?_
    obtain rfl := Option.some.inj h
    exact z_zretT (r := 0) hX (by decide) dX3_sign_17

theorem c_X3_sign {l : Launch} {D : va_G} {tys : zTy} (hl : l.stackTraces = false) {o : Nat} {p1 : Int32} {σ : zS} {Rt : Int32 × zS} (h : f_X3_sign o p1 σ = some Rt) : zM l D tys yX3_sign (ws_ yX3_sign cX3_sign 2 (Option.some Jvm.ClassFile.FieldType.boolean)) 3 81 [zA (some o), zI p1] σ (.inl (eI Rt.1)) Rt.2 :=
  zM_in hl rfl (Nat.le_of_ble_eq_true rfl) (fun p e R s m args below meth c hX => z_L rfl (s_X3_sign hX h))
def f_X1_goesOn (o : Nat) (σ : zS) : Option ((Int32 ⊕ Nat) × zS) :=
  (gR σ o 0 2).bind fun r1 =>
  r1.bind fun a2 =>
  zif (zcl σ a2 = 2) <|
  zb2 (f_X3_isOver a2 σ) fun x4 σ5 =>
  if x4 = 0 then
    (gR σ5 o 0 2).bind fun r6 =>
    r6.bind fun a7 =>
    zif (zcl σ5 a7 = 2) <|
    zb2 (f_X3_sign a7 59 σ5) fun x9 σ10 =>
    if x9 = 0 then
      (gR σ10 o 0 2).bind fun r11 =>
      r11.bind fun a12 =>
      zif (zcl σ10 a12 = 2) <|
      zb2 (f_X3_wrong a12 σ10) fun r14 σ15 =>
      r14.bind fun a16 =>
      zif (zcl σ15 a16 = 9) <| some (.inr 5, σ15)
    else
      some (.inl (1 : Int32), σ10)
  else
    some (.inl (0 : Int32), σ5)

set_option maxHeartbeats 4000000 in
theorem s_X1_goesOn {X : zX} (hX : zOk X RX1 cX1_goesOn 1 8 130 (Option.some Jvm.ClassFile.FieldType.boolean) "goesOn" []) {o : Nat} {σ : zS} {Rt : (Int32 ⊕ Nat) × zS} (h : f_X1_goesOn o σ = some Rt) : zG X (zQ X (zot eI Rt.1) Rt.2) 1 0 [(0, zA (some o))] [] σ := by
  unfold f_X1_goesOn at h
  refine z_aload_n hX 0 rfl rfl dX1_goesOn_0 ?_
  refine z_getR hX fl_X1_19_0 h dX1_goesOn_1 (fun r1 h => ?_)
  obtain ⟨a2, e9, k_a2⟩ := z_nn h
  subst e9
  have h := k_a2
  obtain ⟨c3, h⟩ := z_ck h
  refine z_cNI hX (rest := []) h (fun r9 σ9 e9 => z_runV hX lk_X1_160 (c_X3_isOver hX.tr e9) (ci := 2) zc9_2 c3 ⟨Nat.le_of_ble_eq_true rfl, Nat.le_of_ble_eq_true rfl⟩ rfl (Nat.le_of_ble_eq_true rfl) dX1_goesOn_4 rfl) (fun x4 σ5 h => ?_)
  refine z_if_eq (tgt := 12) hX h dX1_goesOn_7 (by decide) (fun h => ?_) (fun h => ?_)
  · refine z_aload_n hX 0 rfl rfl dX1_goesOn_12 ?_
    refine z_getR hX fl_X1_19_0 h dX1_goesOn_13 (fun r6 h => ?_)
    refine z_bipush hX (v := 59) (by decide) dX1_goesOn_16 ?_
    obtain ⟨a7, e9, k_a7⟩ := z_nn h
    subst e9
    have h := k_a7
    obtain ⟨c8, h⟩ := z_ck h
    refine z_cNI hX (rest := []) h (fun r9 σ9 e9 => z_runV hX lk_X1_173 (c_X3_sign hX.tr e9) (ci := 2) zc9_2 c8 ⟨Nat.le_of_ble_eq_true rfl, Nat.le_of_ble_eq_true rfl⟩ rfl (Nat.le_of_ble_eq_true rfl) dX1_goesOn_18 rfl) (fun x9 σ10 h => ?_)
    refine z_if_eq (tgt := 26) hX h dX1_goesOn_21 (by decide) (fun h => ?_) (fun h => ?_)
    · refine z_aload_n hX 0 rfl rfl dX1_goesOn_26 ?_
      refine z_getR hX fl_X1_19_0 h dX1_goesOn_27 (fun r11 h => ?_)
      obtain ⟨a12, e9, k_a12⟩ := z_nn h
      subst e9
      have h := k_a12
      obtain ⟨c13, h⟩ := z_ck h
      refine z_cNA hX (rest := []) h (fun r9 σ9 e9 => z_runV hX lk_X1_65 (c_X3_wrong hX.tr e9) (ci := 2) zc9_2 c13 ⟨Nat.le_of_ble_eq_true rfl, Nat.le_of_ble_eq_true rfl⟩ rfl (Nat.le_of_ble_eq_true rfl) dX1_goesOn_30 rfl) (fun r14 σ15 h => ?_)
      obtain ⟨a16, e9, k_a16⟩ := z_nn h
      subst e9
      have h := k_a16
      refine z_athrow hX (k := 5) (ci := 9) rfl h dX1_goesOn_33 (fun h => ?_)
      obtain rfl := Option.some.inj h
      exact z_out hX (fun x hx => nomatch hx)
    · refine z_iconst hX (v := 1) (by decide) dX1_goesOn_24 ?_
      obtain rfl := Option.some.inj h
      exact z_zretT (r := 1) hX (by decide) dX1_goesOn_25
  · refine z_iconst hX (v := 0) (by decide) dX1_goesOn_10 ?_
    obtain rfl := Option.some.inj h
    exact z_zretT (r := 0) hX (by decide) dX1_goesOn_11

theorem c_X1_goesOn {l : Launch} {D : va_G} {tys : zTy} (hl : l.stackTraces = false) {o : Nat} {σ : zS} {Rt : (Int32 ⊕ Nat) × zS} (h : f_X1_goesOn o σ = some Rt) : zM l D tys yX1_goesOn (ws_ yX1_goesOn cX1_goesOn 1 (Option.some Jvm.ClassFile.FieldType.boolean)) 8 130 [zA (some o)] σ (zot eI Rt.1) Rt.2 :=
  zM_in hl rfl (Nat.le_of_ble_eq_true rfl) (fun p e R s m args below meth c hX => z_L rfl (s_X1_goesOn hX h))
def f_X1_peopleText_13_b (o : Nat) (v1 : Option Nat) (rec13 : Int32 → zS → Option ((Unit ⊕ Nat) × zS)) (v2 : Int32) (σ : zS) : Option ((Unit ⊕ Nat) × zS) :=
  zif (zcl σ o = 0) <|
  zbt (f_X1_noMore o v2 14 σ) (fun k9 σ9 => some (.inr k9, σ9)) fun _ σ8 =>
  zif (zcl σ8 o = 0) <|
  zbt (f_X1_peopleLine o v1 σ8) (fun k9 σ9 => some (.inr k9, σ9)) fun _ σ11 =>
  zl (v2 + 1) fun x12 =>
  zif (zcl σ11 o = 0) <|
  zbt (f_X1_goesOn o σ11) (fun k9 σ9 => some (.inr k9, σ9)) fun x14 σ15 =>
  if ¬ x14 = 0 then
    rec13 x12 σ15
  else
    some (.inl (), σ15)

def f_X1_peopleText_13 (o : Nat) (v1 : Option Nat) : Int32 → zS → Option ((Unit ⊕ Nat) × zS) := zlp1 (f_X1_peopleText_13_b o v1) NN
set_option maxHeartbeats 4000000 in
theorem s_X1_peopleText_13_b {X : zX} (hX : zOk X RX1 cX1_peopleText 3 17 334 (Option.none : Option Jvm.ClassFile.FieldType) "peopleText" []) {o : Nat} {Rt : (Unit ⊕ Nat) × zS} {v1 : Option Nat} {rec13 : Int32 → zS → Option ((Unit ⊕ Nat) × zS)} (hrec13 : ∀ (v2 : Int32) (σ : zS), rec13 v2 σ = some Rt → zG X (zQ X (zot eU Rt.1) Rt.2) 3 13 [(0, zA (some o)), (1, zA v1), (2, zI v2)] [] σ) {v2 : Int32} {σ : zS} (h : f_X1_peopleText_13_b o v1 rec13 v2 σ = some Rt) : zG X (zQ X (zot eU Rt.1) Rt.2) 3 13 [(0, zA (some o)), (1, zA v1), (2, zI v2)] [] σ := by
  unfold f_X1_peopleText_13_b at h
  refine z_aload_n hX 0 rfl rfl dX1_peopleText_13 (z_iload_n hX 2 rfl rfl dX1_peopleText_14 (z_bipush hX (v := 14) (by decide) dX1_peopleText_15 ?_))
  obtain ⟨c6, h⟩ := z_ck h
  refine z_cTU hX (rest := []) h (fun r9 σ9 e9 => z_runV hX lk_X1_164 (c_X1_noMore hX.tr e9) (ci := 0) zc9_0 c6 ⟨Nat.le_of_ble_eq_true rfl, Nat.le_of_ble_eq_true rfl⟩ rfl (Nat.le_of_ble_eq_true rfl) dX1_peopleText_17 rfl) (fun k9 σ9 h => z_prop hX h (fun x hx => nomatch hx)) (fun _ σ8 h => ?_)
  refine z_aload_n hX 0 rfl rfl dX1_peopleText_20 (z_aload_n hX 1 rfl rfl dX1_peopleText_21 ?_)
  obtain ⟨c9, h⟩ := z_ck h
  refine z_cTU hX (rest := []) h (fun r9 σ9 e9 => z_runV hX lk_X1_167 (c_X1_peopleLine hX.tr e9) (ci := 0) zc9_0 c9 ⟨Nat.le_of_ble_eq_true rfl, Nat.le_of_ble_eq_true rfl⟩ rfl (Nat.le_of_ble_eq_true rfl) dX1_peopleText_22 rfl) (fun k9 σ9 h => z_prop hX h (fun x hx => nomatch hx)) (fun _ σ11 h => ?_)
  refine z_iinc hX (j := 2) h rfl (by decide) (by decide) dX1_peopleText_25 (fun x12 h => z_L (L' := [(0, zA (some o)), (1, zA v1), (2, zI x12)]) rfl ?_)
  refine z_aload_n hX 0 rfl rfl dX1_peopleText_28 ?_
  obtain ⟨c13, h⟩ := z_ck h
  refine z_cTI hX (rest := []) h (fun r9 σ9 e9 => z_runV hX lk_X1_170 (c_X1_goesOn hX.tr e9) (ci := 0) zc9_0 c13 ⟨Nat.le_of_ble_eq_true rfl, Nat.le_of_ble_eq_true rfl⟩ rfl (Nat.le_of_ble_eq_true rfl) dX1_peopleText_29 rfl) (fun k9 σ9 h => z_prop hX h (fun x hx => nomatch hx)) (fun x14 σ15 h => ?_)
  refine z_if_ne (tgt := 13) hX h dX1_peopleText_32 (by decide) (fun h => ?_) (fun h => ?_)
  · exact z_sub [0, 1, 2] rfl (hrec13 _ _ h)
  · obtain rfl := Option.some.inj h
    exact z_vret hX dX1_peopleText_35

theorem s_X1_peopleText_13 {X : zX} (hX : zOk X RX1 cX1_peopleText 3 17 334 (Option.none : Option Jvm.ClassFile.FieldType) "peopleText" []) {o : Nat} {Rt : (Unit ⊕ Nat) × zS} {v1 : Option Nat} {v2 : Int32} {σ : zS} (h : f_X1_peopleText_13 o v1 v2 σ = some Rt) : zG X (zQ X (zot eU Rt.1) Rt.2) 3 13 [(0, zA (some o)), (1, zA v1), (2, zI v2)] [] σ :=
  zlp1_ok (P := fun v2 σ => zG X (zQ X (zot eU Rt.1) Rt.2) 3 13 [(0, zA (some o)), (1, zA v1), (2, zI v2)] [] σ) (fun rec hr v2 σ h => s_X1_peopleText_13_b (o := o) hX hr h) NN v2 σ h
def f_X1_peopleText (o : Nat) (p1 : Option Nat) (σ : zS) : Option ((Unit ⊕ Nat) × zS) :=
  (gR σ o 0 2).bind fun r1 =>
  r1.bind fun a2 =>
  zif (zcl σ a2 = 2) <|
  zb2 (f_X3_isOver a2 σ) fun x4 σ5 =>
  if x4 = 0 then
    f_X1_peopleText_13 o p1 0 σ5
  else
    some (.inl (), σ5)

set_option maxHeartbeats 4000000 in
theorem s_X1_peopleText {X : zX} (hX : zOk X RX1 cX1_peopleText 3 17 334 (Option.none : Option Jvm.ClassFile.FieldType) "peopleText" []) {o : Nat} {p1 : Option Nat} {σ : zS} {Rt : (Unit ⊕ Nat) × zS} (h : f_X1_peopleText o p1 σ = some Rt) : zG X (zQ X (zot eU Rt.1) Rt.2) 3 0 [(0, zA (some o)), (1, zA p1)] [] σ := by
  unfold f_X1_peopleText at h
  refine z_aload_n hX 0 rfl rfl dX1_peopleText_0 ?_
  refine z_getR hX fl_X1_19_0 h dX1_peopleText_1 (fun r1 h => ?_)
  obtain ⟨a2, e9, k_a2⟩ := z_nn h
  subst e9
  have h := k_a2
  obtain ⟨c3, h⟩ := z_ck h
  refine z_cNI hX (rest := []) h (fun r9 σ9 e9 => z_runV hX lk_X1_160 (c_X3_isOver hX.tr e9) (ci := 2) zc9_2 c3 ⟨Nat.le_of_ble_eq_true rfl, Nat.le_of_ble_eq_true rfl⟩ rfl (Nat.le_of_ble_eq_true rfl) dX1_peopleText_4 rfl) (fun x4 σ5 h => ?_)
  refine z_if_eq (tgt := 11) hX h dX1_peopleText_7 (by decide) (fun h => ?_) (fun h => ?_)
  · refine z_iconst hX (v := 0) (by decide) dX1_peopleText_11 (z_istore_n (L' := [(0, zA (some o)), (1, zA p1), (2, zI 0)]) hX rfl rfl (by decide) dX1_peopleText_12 ?_)
    exact z_sub [0, 1, 2] rfl (s_X1_peopleText_13 (o := o) hX  h)
  · obtain rfl := Option.some.inj h
    exact z_vret hX dX1_peopleText_10

theorem c_X1_peopleText {l : Launch} {D : va_G} {tys : zTy} (hl : l.stackTraces = false) {o : Nat} {p1 : Option Nat} {σ : zS} {Rt : (Unit ⊕ Nat) × zS} (h : f_X1_peopleText o p1 σ = some Rt) : zM l D tys yX1_peopleText (ws_ yX1_peopleText cX1_peopleText 3 (Option.none : Option Jvm.ClassFile.FieldType)) 17 334 [zA (some o), zA p1] σ (zot eU Rt.1) Rt.2 :=
  zM_in hl rfl (Nat.le_of_ble_eq_true rfl) (fun p e R s m args below meth c hX => z_L rfl (s_X1_peopleText hX h))
def f_X1_fails (o : Nat) (σ : zS) : Option ((Unit ⊕ Nat) × zS) :=
  (gR σ o 0 2).bind fun r1 =>
  (gR σ o 0 2).bind fun r2 =>
  r2.bind fun a3 =>
  (gI σ a3 2 4).bind fun x4 =>
  r1.bind fun a5 =>
  (pI σ a5 2 5 x4).bind fun σ6 =>
  (zth σ6).bind fun σ7 =>
  some (.inr 0, σ7)

set_option maxHeartbeats 4000000 in
theorem s_X1_fails {X : zX} (hX : zOk X RX1 cX1_fails 1 7 110 (Option.none : Option Jvm.ClassFile.FieldType) "fails" []) {o : Nat} {σ : zS} {Rt : (Unit ⊕ Nat) × zS} (h : f_X1_fails o σ = some Rt) : zG X (zQ X (zot eU Rt.1) Rt.2) 1 0 [(0, zA (some o))] [] σ := by
  unfold f_X1_fails at h
  refine z_aload_n hX 0 rfl rfl dX1_fails_0 ?_
  refine z_getR hX fl_X1_19_0 h dX1_fails_1 (fun r1 h => ?_)
  refine z_aload_n hX 0 rfl rfl dX1_fails_4 ?_
  refine z_getR hX fl_X1_19_0 h dX1_fails_5 (fun r2 h => ?_)
  obtain ⟨a3, e9, k_a3⟩ := z_nn h
  subst e9
  have h := k_a3
  refine z_getI hX fl_X1_176_2 h dX1_fails_8 (fun x4 h => ?_)
  obtain ⟨a5, e9, k_a5⟩ := z_nn h
  subst e9
  have h := k_a5
  refine z_putI hX fp_X1_51_2 (fun h => nomatch h) h dX1_fails_11 (fun σ6 h => ?_)
  obtain ⟨σ7, e9, h⟩ := z_bd h
  obtain rfl := Option.some.inj h
  exact z_throw0 hX (k := 0) (by decide +kernel) (by decide +kernel) q1167 q102 th_X1_181_a th_X1_181_b th_X1_181_c (Nat.le_of_ble_eq_true rfl) (Nat.le_of_ble_eq_true rfl) (Nat.le_of_ble_eq_true rfl) (fun x hx => nomatch hx) dX1_fails_14 dX1_fails_17 dX1_fails_18 dX1_fails_21 e9

theorem c_X1_fails {l : Launch} {D : va_G} {tys : zTy} (hl : l.stackTraces = false) {o : Nat} {σ : zS} {Rt : (Unit ⊕ Nat) × zS} (h : f_X1_fails o σ = some Rt) : zM l D tys yX1_fails (ws_ yX1_fails cX1_fails 1 (Option.none : Option Jvm.ClassFile.FieldType)) 7 110 [zA (some o)] σ (zot eU Rt.1) Rt.2 :=
  zM_in hl rfl (Nat.le_of_ble_eq_true rfl) (fun p e R s m args below meth c hX => z_L rfl (s_X1_fails hX h))
def f_X1_people_36 (o : Nat) (v1 : Option Nat) (σ : zS) : Option ((Int32 ⊕ Nat) × zS) :=
  (gR σ o 0 0).bind fun r17 =>
  r17.bind fun a18 =>
  (gI σ a18 1 0).bind fun x19 =>
  if ¬ x19 = 10 then
    v1.bind fun a20 =>
    (gI σ a20 1 0).bind fun x21 =>
    (pI σ a20 1 0 (x21 + 1)).bind fun σ22 =>
    (pR σ22 o 0 0 (some a20)).bind fun σ23 =>
    (gR σ23 o 0 0).bind fun r24 =>
    r24.bind fun a25 =>
    (gI σ23 a25 1 0).bind fun x26 =>
    some (.inl x26, σ23)
  else
    (zth σ).bind fun σ27 =>
    some (.inr 1, σ27)

set_option maxHeartbeats 4000000 in
theorem s_X1_people_36 {X : zX} (hX : zOk X RX1 cX1_people 3 18 356 (Option.some Jvm.ClassFile.FieldType.int) "people" (tableOf [(15, 28, 31, 192)])) {o : Nat} {Rt : (Int32 ⊕ Nat) × zS} {v1 : Option Nat} {σ : zS} (h : f_X1_people_36 o v1 σ = some Rt) : zG X (zQ X (zot eI Rt.1) Rt.2) 3 36 [(0, zA (some o)), (1, zA v1)] [] σ := by
  unfold f_X1_people_36 at h
  refine z_aload_n hX 0 rfl rfl dX1_people_36 ?_
  refine z_getR hX fl_X1_10_0 h dX1_people_37 (fun r17 h => ?_)
  obtain ⟨a18, e9, k_a18⟩ := z_nn h
  subst e9
  have h := k_a18
  refine z_getI hX fl_X1_197_1 h dX1_people_40 (fun x19 h => ?_)
  refine z_bipush hX (v := 10) (by decide) dX1_people_43 ?_
  refine z_icmp_ne (tgt := 56) hX h dX1_people_45 (by decide) (fun h => ?_) (fun h => ?_)
  · refine z_aload_n hX 1 rfl rfl dX1_people_56 (z_dup hX rfl dX1_people_57 ?_)
    obtain ⟨a20, e9, k_a20⟩ := z_nn h
    subst e9
    have h := k_a20
    refine z_getI hX fl_X1_197_1 h dX1_people_58 (fun x21 h => ?_)
    refine z_iconst hX (v := 1) (by decide) dX1_people_61 (z_iadd hX dX1_people_62 ?_)
    refine z_putI hX fp_X1_197_1 (fun h => nomatch h) h dX1_people_63 (fun σ22 h => ?_)
    refine z_aload_n hX 0 rfl rfl dX1_people_66 (z_aload_n hX 1 rfl rfl dX1_people_67 ?_)
    refine z_putR hX fp_X1_10_0 (Or.inl ⟨_, rfl⟩) (fun h => nomatch h) h dX1_people_68 (fun σ23 h => ?_)
    refine z_aload_n hX 0 rfl rfl dX1_people_71 ?_
    refine z_getR hX fl_X1_10_0 h dX1_people_72 (fun r24 h => ?_)
    obtain ⟨a25, e9, k_a25⟩ := z_nn h
    subst e9
    have h := k_a25
    refine z_getI hX fl_X1_197_1 h dX1_people_75 (fun x26 h => ?_)
    obtain rfl := Option.some.inj h
    exact z_iret hX dX1_people_78
  · obtain ⟨σ27, e9, h⟩ := z_bd h
    obtain rfl := Option.some.inj h
    exact z_throw0 hX (k := 1) (by decide +kernel) (by decide +kernel) q1178 q107 th_X1_202_a th_X1_202_b th_X1_202_c (Nat.le_of_ble_eq_true rfl) (Nat.le_of_ble_eq_true rfl) (Nat.le_of_ble_eq_true rfl) (by decide) dX1_people_48 dX1_people_51 dX1_people_52 dX1_people_55 e9

def f_X1_people (o : Nat) (σ : zS) : Option ((Int32 ⊕ Nat) × zS) :=
  (gR σ o 0 2).bind fun r1 =>
  r1.bind fun a2 =>
  zif (zcl σ a2 = 2) <|
  zb2 (f_X3_begins a2 σ) fun _ σ5 =>
  (gR σ5 o 0 0).bind fun r6 =>
  r6.bind fun a7 =>
  zif (zcl σ5 a7 = 1) <|
  zb2 (f_X2_copy a7 σ5) fun r9 σ10 =>
  zif (zcl σ10 o = 0) <|
  zbt (f_X1_peopleText o r9 σ10) (fun k9 σ9 =>
    if k9 = 5 then
      zif (zcl σ9 o = 0) <|
      zbt (f_X1_fails o σ9) (fun k9 σ9 => some (.inr k9, σ9)) fun _ σ16 =>
      f_X1_people_36 o r9 σ16
    else
    none
  ) fun _ σ13 =>
  (gR σ13 o 0 2).bind fun r28 =>
  r28.bind fun a29 =>
  (pI σ13 a29 2 5 (-1)).bind fun σ30 =>
  f_X1_people_36 o r9 σ30

set_option maxHeartbeats 4000000 in
theorem s_X1_people {X : zX} (hX : zOk X RX1 cX1_people 3 18 356 (Option.some Jvm.ClassFile.FieldType.int) "people" (tableOf [(15, 28, 31, 192)])) {o : Nat} {σ : zS} {Rt : (Int32 ⊕ Nat) × zS} (h : f_X1_people o σ = some Rt) : zG X (zQ X (zot eI Rt.1) Rt.2) 3 0 [(0, zA (some o))] [] σ := by
  unfold f_X1_people at h
  refine z_aload_n hX 0 rfl rfl dX1_people_0 ?_
  refine z_getR hX fl_X1_19_0 h dX1_people_1 (fun r1 h => ?_)
  obtain ⟨a2, e9, k_a2⟩ := z_nn h
  subst e9
  have h := k_a2
  obtain ⟨c3, h⟩ := z_ck h
  refine z_cNU hX (rest := []) h (fun r9 σ9 e9 => z_runV hX lk_X1_182 (c_X3_begins hX.tr e9) (ci := 2) zc9_2 c3 ⟨Nat.le_of_ble_eq_true rfl, Nat.le_of_ble_eq_true rfl⟩ rfl (Nat.le_of_ble_eq_true rfl) dX1_people_4 rfl) (fun _ σ5 h => ?_)
  refine z_aload_n hX 0 rfl rfl dX1_people_7 ?_
  refine z_getR hX fl_X1_10_0 h dX1_people_8 (fun r6 h => ?_)
  obtain ⟨a7, e9, k_a7⟩ := z_nn h
  subst e9
  have h := k_a7
  obtain ⟨c8, h⟩ := z_ck h
  refine z_cNA hX (rest := []) h (fun r9 σ9 e9 => z_runV hX lk_X1_185 (c_X2_copy hX.tr e9) (ci := 1) zc9_1 c8 ⟨Nat.le_of_ble_eq_true rfl, Nat.le_of_ble_eq_true rfl⟩ rfl (Nat.le_of_ble_eq_true rfl) dX1_people_11 rfl) (fun r9 σ10 h => ?_)
  refine z_astore_n (L' := [(0, zA (some o)), (1, zA r9)]) hX rfl rfl (by decide) dX1_people_14 (z_aload_n hX 0 rfl rfl dX1_people_15 (z_aload_n hX 1 rfl rfl dX1_people_16 ?_))
  obtain ⟨c11, h⟩ := z_ck h
  refine z_cTU hX (rest := []) h (fun r9 σ9 e9 => z_runV hX lk_X1_189 (c_X1_peopleText hX.tr e9) (ci := 0) zc9_0 c11 ⟨Nat.le_of_ble_eq_true rfl, Nat.le_of_ble_eq_true rfl⟩ rfl (Nat.le_of_ble_eq_true rfl) dX1_people_17 rfl) (fun k9 σ9 h => ?_) (fun _ σ13 h => ?_)
  · rcases z_ite h with ⟨e9, k_σ13_5⟩ | ⟨-, h⟩
    · subst e9
      have h := k_σ13_5
      refine z_catch hX (k := 5) (nmC := "StepDebts$Wrong") [] ⟨15, 28, 31, 192⟩ [] rfl (fun z hz => nomatch hz) rfl (by decide) q653 (zNw_of q1008 rfl) (fun q9 => ?_)
      refine z_astore_n (L' := [(0, zA (some o)), (1, zA r9), (2, zA (some q9))]) hX rfl rfl (by decide) dX1_people_31 (z_aload_n hX 0 rfl rfl dX1_people_32 ?_)
      obtain ⟨c14, h⟩ := z_ck h
      refine z_cTU hX (rest := []) h (fun r9 σ9 e9 => z_runV hX lk_X1_194 (c_X1_fails hX.tr e9) (ci := 0) zc9_0 c14 ⟨Nat.le_of_ble_eq_true rfl, Nat.le_of_ble_eq_true rfl⟩ rfl (Nat.le_of_ble_eq_true rfl) dX1_people_33 rfl) (fun k9 σ9 h => z_prop hX h (by decide)) (fun _ σ16 h => ?_)
      exact z_sub [0, 1] rfl (s_X1_people_36 (o := o) hX  h)
    cases h
  refine z_aload_n hX 0 rfl rfl dX1_people_20 ?_
  refine z_getR hX fl_X1_19_0 h dX1_people_21 (fun r28 h => ?_)
  refine z_iconst hX (v := (-1)) (by decide) dX1_people_24 ?_
  obtain ⟨a29, e9, k_a29⟩ := z_nn h
  subst e9
  have h := k_a29
  refine z_putI hX fp_X1_51_2 (fun h => nomatch h) h dX1_people_25 (fun σ30 h => ?_)
  refine z_goto (tgt := 36) hX dX1_people_28 (by decide) ?_
  exact z_sub [0, 1] rfl (s_X1_people_36 (o := o) hX  h)

theorem c_X1_people {l : Launch} {D : va_G} {tys : zTy} (hl : l.stackTraces = false) {o : Nat} {σ : zS} {Rt : (Int32 ⊕ Nat) × zS} (h : f_X1_people o σ = some Rt) : zM l D tys yX1_people (wsW_ yX1_people cX1_people 3 (Option.some Jvm.ClassFile.FieldType.int) [(15, 28, 31, 192)]) 18 356 [zA (some o)] σ (zot eI Rt.1) Rt.2 :=
  zM_inW hl rfl (Nat.le_of_ble_eq_true rfl) (fun p e R s m args below meth c hX => z_L rfl (s_X1_people hX h))
def f_X0_people (p1 : Option Nat) (p2 : Option Nat) (σ : zS) : Option (Int32 × zS) :=
  p1.bind fun a1 =>
  zif (zcl σ a1 = 0) <|
  zbt (f_X1_people a1 σ) (fun k9 σ9 =>
    if k9 = 0 then
      some ((1 : Int32), σ9)
    else
    if k9 = 1 then
      some ((2 : Int32), σ9)
    else
    none
  ) fun x3 σ4 =>
  p2.bind fun a5 =>
  (sJ σ4 a5 0 x3.toInt64).bind fun σ6 =>
  some ((0 : Int32), σ6)

set_option maxHeartbeats 4000000 in
theorem s_X0_people {X : zX} (hX : zOk X RX0 cX0_people 3 19 378 (Option.some Jvm.ClassFile.FieldType.int) "people" (tableOf [(0, 8, 11, 13), (0, 8, 14, 15)])) {p1 : Option Nat} {p2 : Option Nat} {σ : zS} {Rt : Int32 × zS} (h : f_X0_people p1 p2 σ = some Rt) : zG X (zQ X (.inl (eI Rt.1)) Rt.2) 3 0 [(0, zA p1), (1, zA p2)] [] σ := by
  unfold f_X0_people at h
  refine z_aload_n hX 1 rfl rfl dX0_people_0 (z_iconst hX (v := 0) (by decide) dX0_people_1 (z_aload_n hX 0 rfl rfl dX0_people_2 ?_))
  obtain ⟨a1, e9, k_a1⟩ := z_nn h
  subst e9
  have h := k_a1
  obtain ⟨c2, h⟩ := z_ck h
  refine z_cTI hX (rest := [zI 0, zA p2]) h (fun r9 σ9 e9 => z_runVW hX lk_X0_7 (c_X1_people hX.tr e9) (ci := 0) zc9_0 c2 ⟨Nat.le_of_ble_eq_true rfl, Nat.le_of_ble_eq_true rfl⟩ rfl (Nat.le_of_ble_eq_true rfl) dX0_people_3 rfl) (fun k9 σ9 h => ?_) (fun x3 σ4 h => ?_)
  · rcases z_ite h with ⟨e9, k_σ4_0⟩ | ⟨-, h⟩
    · subst e9
      have h := k_σ4_0
      refine z_catch hX (k := 0) (nmC := "java/lang/IllegalArgumentException") [] ⟨0, 8, 11, 13⟩ [⟨0, 8, 14, 15⟩] rfl (fun z hz => nomatch hz) rfl (by decide) q647 (zNw_of q832 rfl) (fun q9 => ?_)
      refine z_astore_n (L' := [(0, zA (some a1)), (1, zA p2), (2, zA (some q9))]) hX rfl rfl (by decide) dX0_people_11 (z_iconst hX (v := 1) (by decide) dX0_people_12 ?_)
      obtain rfl := Option.some.inj h
      exact z_iret hX dX0_people_13
    rcases z_ite h with ⟨e9, k_σ4_1⟩ | ⟨-, h⟩
    · subst e9
      have h := k_σ4_1
      refine z_catch hX (k := 1) (nmC := "java/lang/UnsupportedOperationException") [⟨0, 8, 11, 13⟩] ⟨0, 8, 14, 15⟩ [] rfl (List.forall_mem_cons.mpr ⟨Or.inr ⟨by decide, "java/lang/IllegalArgumentException", q647, by simp [zNc, zEx]⟩, fun z hz => nomatch hz⟩) rfl (by decide) q648 (zNw_of q1180 rfl) (fun q9 => ?_)
      refine z_astore_n (L' := [(0, zA (some a1)), (1, zA p2), (2, zA (some q9))]) hX rfl rfl (by decide) dX0_people_14 (z_iconst hX (v := 2) (by decide) dX0_people_15 ?_)
      obtain rfl := Option.some.inj h
      exact z_iret hX dX0_people_16
    cases h
  refine z_i2l hX dX0_people_6 ?_
  obtain ⟨a5, e9, k_a5⟩ := z_nn h
  subst e9
  have h := k_a5
  refine z_last hX h dX0_people_7 (fun σ6 h => ?_)
  refine z_goto (tgt := 17) hX dX0_people_8 (by decide) (z_iconst hX (v := 0) (by decide) dX0_people_17 ?_)
  obtain rfl := Option.some.inj h
  exact z_iret hX dX0_people_18

theorem c_X0_people {l : Launch} {D : va_G} {tys : zTy} (hl : l.stackTraces = false) {p1 : Option Nat} {p2 : Option Nat} {σ : zS} {Rt : Int32 × zS} (h : f_X0_people p1 p2 σ = some Rt) : zM l D tys yX0_people (wsW_ yX0_people cX0_people 3 (Option.some Jvm.ClassFile.FieldType.int) [(0, 8, 11, 13), (0, 8, 14, 15)]) 19 378 [zA p1, zA p2] σ (.inl (eI Rt.1)) Rt.2 :=
  zM_inW hl rfl (Nat.le_of_ble_eq_true rfl) (fun p e R s m args below meth c hX => z_L rfl (s_X0_people hX h))
def f_X12_init (o : Nat) (σ : zS) : Option (Unit × zS) :=
  zb2 (znewO σ 19 [.int 0, .null, .int 0]) fun a1 σ2 =>
  zb2 (f_J2_init a1 σ2) fun _ σ4 =>
  (pR σ4 o 11 0 (some a1)).bind fun σ5 =>
  some ((), σ5)

set_option maxHeartbeats 4000000 in
theorem s_X12_init {X : zX} (hX : zOk X RX12 cX12_init 1 4 100 (Option.none : Option Jvm.ClassFile.FieldType) "<init>" []) {o : Nat} {σ : zS} {Rt : Unit × zS} (h : f_X12_init o σ = some Rt) : zG X (zQ X (.inl (eU Rt.1)) Rt.2) 1 0 [(0, zA (some o))] [] σ := by
  unfold f_X12_init at h
  refine z_aload_n hX 0 rfl rfl dX12_init_0 (z_objInit hX q1209 (Nat.le_of_ble_eq_true rfl) (Nat.le_of_ble_eq_true rfl) (Nat.le_of_ble_eq_true rfl) dX12_init_1 (z_aload_n hX 0 rfl rfl dX12_init_4 ?_))
  refine z_new hX ne_X12_7 h dX12_init_5 (fun a1 σ2 h => ?_)
  refine z_dup hX rfl dX12_init_8 ?_
  refine z_cNU hX (rest := [zA (some a1), zA (some o)]) h (fun r9 σ9 e9 => z_runI hX lk_X12_9 (c_J2_init hX.tr e9) ⟨Nat.le_of_ble_eq_true rfl, Nat.le_of_ble_eq_true rfl⟩ rfl (Nat.le_of_ble_eq_true rfl) dX12_init_9 rfl) (fun _ σ4 h => ?_)
  refine z_putR hX fp_X12_10_11 (Or.inl ⟨_, rfl⟩) (fun _ => rfl) h dX12_init_12 (fun σ5 h => ?_)
  obtain rfl := Option.some.inj h
  exact z_vret hX dX12_init_15

theorem c_X12_init {l : Launch} {D : va_G} {tys : zTy} (hl : l.stackTraces = false) {o : Nat} {σ : zS} {Rt : Unit × zS} (h : f_X12_init o σ = some Rt) : zM l D tys yX12_init (ws_ yX12_init cX12_init 1 (Option.none : Option Jvm.ClassFile.FieldType)) 4 100 [zA (some o)] σ (.inl (eU Rt.1)) Rt.2 :=
  zM_in hl rfl (Nat.le_of_ble_eq_true rfl) (fun p e R s m args below meth c hX => z_L rfl (s_X12_init hX h))
def f_X14_init (o : Nat) (p1 : Int32) (σ : zS) : Option (Unit × zS) :=
  zb2 (znewO σ 19 [.int 0, .null, .int 0]) fun a1 σ2 =>
  zb2 (f_J2_init a1 σ2) fun _ σ4 =>
  (pR σ4 o 13 1 (some a1)).bind fun σ5 =>
  (pZ σ5 o 13 0 p1).bind fun σ6 =>
  some ((), σ6)

set_option maxHeartbeats 4000000 in
theorem s_X14_init {X : zX} (hX : zOk X RX14 cX14_init 2 4 100 (Option.none : Option Jvm.ClassFile.FieldType) "<init>" []) {o : Nat} {p1 : Int32} {σ : zS} {Rt : Unit × zS} (h : f_X14_init o p1 σ = some Rt) : zG X (zQ X (.inl (eU Rt.1)) Rt.2) 2 0 [(0, zA (some o)), (1, zI p1)] [] σ := by
  unfold f_X14_init at h
  refine z_aload_n hX 0 rfl rfl dX14_init_0 (z_objInit hX q1234 (Nat.le_of_ble_eq_true rfl) (Nat.le_of_ble_eq_true rfl) (Nat.le_of_ble_eq_true rfl) dX14_init_1 (z_aload_n hX 0 rfl rfl dX14_init_4 ?_))
  refine z_new hX ne_X14_7 h dX14_init_5 (fun a1 σ2 h => ?_)
  refine z_dup hX rfl dX14_init_8 ?_
  refine z_cNU hX (rest := [zA (some a1), zA (some o)]) h (fun r9 σ9 e9 => z_runI hX lk_X14_9 (c_J2_init hX.tr e9) ⟨Nat.le_of_ble_eq_true rfl, Nat.le_of_ble_eq_true rfl⟩ rfl (Nat.le_of_ble_eq_true rfl) dX14_init_9 rfl) (fun _ σ4 h => ?_)
  refine z_putR hX fp_X14_10_13 (Or.inl ⟨_, rfl⟩) (fun _ => rfl) h dX14_init_12 (fun σ5 h => ?_)
  refine z_aload_n hX 0 rfl rfl dX14_init_15 (z_iload_n hX 1 rfl rfl dX14_init_16 ?_)
  refine z_putZ hX fp_X14_16_13 (fun _ => rfl) h dX14_init_17 (fun σ6 h => ?_)
  obtain rfl := Option.some.inj h
  exact z_vret hX dX14_init_20

theorem c_X14_init {l : Launch} {D : va_G} {tys : zTy} (hl : l.stackTraces = false) {o : Nat} {p1 : Int32} {σ : zS} {Rt : Unit × zS} (h : f_X14_init o p1 σ = some Rt) : zM l D tys yX14_init (ws_ yX14_init cX14_init 2 (Option.none : Option Jvm.ClassFile.FieldType)) 4 100 [zA (some o), zI p1] σ (.inl (eU Rt.1)) Rt.2 :=
  zM_in hl rfl (Nat.le_of_ble_eq_true rfl) (fun p e R s m args below meth c hX => z_L rfl (s_X14_init hX h))
def zRA_X1_atom (l : Launch) (D : va_G) (tys : zTy) (ra : Nat → zS → Option (((Option Nat) ⊕ Nat) × zS)) (f w : Nat) : Prop := ∀ (o : Nat) (σ : zS) (Rt : ((Option Nat) ⊕ Nat) × zS), ra o σ = some Rt → zM l D tys yX1_atom (ws_ yX1_atom cX1_atom 6 (Option.some (Jvm.ClassFile.FieldType.object "StepDebts$Cond"))) f w [zA (some o)] σ (zot eA Rt.1) Rt.2
def f_X1_allOf_9_b (ra : Nat → zS → Option (((Option Nat) ⊕ Nat) × zS)) (o : Nat) (v1 : Option Nat) (rec9 : zS → Option (((Option Nat) ⊕ Nat) × zS)) (σ : zS) : Option (((Option Nat) ⊕ Nat) × zS) :=
  v1.bind fun a5 =>
  (gR σ a5 13 1).bind fun r6 =>
  zif (zcl σ o = 0) <|
  zbt (ra o σ) (fun k9 σ9 => some (.inr k9, σ9)) fun r8 σ9 =>
  r6.bind fun a10 =>
  zif (zcl σ9 a10 = 19) <|
  zb2 (f_J2_add a10 r8 σ9) fun x12 σ13 =>
  (gR σ13 o 0 2).bind fun r14 =>
  (zk σ13 115).bind fun a15 =>
  r14.bind fun a16 =>
  zif (zcl σ13 a16 = 2) <|
  zb2 (f_X3_passes a16 (some a15) σ13) fun x18 σ19 =>
  if ¬ x18 = 0 then
    rec9 σ19
  else
    some (.inl (some a5), σ19)

def f_X1_allOf_9 (ra : Nat → zS → Option (((Option Nat) ⊕ Nat) × zS)) (o : Nat) (v1 : Option Nat) : zS → Option (((Option Nat) ⊕ Nat) × zS) := zlp0 (f_X1_allOf_9_b ra o v1) NN
set_option maxHeartbeats 4000000 in
theorem s_X1_allOf_9_b {f9 w9 : Nat} {X : zX} (hX : zOk X RX1 cX1_allOf 2 (f9 + 15) (w9 + 285) (Option.some (Jvm.ClassFile.FieldType.object "StepDebts$Cond")) "allOf" []) {ra : Nat → zS → Option (((Option Nat) ⊕ Nat) × zS)} {o : Nat} (hra : zRA_X1_atom (xl X) (xD X) (xt X) ra f9 w9) {Rt : ((Option Nat) ⊕ Nat) × zS} {v1 : Option Nat} {rec9 : zS → Option (((Option Nat) ⊕ Nat) × zS)} (hrec9 : ∀ (σ : zS), rec9 σ = some Rt → zG X (zQ X (zot eA Rt.1) Rt.2) 2 9 [(0, zA (some o)), (1, zA v1)] [] σ) {σ : zS} (h : f_X1_allOf_9_b ra o v1 rec9 σ = some Rt) : zG X (zQ X (zot eA Rt.1) Rt.2) 2 9 [(0, zA (some o)), (1, zA v1)] [] σ := by
  unfold f_X1_allOf_9_b at h
  refine z_aload_n hX 1 rfl rfl dX1_allOf_9 ?_
  obtain ⟨a5, e9, k_a5⟩ := z_nn h
  subst e9
  have h := k_a5
  refine z_getR hX fl_X1_272_13 h dX1_allOf_10 (fun r6 h => ?_)
  refine z_aload_n hX 0 rfl rfl dX1_allOf_13 ?_
  obtain ⟨c7, h⟩ := z_ck h
  refine z_cTA hX (rest := [zA r6]) h (fun r9 σ9 e9 => z_runV hX lk_X1_238 (hra _ _ _ e9) (ci := 0) zc9_0 c7 ⟨by omega, by omega⟩ rfl (Nat.le_of_ble_eq_true rfl) dX1_allOf_14 rfl) (fun k9 σ9 h => z_prop hX h (fun x hx => nomatch hx)) (fun r8 σ9 h => ?_)
  obtain ⟨a10, e9, k_a10⟩ := z_nn h
  subst e9
  have h := k_a10
  obtain ⟨c11, h⟩ := z_ck h
  refine z_cNI hX (rest := []) h (fun r9 σ9 e9 => z_runV hX lk_X1_99 (c_J2_add hX.tr e9) (ci := 19) zc9_19 c11 ⟨by omega, by omega⟩ rfl (Nat.le_of_ble_eq_true rfl) dX1_allOf_17 rfl) (fun x12 σ13 h => ?_)
  refine z_pop hX rfl dX1_allOf_20 (z_aload_n hX 0 rfl rfl dX1_allOf_21 ?_)
  refine z_getR hX fl_X1_19_0 h dX1_allOf_22 (fun r14 h => ?_)
  refine z_ldcSw hX st_X1_275 h dX1_allOf_25 (fun a15 _ h => ?_)
  obtain ⟨a16, e9, k_a16⟩ := z_nn h
  subst e9
  have h := k_a16
  obtain ⟨c17, h⟩ := z_ck h
  refine z_cNI hX (rest := []) h (fun r9 σ9 e9 => z_runV hX lk_X1_92 (c_X3_passes hX.tr e9) (ci := 2) zc9_2 c17 ⟨by omega, by omega⟩ rfl (Nat.le_of_ble_eq_true rfl) dX1_allOf_28 rfl) (fun x18 σ19 h => ?_)
  refine z_if_ne (tgt := 9) hX h dX1_allOf_31 (by decide) (fun h => ?_) (fun h => ?_)
  · exact z_sub [0, 1] rfl (hrec9  _ h)
  · refine z_aload_n hX 1 rfl rfl dX1_allOf_34 ?_
    obtain rfl := Option.some.inj h
    exact z_aret hX (Or.inl ⟨_, rfl⟩) dX1_allOf_35

theorem s_X1_allOf_9 {f9 w9 : Nat} {X : zX} (hX : zOk X RX1 cX1_allOf 2 (f9 + 15) (w9 + 285) (Option.some (Jvm.ClassFile.FieldType.object "StepDebts$Cond")) "allOf" []) {ra : Nat → zS → Option (((Option Nat) ⊕ Nat) × zS)} {o : Nat} (hra : zRA_X1_atom (xl X) (xD X) (xt X) ra f9 w9) {Rt : ((Option Nat) ⊕ Nat) × zS} {v1 : Option Nat} {σ : zS} (h : f_X1_allOf_9 ra o v1 σ = some Rt) : zG X (zQ X (zot eA Rt.1) Rt.2) 2 9 [(0, zA (some o)), (1, zA v1)] [] σ :=
  zlp0_ok (P := fun σ => zG X (zQ X (zot eA Rt.1) Rt.2) 2 9 [(0, zA (some o)), (1, zA v1)] [] σ) (fun rec hr σ h => s_X1_allOf_9_b (o := o) hX hra hr h) NN σ h
def f_X1_allOf (ra : Nat → zS → Option (((Option Nat) ⊕ Nat) × zS)) (o : Nat) (σ : zS) : Option (((Option Nat) ⊕ Nat) × zS) :=
  zb2 (znewO σ 13 [.int 0, .null]) fun a1 σ2 =>
  zb2 (f_X14_init a1 1 σ2) fun _ σ4 =>
  f_X1_allOf_9 ra o (some a1) σ4

set_option maxHeartbeats 4000000 in
theorem s_X1_allOf {f9 w9 : Nat} {X : zX} (hX : zOk X RX1 cX1_allOf 2 (f9 + 15) (w9 + 285) (Option.some (Jvm.ClassFile.FieldType.object "StepDebts$Cond")) "allOf" []) {ra : Nat → zS → Option (((Option Nat) ⊕ Nat) × zS)} {o : Nat} (hra : zRA_X1_atom (xl X) (xD X) (xt X) ra f9 w9) {σ : zS} {Rt : ((Option Nat) ⊕ Nat) × zS} (h : f_X1_allOf ra o σ = some Rt) : zG X (zQ X (zot eA Rt.1) Rt.2) 2 0 [(0, zA (some o))] [] σ := by
  unfold f_X1_allOf at h
  refine z_new hX ne_X1_267 h dX1_allOf_0 (fun a1 σ2 h => ?_)
  refine z_dup hX rfl dX1_allOf_3 (z_iconst hX (v := 1) (by decide) dX1_allOf_4 ?_)
  refine z_cNU hX (rest := [zA (some a1)]) h (fun r9 σ9 e9 => z_runI hX lk_X1_269 (c_X14_init hX.tr e9) ⟨by omega, by omega⟩ rfl (Nat.le_of_ble_eq_true rfl) dX1_allOf_5 rfl) (fun _ σ4 h => ?_)
  refine z_astore_n (L' := [(0, zA (some o)), (1, zA (some a1))]) hX rfl rfl (by decide) dX1_allOf_8 ?_
  exact z_sub [0, 1] rfl (s_X1_allOf_9 (o := o) hX hra  h)

theorem c_X1_allOf {l : Launch} {D : va_G} {tys : zTy} (hl : l.stackTraces = false) {ra : Nat → zS → Option (((Option Nat) ⊕ Nat) × zS)} {f9 w9 : Nat} {o : Nat} (hra : zRA_X1_atom l D tys ra f9 w9) {σ : zS} {Rt : ((Option Nat) ⊕ Nat) × zS} (h : f_X1_allOf ra o σ = some Rt) : zM l D tys yX1_allOf (ws_ yX1_allOf cX1_allOf 2 (Option.some (Jvm.ClassFile.FieldType.object "StepDebts$Cond"))) (f9 + 15) (w9 + 285) [zA (some o)] σ (zot eA Rt.1) Rt.2 :=
  zM_in hl rfl (Nat.le_of_ble_eq_true rfl) (fun p e R s m args below meth c hX => z_L rfl (s_X1_allOf hX hra h))
def f_X1_cond_9_b (ra : Nat → zS → Option (((Option Nat) ⊕ Nat) × zS)) (o : Nat) (v1 : Option Nat) (rec9 : zS → Option (((Option Nat) ⊕ Nat) × zS)) (σ : zS) : Option (((Option Nat) ⊕ Nat) × zS) :=
  v1.bind fun a5 =>
  (gR σ a5 13 1).bind fun r6 =>
  zif (zcl σ o = 0) <|
  zbt (f_X1_allOf ra o σ) (fun k9 σ9 => some (.inr k9, σ9)) fun r8 σ9 =>
  r6.bind fun a10 =>
  zif (zcl σ9 a10 = 19) <|
  zb2 (f_J2_add a10 r8 σ9) fun x12 σ13 =>
  (gR σ13 o 0 2).bind fun r14 =>
  (zk σ13 116).bind fun a15 =>
  r14.bind fun a16 =>
  zif (zcl σ13 a16 = 2) <|
  zb2 (f_X3_passes a16 (some a15) σ13) fun x18 σ19 =>
  if ¬ x18 = 0 then
    rec9 σ19
  else
    some (.inl (some a5), σ19)

def f_X1_cond_9 (ra : Nat → zS → Option (((Option Nat) ⊕ Nat) × zS)) (o : Nat) (v1 : Option Nat) : zS → Option (((Option Nat) ⊕ Nat) × zS) := zlp0 (f_X1_cond_9_b ra o v1) NN
set_option maxHeartbeats 4000000 in
theorem s_X1_cond_9_b {f9 w9 : Nat} {X : zX} (hX : zOk X RX1 cX1_cond 2 (f9 + 16) (w9 + 306) (Option.some (Jvm.ClassFile.FieldType.object "StepDebts$Cond")) "cond" []) {ra : Nat → zS → Option (((Option Nat) ⊕ Nat) × zS)} {o : Nat} (hra : zRA_X1_atom (xl X) (xD X) (xt X) ra f9 w9) {Rt : ((Option Nat) ⊕ Nat) × zS} {v1 : Option Nat} {rec9 : zS → Option (((Option Nat) ⊕ Nat) × zS)} (hrec9 : ∀ (σ : zS), rec9 σ = some Rt → zG X (zQ X (zot eA Rt.1) Rt.2) 2 9 [(0, zA (some o)), (1, zA v1)] [] σ) {σ : zS} (h : f_X1_cond_9_b ra o v1 rec9 σ = some Rt) : zG X (zQ X (zot eA Rt.1) Rt.2) 2 9 [(0, zA (some o)), (1, zA v1)] [] σ := by
  unfold f_X1_cond_9_b at h
  refine z_aload_n hX 1 rfl rfl dX1_cond_9 ?_
  obtain ⟨a5, e9, k_a5⟩ := z_nn h
  subst e9
  have h := k_a5
  refine z_getR hX fl_X1_272_13 h dX1_cond_10 (fun r6 h => ?_)
  refine z_aload_n hX 0 rfl rfl dX1_cond_13 ?_
  obtain ⟨c7, h⟩ := z_ck h
  refine z_cTA hX (rest := [zA r6]) h (fun r9 σ9 e9 => z_runV hX lk_X1_277 (c_X1_allOf hX.tr hra e9) (ci := 0) zc9_0 c7 ⟨by omega, by omega⟩ rfl (Nat.le_of_ble_eq_true rfl) dX1_cond_14 rfl) (fun k9 σ9 h => z_prop hX h (fun x hx => nomatch hx)) (fun r8 σ9 h => ?_)
  obtain ⟨a10, e9, k_a10⟩ := z_nn h
  subst e9
  have h := k_a10
  obtain ⟨c11, h⟩ := z_ck h
  refine z_cNI hX (rest := []) h (fun r9 σ9 e9 => z_runV hX lk_X1_99 (c_J2_add hX.tr e9) (ci := 19) zc9_19 c11 ⟨by omega, by omega⟩ rfl (Nat.le_of_ble_eq_true rfl) dX1_cond_17 rfl) (fun x12 σ13 h => ?_)
  refine z_pop hX rfl dX1_cond_20 (z_aload_n hX 0 rfl rfl dX1_cond_21 ?_)
  refine z_getR hX fl_X1_19_0 h dX1_cond_22 (fun r14 h => ?_)
  refine z_ldcSw hX st_X1_280 h dX1_cond_25 (fun a15 _ h => ?_)
  obtain ⟨a16, e9, k_a16⟩ := z_nn h
  subst e9
  have h := k_a16
  obtain ⟨c17, h⟩ := z_ck h
  refine z_cNI hX (rest := []) h (fun r9 σ9 e9 => z_runV hX lk_X1_92 (c_X3_passes hX.tr e9) (ci := 2) zc9_2 c17 ⟨by omega, by omega⟩ rfl (Nat.le_of_ble_eq_true rfl) dX1_cond_28 rfl) (fun x18 σ19 h => ?_)
  refine z_if_ne (tgt := 9) hX h dX1_cond_31 (by decide) (fun h => ?_) (fun h => ?_)
  · exact z_sub [0, 1] rfl (hrec9  _ h)
  · refine z_aload_n hX 1 rfl rfl dX1_cond_34 ?_
    obtain rfl := Option.some.inj h
    exact z_aret hX (Or.inl ⟨_, rfl⟩) dX1_cond_35

theorem s_X1_cond_9 {f9 w9 : Nat} {X : zX} (hX : zOk X RX1 cX1_cond 2 (f9 + 16) (w9 + 306) (Option.some (Jvm.ClassFile.FieldType.object "StepDebts$Cond")) "cond" []) {ra : Nat → zS → Option (((Option Nat) ⊕ Nat) × zS)} {o : Nat} (hra : zRA_X1_atom (xl X) (xD X) (xt X) ra f9 w9) {Rt : ((Option Nat) ⊕ Nat) × zS} {v1 : Option Nat} {σ : zS} (h : f_X1_cond_9 ra o v1 σ = some Rt) : zG X (zQ X (zot eA Rt.1) Rt.2) 2 9 [(0, zA (some o)), (1, zA v1)] [] σ :=
  zlp0_ok (P := fun σ => zG X (zQ X (zot eA Rt.1) Rt.2) 2 9 [(0, zA (some o)), (1, zA v1)] [] σ) (fun rec hr σ h => s_X1_cond_9_b (o := o) hX hra hr h) NN σ h
def f_X1_cond (ra : Nat → zS → Option (((Option Nat) ⊕ Nat) × zS)) (o : Nat) (σ : zS) : Option (((Option Nat) ⊕ Nat) × zS) :=
  zb2 (znewO σ 13 [.int 0, .null]) fun a1 σ2 =>
  zb2 (f_X14_init a1 0 σ2) fun _ σ4 =>
  f_X1_cond_9 ra o (some a1) σ4

set_option maxHeartbeats 4000000 in
theorem s_X1_cond {f9 w9 : Nat} {X : zX} (hX : zOk X RX1 cX1_cond 2 (f9 + 16) (w9 + 306) (Option.some (Jvm.ClassFile.FieldType.object "StepDebts$Cond")) "cond" []) {ra : Nat → zS → Option (((Option Nat) ⊕ Nat) × zS)} {o : Nat} (hra : zRA_X1_atom (xl X) (xD X) (xt X) ra f9 w9) {σ : zS} {Rt : ((Option Nat) ⊕ Nat) × zS} (h : f_X1_cond ra o σ = some Rt) : zG X (zQ X (zot eA Rt.1) Rt.2) 2 0 [(0, zA (some o))] [] σ := by
  unfold f_X1_cond at h
  refine z_new hX ne_X1_267 h dX1_cond_0 (fun a1 σ2 h => ?_)
  refine z_dup hX rfl dX1_cond_3 (z_iconst hX (v := 0) (by decide) dX1_cond_4 ?_)
  refine z_cNU hX (rest := [zA (some a1)]) h (fun r9 σ9 e9 => z_runI hX lk_X1_269 (c_X14_init hX.tr e9) ⟨by omega, by omega⟩ rfl (Nat.le_of_ble_eq_true rfl) dX1_cond_5 rfl) (fun _ σ4 h => ?_)
  refine z_astore_n (L' := [(0, zA (some o)), (1, zA (some a1))]) hX rfl rfl (by decide) dX1_cond_8 ?_
  exact z_sub [0, 1] rfl (s_X1_cond_9 (o := o) hX hra  h)

theorem c_X1_cond {l : Launch} {D : va_G} {tys : zTy} (hl : l.stackTraces = false) {ra : Nat → zS → Option (((Option Nat) ⊕ Nat) × zS)} {f9 w9 : Nat} {o : Nat} (hra : zRA_X1_atom l D tys ra f9 w9) {σ : zS} {Rt : ((Option Nat) ⊕ Nat) × zS} (h : f_X1_cond ra o σ = some Rt) : zM l D tys yX1_cond (ws_ yX1_cond cX1_cond 2 (Option.some (Jvm.ClassFile.FieldType.object "StepDebts$Cond"))) (f9 + 16) (w9 + 306) [zA (some o)] σ (zot eA Rt.1) Rt.2 :=
  zM_in hl rfl (Nat.le_of_ble_eq_true rfl) (fun p e R s m args below meth c hX => z_L rfl (s_X1_cond hX hra h))
def f_X3_goesDeeper (o : Nat) (σ : zS) : Option ((Unit ⊕ Nat) × zS) :=
  (gI σ o 2 6).bind fun x1 =>
  if ¬ x1 = 6 then
    (gI σ o 2 6).bind fun x2 =>
    (pI σ o 2 6 (x2 + 1)).bind fun σ3 =>
    some (.inl (), σ3)
  else
    zif (zcl σ o = 2) <|
    zb2 (f_X3_wrong o σ) fun r5 σ6 =>
    r5.bind fun a7 =>
    zif (zcl σ6 a7 = 9) <| some (.inr 5, σ6)

set_option maxHeartbeats 4000000 in
theorem s_X3_goesDeeper {X : zX} (hX : zOk X RX3 cX3_goesDeeper 1 8 130 (Option.none : Option Jvm.ClassFile.FieldType) "goesDeeper" []) {o : Nat} {σ : zS} {Rt : (Unit ⊕ Nat) × zS} (h : f_X3_goesDeeper o σ = some Rt) : zG X (zQ X (zot eU Rt.1) Rt.2) 1 0 [(0, zA (some o))] [] σ := by
  unfold f_X3_goesDeeper at h
  refine z_aload_n hX 0 rfl rfl dX3_goesDeeper_0 ?_
  refine z_getI hX fl_X3_28_2 h dX3_goesDeeper_1 (fun x1 h => ?_)
  refine z_bipush hX (v := 6) (by decide) dX3_goesDeeper_4 ?_
  refine z_icmp_ne (tgt := 14) hX h dX3_goesDeeper_6 (by decide) (fun h => ?_) (fun h => ?_)
  · refine z_aload_n hX 0 rfl rfl dX3_goesDeeper_14 (z_dup hX rfl dX3_goesDeeper_15 ?_)
    refine z_getI hX fl_X3_28_2 h dX3_goesDeeper_16 (fun x2 h => ?_)
    refine z_iconst hX (v := 1) (by decide) dX3_goesDeeper_19 (z_iadd hX dX3_goesDeeper_20 ?_)
    refine z_putI hX fp_X3_28_2 (fun h => nomatch h) h dX3_goesDeeper_21 (fun σ3 h => ?_)
    obtain rfl := Option.some.inj h
    exact z_vret hX dX3_goesDeeper_24
  · refine z_aload_n hX 0 rfl rfl dX3_goesDeeper_9 ?_
    obtain ⟨c4, h⟩ := z_ck h
    refine z_cNA hX (rest := []) h (fun r9 σ9 e9 => z_runV hX lk_X3_69 (c_X3_wrong hX.tr e9) (ci := 2) zc9_2 c4 ⟨Nat.le_of_ble_eq_true rfl, Nat.le_of_ble_eq_true rfl⟩ rfl (Nat.le_of_ble_eq_true rfl) dX3_goesDeeper_10 rfl) (fun r5 σ6 h => ?_)
    obtain ⟨a7, e9, k_a7⟩ := z_nn h
    subst e9
    have h := k_a7
    refine z_athrow hX (k := 5) (ci := 9) rfl h dX3_goesDeeper_13 (fun h => ?_)
    obtain rfl := Option.some.inj h
    exact z_out hX (fun x hx => nomatch hx)

theorem c_X3_goesDeeper {l : Launch} {D : va_G} {tys : zTy} (hl : l.stackTraces = false) {o : Nat} {σ : zS} {Rt : (Unit ⊕ Nat) × zS} (h : f_X3_goesDeeper o σ = some Rt) : zM l D tys yX3_goesDeeper (ws_ yX3_goesDeeper cX3_goesDeeper 1 (Option.none : Option Jvm.ClassFile.FieldType)) 8 130 [zA (some o)] σ (zot eU Rt.1) Rt.2 :=
  zM_in hl rfl (Nat.le_of_ble_eq_true rfl) (fun p e R s m args below meth c hX => z_L rfl (s_X3_goesDeeper hX h))
def f_X3_comesUp (o : Nat) (σ : zS) : Option (Unit × zS) :=
  (gI σ o 2 6).bind fun x1 =>
  (pI σ o 2 6 (x1 - 1)).bind fun σ2 =>
  some ((), σ2)

set_option maxHeartbeats 4000000 in
theorem s_X3_comesUp {X : zX} (hX : zOk X RX3 cX3_comesUp 1 1 40 (Option.none : Option Jvm.ClassFile.FieldType) "comesUp" []) {o : Nat} {σ : zS} {Rt : Unit × zS} (h : f_X3_comesUp o σ = some Rt) : zG X (zQ X (.inl (eU Rt.1)) Rt.2) 1 0 [(0, zA (some o))] [] σ := by
  unfold f_X3_comesUp at h
  refine z_aload_n hX 0 rfl rfl dX3_comesUp_0 (z_dup hX rfl dX3_comesUp_1 ?_)
  refine z_getI hX fl_X3_28_2 h dX3_comesUp_2 (fun x1 h => ?_)
  refine z_iconst hX (v := 1) (by decide) dX3_comesUp_5 (z_isub hX dX3_comesUp_6 ?_)
  refine z_putI hX fp_X3_28_2 (fun h => nomatch h) h dX3_comesUp_7 (fun σ2 h => ?_)
  obtain rfl := Option.some.inj h
  exact z_vret hX dX3_comesUp_10

theorem c_X3_comesUp {l : Launch} {D : va_G} {tys : zTy} (hl : l.stackTraces = false) {o : Nat} {σ : zS} {Rt : Unit × zS} (h : f_X3_comesUp o σ = some Rt) : zM l D tys yX3_comesUp (ws_ yX3_comesUp cX3_comesUp 1 (Option.none : Option Jvm.ClassFile.FieldType)) 1 40 [zA (some o)] σ (.inl (eU Rt.1)) Rt.2 :=
  zM_in hl rfl (Nat.le_of_ble_eq_true rfl) (fun p e R s m args below meth c hX => z_L rfl (s_X3_comesUp hX h))
def f_X15_init (o : Nat) (p1 : Option Nat) (σ : zS) : Option (Unit × zS) :=
  (pR σ o 14 0 p1).bind fun σ1 =>
  some ((), σ1)

set_option maxHeartbeats 4000000 in
theorem s_X15_init {X : zX} (hX : zOk X RX15 cX15_init 2 1 40 (Option.none : Option Jvm.ClassFile.FieldType) "<init>" []) {o : Nat} {p1 : Option Nat} {σ : zS} {Rt : Unit × zS} (h : f_X15_init o p1 σ = some Rt) : zG X (zQ X (.inl (eU Rt.1)) Rt.2) 2 0 [(0, zA (some o)), (1, zA p1)] [] σ := by
  unfold f_X15_init at h
  refine z_aload_n hX 0 rfl rfl dX15_init_0 (z_objInit hX q1267 (Nat.le_of_ble_eq_true rfl) (Nat.le_of_ble_eq_true rfl) (Nat.le_of_ble_eq_true rfl) dX15_init_1 (z_aload_n hX 0 rfl rfl dX15_init_4 (z_aload_n hX 1 rfl rfl dX15_init_5 ?_)))
  refine z_putR hX fp_X15_7_14 (Or.inl ⟨_, rfl⟩) (fun _ => rfl) h dX15_init_6 (fun σ1 h => ?_)
  obtain rfl := Option.some.inj h
  exact z_vret hX dX15_init_9

theorem c_X15_init {l : Launch} {D : va_G} {tys : zTy} (hl : l.stackTraces = false) {o : Nat} {p1 : Option Nat} {σ : zS} {Rt : Unit × zS} (h : f_X15_init o p1 σ = some Rt) : zM l D tys yX15_init (ws_ yX15_init cX15_init 2 (Option.none : Option Jvm.ClassFile.FieldType)) 1 40 [zA (some o), zA p1] σ (.inl (eU Rt.1)) Rt.2 :=
  zM_in hl rfl (Nat.le_of_ble_eq_true rfl) (fun p e R s m args below meth c hX => z_L rfl (s_X15_init hX h))
def f_X16_values (σ : zS) : Option ((Option Nat) × zS) :=
  zl (zk σ 5) fun r1 =>
  r1.bind fun a2 =>
  zb2 (zcloE σ a2 4) fun a3 σ4 =>
  zif (zckA σ4 (some a3) 4 = true) <|
  some ((some a3), σ4)

set_option maxHeartbeats 4000000 in
theorem s_X16_values {X : zX} (hX : zOk X RX16 cX16_values 0 1 40 (Option.some (Jvm.ClassFile.FieldType.array (Jvm.ClassFile.FieldType.object "StepDebts$Tag"))) "values" []) {σ : zS} {Rt : (Option Nat) × zS} (h : f_X16_values σ = some Rt) : zG X (zQ X (.inl (eA Rt.1)) Rt.2) 0 0 [] [] σ := by
  unfold f_X16_values at h
  refine z_gets hX (k := 5) (C := "StepDebts$Tag") (n := "$VALUES") (dsc := "[LStepDebts$Tag;") (by simp [zSt]) q1275 h dX16_values_0 (fun r1 _ h => ?_)
  obtain ⟨a2, e9, k_a2⟩ := z_nn h
  subst e9
  have h := k_a2
  refine z_cloneE hX (t := 4) rfl (by decide) (by decide) q1277 q1278 q1279 (zNw_of q1280 rfl) (Nat.le_of_ble_eq_true rfl) (Nat.le_of_ble_eq_true rfl) (Nat.le_of_ble_eq_true rfl) h dX16_values_3 (fun a3 σ4 h => ?_)
  refine z_castA hX (t := 4) rfl (by decide) q1282 h dX16_values_6 (fun h => ?_)
  obtain rfl := Option.some.inj h
  exact z_aret hX (Or.inr ⟨_, rfl⟩) dX16_values_9

theorem c_X16_values {l : Launch} {D : va_G} {tys : zTy} (hl : l.stackTraces = false) {σ : zS} {Rt : (Option Nat) × zS} (h : f_X16_values σ = some Rt) : zM l D tys yX16_values (ws_ yX16_values cX16_values 0 (Option.some (Jvm.ClassFile.FieldType.array (Jvm.ClassFile.FieldType.object "StepDebts$Tag")))) 1 40 [] σ (.inl (eA Rt.1)) Rt.2 :=
  zM_in hl rfl (Nat.le_of_ble_eq_true rfl) (fun p e R s m args below meth c hX => z_L rfl (s_X16_values hX h))
def f_X16_word (o : Nat) (σ : zS) : Option ((Option Nat) × zS) :=
  (gR σ o 50 1).bind fun r1 =>
  some (r1, σ)

set_option maxHeartbeats 4000000 in
theorem s_X16_word {X : zX} (hX : zOk X RX16 cX16_word 1 1 40 (Option.some (Jvm.ClassFile.FieldType.object "java/lang/String")) "word" []) {o : Nat} {σ : zS} {Rt : (Option Nat) × zS} (h : f_X16_word o σ = some Rt) : zG X (zQ X (.inl (eA Rt.1)) Rt.2) 1 0 [(0, zA (some o))] [] σ := by
  unfold f_X16_word at h
  refine z_aload_n hX 0 rfl rfl dX16_word_0 ?_
  refine z_getR hX fl_X16_41_50 h dX16_word_1 (fun r1 h => ?_)
  obtain rfl := Option.some.inj h
  exact z_aret hX (Or.inl ⟨_, rfl⟩) dX16_word_4

theorem c_X16_word {l : Launch} {D : va_G} {tys : zTy} (hl : l.stackTraces = false) {o : Nat} {σ : zS} {Rt : (Option Nat) × zS} (h : f_X16_word o σ = some Rt) : zM l D tys yX16_word (ws_ yX16_word cX16_word 1 (Option.some (Jvm.ClassFile.FieldType.object "java/lang/String"))) 1 40 [zA (some o)] σ (.inl (eA Rt.1)) Rt.2 :=
  zM_in hl rfl (Nat.le_of_ble_eq_true rfl) (fun p e R s m args below meth c hX => z_L rfl (s_X16_word hX h))
def f_X17_init (o : Nat) (p1 : Option Nat) (σ : zS) : Option (Unit × zS) :=
  (pR σ o 15 0 p1).bind fun σ1 =>
  some ((), σ1)

set_option maxHeartbeats 4000000 in
theorem s_X17_init {X : zX} (hX : zOk X RX17 cX17_init 2 1 40 (Option.none : Option Jvm.ClassFile.FieldType) "<init>" []) {o : Nat} {p1 : Option Nat} {σ : zS} {Rt : Unit × zS} (h : f_X17_init o p1 σ = some Rt) : zG X (zQ X (.inl (eU Rt.1)) Rt.2) 2 0 [(0, zA (some o)), (1, zA p1)] [] σ := by
  unfold f_X17_init at h
  refine z_aload_n hX 0 rfl rfl dX17_init_0 (z_objInit hX q1292 (Nat.le_of_ble_eq_true rfl) (Nat.le_of_ble_eq_true rfl) (Nat.le_of_ble_eq_true rfl) dX17_init_1 (z_aload_n hX 0 rfl rfl dX17_init_4 (z_aload_n hX 1 rfl rfl dX17_init_5 ?_)))
  refine z_putR hX fp_X17_7_15 (Or.inl ⟨_, rfl⟩) (fun _ => rfl) h dX17_init_6 (fun σ1 h => ?_)
  obtain rfl := Option.some.inj h
  exact z_vret hX dX17_init_9

theorem c_X17_init {l : Launch} {D : va_G} {tys : zTy} (hl : l.stackTraces = false) {o : Nat} {p1 : Option Nat} {σ : zS} {Rt : Unit × zS} (h : f_X17_init o p1 σ = some Rt) : zM l D tys yX17_init (ws_ yX17_init cX17_init 2 (Option.none : Option Jvm.ClassFile.FieldType)) 1 40 [zA (some o), zA p1] σ (.inl (eU Rt.1)) Rt.2 :=
  zM_in hl rfl (Nat.le_of_ble_eq_true rfl) (fun p e R s m args below meth c hX => z_L rfl (s_X17_init hX h))
def f_X18_init (o : Nat) (σ : zS) : Option (Unit × zS) :=
  zb2 (znewO σ 19 [.int 0, .null, .int 0]) fun a1 σ2 =>
  zb2 (f_J2_init a1 σ2) fun _ σ4 =>
  (pR σ4 o 16 0 (some a1)).bind fun σ5 =>
  some ((), σ5)

set_option maxHeartbeats 4000000 in
theorem s_X18_init {X : zX} (hX : zOk X RX18 cX18_init 1 4 100 (Option.none : Option Jvm.ClassFile.FieldType) "<init>" []) {o : Nat} {σ : zS} {Rt : Unit × zS} (h : f_X18_init o σ = some Rt) : zG X (zQ X (.inl (eU Rt.1)) Rt.2) 1 0 [(0, zA (some o))] [] σ := by
  unfold f_X18_init at h
  refine z_aload_n hX 0 rfl rfl dX18_init_0 (z_objInit hX q1306 (Nat.le_of_ble_eq_true rfl) (Nat.le_of_ble_eq_true rfl) (Nat.le_of_ble_eq_true rfl) dX18_init_1 (z_aload_n hX 0 rfl rfl dX18_init_4 ?_))
  refine z_new hX ne_X18_7 h dX18_init_5 (fun a1 σ2 h => ?_)
  refine z_dup hX rfl dX18_init_8 ?_
  refine z_cNU hX (rest := [zA (some a1), zA (some o)]) h (fun r9 σ9 e9 => z_runI hX lk_X18_9 (c_J2_init hX.tr e9) ⟨Nat.le_of_ble_eq_true rfl, Nat.le_of_ble_eq_true rfl⟩ rfl (Nat.le_of_ble_eq_true rfl) dX18_init_9 rfl) (fun _ σ4 h => ?_)
  refine z_putR hX fp_X18_10_16 (Or.inl ⟨_, rfl⟩) (fun _ => rfl) h dX18_init_12 (fun σ5 h => ?_)
  obtain rfl := Option.some.inj h
  exact z_vret hX dX18_init_15

theorem c_X18_init {l : Launch} {D : va_G} {tys : zTy} (hl : l.stackTraces = false) {o : Nat} {σ : zS} {Rt : Unit × zS} (h : f_X18_init o σ = some Rt) : zM l D tys yX18_init (ws_ yX18_init cX18_init 1 (Option.none : Option Jvm.ClassFile.FieldType)) 4 100 [zA (some o)] σ (.inl (eU Rt.1)) Rt.2 :=
  zM_in hl rfl (Nat.le_of_ble_eq_true rfl) (fun p e R s m args below meth c hX => z_L rfl (s_X18_init hX h))
def f_X3_isFigure (o : Nat) (σ : zS) : Option (Int32 × zS) :=
  zif (zcl σ o = 2) <|
  zb2 (f_X3_blanks o σ) fun _ σ3 =>
  (gI σ3 o 2 3).bind fun x4 =>
  zif (zcl σ3 o = 2) <|
  zb2 (f_X3_byteAt o x4 σ3) fun x6 σ7 =>
  zb2 (f_X1_in x6 48 57 σ7) fun x8 σ9 =>
  zbo x8 (some (x8, σ9))

set_option maxHeartbeats 4000000 in
theorem s_X3_isFigure {X : zX} (hX : zOk X RX3 cX3_isFigure 1 3 81 (Option.some Jvm.ClassFile.FieldType.boolean) "isFigure" []) {o : Nat} {σ : zS} {Rt : Int32 × zS} (h : f_X3_isFigure o σ = some Rt) : zG X (zQ X (.inl (eI Rt.1)) Rt.2) 1 0 [(0, zA (some o))] [] σ := by
  unfold f_X3_isFigure at h
  refine z_aload_n hX 0 rfl rfl dX3_isFigure_0 ?_
  obtain ⟨c1, h⟩ := z_ck h
  refine z_cNU hX (rest := []) h (fun r9 σ9 e9 => z_runV hX lk_X3_38 (c_X3_blanks hX.tr e9) (ci := 2) zc9_2 c1 ⟨Nat.le_of_ble_eq_true rfl, Nat.le_of_ble_eq_true rfl⟩ rfl (Nat.le_of_ble_eq_true rfl) dX3_isFigure_1 rfl) (fun _ σ3 h => ?_)
  refine z_aload_n hX 0 rfl rfl dX3_isFigure_4 (z_aload_n hX 0 rfl rfl dX3_isFigure_5 ?_)
  refine z_getI hX fl_X3_25_2 h dX3_isFigure_6 (fun x4 h => ?_)
  obtain ⟨c5, h⟩ := z_ck h
  refine z_cNI hX (rest := []) h (fun r9 σ9 e9 => z_runV hX lk_X3_31 (c_X3_byteAt hX.tr e9) (ci := 2) zc9_2 c5 ⟨Nat.le_of_ble_eq_true rfl, Nat.le_of_ble_eq_true rfl⟩ rfl (Nat.le_of_ble_eq_true rfl) dX3_isFigure_9 rfl) (fun x6 σ7 h => ?_)
  refine z_bipush hX (v := 48) (by decide) dX3_isFigure_12 (z_bipush hX (v := 57) (by decide) dX3_isFigure_14 ?_)
  refine z_cNI hX (rest := []) h (fun r9 σ9 e9 => z_runSN hX lk_X3_41 (c_X1_in hX.tr e9) ⟨Nat.le_of_ble_eq_true rfl, Nat.le_of_ble_eq_true rfl⟩ rfl (Nat.le_of_ble_eq_true rfl) dX3_isFigure_16 rfl) (fun x8 σ9 h => ?_)
  obtain ⟨n9, h⟩ := zbo_inv h
  obtain rfl := Option.some.inj h
  exact z_zretT hX n9 dX3_isFigure_19

theorem c_X3_isFigure {l : Launch} {D : va_G} {tys : zTy} (hl : l.stackTraces = false) {o : Nat} {σ : zS} {Rt : Int32 × zS} (h : f_X3_isFigure o σ = some Rt) : zM l D tys yX3_isFigure (ws_ yX3_isFigure cX3_isFigure 1 (Option.some Jvm.ClassFile.FieldType.boolean)) 3 81 [zA (some o)] σ (.inl (eI Rt.1)) Rt.2 :=
  zM_in hl rfl (Nat.le_of_ble_eq_true rfl) (fun p e R s m args below meth c hX => z_L rfl (s_X3_isFigure hX h))
def f_X19_init (o : Nat) (p1 : Int32) (p2 : Option Nat) (σ : zS) : Option (Unit × zS) :=
  (pI σ o 17 0 p1).bind fun σ1 =>
  (pR σ1 o 17 1 p2).bind fun σ2 =>
  some ((), σ2)

set_option maxHeartbeats 4000000 in
theorem s_X19_init {X : zX} (hX : zOk X RX19 cX19_init 3 1 40 (Option.none : Option Jvm.ClassFile.FieldType) "<init>" []) {o : Nat} {p1 : Int32} {p2 : Option Nat} {σ : zS} {Rt : Unit × zS} (h : f_X19_init o p1 p2 σ = some Rt) : zG X (zQ X (.inl (eU Rt.1)) Rt.2) 3 0 [(0, zA (some o)), (1, zI p1), (2, zA p2)] [] σ := by
  unfold f_X19_init at h
  refine z_aload_n hX 0 rfl rfl dX19_init_0 (z_objInit hX q1327 (Nat.le_of_ble_eq_true rfl) (Nat.le_of_ble_eq_true rfl) (Nat.le_of_ble_eq_true rfl) dX19_init_1 (z_aload_n hX 0 rfl rfl dX19_init_4 (z_iload_n hX 1 rfl rfl dX19_init_5 ?_)))
  refine z_putI hX fp_X19_7_17 (fun _ => rfl) h dX19_init_6 (fun σ1 h => ?_)
  refine z_aload_n hX 0 rfl rfl dX19_init_9 (z_aload_n hX 2 rfl rfl dX19_init_10 ?_)
  refine z_putR hX fp_X19_13_17 (Or.inl ⟨_, rfl⟩) (fun _ => rfl) h dX19_init_11 (fun σ2 h => ?_)
  obtain rfl := Option.some.inj h
  exact z_vret hX dX19_init_14

theorem c_X19_init {l : Launch} {D : va_G} {tys : zTy} (hl : l.stackTraces = false) {o : Nat} {p1 : Int32} {p2 : Option Nat} {σ : zS} {Rt : Unit × zS} (h : f_X19_init o p1 p2 σ = some Rt) : zM l D tys yX19_init (ws_ yX19_init cX19_init 3 (Option.none : Option Jvm.ClassFile.FieldType)) 1 40 [zA (some o), zI p1, zA p2] σ (.inl (eU Rt.1)) Rt.2 :=
  zM_in hl rfl (Nat.le_of_ble_eq_true rfl) (fun p e R s m args below meth c hX => z_L rfl (s_X19_init hX h))
def f_X20_values (σ : zS) : Option ((Option Nat) × zS) :=
  zl (zk σ 6) fun r1 =>
  r1.bind fun a2 =>
  zb2 (zcloE σ a2 5) fun a3 σ4 =>
  zif (zckA σ4 (some a3) 5 = true) <|
  some ((some a3), σ4)

set_option maxHeartbeats 4000000 in
theorem s_X20_values {X : zX} (hX : zOk X RX20 cX20_values 0 1 40 (Option.some (Jvm.ClassFile.FieldType.array (Jvm.ClassFile.FieldType.object "StepDebts$Fact"))) "values" []) {σ : zS} {Rt : (Option Nat) × zS} (h : f_X20_values σ = some Rt) : zG X (zQ X (.inl (eA Rt.1)) Rt.2) 0 0 [] [] σ := by
  unfold f_X20_values at h
  refine z_gets hX (k := 6) (C := "StepDebts$Fact") (n := "$VALUES") (dsc := "[LStepDebts$Fact;") (by simp [zSt]) q1341 h dX20_values_0 (fun r1 _ h => ?_)
  obtain ⟨a2, e9, k_a2⟩ := z_nn h
  subst e9
  have h := k_a2
  refine z_cloneE hX (t := 5) rfl (by decide) (by decide) q1343 q1344 q1345 (zNw_of q1346 rfl) (Nat.le_of_ble_eq_true rfl) (Nat.le_of_ble_eq_true rfl) (Nat.le_of_ble_eq_true rfl) h dX20_values_3 (fun a3 σ4 h => ?_)
  refine z_castA hX (t := 5) rfl (by decide) q1348 h dX20_values_6 (fun h => ?_)
  obtain rfl := Option.some.inj h
  exact z_aret hX (Or.inr ⟨_, rfl⟩) dX20_values_9

theorem c_X20_values {l : Launch} {D : va_G} {tys : zTy} (hl : l.stackTraces = false) {σ : zS} {Rt : (Option Nat) × zS} (h : f_X20_values σ = some Rt) : zM l D tys yX20_values (ws_ yX20_values cX20_values 0 (Option.some (Jvm.ClassFile.FieldType.array (Jvm.ClassFile.FieldType.object "StepDebts$Fact")))) 1 40 [] σ (.inl (eA Rt.1)) Rt.2 :=
  zM_in hl rfl (Nat.le_of_ble_eq_true rfl) (fun p e R s m args below meth c hX => z_L rfl (s_X20_values hX h))
def f_X20_of_9_b (v0 : Option Nat) (v1 : Option Nat) (v2 : Int32) (rec9 : Int32 → zS → Option ((Option Nat) × zS)) (v3 : Int32) (σ : zS) : Option ((Option Nat) × zS) :=
  if v2 ≤ v3 then
    some (none, σ)
  else
    v1.bind fun a5 =>
    (lR σ a5 v3).bind fun r6 =>
    r6.bind fun a7 =>
    (gR σ a7 51 1).bind fun r8 =>
    r8.bind fun a9 =>
    zif (zcl σ a9 = 21) <|
    zb2 (f_J10_equals a9 v0 σ) fun x11 σ12 =>
    if x11 = 0 then
      zl (v3 + 1) fun x13 =>
      rec9 x13 σ12
    else
      some ((some a7), σ12)

def f_X20_of_9 (v0 : Option Nat) (v1 : Option Nat) (v2 : Int32) : Int32 → zS → Option ((Option Nat) × zS) := zlp1 (f_X20_of_9_b v0 v1 v2) NN
set_option maxHeartbeats 4000000 in
theorem s_X20_of_9_b {X : zX} (hX : zOk X RX20 cX20_of 5 3 84 (Option.some (Jvm.ClassFile.FieldType.object "StepDebts$Fact")) "of" []) {Rt : (Option Nat) × zS} {v0 : Option Nat} {v1 : Option Nat} {v2 : Int32} {rec9 : Int32 → zS → Option ((Option Nat) × zS)} (hrec9 : ∀ (v3 : Int32) (σ : zS), rec9 v3 σ = some Rt → zG X (zQ X (.inl (eA Rt.1)) Rt.2) 5 9 [(0, zA v0), (1, zA v1), (2, zI v2), (3, zI v3)] [] σ) {v3 : Int32} {σ : zS} (h : f_X20_of_9_b v0 v1 v2 rec9 v3 σ = some Rt) : zG X (zQ X (.inl (eA Rt.1)) Rt.2) 5 9 [(0, zA v0), (1, zA v1), (2, zI v2), (3, zI v3)] [] σ := by
  unfold f_X20_of_9_b at h
  refine z_iload_n hX 3 rfl rfl dX20_of_9 (z_iload_n hX 2 rfl rfl dX20_of_10 ?_)
  refine z_icmp_ge (tgt := 40) hX h dX20_of_11 (by decide) (fun h => ?_) (fun h => ?_)
  · refine z_null hX dX20_of_40 ?_
    obtain rfl := Option.some.inj h
    exact z_aret hX (Or.inl ⟨_, rfl⟩) dX20_of_41
  · refine z_aload_n hX 1 rfl rfl dX20_of_14 (z_iload_n hX 3 rfl rfl dX20_of_15 ?_)
    obtain ⟨a5, e9, k_a5⟩ := z_nn h
    subst e9
    have h := k_a5
    refine z_aald hX h dX20_of_16 (fun r6 h => ?_)
    refine z_astore (L' := [(0, zA v0), (1, zA (some a5)), (2, zI v2), (3, zI v3), (4, zA r6)]) hX rfl (by decide) dX20_of_17 (z_aload hX 4 rfl dX20_of_19 ?_)
    obtain ⟨a7, e9, k_a7⟩ := z_nn h
    subst e9
    have h := k_a7
    refine z_getR hX fl_X20_35_51 h dX20_of_21 (fun r8 h => ?_)
    refine z_aload_n hX 0 rfl rfl dX20_of_24 ?_
    obtain ⟨a9, e9, k_a9⟩ := z_nn h
    subst e9
    have h := k_a9
    obtain ⟨c10, h⟩ := z_ck h
    refine z_cNI hX (rest := []) h (fun r9 σ9 e9 => z_runV hX lk_X20_43 (c_J10_equals hX.tr e9) (ci := 21) zc9_21 c10 ⟨Nat.le_of_ble_eq_true rfl, Nat.le_of_ble_eq_true rfl⟩ rfl (Nat.le_of_ble_eq_true rfl) dX20_of_25 rfl) (fun x11 σ12 h => ?_)
    refine z_if_eq (tgt := 34) hX h dX20_of_28 (by decide) (fun h => ?_) (fun h => ?_)
    · refine z_iinc hX (j := 3) h rfl (by decide) (by decide) dX20_of_34 (fun x13 h => z_L (L' := [(0, zA v0), (1, zA (some a5)), (2, zI v2), (3, zI x13), (4, zA (some a7))]) rfl ?_)
      refine z_goto (tgt := 9) hX dX20_of_37 (by decide) ?_
      exact z_sub [0, 1, 2, 3] rfl (hrec9 _ _ h)
    · refine z_aload hX 4 rfl dX20_of_31 ?_
      obtain rfl := Option.some.inj h
      exact z_aret hX (Or.inl ⟨_, rfl⟩) dX20_of_33

theorem s_X20_of_9 {X : zX} (hX : zOk X RX20 cX20_of 5 3 84 (Option.some (Jvm.ClassFile.FieldType.object "StepDebts$Fact")) "of" []) {Rt : (Option Nat) × zS} {v0 : Option Nat} {v1 : Option Nat} {v2 : Int32} {v3 : Int32} {σ : zS} (h : f_X20_of_9 v0 v1 v2 v3 σ = some Rt) : zG X (zQ X (.inl (eA Rt.1)) Rt.2) 5 9 [(0, zA v0), (1, zA v1), (2, zI v2), (3, zI v3)] [] σ :=
  zlp1_ok (P := fun v3 σ => zG X (zQ X (.inl (eA Rt.1)) Rt.2) 5 9 [(0, zA v0), (1, zA v1), (2, zI v2), (3, zI v3)] [] σ) (fun rec hr v3 σ h => s_X20_of_9_b hX hr h) NN v3 σ h
def f_X20_of (p1 : Option Nat) (σ : zS) : Option ((Option Nat) × zS) :=
  zb2 (f_X20_values σ) fun r1 σ2 =>
  r1.bind fun a3 =>
  (zaln σ2 a3).bind fun x4 =>
  f_X20_of_9 p1 (some a3) x4 0 σ2

set_option maxHeartbeats 4000000 in
theorem s_X20_of {X : zX} (hX : zOk X RX20 cX20_of 5 3 84 (Option.some (Jvm.ClassFile.FieldType.object "StepDebts$Fact")) "of" []) {p1 : Option Nat} {σ : zS} {Rt : (Option Nat) × zS} (h : f_X20_of p1 σ = some Rt) : zG X (zQ X (.inl (eA Rt.1)) Rt.2) 5 0 [(0, zA p1)] [] σ := by
  unfold f_X20_of at h
  refine z_cNA hX (rest := []) h (fun r9 σ9 e9 => z_runS hX lk_X20_39 (c_X20_values hX.tr e9) ⟨Nat.le_of_ble_eq_true rfl, Nat.le_of_ble_eq_true rfl⟩ rfl (Nat.le_of_ble_eq_true rfl) dX20_of_0 rfl) (fun r1 σ2 h => ?_)
  refine z_astore_n (L' := [(0, zA p1), (1, zA r1)]) hX rfl rfl (by decide) dX20_of_3 (z_aload_n hX 1 rfl rfl dX20_of_4 ?_)
  obtain ⟨a3, e9, k_a3⟩ := z_nn h
  subst e9
  have h := k_a3
  refine z_alen hX h dX20_of_5 (fun x4 h => ?_)
  refine z_istore_n (L' := [(0, zA p1), (1, zA (some a3)), (2, zI x4)]) hX rfl rfl (by decide) dX20_of_6 (z_iconst hX (v := 0) (by decide) dX20_of_7 (z_istore_n (L' := [(0, zA p1), (1, zA (some a3)), (2, zI x4), (3, zI 0)]) hX rfl rfl (by decide) dX20_of_8 ?_))
  exact z_sub [0, 1, 2, 3] rfl (s_X20_of_9 hX  h)

theorem c_X20_of {l : Launch} {D : va_G} {tys : zTy} (hl : l.stackTraces = false) {p1 : Option Nat} {σ : zS} {Rt : (Option Nat) × zS} (h : f_X20_of p1 σ = some Rt) : zM l D tys yX20_of (ws_ yX20_of cX20_of 5 (Option.some (Jvm.ClassFile.FieldType.object "StepDebts$Fact"))) 3 84 [zA p1] σ (.inl (eA Rt.1)) Rt.2 :=
  zM_in hl rfl (Nat.le_of_ble_eq_true rfl) (fun p e R s m args below meth c hX => z_L rfl (s_X20_of hX h))
def f_X1_onePart (o : Nat) (σ : zS) : Option (((Option Nat) ⊕ Nat) × zS) :=
  (gR σ o 0 2).bind fun r1 =>
  r1.bind fun a2 =>
  zif (zcl σ a2 = 2) <|
  zb2 (f_X3_isFigure a2 σ) fun x4 σ5 =>
  if x4 = 0 then
    (gR σ5 o 0 2).bind fun r6 =>
    r6.bind fun a7 =>
    zif (zcl σ5 a7 = 2) <|
    zb2 (f_X3_word a7 σ5) fun r9 σ10 =>
    zb2 (f_X20_of r9 σ10) fun r11 σ12 =>
    zcs r11 (
      (gR σ12 o 0 2).bind fun r14 =>
      r14.bind fun a15 =>
      zif (zcl σ12 a15 = 2) <|
      zb2 (f_X3_wrong a15 σ12) fun r17 σ18 =>
      r17.bind fun a19 =>
      zif (zcl σ18 a19 = 9) <| some (.inr 5, σ18)
    ) fun a13 =>
      zb2 (znewO σ12 17 [.int 0, .null]) fun a20 σ21 =>
      zb2 (f_X19_init a20 0 (some a13) σ21) fun _ σ23 =>
      some (.inl (some a20), σ23)
  else
    zb2 (znewO σ5 17 [.int 0, .null]) fun a24 σ25 =>
    (gR σ25 o 0 2).bind fun r26 =>
    r26.bind fun a27 =>
    zif (zcl σ25 a27 = 2) <|
    zbt (f_X3_number a27 0 999 σ25) (fun k9 σ9 => some (.inr k9, σ9)) fun x29 σ30 =>
    zb2 (f_X19_init a24 x29 none σ30) fun _ σ32 =>
    some (.inl (some a24), σ32)

set_option maxHeartbeats 4000000 in
theorem s_X1_onePart {X : zX} (hX : zOk X RX1 cX1_onePart 2 14 264 (Option.some (Jvm.ClassFile.FieldType.object "StepDebts$Part")) "onePart" []) {o : Nat} {σ : zS} {Rt : ((Option Nat) ⊕ Nat) × zS} (h : f_X1_onePart o σ = some Rt) : zG X (zQ X (zot eA Rt.1) Rt.2) 2 0 [(0, zA (some o))] [] σ := by
  unfold f_X1_onePart at h
  refine z_aload_n hX 0 rfl rfl dX1_onePart_0 ?_
  refine z_getR hX fl_X1_19_0 h dX1_onePart_1 (fun r1 h => ?_)
  obtain ⟨a2, e9, k_a2⟩ := z_nn h
  subst e9
  have h := k_a2
  obtain ⟨c3, h⟩ := z_ck h
  refine z_cNI hX (rest := []) h (fun r9 σ9 e9 => z_runV hX lk_X1_203 (c_X3_isFigure hX.tr e9) (ci := 2) zc9_2 c3 ⟨Nat.le_of_ble_eq_true rfl, Nat.le_of_ble_eq_true rfl⟩ rfl (Nat.le_of_ble_eq_true rfl) dX1_onePart_4 rfl) (fun x4 σ5 h => ?_)
  refine z_if_eq (tgt := 30) hX h dX1_onePart_7 (by decide) (fun h => ?_) (fun h => ?_)
  · refine z_aload_n hX 0 rfl rfl dX1_onePart_30 ?_
    refine z_getR hX fl_X1_19_0 h dX1_onePart_31 (fun r6 h => ?_)
    obtain ⟨a7, e9, k_a7⟩ := z_nn h
    subst e9
    have h := k_a7
    obtain ⟨c8, h⟩ := z_ck h
    refine z_cNA hX (rest := []) h (fun r9 σ9 e9 => z_runV hX lk_X1_73 (c_X3_word hX.tr e9) (ci := 2) zc9_2 c8 ⟨Nat.le_of_ble_eq_true rfl, Nat.le_of_ble_eq_true rfl⟩ rfl (Nat.le_of_ble_eq_true rfl) dX1_onePart_34 rfl) (fun r9 σ10 h => ?_)
    refine z_cNA hX (rest := []) h (fun r9 σ9 e9 => z_runS hX lk_X1_211 (c_X20_of hX.tr e9) ⟨Nat.le_of_ble_eq_true rfl, Nat.le_of_ble_eq_true rfl⟩ rfl (Nat.le_of_ble_eq_true rfl) dX1_onePart_37 rfl) (fun r11 σ12 h => ?_)
    refine z_astore_n (L' := [(0, zA (some o)), (1, zA r11)]) hX rfl rfl (by decide) dX1_onePart_40 (z_aload_n hX 1 rfl rfl dX1_onePart_41 ?_)
    refine z_ifnonnull (tgt := 53) hX h dX1_onePart_42 (by decide) (fun e9 k_a13 => ?_) (fun a13 e9 k_a13 => ?_)
    · subst e9
      have h := k_a13
      refine z_aload_n hX 0 rfl rfl dX1_onePart_45 ?_
      refine z_getR hX fl_X1_19_0 h dX1_onePart_46 (fun r14 h => ?_)
      obtain ⟨a15, e9, k_a15⟩ := z_nn h
      subst e9
      have h := k_a15
      obtain ⟨c16, h⟩ := z_ck h
      refine z_cNA hX (rest := []) h (fun r9 σ9 e9 => z_runV hX lk_X1_65 (c_X3_wrong hX.tr e9) (ci := 2) zc9_2 c16 ⟨Nat.le_of_ble_eq_true rfl, Nat.le_of_ble_eq_true rfl⟩ rfl (Nat.le_of_ble_eq_true rfl) dX1_onePart_49 rfl) (fun r17 σ18 h => ?_)
      obtain ⟨a19, e9, k_a19⟩ := z_nn h
      subst e9
      have h := k_a19
      refine z_athrow hX (k := 5) (ci := 9) rfl h dX1_onePart_52 (fun h => ?_)
      obtain rfl := Option.some.inj h
      exact z_out hX (fun x hx => nomatch hx)
    · subst e9
      have h := k_a13
      refine z_new hX ne_X1_206 h dX1_onePart_53 (fun a20 σ21 h => ?_)
      refine z_dup hX rfl dX1_onePart_56 (z_iconst hX (v := 0) (by decide) dX1_onePart_57 (z_aload_n hX 1 rfl rfl dX1_onePart_58 ?_))
      refine z_cNU hX (rest := [zA (some a20)]) h (fun r9 σ9 e9 => z_runI hX lk_X1_208 (c_X19_init hX.tr e9) ⟨Nat.le_of_ble_eq_true rfl, Nat.le_of_ble_eq_true rfl⟩ rfl (Nat.le_of_ble_eq_true rfl) dX1_onePart_59 rfl) (fun _ σ23 h => ?_)
      obtain rfl := Option.some.inj h
      exact z_aret hX (Or.inl ⟨_, rfl⟩) dX1_onePart_62
  · refine z_new hX ne_X1_206 h dX1_onePart_10 (fun a24 σ25 h => ?_)
    refine z_dup hX rfl dX1_onePart_13 (z_aload_n hX 0 rfl rfl dX1_onePart_14 ?_)
    refine z_getR hX fl_X1_19_0 h dX1_onePart_15 (fun r26 h => ?_)
    refine z_iconst hX (v := 0) (by decide) dX1_onePart_18 (z_sipush hX (v := 999) (by decide) dX1_onePart_19 ?_)
    obtain ⟨a27, e9, k_a27⟩ := z_nn h
    subst e9
    have h := k_a27
    obtain ⟨c28, h⟩ := z_ck h
    refine z_cTI hX (rest := [zA (some a24), zA (some a24)]) h (fun r9 σ9 e9 => z_runV hX lk_X1_69 (c_X3_number hX.tr e9) (ci := 2) zc9_2 c28 ⟨Nat.le_of_ble_eq_true rfl, Nat.le_of_ble_eq_true rfl⟩ rfl (Nat.le_of_ble_eq_true rfl) dX1_onePart_22 rfl) (fun k9 σ9 h => z_prop hX h (fun x hx => nomatch hx)) (fun x29 σ30 h => ?_)
    refine z_null hX dX1_onePart_25 ?_
    refine z_cNU hX (rest := [zA (some a24)]) h (fun r9 σ9 e9 => z_runI hX lk_X1_208 (c_X19_init hX.tr e9) ⟨Nat.le_of_ble_eq_true rfl, Nat.le_of_ble_eq_true rfl⟩ rfl (Nat.le_of_ble_eq_true rfl) dX1_onePart_26 rfl) (fun _ σ32 h => ?_)
    obtain rfl := Option.some.inj h
    exact z_aret hX (Or.inl ⟨_, rfl⟩) dX1_onePart_29

theorem c_X1_onePart {l : Launch} {D : va_G} {tys : zTy} (hl : l.stackTraces = false) {o : Nat} {σ : zS} {Rt : ((Option Nat) ⊕ Nat) × zS} (h : f_X1_onePart o σ = some Rt) : zM l D tys yX1_onePart (ws_ yX1_onePart cX1_onePart 2 (Option.some (Jvm.ClassFile.FieldType.object "StepDebts$Part"))) 14 264 [zA (some o)] σ (zot eA Rt.1) Rt.2 :=
  zM_in hl rfl (Nat.le_of_ble_eq_true rfl) (fun p e R s m args below meth c hX => z_L rfl (s_X1_onePart hX h))
def f_X1_sum_2_8_b (o : Nat) (v1 : Option Nat) (rec8 : zS → Option (((Option Nat) ⊕ Nat) × zS)) (σ : zS) : Option (((Option Nat) ⊕ Nat) × zS) :=
  v1.bind fun a5 =>
  (gR σ a5 16 0).bind fun r6 =>
  zif (zcl σ o = 0) <|
  zbt (f_X1_onePart o σ) (fun k9 σ9 => some (.inr k9, σ9)) fun r8 σ9 =>
  r6.bind fun a10 =>
  zif (zcl σ9 a10 = 19) <|
  zb2 (f_J2_add a10 r8 σ9) fun x12 σ13 =>
  (gR σ13 o 0 2).bind fun r14 =>
  r14.bind fun a15 =>
  zif (zcl σ13 a15 = 2) <|
  zb2 (f_X3_sign a15 43 σ13) fun x17 σ18 =>
  if ¬ x17 = 0 then
    rec8 σ18
  else
    some (.inl (some a5), σ18)

def f_X1_sum_2_8 (o : Nat) (v1 : Option Nat) : zS → Option (((Option Nat) ⊕ Nat) × zS) := zlp0 (f_X1_sum_2_8_b o v1) NN
set_option maxHeartbeats 4000000 in
theorem s_X1_sum_2_8_b {X : zX} (hX : zOk X RX1 cX1_sum_2 2 15 285 (Option.some (Jvm.ClassFile.FieldType.object "StepDebts$Sum")) "sum" []) {o : Nat} {Rt : ((Option Nat) ⊕ Nat) × zS} {v1 : Option Nat} {rec8 : zS → Option (((Option Nat) ⊕ Nat) × zS)} (hrec8 : ∀ (σ : zS), rec8 σ = some Rt → zG X (zQ X (zot eA Rt.1) Rt.2) 2 8 [(0, zA (some o)), (1, zA v1)] [] σ) {σ : zS} (h : f_X1_sum_2_8_b o v1 rec8 σ = some Rt) : zG X (zQ X (zot eA Rt.1) Rt.2) 2 8 [(0, zA (some o)), (1, zA v1)] [] σ := by
  unfold f_X1_sum_2_8_b at h
  refine z_aload_n hX 1 rfl rfl dX1_sum_2_8 ?_
  obtain ⟨a5, e9, k_a5⟩ := z_nn h
  subst e9
  have h := k_a5
  refine z_getR hX fl_X1_219_16 h dX1_sum_2_9 (fun r6 h => ?_)
  refine z_aload_n hX 0 rfl rfl dX1_sum_2_12 ?_
  obtain ⟨c7, h⟩ := z_ck h
  refine z_cTA hX (rest := [zA r6]) h (fun r9 σ9 e9 => z_runV hX lk_X1_222 (c_X1_onePart hX.tr e9) (ci := 0) zc9_0 c7 ⟨Nat.le_of_ble_eq_true rfl, Nat.le_of_ble_eq_true rfl⟩ rfl (Nat.le_of_ble_eq_true rfl) dX1_sum_2_13 rfl) (fun k9 σ9 h => z_prop hX h (fun x hx => nomatch hx)) (fun r8 σ9 h => ?_)
  obtain ⟨a10, e9, k_a10⟩ := z_nn h
  subst e9
  have h := k_a10
  obtain ⟨c11, h⟩ := z_ck h
  refine z_cNI hX (rest := []) h (fun r9 σ9 e9 => z_runV hX lk_X1_99 (c_J2_add hX.tr e9) (ci := 19) zc9_19 c11 ⟨Nat.le_of_ble_eq_true rfl, Nat.le_of_ble_eq_true rfl⟩ rfl (Nat.le_of_ble_eq_true rfl) dX1_sum_2_16 rfl) (fun x12 σ13 h => ?_)
  refine z_pop hX rfl dX1_sum_2_19 (z_aload_n hX 0 rfl rfl dX1_sum_2_20 ?_)
  refine z_getR hX fl_X1_19_0 h dX1_sum_2_21 (fun r14 h => ?_)
  refine z_bipush hX (v := 43) (by decide) dX1_sum_2_24 ?_
  obtain ⟨a15, e9, k_a15⟩ := z_nn h
  subst e9
  have h := k_a15
  obtain ⟨c16, h⟩ := z_ck h
  refine z_cNI hX (rest := []) h (fun r9 σ9 e9 => z_runV hX lk_X1_173 (c_X3_sign hX.tr e9) (ci := 2) zc9_2 c16 ⟨Nat.le_of_ble_eq_true rfl, Nat.le_of_ble_eq_true rfl⟩ rfl (Nat.le_of_ble_eq_true rfl) dX1_sum_2_26 rfl) (fun x17 σ18 h => ?_)
  refine z_if_ne (tgt := 8) hX h dX1_sum_2_29 (by decide) (fun h => ?_) (fun h => ?_)
  · exact z_sub [0, 1] rfl (hrec8  _ h)
  · refine z_aload_n hX 1 rfl rfl dX1_sum_2_32 ?_
    obtain rfl := Option.some.inj h
    exact z_aret hX (Or.inl ⟨_, rfl⟩) dX1_sum_2_33

theorem s_X1_sum_2_8 {X : zX} (hX : zOk X RX1 cX1_sum_2 2 15 285 (Option.some (Jvm.ClassFile.FieldType.object "StepDebts$Sum")) "sum" []) {o : Nat} {Rt : ((Option Nat) ⊕ Nat) × zS} {v1 : Option Nat} {σ : zS} (h : f_X1_sum_2_8 o v1 σ = some Rt) : zG X (zQ X (zot eA Rt.1) Rt.2) 2 8 [(0, zA (some o)), (1, zA v1)] [] σ :=
  zlp0_ok (P := fun σ => zG X (zQ X (zot eA Rt.1) Rt.2) 2 8 [(0, zA (some o)), (1, zA v1)] [] σ) (fun rec hr σ h => s_X1_sum_2_8_b (o := o) hX hr h) NN σ h
def f_X1_sum_2 (o : Nat) (σ : zS) : Option (((Option Nat) ⊕ Nat) × zS) :=
  zb2 (znewO σ 16 [.null]) fun a1 σ2 =>
  zb2 (f_X18_init a1 σ2) fun _ σ4 =>
  f_X1_sum_2_8 o (some a1) σ4

set_option maxHeartbeats 4000000 in
theorem s_X1_sum_2 {X : zX} (hX : zOk X RX1 cX1_sum_2 2 15 285 (Option.some (Jvm.ClassFile.FieldType.object "StepDebts$Sum")) "sum" []) {o : Nat} {σ : zS} {Rt : ((Option Nat) ⊕ Nat) × zS} (h : f_X1_sum_2 o σ = some Rt) : zG X (zQ X (zot eA Rt.1) Rt.2) 2 0 [(0, zA (some o))] [] σ := by
  unfold f_X1_sum_2 at h
  refine z_new hX ne_X1_216 h dX1_sum_2_0 (fun a1 σ2 h => ?_)
  refine z_dup hX rfl dX1_sum_2_3 ?_
  refine z_cNU hX (rest := [zA (some a1)]) h (fun r9 σ9 e9 => z_runIN hX lk_X1_218 (c_X18_init hX.tr e9) ⟨Nat.le_of_ble_eq_true rfl, Nat.le_of_ble_eq_true rfl⟩ rfl (Nat.le_of_ble_eq_true rfl) dX1_sum_2_4 rfl) (fun _ σ4 h => ?_)
  refine z_astore_n (L' := [(0, zA (some o)), (1, zA (some a1))]) hX rfl rfl (by decide) dX1_sum_2_7 ?_
  exact z_sub [0, 1] rfl (s_X1_sum_2_8 (o := o) hX  h)

theorem c_X1_sum_2 {l : Launch} {D : va_G} {tys : zTy} (hl : l.stackTraces = false) {o : Nat} {σ : zS} {Rt : ((Option Nat) ⊕ Nat) × zS} (h : f_X1_sum_2 o σ = some Rt) : zM l D tys yX1_sum_2 (ws_ yX1_sum_2 cX1_sum_2 2 (Option.some (Jvm.ClassFile.FieldType.object "StepDebts$Sum"))) 15 285 [zA (some o)] σ (zot eA Rt.1) Rt.2 :=
  zM_in hl rfl (Nat.le_of_ble_eq_true rfl) (fun p e R s m args below meth c hX => z_L rfl (s_X1_sum_2 hX h))
def f_X21_init (o : Nat) (p1 : Option Nat) (p2 : Option Nat) (σ : zS) : Option (Unit × zS) :=
  (pR σ o 18 0 p1).bind fun σ1 =>
  (pR σ1 o 18 1 p2).bind fun σ2 =>
  some ((), σ2)

set_option maxHeartbeats 4000000 in
theorem s_X21_init {X : zX} (hX : zOk X RX21 cX21_init 3 1 40 (Option.none : Option Jvm.ClassFile.FieldType) "<init>" []) {o : Nat} {p1 : Option Nat} {p2 : Option Nat} {σ : zS} {Rt : Unit × zS} (h : f_X21_init o p1 p2 σ = some Rt) : zG X (zQ X (.inl (eU Rt.1)) Rt.2) 3 0 [(0, zA (some o)), (1, zA p1), (2, zA p2)] [] σ := by
  unfold f_X21_init at h
  refine z_aload_n hX 0 rfl rfl dX21_init_0 (z_objInit hX q1355 (Nat.le_of_ble_eq_true rfl) (Nat.le_of_ble_eq_true rfl) (Nat.le_of_ble_eq_true rfl) dX21_init_1 (z_aload_n hX 0 rfl rfl dX21_init_4 (z_aload_n hX 1 rfl rfl dX21_init_5 ?_)))
  refine z_putR hX fp_X21_7_18 (Or.inl ⟨_, rfl⟩) (fun _ => rfl) h dX21_init_6 (fun σ1 h => ?_)
  refine z_aload_n hX 0 rfl rfl dX21_init_9 (z_aload_n hX 2 rfl rfl dX21_init_10 ?_)
  refine z_putR hX fp_X21_13_18 (Or.inl ⟨_, rfl⟩) (fun _ => rfl) h dX21_init_11 (fun σ2 h => ?_)
  obtain rfl := Option.some.inj h
  exact z_vret hX dX21_init_14

theorem c_X21_init {l : Launch} {D : va_G} {tys : zTy} (hl : l.stackTraces = false) {o : Nat} {p1 : Option Nat} {p2 : Option Nat} {σ : zS} {Rt : Unit × zS} (h : f_X21_init o p1 p2 σ = some Rt) : zM l D tys yX21_init (ws_ yX21_init cX21_init 3 (Option.none : Option Jvm.ClassFile.FieldType)) 1 40 [zA (some o), zA p1, zA p2] σ (.inl (eU Rt.1)) Rt.2 :=
  zM_in hl rfl (Nat.le_of_ble_eq_true rfl) (fun p e R s m args below meth c hX => z_L rfl (s_X21_init hX h))
def f_X1_atom_84_b (ra : Nat → zS → Option (((Option Nat) ⊕ Nat) × zS)) (o : Nat) (v1 : Option Nat) (v2 : Option Nat) (v3 : Int32) (rec84 : Int32 → zS → Option (((Option Nat) ⊕ Nat) × zS)) (v4 : Int32) (σ : zS) : Option (((Option Nat) ⊕ Nat) × zS) :=
  if v3 ≤ v4 then
    zif (zcl σ o = 0) <|
    zbt (f_X1_sum_2 o σ) (fun k9 σ9 => some (.inr k9, σ9)) fun r15 σ16 =>
    v1.bind fun a17 =>
    zif (zcl σ16 a17 = 2) <|
    zb2 (f_X3_sign a17 60 σ16) fun x19 σ20 =>
    if x19 = 0 then
      zif (zcl σ20 a17 = 2) <|
      zb2 (f_X3_sign a17 62 σ20) fun x22 σ23 =>
      if ¬ x22 = 0 then
        zb2 (znewO σ23 18 [.null, .null]) fun a24 σ25 =>
        zif (zcl σ25 o = 0) <|
        zbt (f_X1_sum_2 o σ25) (fun k9 σ9 => some (.inr k9, σ9)) fun r27 σ28 =>
        zb2 (f_X21_init a24 r27 r15 σ28) fun _ σ30 =>
        some (.inl (some a24), σ30)
      else
        zif (zcl σ23 a17 = 2) <|
        zb2 (f_X3_wrong a17 σ23) fun r32 σ33 =>
        r32.bind fun a34 =>
        zif (zcl σ33 a34 = 9) <| some (.inr 5, σ33)
    else
      zb2 (znewO σ20 18 [.null, .null]) fun a35 σ36 =>
      zif (zcl σ36 o = 0) <|
      zbt (f_X1_sum_2 o σ36) (fun k9 σ9 => some (.inr k9, σ9)) fun r38 σ39 =>
      zb2 (f_X21_init a35 r15 r38 σ39) fun _ σ41 =>
      some (.inl (some a35), σ41)
  else
    v2.bind fun a42 =>
    (lR σ a42 v4).bind fun r43 =>
    r43.bind fun a44 =>
    zif (zcl σ a44 = 50) <|
    zb2 (f_X16_word a44 σ) fun r46 σ47 =>
    v1.bind fun a48 =>
    zif (zcl σ47 a48 = 2) <|
    zb2 (f_X3_passes a48 r46 σ47) fun x50 σ51 =>
    if x50 = 0 then
      zl (v4 + 1) fun x52 =>
      rec84 x52 σ51
    else
      zb2 (znewO σ51 15 [.null]) fun a53 σ54 =>
      zb2 (f_X17_init a53 (some a44) σ54) fun _ σ56 =>
      some (.inl (some a53), σ56)

def f_X1_atom_84 (ra : Nat → zS → Option (((Option Nat) ⊕ Nat) × zS)) (o : Nat) (v1 : Option Nat) (v2 : Option Nat) (v3 : Int32) : Int32 → zS → Option (((Option Nat) ⊕ Nat) × zS) := zlp1 (f_X1_atom_84_b ra o v1 v2 v3) NN
set_option maxHeartbeats 4000000 in
theorem s_X1_atom_84_b {f9 w9 : Nat} {X : zX} (hX : zOk X RX1 cX1_atom 6 (f9 + 17) (w9 + 327) (Option.some (Jvm.ClassFile.FieldType.object "StepDebts$Cond")) "atom" []) {ra : Nat → zS → Option (((Option Nat) ⊕ Nat) × zS)} {o : Nat} (hra : zRA_X1_atom (xl X) (xD X) (xt X) ra f9 w9) {Rt : ((Option Nat) ⊕ Nat) × zS} {v1 : Option Nat} {v2 : Option Nat} {v3 : Int32} {rec84 : Int32 → zS → Option (((Option Nat) ⊕ Nat) × zS)} (hrec84 : ∀ (v4 : Int32) (σ : zS), rec84 v4 σ = some Rt → zG X (zQ X (zot eA Rt.1) Rt.2) 6 84 [(0, zA (some o)), (1, zA v1), (2, zA v2), (3, zI v3), (4, zI v4)] [] σ) {v4 : Int32} {σ : zS} (h : f_X1_atom_84_b ra o v1 v2 v3 rec84 v4 σ = some Rt) : zG X (zQ X (zot eA Rt.1) Rt.2) 6 84 [(0, zA (some o)), (1, zA v1), (2, zA v2), (3, zI v3), (4, zI v4)] [] σ := by
  unfold f_X1_atom_84_b at h
  refine z_iload hX 4 rfl dX1_atom_84 (z_iload_n hX 3 rfl rfl dX1_atom_86 ?_)
  refine z_icmp_ge (tgt := 124) hX h dX1_atom_87 (by decide) (fun h => ?_) (fun h => ?_)
  · refine z_aload_n hX 0 rfl rfl dX1_atom_124 ?_
    obtain ⟨c14, h⟩ := z_ck h
    refine z_cTA hX (rest := []) h (fun r9 σ9 e9 => z_runV hX lk_X1_258 (c_X1_sum_2 hX.tr e9) (ci := 0) zc9_0 c14 ⟨by omega, by omega⟩ rfl (Nat.le_of_ble_eq_true rfl) dX1_atom_125 rfl) (fun k9 σ9 h => z_prop hX h (fun x hx => nomatch hx)) (fun r15 σ16 h => ?_)
    refine z_astore_n (L' := [(0, zA (some o)), (1, zA v1), (2, zA r15), (3, zI v3), (4, zI v4)]) hX rfl rfl (by decide) dX1_atom_128 (z_aload_n hX 1 rfl rfl dX1_atom_129 (z_bipush hX (v := 60) (by decide) dX1_atom_130 ?_))
    obtain ⟨a17, e9, k_a17⟩ := z_nn h
    subst e9
    have h := k_a17
    obtain ⟨c18, h⟩ := z_ck h
    refine z_cNI hX (rest := []) h (fun r9 σ9 e9 => z_runV hX lk_X1_173 (c_X3_sign hX.tr e9) (ci := 2) zc9_2 c18 ⟨by omega, by omega⟩ rfl (Nat.le_of_ble_eq_true rfl) dX1_atom_132 rfl) (fun x19 σ20 h => ?_)
    refine z_if_eq (tgt := 151) hX h dX1_atom_135 (by decide) (fun h => ?_) (fun h => ?_)
    · refine z_aload_n hX 1 rfl rfl dX1_atom_151 (z_bipush hX (v := 62) (by decide) dX1_atom_152 ?_)
      obtain ⟨c21, h⟩ := z_ck h
      refine z_cNI hX (rest := []) h (fun r9 σ9 e9 => z_runV hX lk_X1_173 (c_X3_sign hX.tr e9) (ci := 2) zc9_2 c21 ⟨by omega, by omega⟩ rfl (Nat.le_of_ble_eq_true rfl) dX1_atom_154 rfl) (fun x22 σ23 h => ?_)
      refine z_if_ne (tgt := 165) hX h dX1_atom_157 (by decide) (fun h => ?_) (fun h => ?_)
      · refine z_new hX ne_X1_262 h dX1_atom_165 (fun a24 σ25 h => ?_)
        refine z_dup hX rfl dX1_atom_168 (z_aload_n hX 0 rfl rfl dX1_atom_169 ?_)
        obtain ⟨c26, h⟩ := z_ck h
        refine z_cTA hX (rest := [zA (some a24), zA (some a24)]) h (fun r9 σ9 e9 => z_runV hX lk_X1_258 (c_X1_sum_2 hX.tr e9) (ci := 0) zc9_0 c26 ⟨by omega, by omega⟩ rfl (Nat.le_of_ble_eq_true rfl) dX1_atom_170 rfl) (fun k9 σ9 h => z_prop hX h (fun x hx => nomatch hx)) (fun r27 σ28 h => ?_)
        refine z_aload_n hX 2 rfl rfl dX1_atom_173 ?_
        refine z_cNU hX (rest := [zA (some a24)]) h (fun r9 σ9 e9 => z_runI hX lk_X1_264 (c_X21_init hX.tr e9) ⟨by omega, by omega⟩ rfl (Nat.le_of_ble_eq_true rfl) dX1_atom_174 rfl) (fun _ σ30 h => ?_)
        obtain rfl := Option.some.inj h
        exact z_aret hX (Or.inl ⟨_, rfl⟩) dX1_atom_177
      · refine z_aload_n hX 1 rfl rfl dX1_atom_160 ?_
        obtain ⟨c31, h⟩ := z_ck h
        refine z_cNA hX (rest := []) h (fun r9 σ9 e9 => z_runV hX lk_X1_65 (c_X3_wrong hX.tr e9) (ci := 2) zc9_2 c31 ⟨by omega, by omega⟩ rfl (Nat.le_of_ble_eq_true rfl) dX1_atom_161 rfl) (fun r32 σ33 h => ?_)
        obtain ⟨a34, e9, k_a34⟩ := z_nn h
        subst e9
        have h := k_a34
        refine z_athrow hX (k := 5) (ci := 9) rfl h dX1_atom_164 (fun h => ?_)
        obtain rfl := Option.some.inj h
        exact z_out hX (fun x hx => nomatch hx)
    · refine z_new hX ne_X1_262 h dX1_atom_138 (fun a35 σ36 h => ?_)
      refine z_dup hX rfl dX1_atom_141 (z_aload_n hX 2 rfl rfl dX1_atom_142 (z_aload_n hX 0 rfl rfl dX1_atom_143 ?_))
      obtain ⟨c37, h⟩ := z_ck h
      refine z_cTA hX (rest := [zA r15, zA (some a35), zA (some a35)]) h (fun r9 σ9 e9 => z_runV hX lk_X1_258 (c_X1_sum_2 hX.tr e9) (ci := 0) zc9_0 c37 ⟨by omega, by omega⟩ rfl (Nat.le_of_ble_eq_true rfl) dX1_atom_144 rfl) (fun k9 σ9 h => z_prop hX h (fun x hx => nomatch hx)) (fun r38 σ39 h => ?_)
      refine z_cNU hX (rest := [zA (some a35)]) h (fun r9 σ9 e9 => z_runI hX lk_X1_264 (c_X21_init hX.tr e9) ⟨by omega, by omega⟩ rfl (Nat.le_of_ble_eq_true rfl) dX1_atom_147 rfl) (fun _ σ41 h => ?_)
      obtain rfl := Option.some.inj h
      exact z_aret hX (Or.inl ⟨_, rfl⟩) dX1_atom_150
  · refine z_aload_n hX 2 rfl rfl dX1_atom_90 (z_iload hX 4 rfl dX1_atom_91 ?_)
    obtain ⟨a42, e9, k_a42⟩ := z_nn h
    subst e9
    have h := k_a42
    refine z_aald hX h dX1_atom_93 (fun r43 h => ?_)
    refine z_astore (L' := [(0, zA (some o)), (1, zA v1), (2, zA (some a42)), (3, zI v3), (4, zI v4), (5, zA r43)]) hX rfl (by decide) dX1_atom_94 (z_aload_n hX 1 rfl rfl dX1_atom_96 (z_aload hX 5 rfl dX1_atom_97 ?_))
    obtain ⟨a44, e9, k_a44⟩ := z_nn h
    subst e9
    have h := k_a44
    obtain ⟨c45, h⟩ := z_ck h
    refine z_cNA hX (rest := [zA v1]) h (fun r9 σ9 e9 => z_runV hX lk_X1_252 (c_X16_word hX.tr e9) (ci := 50) zc9_50 c45 ⟨by omega, by omega⟩ rfl (Nat.le_of_ble_eq_true rfl) dX1_atom_99 rfl) (fun r46 σ47 h => ?_)
    obtain ⟨a48, e9, k_a48⟩ := z_nn h
    subst e9
    have h := k_a48
    obtain ⟨c49, h⟩ := z_ck h
    refine z_cNI hX (rest := []) h (fun r9 σ9 e9 => z_runV hX lk_X1_92 (c_X3_passes hX.tr e9) (ci := 2) zc9_2 c49 ⟨by omega, by omega⟩ rfl (Nat.le_of_ble_eq_true rfl) dX1_atom_102 rfl) (fun x50 σ51 h => ?_)
    refine z_if_eq (tgt := 118) hX h dX1_atom_105 (by decide) (fun h => ?_) (fun h => ?_)
    · refine z_iinc hX (j := 4) h rfl (by decide) (by decide) dX1_atom_118 (fun x52 h => z_L (L' := [(0, zA (some o)), (1, zA (some a48)), (2, zA (some a42)), (3, zI v3), (4, zI x52), (5, zA (some a44))]) rfl ?_)
      refine z_goto (tgt := 84) hX dX1_atom_121 (by decide) ?_
      exact z_sub [0, 1, 2, 3, 4] rfl (hrec84 _ _ h)
    · refine z_new hX ne_X1_253 h dX1_atom_108 (fun a53 σ54 h => ?_)
      refine z_dup hX rfl dX1_atom_111 (z_aload hX 5 rfl dX1_atom_112 ?_)
      refine z_cNU hX (rest := [zA (some a53)]) h (fun r9 σ9 e9 => z_runI hX lk_X1_255 (c_X17_init hX.tr e9) ⟨by omega, by omega⟩ rfl (Nat.le_of_ble_eq_true rfl) dX1_atom_114 rfl) (fun _ σ56 h => ?_)
      obtain rfl := Option.some.inj h
      exact z_aret hX (Or.inl ⟨_, rfl⟩) dX1_atom_117

theorem s_X1_atom_84 {f9 w9 : Nat} {X : zX} (hX : zOk X RX1 cX1_atom 6 (f9 + 17) (w9 + 327) (Option.some (Jvm.ClassFile.FieldType.object "StepDebts$Cond")) "atom" []) {ra : Nat → zS → Option (((Option Nat) ⊕ Nat) × zS)} {o : Nat} (hra : zRA_X1_atom (xl X) (xD X) (xt X) ra f9 w9) {Rt : ((Option Nat) ⊕ Nat) × zS} {v1 : Option Nat} {v2 : Option Nat} {v3 : Int32} {v4 : Int32} {σ : zS} (h : f_X1_atom_84 ra o v1 v2 v3 v4 σ = some Rt) : zG X (zQ X (zot eA Rt.1) Rt.2) 6 84 [(0, zA (some o)), (1, zA v1), (2, zA v2), (3, zI v3), (4, zI v4)] [] σ :=
  zlp1_ok (P := fun v4 σ => zG X (zQ X (zot eA Rt.1) Rt.2) 6 84 [(0, zA (some o)), (1, zA v1), (2, zA v2), (3, zI v3), (4, zI v4)] [] σ) (fun rec hr v4 σ h => s_X1_atom_84_b (o := o) hX hra hr h) NN v4 σ h
def f_X1_atom (ra : Nat → zS → Option (((Option Nat) ⊕ Nat) × zS)) (o : Nat) (σ : zS) : Option (((Option Nat) ⊕ Nat) × zS) :=
  (gR σ o 0 2).bind fun r1 =>
  r1.bind fun a2 =>
  zif (zcl σ a2 = 2) <|
  zb2 (f_X3_sign a2 40 σ) fun x4 σ5 =>
  if x4 = 0 then
    (zk σ5 114).bind fun a6 =>
    zif (zcl σ5 a2 = 2) <|
    zb2 (f_X3_passes a2 (some a6) σ5) fun x8 σ9 =>
    if x8 = 0 then
      zb2 (f_X16_values σ9) fun r10 σ11 =>
      r10.bind fun a12 =>
      (zaln σ11 a12).bind fun x13 =>
      f_X1_atom_84 ra o (some a2) (some a12) x13 0 σ11
    else
      zif (zcl σ9 a2 = 2) <|
      zbt (f_X3_goesDeeper a2 σ9) (fun k9 σ9 => some (.inr k9, σ9)) fun _ σ59 =>
      zif (zcl σ59 o = 0) <|
      zbt (ra o σ59) (fun k9 σ9 => some (.inr k9, σ9)) fun r61 σ62 =>
      zif (zcl σ62 a2 = 2) <|
      zb2 (f_X3_comesUp a2 σ62) fun _ σ65 =>
      zb2 (znewO σ65 14 [.null]) fun a66 σ67 =>
      zb2 (f_X15_init a66 r61 σ67) fun _ σ69 =>
      some (.inl (some a66), σ69)
  else
    zif (zcl σ5 a2 = 2) <|
    zbt (f_X3_goesDeeper a2 σ5) (fun k9 σ9 => some (.inr k9, σ9)) fun _ σ72 =>
    zif (zcl σ72 o = 0) <|
    zbt (f_X1_cond ra o σ72) (fun k9 σ9 => some (.inr k9, σ9)) fun r74 σ75 =>
    zif (zcl σ75 a2 = 2) <|
    zb2 (f_X3_comesUp a2 σ75) fun _ σ78 =>
    zif (zcl σ78 a2 = 2) <|
    zb2 (f_X3_sign a2 41 σ78) fun x80 σ81 =>
    if ¬ x80 = 0 then
      some (.inl r74, σ81)
    else
      zif (zcl σ81 a2 = 2) <|
      zb2 (f_X3_wrong a2 σ81) fun r83 σ84 =>
      r83.bind fun a85 =>
      zif (zcl σ84 a85 = 9) <| some (.inr 5, σ84)

set_option maxHeartbeats 4000000 in
theorem s_X1_atom {f9 w9 : Nat} {X : zX} (hX : zOk X RX1 cX1_atom 6 (f9 + 17) (w9 + 327) (Option.some (Jvm.ClassFile.FieldType.object "StepDebts$Cond")) "atom" []) {ra : Nat → zS → Option (((Option Nat) ⊕ Nat) × zS)} {o : Nat} (hra : zRA_X1_atom (xl X) (xD X) (xt X) ra f9 w9) {σ : zS} {Rt : ((Option Nat) ⊕ Nat) × zS} (h : f_X1_atom ra o σ = some Rt) : zG X (zQ X (zot eA Rt.1) Rt.2) 6 0 [(0, zA (some o))] [] σ := by
  unfold f_X1_atom at h
  refine z_aload_n hX 0 rfl rfl dX1_atom_0 ?_
  refine z_getR hX fl_X1_19_0 h dX1_atom_1 (fun r1 h => ?_)
  refine z_astore_n (L' := [(0, zA (some o)), (1, zA r1)]) hX rfl rfl (by decide) dX1_atom_4 (z_aload_n hX 1 rfl rfl dX1_atom_5 (z_bipush hX (v := 40) (by decide) dX1_atom_6 ?_))
  obtain ⟨a2, e9, k_a2⟩ := z_nn h
  subst e9
  have h := k_a2
  obtain ⟨c3, h⟩ := z_ck h
  refine z_cNI hX (rest := []) h (fun r9 σ9 e9 => z_runV hX lk_X1_173 (c_X3_sign hX.tr e9) (ci := 2) zc9_2 c3 ⟨by omega, by omega⟩ rfl (Nat.le_of_ble_eq_true rfl) dX1_atom_8 rfl) (fun x4 σ5 h => ?_)
  refine z_if_eq (tgt := 43) hX h dX1_atom_11 (by decide) (fun h => ?_) (fun h => ?_)
  · refine z_aload_n hX 1 rfl rfl dX1_atom_43 ?_
    refine z_ldcS hX st_X1_236 h dX1_atom_44 (fun a6 _ h => ?_)
    obtain ⟨c7, h⟩ := z_ck h
    refine z_cNI hX (rest := []) h (fun r9 σ9 e9 => z_runV hX lk_X1_92 (c_X3_passes hX.tr e9) (ci := 2) zc9_2 c7 ⟨by omega, by omega⟩ rfl (Nat.le_of_ble_eq_true rfl) dX1_atom_46 rfl) (fun x8 σ9 h => ?_)
    refine z_if_eq (tgt := 74) hX h dX1_atom_49 (by decide) (fun h => ?_) (fun h => ?_)
    · refine z_cNA hX (rest := []) h (fun r9 σ9 e9 => z_runS hX lk_X1_246 (c_X16_values hX.tr e9) ⟨by omega, by omega⟩ rfl (Nat.le_of_ble_eq_true rfl) dX1_atom_74 rfl) (fun r10 σ11 h => ?_)
      refine z_astore_n (L' := [(0, zA (some o)), (1, zA (some a2)), (2, zA r10)]) hX rfl rfl (by decide) dX1_atom_77 (z_aload_n hX 2 rfl rfl dX1_atom_78 ?_)
      obtain ⟨a12, e9, k_a12⟩ := z_nn h
      subst e9
      have h := k_a12
      refine z_alen hX h dX1_atom_79 (fun x13 h => ?_)
      refine z_istore_n (L' := [(0, zA (some o)), (1, zA (some a2)), (2, zA (some a12)), (3, zI x13)]) hX rfl rfl (by decide) dX1_atom_80 (z_iconst hX (v := 0) (by decide) dX1_atom_81 (z_istore (L' := [(0, zA (some o)), (1, zA (some a2)), (2, zA (some a12)), (3, zI x13), (4, zI 0)]) hX rfl (by decide) dX1_atom_82 ?_))
      exact z_sub [0, 1, 2, 3, 4] rfl (s_X1_atom_84 (o := o) hX hra  h)
    · refine z_aload_n hX 1 rfl rfl dX1_atom_52 ?_
      obtain ⟨c57, h⟩ := z_ck h
      refine z_cTU hX (rest := []) h (fun r9 σ9 e9 => z_runV hX lk_X1_226 (c_X3_goesDeeper hX.tr e9) (ci := 2) zc9_2 c57 ⟨by omega, by omega⟩ rfl (Nat.le_of_ble_eq_true rfl) dX1_atom_53 rfl) (fun k9 σ9 h => z_prop hX h (fun x hx => nomatch hx)) (fun _ σ59 h => ?_)
      refine z_aload_n hX 0 rfl rfl dX1_atom_56 ?_
      obtain ⟨c60, h⟩ := z_ck h
      refine z_cTA hX (rest := []) h (fun r9 σ9 e9 => z_runV hX lk_X1_238 (hra _ _ _ e9) (ci := 0) zc9_0 c60 ⟨by omega, by omega⟩ rfl (Nat.le_of_ble_eq_true rfl) dX1_atom_57 rfl) (fun k9 σ9 h => z_prop hX h (fun x hx => nomatch hx)) (fun r61 σ62 h => ?_)
      refine z_astore_n (L' := [(0, zA (some o)), (1, zA (some a2)), (2, zA r61)]) hX rfl rfl (by decide) dX1_atom_60 (z_aload_n hX 1 rfl rfl dX1_atom_61 ?_)
      obtain ⟨c63, h⟩ := z_ck h
      refine z_cNU hX (rest := []) h (fun r9 σ9 e9 => z_runV hX lk_X1_233 (c_X3_comesUp hX.tr e9) (ci := 2) zc9_2 c63 ⟨by omega, by omega⟩ rfl (Nat.le_of_ble_eq_true rfl) dX1_atom_62 rfl) (fun _ σ65 h => ?_)
      refine z_new hX ne_X1_241 h dX1_atom_65 (fun a66 σ67 h => ?_)
      refine z_dup hX rfl dX1_atom_68 (z_aload_n hX 2 rfl rfl dX1_atom_69 ?_)
      refine z_cNU hX (rest := [zA (some a66)]) h (fun r9 σ9 e9 => z_runI hX lk_X1_243 (c_X15_init hX.tr e9) ⟨by omega, by omega⟩ rfl (Nat.le_of_ble_eq_true rfl) dX1_atom_70 rfl) (fun _ σ69 h => ?_)
      obtain rfl := Option.some.inj h
      exact z_aret hX (Or.inl ⟨_, rfl⟩) dX1_atom_73
  · refine z_aload_n hX 1 rfl rfl dX1_atom_14 ?_
    obtain ⟨c70, h⟩ := z_ck h
    refine z_cTU hX (rest := []) h (fun r9 σ9 e9 => z_runV hX lk_X1_226 (c_X3_goesDeeper hX.tr e9) (ci := 2) zc9_2 c70 ⟨by omega, by omega⟩ rfl (Nat.le_of_ble_eq_true rfl) dX1_atom_15 rfl) (fun k9 σ9 h => z_prop hX h (fun x hx => nomatch hx)) (fun _ σ72 h => ?_)
    refine z_aload_n hX 0 rfl rfl dX1_atom_18 ?_
    obtain ⟨c73, h⟩ := z_ck h
    refine z_cTA hX (rest := []) h (fun r9 σ9 e9 => z_runV hX lk_X1_229 (c_X1_cond hX.tr hra e9) (ci := 0) zc9_0 c73 ⟨by omega, by omega⟩ rfl (Nat.le_of_ble_eq_true rfl) dX1_atom_19 rfl) (fun k9 σ9 h => z_prop hX h (fun x hx => nomatch hx)) (fun r74 σ75 h => ?_)
    refine z_astore_n (L' := [(0, zA (some o)), (1, zA (some a2)), (2, zA r74)]) hX rfl rfl (by decide) dX1_atom_22 (z_aload_n hX 1 rfl rfl dX1_atom_23 ?_)
    obtain ⟨c76, h⟩ := z_ck h
    refine z_cNU hX (rest := []) h (fun r9 σ9 e9 => z_runV hX lk_X1_233 (c_X3_comesUp hX.tr e9) (ci := 2) zc9_2 c76 ⟨by omega, by omega⟩ rfl (Nat.le_of_ble_eq_true rfl) dX1_atom_24 rfl) (fun _ σ78 h => ?_)
    refine z_aload_n hX 1 rfl rfl dX1_atom_27 (z_bipush hX (v := 41) (by decide) dX1_atom_28 ?_)
    obtain ⟨c79, h⟩ := z_ck h
    refine z_cNI hX (rest := []) h (fun r9 σ9 e9 => z_runV hX lk_X1_173 (c_X3_sign hX.tr e9) (ci := 2) zc9_2 c79 ⟨by omega, by omega⟩ rfl (Nat.le_of_ble_eq_true rfl) dX1_atom_30 rfl) (fun x80 σ81 h => ?_)
    refine z_if_ne (tgt := 41) hX h dX1_atom_33 (by decide) (fun h => ?_) (fun h => ?_)
    · refine z_aload_n hX 2 rfl rfl dX1_atom_41 ?_
      obtain rfl := Option.some.inj h
      exact z_aret hX (Or.inl ⟨_, rfl⟩) dX1_atom_42
    · refine z_aload_n hX 1 rfl rfl dX1_atom_36 ?_
      obtain ⟨c82, h⟩ := z_ck h
      refine z_cNA hX (rest := []) h (fun r9 σ9 e9 => z_runV hX lk_X1_65 (c_X3_wrong hX.tr e9) (ci := 2) zc9_2 c82 ⟨by omega, by omega⟩ rfl (Nat.le_of_ble_eq_true rfl) dX1_atom_37 rfl) (fun r83 σ84 h => ?_)
      obtain ⟨a85, e9, k_a85⟩ := z_nn h
      subst e9
      have h := k_a85
      refine z_athrow hX (k := 5) (ci := 9) rfl h dX1_atom_40 (fun h => ?_)
      obtain rfl := Option.some.inj h
      exact z_out hX (fun x hx => nomatch hx)

theorem c_X1_atom {l : Launch} {D : va_G} {tys : zTy} (hl : l.stackTraces = false) {ra : Nat → zS → Option (((Option Nat) ⊕ Nat) × zS)} {f9 w9 : Nat} {o : Nat} (hra : zRA_X1_atom l D tys ra f9 w9) {σ : zS} {Rt : ((Option Nat) ⊕ Nat) × zS} (h : f_X1_atom ra o σ = some Rt) : zM l D tys yX1_atom (ws_ yX1_atom cX1_atom 6 (Option.some (Jvm.ClassFile.FieldType.object "StepDebts$Cond"))) (f9 + 17) (w9 + 327) [zA (some o)] σ (zot eA Rt.1) Rt.2 :=
  zM_in hl rfl (Nat.le_of_ble_eq_true rfl) (fun p e R s m args below meth c hX => z_L rfl (s_X1_atom hX hra h))
def f_X1_atomD : Nat → Nat → zS → Option (((Option Nat) ⊕ Nat) × zS)
  | 0 => fun _ _ => none
  | n + 1 => fun o σ => f_X1_atom (f_X1_atomD n) o σ
theorem c_X1_atomD {l : Launch} {D : va_G} {tys : zTy} (hl : l.stackTraces = false) : ∀ n : Nat, zRA_X1_atom l D tys (f_X1_atomD n) (17 * n) (327 * n)
  | 0 => fun _ _ _ h => nomatch h
  | n + 1 => fun _ _ _ h => c_X1_atom hl (c_X1_atomD hl n) h
def f_X13_init (o : Nat) (p1 : Int32) (p2 : Option Nat) (σ : zS) : Option (Unit × zS) :=
  (pI σ o 12 0 p1).bind fun σ1 =>
  (pR σ1 o 12 1 p2).bind fun σ2 =>
  some ((), σ2)

set_option maxHeartbeats 4000000 in
theorem s_X13_init {X : zX} (hX : zOk X RX13 cX13_init 3 1 40 (Option.none : Option Jvm.ClassFile.FieldType) "<init>" []) {o : Nat} {p1 : Int32} {p2 : Option Nat} {σ : zS} {Rt : Unit × zS} (h : f_X13_init o p1 p2 σ = some Rt) : zG X (zQ X (.inl (eU Rt.1)) Rt.2) 3 0 [(0, zA (some o)), (1, zI p1), (2, zA p2)] [] σ := by
  unfold f_X13_init at h
  refine z_aload_n hX 0 rfl rfl dX13_init_0 (z_objInit hX q1368 (Nat.le_of_ble_eq_true rfl) (Nat.le_of_ble_eq_true rfl) (Nat.le_of_ble_eq_true rfl) dX13_init_1 (z_aload_n hX 0 rfl rfl dX13_init_4 (z_iload_n hX 1 rfl rfl dX13_init_5 ?_)))
  refine z_putI hX fp_X13_7_12 (fun _ => rfl) h dX13_init_6 (fun σ1 h => ?_)
  refine z_aload_n hX 0 rfl rfl dX13_init_9 (z_aload_n hX 2 rfl rfl dX13_init_10 ?_)
  refine z_putR hX fp_X13_13_12 (Or.inl ⟨_, rfl⟩) (fun _ => rfl) h dX13_init_11 (fun σ2 h => ?_)
  obtain rfl := Option.some.inj h
  exact z_vret hX dX13_init_14

theorem c_X13_init {l : Launch} {D : va_G} {tys : zTy} (hl : l.stackTraces = false) {o : Nat} {p1 : Int32} {p2 : Option Nat} {σ : zS} {Rt : Unit × zS} (h : f_X13_init o p1 p2 σ = some Rt) : zM l D tys yX13_init (ws_ yX13_init cX13_init 3 (Option.none : Option Jvm.ClassFile.FieldType)) 1 40 [zA (some o), zI p1, zA p2] σ (.inl (eU Rt.1)) Rt.2 :=
  zM_in hl rfl (Nat.le_of_ble_eq_true rfl) (fun p e R s m args below meth c hX => z_L rfl (s_X13_init hX h))
def f_X1_lawLine_61 (o : Nat) (t0 : Option Nat) (t1 : Option Nat) (t2 : Int32) (t3 : Option Nat) (σ : zS) : Option (((Option Nat) ⊕ Nat) × zS) :=
  t1.bind fun a24 =>
  zb2 (f_X13_init a24 t2 t3 σ) fun _ σ26 =>
  some (.inl t0, σ26)

set_option maxHeartbeats 4000000 in
theorem s_X1_lawLine_61 {X : zX} (hX : zOk X RX1 cX1_lawLine 2 170 3270 (Option.some (Jvm.ClassFile.FieldType.object "StepDebts$Line")) "lawLine" []) {o : Nat} {Rt : ((Option Nat) ⊕ Nat) × zS} {t0 : Option Nat} {t1 : Option Nat} {t2 : Int32} {t3 : Option Nat} {σ : zS} (h : f_X1_lawLine_61 o t0 t1 t2 t3 σ = some Rt) : zG X (zQ X (zot eA Rt.1) Rt.2) 2 61 [] [zA t3, zI t2, zA t1, zA t0] σ := by
  unfold f_X1_lawLine_61 at h
  obtain ⟨a24, e9, k_a24⟩ := z_nn h
  subst e9
  have h := k_a24
  refine z_cNU hX (rest := [zA t0]) h (fun r9 σ9 e9 => z_runI hX lk_X1_288 (c_X13_init hX.tr e9) ⟨Nat.le_of_ble_eq_true rfl, Nat.le_of_ble_eq_true rfl⟩ rfl (Nat.le_of_ble_eq_true rfl) dX1_lawLine_61 rfl) (fun _ σ26 h => ?_)
  obtain rfl := Option.some.inj h
  exact z_aret hX (Or.inl ⟨_, rfl⟩) dX1_lawLine_64

def f_X1_lawLine (o : Nat) (σ : zS) : Option (((Option Nat) ⊕ Nat) × zS) :=
  (gR σ o 0 2).bind fun r1 =>
  r1.bind fun a2 =>
  zif (zcl σ a2 = 2) <|
  zb2 (f_X3_word a2 σ) fun r4 σ5 =>
  (zk σ5 112).bind fun a6 =>
  r4.bind fun a7 =>
  zif (zcl σ5 a7 = 21) <|
  zb2 (f_J10_equals a7 (some a6) σ5) fun x9 σ10 =>
  if ¬ x9 = 0 then
    (gR σ10 o 0 2).bind fun r11 =>
    r11.bind fun a12 =>
    zif (zcl σ10 a12 = 2) <|
    zbt (f_X3_number a12 0 99 σ10) (fun k9 σ9 => some (.inr k9, σ9)) fun x14 σ15 =>
    zb2 (znewO σ15 12 [.int 0, .null]) fun a16 σ17 =>
    (gR σ17 o 0 2).bind fun r18 =>
    (zk σ17 113).bind fun a19 =>
    r18.bind fun a20 =>
    zif (zcl σ17 a20 = 2) <|
    zb2 (f_X3_passes a20 (some a19) σ17) fun x22 σ23 =>
    if x22 = 0 then
      f_X1_lawLine_61 o  (some a16) (some a16) x14 none σ23
    else
      zif (zcl σ23 o = 0) <|
      zbt (f_X1_cond (f_X1_atomD 9) o σ23) (fun k9 σ9 => some (.inr k9, σ9)) fun r28 σ29 =>
      f_X1_lawLine_61 o  (some a16) (some a16) x14 r28 σ29
  else
    (gR σ10 o 0 2).bind fun r30 =>
    r30.bind fun a31 =>
    zif (zcl σ10 a31 = 2) <|
    zb2 (f_X3_wrong a31 σ10) fun r33 σ34 =>
    r33.bind fun a35 =>
    zif (zcl σ34 a35 = 9) <| some (.inr 5, σ34)

set_option maxHeartbeats 4000000 in
theorem s_X1_lawLine {X : zX} (hX : zOk X RX1 cX1_lawLine 2 170 3270 (Option.some (Jvm.ClassFile.FieldType.object "StepDebts$Line")) "lawLine" []) {o : Nat} {σ : zS} {Rt : ((Option Nat) ⊕ Nat) × zS} (h : f_X1_lawLine o σ = some Rt) : zG X (zQ X (zot eA Rt.1) Rt.2) 2 0 [(0, zA (some o))] [] σ := by
  unfold f_X1_lawLine at h
  refine z_aload_n hX 0 rfl rfl dX1_lawLine_0 ?_
  refine z_getR hX fl_X1_19_0 h dX1_lawLine_1 (fun r1 h => ?_)
  obtain ⟨a2, e9, k_a2⟩ := z_nn h
  subst e9
  have h := k_a2
  obtain ⟨c3, h⟩ := z_ck h
  refine z_cNA hX (rest := []) h (fun r9 σ9 e9 => z_runV hX lk_X1_73 (c_X3_word hX.tr e9) (ci := 2) zc9_2 c3 ⟨Nat.le_of_ble_eq_true rfl, Nat.le_of_ble_eq_true rfl⟩ rfl (Nat.le_of_ble_eq_true rfl) dX1_lawLine_4 rfl) (fun r4 σ5 h => ?_)
  refine z_ldcSw hX st_X1_282 h dX1_lawLine_7 (fun a6 _ h => ?_)
  obtain ⟨a7, e9, k_a7⟩ := z_nn h
  subst e9
  have h := k_a7
  obtain ⟨c8, h⟩ := z_ck h
  refine z_cNI hX (rest := []) h (fun r9 σ9 e9 => z_runV hX lk_X1_79 (c_J10_equals hX.tr e9) (ci := 21) zc9_21 c8 ⟨Nat.le_of_ble_eq_true rfl, Nat.le_of_ble_eq_true rfl⟩ rfl (Nat.le_of_ble_eq_true rfl) dX1_lawLine_10 rfl) (fun x9 σ10 h => ?_)
  refine z_if_ne (tgt := 24) hX h dX1_lawLine_13 (by decide) (fun h => ?_) (fun h => ?_)
  · refine z_aload_n hX 0 rfl rfl dX1_lawLine_24 ?_
    refine z_getR hX fl_X1_19_0 h dX1_lawLine_25 (fun r11 h => ?_)
    refine z_iconst hX (v := 0) (by decide) dX1_lawLine_28 (z_bipush hX (v := 99) (by decide) dX1_lawLine_29 ?_)
    obtain ⟨a12, e9, k_a12⟩ := z_nn h
    subst e9
    have h := k_a12
    obtain ⟨c13, h⟩ := z_ck h
    refine z_cTI hX (rest := []) h (fun r9 σ9 e9 => z_runV hX lk_X1_69 (c_X3_number hX.tr e9) (ci := 2) zc9_2 c13 ⟨Nat.le_of_ble_eq_true rfl, Nat.le_of_ble_eq_true rfl⟩ rfl (Nat.le_of_ble_eq_true rfl) dX1_lawLine_31 rfl) (fun k9 σ9 h => z_prop hX h (fun x hx => nomatch hx)) (fun x14 σ15 h => ?_)
    refine z_istore_n (L' := [(0, zA (some o)), (1, zI x14)]) hX rfl rfl (by decide) dX1_lawLine_34 ?_
    refine z_new hX ne_X1_284 h dX1_lawLine_35 (fun a16 σ17 h => ?_)
    refine z_dup hX rfl dX1_lawLine_38 (z_iload_n hX 1 rfl rfl dX1_lawLine_39 (z_aload_n hX 0 rfl rfl dX1_lawLine_40 ?_))
    refine z_getR hX fl_X1_19_0 h dX1_lawLine_41 (fun r18 h => ?_)
    refine z_ldcSw hX st_X1_286 h dX1_lawLine_44 (fun a19 _ h => ?_)
    obtain ⟨a20, e9, k_a20⟩ := z_nn h
    subst e9
    have h := k_a20
    obtain ⟨c21, h⟩ := z_ck h
    refine z_cNI hX (rest := [zI x14, zA (some a16), zA (some a16)]) h (fun r9 σ9 e9 => z_runV hX lk_X1_92 (c_X3_passes hX.tr e9) (ci := 2) zc9_2 c21 ⟨Nat.le_of_ble_eq_true rfl, Nat.le_of_ble_eq_true rfl⟩ rfl (Nat.le_of_ble_eq_true rfl) dX1_lawLine_47 rfl) (fun x22 σ23 h => ?_)
    refine z_if_eq (tgt := 60) hX h dX1_lawLine_50 (by decide) (fun h => ?_) (fun h => ?_)
    · refine z_null hX dX1_lawLine_60 ?_
      exact z_sub [] rfl (s_X1_lawLine_61 (o := o) hX  h)
    · refine z_aload_n hX 0 rfl rfl dX1_lawLine_53 ?_
      obtain ⟨c27, h⟩ := z_ck h
      refine z_cTA hX (rest := [zI x14, zA (some a16), zA (some a16)]) h (fun r9 σ9 e9 => z_runV hX lk_X1_229 (c_X1_cond hX.tr (c_X1_atomD hX.tr 9) e9) (ci := 0) zc9_0 c27 ⟨Nat.le_of_ble_eq_true rfl, Nat.le_of_ble_eq_true rfl⟩ rfl (Nat.le_of_ble_eq_true rfl) dX1_lawLine_54 rfl) (fun k9 σ9 h => z_prop hX h (fun x hx => nomatch hx)) (fun r28 σ29 h => ?_)
      refine z_goto (tgt := 61) hX dX1_lawLine_57 (by decide) ?_
      exact z_sub [] rfl (s_X1_lawLine_61 (o := o) hX  h)
  · refine z_aload_n hX 0 rfl rfl dX1_lawLine_16 ?_
    refine z_getR hX fl_X1_19_0 h dX1_lawLine_17 (fun r30 h => ?_)
    obtain ⟨a31, e9, k_a31⟩ := z_nn h
    subst e9
    have h := k_a31
    obtain ⟨c32, h⟩ := z_ck h
    refine z_cNA hX (rest := []) h (fun r9 σ9 e9 => z_runV hX lk_X1_65 (c_X3_wrong hX.tr e9) (ci := 2) zc9_2 c32 ⟨Nat.le_of_ble_eq_true rfl, Nat.le_of_ble_eq_true rfl⟩ rfl (Nat.le_of_ble_eq_true rfl) dX1_lawLine_20 rfl) (fun r33 σ34 h => ?_)
    obtain ⟨a35, e9, k_a35⟩ := z_nn h
    subst e9
    have h := k_a35
    refine z_athrow hX (k := 5) (ci := 9) rfl h dX1_lawLine_23 (fun h => ?_)
    obtain rfl := Option.some.inj h
    exact z_out hX (fun x hx => nomatch hx)

theorem c_X1_lawLine {l : Launch} {D : va_G} {tys : zTy} (hl : l.stackTraces = false) {o : Nat} {σ : zS} {Rt : ((Option Nat) ⊕ Nat) × zS} (h : f_X1_lawLine o σ = some Rt) : zM l D tys yX1_lawLine (ws_ yX1_lawLine cX1_lawLine 2 (Option.some (Jvm.ClassFile.FieldType.object "StepDebts$Line"))) 170 3270 [zA (some o)] σ (zot eA Rt.1) Rt.2 :=
  zM_in hl rfl (Nat.le_of_ble_eq_true rfl) (fun p e R s m args below meth c hX => z_L rfl (s_X1_lawLine hX h))
def f_X1_lawText_20_b (o : Nat) (v1 : Option Nat) (rec20 : zS → Option (((Option Nat) ⊕ Nat) × zS)) (σ : zS) : Option (((Option Nat) ⊕ Nat) × zS) :=
  v1.bind fun a10 =>
  (gR σ a10 11 0).bind fun r11 =>
  r11.bind fun a12 =>
  zif (zcl σ a12 = 19) <|
  zb2 (f_J2_size a12 σ) fun x14 σ15 =>
  zif (zcl σ15 o = 0) <|
  zbt (f_X1_noMore o x14 12 σ15) (fun k9 σ9 => some (.inr k9, σ9)) fun _ σ18 =>
  (gR σ18 a10 11 0).bind fun r19 =>
  zif (zcl σ18 o = 0) <|
  zbt (f_X1_lawLine o σ18) (fun k9 σ9 => some (.inr k9, σ9)) fun r21 σ22 =>
  r19.bind fun a23 =>
  zif (zcl σ22 a23 = 19) <|
  zb2 (f_J2_add a23 r21 σ22) fun x25 σ26 =>
  zif (zcl σ26 o = 0) <|
  zbt (f_X1_goesOn o σ26) (fun k9 σ9 => some (.inr k9, σ9)) fun x28 σ29 =>
  if ¬ x28 = 0 then
    rec20 σ29
  else
    some (.inl (some a10), σ29)

def f_X1_lawText_20 (o : Nat) (v1 : Option Nat) : zS → Option (((Option Nat) ⊕ Nat) × zS) := zlp0 (f_X1_lawText_20_b o v1) NN
set_option maxHeartbeats 4000000 in
theorem s_X1_lawText_20_b {X : zX} (hX : zOk X RX1 cX1_lawText 2 171 3291 (Option.some (Jvm.ClassFile.FieldType.object "StepDebts$Law")) "lawText" []) {o : Nat} {Rt : ((Option Nat) ⊕ Nat) × zS} {v1 : Option Nat} {rec20 : zS → Option (((Option Nat) ⊕ Nat) × zS)} (hrec20 : ∀ (σ : zS), rec20 σ = some Rt → zG X (zQ X (zot eA Rt.1) Rt.2) 2 20 [(0, zA (some o)), (1, zA v1)] [] σ) {σ : zS} (h : f_X1_lawText_20_b o v1 rec20 σ = some Rt) : zG X (zQ X (zot eA Rt.1) Rt.2) 2 20 [(0, zA (some o)), (1, zA v1)] [] σ := by
  unfold f_X1_lawText_20_b at h
  refine z_aload_n hX 0 rfl rfl dX1_lawText_20 (z_aload_n hX 1 rfl rfl dX1_lawText_21 ?_)
  obtain ⟨a10, e9, k_a10⟩ := z_nn h
  subst e9
  have h := k_a10
  refine z_getR hX fl_X1_294_11 h dX1_lawText_22 (fun r11 h => ?_)
  obtain ⟨a12, e9, k_a12⟩ := z_nn h
  subst e9
  have h := k_a12
  obtain ⟨c13, h⟩ := z_ck h
  refine z_cNI hX (rest := [zA (some o)]) h (fun r9 σ9 e9 => z_runV hX lk_X1_59 (c_J2_size hX.tr e9) (ci := 19) zc9_19 c13 ⟨Nat.le_of_ble_eq_true rfl, Nat.le_of_ble_eq_true rfl⟩ rfl (Nat.le_of_ble_eq_true rfl) dX1_lawText_25 rfl) (fun x14 σ15 h => ?_)
  refine z_bipush hX (v := 12) (by decide) dX1_lawText_28 ?_
  obtain ⟨c16, h⟩ := z_ck h
  refine z_cTU hX (rest := []) h (fun r9 σ9 e9 => z_runV hX lk_X1_164 (c_X1_noMore hX.tr e9) (ci := 0) zc9_0 c16 ⟨Nat.le_of_ble_eq_true rfl, Nat.le_of_ble_eq_true rfl⟩ rfl (Nat.le_of_ble_eq_true rfl) dX1_lawText_30 rfl) (fun k9 σ9 h => z_prop hX h (fun x hx => nomatch hx)) (fun _ σ18 h => ?_)
  refine z_aload_n hX 1 rfl rfl dX1_lawText_33 ?_
  refine z_getR hX fl_X1_294_11 h dX1_lawText_34 (fun r19 h => ?_)
  refine z_aload_n hX 0 rfl rfl dX1_lawText_37 ?_
  obtain ⟨c20, h⟩ := z_ck h
  refine z_cTA hX (rest := [zA r19]) h (fun r9 σ9 e9 => z_runV hX lk_X1_297 (c_X1_lawLine hX.tr e9) (ci := 0) zc9_0 c20 ⟨Nat.le_of_ble_eq_true rfl, Nat.le_of_ble_eq_true rfl⟩ rfl (Nat.le_of_ble_eq_true rfl) dX1_lawText_38 rfl) (fun k9 σ9 h => z_prop hX h (fun x hx => nomatch hx)) (fun r21 σ22 h => ?_)
  obtain ⟨a23, e9, k_a23⟩ := z_nn h
  subst e9
  have h := k_a23
  obtain ⟨c24, h⟩ := z_ck h
  refine z_cNI hX (rest := []) h (fun r9 σ9 e9 => z_runV hX lk_X1_99 (c_J2_add hX.tr e9) (ci := 19) zc9_19 c24 ⟨Nat.le_of_ble_eq_true rfl, Nat.le_of_ble_eq_true rfl⟩ rfl (Nat.le_of_ble_eq_true rfl) dX1_lawText_41 rfl) (fun x25 σ26 h => ?_)
  refine z_pop hX rfl dX1_lawText_44 (z_aload_n hX 0 rfl rfl dX1_lawText_45 ?_)
  obtain ⟨c27, h⟩ := z_ck h
  refine z_cTI hX (rest := []) h (fun r9 σ9 e9 => z_runV hX lk_X1_170 (c_X1_goesOn hX.tr e9) (ci := 0) zc9_0 c27 ⟨Nat.le_of_ble_eq_true rfl, Nat.le_of_ble_eq_true rfl⟩ rfl (Nat.le_of_ble_eq_true rfl) dX1_lawText_46 rfl) (fun k9 σ9 h => z_prop hX h (fun x hx => nomatch hx)) (fun x28 σ29 h => ?_)
  refine z_if_ne (tgt := 20) hX h dX1_lawText_49 (by decide) (fun h => ?_) (fun h => ?_)
  · exact z_sub [0, 1] rfl (hrec20  _ h)
  · refine z_aload_n hX 1 rfl rfl dX1_lawText_52 ?_
    obtain rfl := Option.some.inj h
    exact z_aret hX (Or.inl ⟨_, rfl⟩) dX1_lawText_53

theorem s_X1_lawText_20 {X : zX} (hX : zOk X RX1 cX1_lawText 2 171 3291 (Option.some (Jvm.ClassFile.FieldType.object "StepDebts$Law")) "lawText" []) {o : Nat} {Rt : ((Option Nat) ⊕ Nat) × zS} {v1 : Option Nat} {σ : zS} (h : f_X1_lawText_20 o v1 σ = some Rt) : zG X (zQ X (zot eA Rt.1) Rt.2) 2 20 [(0, zA (some o)), (1, zA v1)] [] σ :=
  zlp0_ok (P := fun σ => zG X (zQ X (zot eA Rt.1) Rt.2) 2 20 [(0, zA (some o)), (1, zA v1)] [] σ) (fun rec hr σ h => s_X1_lawText_20_b (o := o) hX hr h) NN σ h
def f_X1_lawText (o : Nat) (σ : zS) : Option (((Option Nat) ⊕ Nat) × zS) :=
  zb2 (znewO σ 11 [.null]) fun a1 σ2 =>
  zb2 (f_X12_init a1 σ2) fun _ σ4 =>
  (gR σ4 o 0 2).bind fun r5 =>
  r5.bind fun a6 =>
  zif (zcl σ4 a6 = 2) <|
  zb2 (f_X3_isOver a6 σ4) fun x8 σ9 =>
  if x8 = 0 then
    f_X1_lawText_20 o (some a1) σ9
  else
    some (.inl (some a1), σ9)

set_option maxHeartbeats 4000000 in
theorem s_X1_lawText {X : zX} (hX : zOk X RX1 cX1_lawText 2 171 3291 (Option.some (Jvm.ClassFile.FieldType.object "StepDebts$Law")) "lawText" []) {o : Nat} {σ : zS} {Rt : ((Option Nat) ⊕ Nat) × zS} (h : f_X1_lawText o σ = some Rt) : zG X (zQ X (zot eA Rt.1) Rt.2) 2 0 [(0, zA (some o))] [] σ := by
  unfold f_X1_lawText at h
  refine z_new hX ne_X1_291 h dX1_lawText_0 (fun a1 σ2 h => ?_)
  refine z_dup hX rfl dX1_lawText_3 ?_
  refine z_cNU hX (rest := [zA (some a1)]) h (fun r9 σ9 e9 => z_runIN hX lk_X1_293 (c_X12_init hX.tr e9) ⟨Nat.le_of_ble_eq_true rfl, Nat.le_of_ble_eq_true rfl⟩ rfl (Nat.le_of_ble_eq_true rfl) dX1_lawText_4 rfl) (fun _ σ4 h => ?_)
  refine z_astore_n (L' := [(0, zA (some o)), (1, zA (some a1))]) hX rfl rfl (by decide) dX1_lawText_7 (z_aload_n hX 0 rfl rfl dX1_lawText_8 ?_)
  refine z_getR hX fl_X1_19_0 h dX1_lawText_9 (fun r5 h => ?_)
  obtain ⟨a6, e9, k_a6⟩ := z_nn h
  subst e9
  have h := k_a6
  obtain ⟨c7, h⟩ := z_ck h
  refine z_cNI hX (rest := []) h (fun r9 σ9 e9 => z_runV hX lk_X1_160 (c_X3_isOver hX.tr e9) (ci := 2) zc9_2 c7 ⟨Nat.le_of_ble_eq_true rfl, Nat.le_of_ble_eq_true rfl⟩ rfl (Nat.le_of_ble_eq_true rfl) dX1_lawText_12 rfl) (fun x8 σ9 h => ?_)
  refine z_if_eq (tgt := 20) hX h dX1_lawText_15 (by decide) (fun h => ?_) (fun h => ?_)
  · exact z_sub [0, 1] rfl (s_X1_lawText_20 (o := o) hX  h)
  · refine z_aload_n hX 1 rfl rfl dX1_lawText_18 ?_
    obtain rfl := Option.some.inj h
    exact z_aret hX (Or.inl ⟨_, rfl⟩) dX1_lawText_19

theorem c_X1_lawText {l : Launch} {D : va_G} {tys : zTy} (hl : l.stackTraces = false) {o : Nat} {σ : zS} {Rt : ((Option Nat) ⊕ Nat) × zS} (h : f_X1_lawText o σ = some Rt) : zM l D tys yX1_lawText (ws_ yX1_lawText cX1_lawText 2 (Option.some (Jvm.ClassFile.FieldType.object "StepDebts$Law"))) 171 3291 [zA (some o)] σ (zot eA Rt.1) Rt.2 :=
  zM_in hl rfl (Nat.le_of_ble_eq_true rfl) (fun p e R s m args below meth c hX => z_L rfl (s_X1_lawText hX h))
def f_X1_law_34 (o : Nat) (σ : zS) : Option ((Int32 ⊕ Nat) × zS) :=
  (gR σ o 0 0).bind fun r13 =>
  r13.bind fun a14 =>
  (gR σ a14 1 12).bind fun r15 =>
  r15.bind fun a16 =>
  (gR σ a16 11 0).bind fun r17 =>
  r17.bind fun a18 =>
  zif (zcl σ a18 = 19) <|
  zb2 (f_J2_size a18 σ) fun x20 σ21 =>
  some (.inl x20, σ21)

set_option maxHeartbeats 4000000 in
theorem s_X1_law_34 {X : zX} (hX : zOk X RX1 cX1_law 2 172 3312 (Option.some Jvm.ClassFile.FieldType.int) "law" (tableOf [(7, 26, 29, 192)])) {o : Nat} {Rt : (Int32 ⊕ Nat) × zS} {σ : zS} (h : f_X1_law_34 o σ = some Rt) : zG X (zQ X (zot eI Rt.1) Rt.2) 2 34 [(0, zA (some o))] [] σ := by
  unfold f_X1_law_34 at h
  refine z_aload_n hX 0 rfl rfl dX1_law_34 ?_
  refine z_getR hX fl_X1_10_0 h dX1_law_35 (fun r13 h => ?_)
  obtain ⟨a14, e9, k_a14⟩ := z_nn h
  subst e9
  have h := k_a14
  refine z_getR hX fl_X1_305_1 h dX1_law_38 (fun r15 h => ?_)
  obtain ⟨a16, e9, k_a16⟩ := z_nn h
  subst e9
  have h := k_a16
  refine z_getR hX fl_X1_294_11 h dX1_law_41 (fun r17 h => ?_)
  obtain ⟨a18, e9, k_a18⟩ := z_nn h
  subst e9
  have h := k_a18
  obtain ⟨c19, h⟩ := z_ck h
  refine z_cNI hX (rest := []) h (fun r9 σ9 e9 => z_runV hX lk_X1_59 (c_J2_size hX.tr e9) (ci := 19) zc9_19 c19 ⟨Nat.le_of_ble_eq_true rfl, Nat.le_of_ble_eq_true rfl⟩ rfl (Nat.le_of_ble_eq_true rfl) dX1_law_44 rfl) (fun x20 σ21 h => ?_)
  obtain rfl := Option.some.inj h
  exact z_iret hX dX1_law_47

def f_X1_law (o : Nat) (σ : zS) : Option ((Int32 ⊕ Nat) × zS) :=
  (gR σ o 0 2).bind fun r1 =>
  r1.bind fun a2 =>
  zif (zcl σ a2 = 2) <|
  zb2 (f_X3_begins a2 σ) fun _ σ5 =>
  (gR σ5 o 0 0).bind fun r6 =>
  zif (zcl σ5 o = 0) <|
  zbt (f_X1_lawText o σ5) (fun k9 σ9 =>
    if k9 = 5 then
      zif (zcl σ9 o = 0) <|
      zbt (f_X1_fails o σ9) (fun k9 σ9 => some (.inr k9, σ9)) fun _ σ12 =>
      f_X1_law_34 o σ12
    else
    none
  ) fun r8 σ9 =>
  r6.bind fun a22 =>
  (pR σ9 a22 1 12 r8).bind fun σ23 =>
  (gR σ23 o 0 2).bind fun r24 =>
  r24.bind fun a25 =>
  (pI σ23 a25 2 5 (-1)).bind fun σ26 =>
  f_X1_law_34 o σ26

set_option maxHeartbeats 4000000 in
theorem s_X1_law {X : zX} (hX : zOk X RX1 cX1_law 2 172 3312 (Option.some Jvm.ClassFile.FieldType.int) "law" (tableOf [(7, 26, 29, 192)])) {o : Nat} {σ : zS} {Rt : (Int32 ⊕ Nat) × zS} (h : f_X1_law o σ = some Rt) : zG X (zQ X (zot eI Rt.1) Rt.2) 2 0 [(0, zA (some o))] [] σ := by
  unfold f_X1_law at h
  refine z_aload_n hX 0 rfl rfl dX1_law_0 ?_
  refine z_getR hX fl_X1_19_0 h dX1_law_1 (fun r1 h => ?_)
  obtain ⟨a2, e9, k_a2⟩ := z_nn h
  subst e9
  have h := k_a2
  obtain ⟨c3, h⟩ := z_ck h
  refine z_cNU hX (rest := []) h (fun r9 σ9 e9 => z_runV hX lk_X1_182 (c_X3_begins hX.tr e9) (ci := 2) zc9_2 c3 ⟨Nat.le_of_ble_eq_true rfl, Nat.le_of_ble_eq_true rfl⟩ rfl (Nat.le_of_ble_eq_true rfl) dX1_law_4 rfl) (fun _ σ5 h => ?_)
  refine z_aload_n hX 0 rfl rfl dX1_law_7 ?_
  refine z_getR hX fl_X1_10_0 h dX1_law_8 (fun r6 h => ?_)
  refine z_aload_n hX 0 rfl rfl dX1_law_11 ?_
  obtain ⟨c7, h⟩ := z_ck h
  refine z_cTA hX (rest := [zA r6]) h (fun r9 σ9 e9 => z_runV hX lk_X1_301 (c_X1_lawText hX.tr e9) (ci := 0) zc9_0 c7 ⟨Nat.le_of_ble_eq_true rfl, Nat.le_of_ble_eq_true rfl⟩ rfl (Nat.le_of_ble_eq_true rfl) dX1_law_12 rfl) (fun k9 σ9 h => ?_) (fun r8 σ9 h => ?_)
  · rcases z_ite h with ⟨e9, k_σ9_5⟩ | ⟨-, h⟩
    · subst e9
      have h := k_σ9_5
      refine z_catch hX (k := 5) (nmC := "StepDebts$Wrong") [] ⟨7, 26, 29, 192⟩ [] rfl (fun z hz => nomatch hz) rfl (by decide) q653 (zNw_of q1008 rfl) (fun q9 => ?_)
      refine z_astore_n (L' := [(0, zA (some o)), (1, zA (some q9))]) hX rfl rfl (by decide) dX1_law_29 (z_aload_n hX 0 rfl rfl dX1_law_30 ?_)
      obtain ⟨c10, h⟩ := z_ck h
      refine z_cTU hX (rest := []) h (fun r9 σ9 e9 => z_runV hX lk_X1_194 (c_X1_fails hX.tr e9) (ci := 0) zc9_0 c10 ⟨Nat.le_of_ble_eq_true rfl, Nat.le_of_ble_eq_true rfl⟩ rfl (Nat.le_of_ble_eq_true rfl) dX1_law_31 rfl) (fun k9 σ9 h => z_prop hX h (by decide)) (fun _ σ12 h => ?_)
      exact z_sub [0] rfl (s_X1_law_34 (o := o) hX  h)
    cases h
  obtain ⟨a22, e9, k_a22⟩ := z_nn h
  subst e9
  have h := k_a22
  refine z_putR hX fp_X1_305_1 (Or.inl ⟨_, rfl⟩) (fun h => nomatch h) h dX1_law_15 (fun σ23 h => ?_)
  refine z_aload_n hX 0 rfl rfl dX1_law_18 ?_
  refine z_getR hX fl_X1_19_0 h dX1_law_19 (fun r24 h => ?_)
  refine z_iconst hX (v := (-1)) (by decide) dX1_law_22 ?_
  obtain ⟨a25, e9, k_a25⟩ := z_nn h
  subst e9
  have h := k_a25
  refine z_putI hX fp_X1_51_2 (fun h => nomatch h) h dX1_law_23 (fun σ26 h => ?_)
  refine z_goto (tgt := 34) hX dX1_law_26 (by decide) ?_
  exact z_sub [0] rfl (s_X1_law_34 (o := o) hX  h)

theorem c_X1_law {l : Launch} {D : va_G} {tys : zTy} (hl : l.stackTraces = false) {o : Nat} {σ : zS} {Rt : (Int32 ⊕ Nat) × zS} (h : f_X1_law o σ = some Rt) : zM l D tys yX1_law (wsW_ yX1_law cX1_law 2 (Option.some Jvm.ClassFile.FieldType.int) [(7, 26, 29, 192)]) 172 3312 [zA (some o)] σ (zot eI Rt.1) Rt.2 :=
  zM_inW hl rfl (Nat.le_of_ble_eq_true rfl) (fun p e R s m args below meth c hX => z_L rfl (s_X1_law hX h))
def f_X0_law (p1 : Option Nat) (p2 : Option Nat) (σ : zS) : Option (Int32 × zS) :=
  p1.bind fun a1 =>
  zif (zcl σ a1 = 0) <|
  zbt (f_X1_law a1 σ) (fun k9 σ9 =>
    if k9 = 0 then
      some ((1 : Int32), σ9)
    else
    none
  ) fun x3 σ4 =>
  p2.bind fun a5 =>
  (sJ σ4 a5 0 x3.toInt64).bind fun σ6 =>
  some ((0 : Int32), σ6)

set_option maxHeartbeats 4000000 in
theorem s_X0_law {X : zX} (hX : zOk X RX0 cX0_law 3 173 3333 (Option.some Jvm.ClassFile.FieldType.int) "law" (tableOf [(0, 8, 11, 13)])) {p1 : Option Nat} {p2 : Option Nat} {σ : zS} {Rt : Int32 × zS} (h : f_X0_law p1 p2 σ = some Rt) : zG X (zQ X (.inl (eI Rt.1)) Rt.2) 3 0 [(0, zA p1), (1, zA p2)] [] σ := by
  unfold f_X0_law at h
  refine z_aload_n hX 1 rfl rfl dX0_law_0 (z_iconst hX (v := 0) (by decide) dX0_law_1 (z_aload_n hX 0 rfl rfl dX0_law_2 ?_))
  obtain ⟨a1, e9, k_a1⟩ := z_nn h
  subst e9
  have h := k_a1
  obtain ⟨c2, h⟩ := z_ck h
  refine z_cTI hX (rest := [zI 0, zA p2]) h (fun r9 σ9 e9 => z_runVW hX lk_X0_17 (c_X1_law hX.tr e9) (ci := 0) zc9_0 c2 ⟨Nat.le_of_ble_eq_true rfl, Nat.le_of_ble_eq_true rfl⟩ rfl (Nat.le_of_ble_eq_true rfl) dX0_law_3 rfl) (fun k9 σ9 h => ?_) (fun x3 σ4 h => ?_)
  · rcases z_ite h with ⟨e9, k_σ4_0⟩ | ⟨-, h⟩
    · subst e9
      have h := k_σ4_0
      refine z_catch hX (k := 0) (nmC := "java/lang/IllegalArgumentException") [] ⟨0, 8, 11, 13⟩ [] rfl (fun z hz => nomatch hz) rfl (by decide) q647 (zNw_of q832 rfl) (fun q9 => ?_)
      refine z_astore_n (L' := [(0, zA (some a1)), (1, zA p2), (2, zA (some q9))]) hX rfl rfl (by decide) dX0_law_11 (z_iconst hX (v := 1) (by decide) dX0_law_12 ?_)
      obtain rfl := Option.some.inj h
      exact z_iret hX dX0_law_13
    cases h
  refine z_i2l hX dX0_law_6 ?_
  obtain ⟨a5, e9, k_a5⟩ := z_nn h
  subst e9
  have h := k_a5
  refine z_last hX h dX0_law_7 (fun σ6 h => ?_)
  refine z_goto (tgt := 14) hX dX0_law_8 (by decide) (z_iconst hX (v := 0) (by decide) dX0_law_14 ?_)
  obtain rfl := Option.some.inj h
  exact z_iret hX dX0_law_15

theorem c_X0_law {l : Launch} {D : va_G} {tys : zTy} (hl : l.stackTraces = false) {p1 : Option Nat} {p2 : Option Nat} {σ : zS} {Rt : Int32 × zS} (h : f_X0_law p1 p2 σ = some Rt) : zM l D tys yX0_law (wsW_ yX0_law cX0_law 3 (Option.some Jvm.ClassFile.FieldType.int) [(0, 8, 11, 13)]) 173 3333 [zA p1, zA p2] σ (.inl (eI Rt.1)) Rt.2 :=
  zM_inW hl rfl (Nat.le_of_ble_eq_true rfl) (fun p e R s m args below meth c hX => z_L rfl (s_X0_law hX h))
def f_X1_there (p1 : Int32) (p2 : Int32) (σ : zS) : Option ((Unit ⊕ Nat) × zS) :=
  zb2 (f_X1_in p1 0 (p2 - 1) σ) fun x1 σ2 =>
  if ¬ x1 = 0 then
    some (.inl (), σ2)
  else
    (zth σ2).bind fun σ3 =>
    some (.inr 2, σ3)

set_option maxHeartbeats 4000000 in
theorem s_X1_there {X : zX} (hX : zOk X RX1 cX1_there 2 7 110 (Option.none : Option Jvm.ClassFile.FieldType) "there" []) {p1 : Int32} {p2 : Int32} {σ : zS} {Rt : (Unit ⊕ Nat) × zS} (h : f_X1_there p1 p2 σ = some Rt) : zG X (zQ X (zot eU Rt.1) Rt.2) 2 0 [(0, zI p1), (1, zI p2)] [] σ := by
  unfold f_X1_there at h
  refine z_iload_n hX 0 rfl rfl dX1_there_0 (z_iconst hX (v := 0) (by decide) dX1_there_1 (z_iload_n hX 1 rfl rfl dX1_there_2 (z_iconst hX (v := 1) (by decide) dX1_there_3 (z_isub hX dX1_there_4 ?_))))
  refine z_cNI hX (rest := []) h (fun r9 σ9 e9 => z_runS hX lk_X1_347 (c_X1_in hX.tr e9) ⟨Nat.le_of_ble_eq_true rfl, Nat.le_of_ble_eq_true rfl⟩ rfl (Nat.le_of_ble_eq_true rfl) dX1_there_5 rfl) (fun x1 σ2 h => ?_)
  refine z_if_ne (tgt := 19) hX h dX1_there_8 (by decide) (fun h => ?_) (fun h => ?_)
  · obtain rfl := Option.some.inj h
    exact z_vret hX dX1_there_19
  · obtain ⟨σ3, e9, h⟩ := z_bd h
    obtain rfl := Option.some.inj h
    exact z_throw0 hX (k := 2) (by decide +kernel) (by decide +kernel) q1413 q119 th_X1_353_a th_X1_353_b th_X1_353_c (Nat.le_of_ble_eq_true rfl) (Nat.le_of_ble_eq_true rfl) (Nat.le_of_ble_eq_true rfl) (fun x hx => nomatch hx) dX1_there_11 dX1_there_14 dX1_there_15 dX1_there_18 e9

theorem c_X1_there {l : Launch} {D : va_G} {tys : zTy} (hl : l.stackTraces = false) {p1 : Int32} {p2 : Int32} {σ : zS} {Rt : (Unit ⊕ Nat) × zS} (h : f_X1_there p1 p2 σ = some Rt) : zM l D tys yX1_there (ws_ yX1_there cX1_there 2 (Option.none : Option Jvm.ClassFile.FieldType)) 7 110 [zI p1, zI p2] σ (zot eU Rt.1) Rt.2 :=
  zM_in hl rfl (Nat.le_of_ble_eq_true rfl) (fun p e R s m args below meth c hX => z_L rfl (s_X1_there hX h))
def f_X1_houseAt (o : Nat) (p1 : Int32) (σ : zS) : Option ((Unit ⊕ Nat) × zS) :=
  (gR σ o 0 0).bind fun r1 =>
  r1.bind fun a2 =>
  (gI σ a2 1 1).bind fun x3 =>
  zbt (f_X1_there p1 x3 σ) (fun k9 σ9 => some (.inr k9, σ9)) fun _ σ5 =>
  some (.inl (), σ5)

set_option maxHeartbeats 4000000 in
theorem s_X1_houseAt {X : zX} (hX : zOk X RX1 cX1_houseAt 2 8 131 (Option.none : Option Jvm.ClassFile.FieldType) "houseAt" []) {o : Nat} {p1 : Int32} {σ : zS} {Rt : (Unit ⊕ Nat) × zS} (h : f_X1_houseAt o p1 σ = some Rt) : zG X (zQ X (zot eU Rt.1) Rt.2) 2 0 [(0, zA (some o)), (1, zI p1)] [] σ := by
  unfold f_X1_houseAt at h
  refine z_iload_n hX 1 rfl rfl dX1_houseAt_0 (z_aload_n hX 0 rfl rfl dX1_houseAt_1 ?_)
  refine z_getR hX fl_X1_10_0 h dX1_houseAt_2 (fun r1 h => ?_)
  obtain ⟨a2, e9, k_a2⟩ := z_nn h
  subst e9
  have h := k_a2
  refine z_getI hX fl_X1_85_1 h dX1_houseAt_5 (fun x3 h => ?_)
  refine z_cTU hX (rest := []) h (fun r9 σ9 e9 => z_runS hX lk_X1_360 (c_X1_there hX.tr e9) ⟨Nat.le_of_ble_eq_true rfl, Nat.le_of_ble_eq_true rfl⟩ rfl (Nat.le_of_ble_eq_true rfl) dX1_houseAt_8 rfl) (fun k9 σ9 h => z_prop hX h (fun x hx => nomatch hx)) (fun _ σ5 h => ?_)
  obtain rfl := Option.some.inj h
  exact z_vret hX dX1_houseAt_11

theorem c_X1_houseAt {l : Launch} {D : va_G} {tys : zTy} (hl : l.stackTraces = false) {o : Nat} {p1 : Int32} {σ : zS} {Rt : (Unit ⊕ Nat) × zS} (h : f_X1_houseAt o p1 σ = some Rt) : zM l D tys yX1_houseAt (ws_ yX1_houseAt cX1_houseAt 2 (Option.none : Option Jvm.ClassFile.FieldType)) 8 131 [zA (some o), zI p1] σ (zot eU Rt.1) Rt.2 :=
  zM_in hl rfl (Nat.le_of_ble_eq_true rfl) (fun p e R s m args below meth c hX => z_L rfl (s_X1_houseAt hX h))
def f_X1_asked (p1 : Int32) (p2 : Int32) (σ : zS) : Option ((Unit ⊕ Nat) × zS) :=
  zb2 (f_X1_in p1 0 p2 σ) fun x1 σ2 =>
  if ¬ x1 = 0 then
    some (.inl (), σ2)
  else
    (zth σ2).bind fun σ3 =>
    some (.inr 3, σ3)

set_option maxHeartbeats 4000000 in
theorem s_X1_asked {X : zX} (hX : zOk X RX1 cX1_asked 2 7 110 (Option.none : Option Jvm.ClassFile.FieldType) "asked" []) {p1 : Int32} {p2 : Int32} {σ : zS} {Rt : (Unit ⊕ Nat) × zS} (h : f_X1_asked p1 p2 σ = some Rt) : zG X (zQ X (zot eU Rt.1) Rt.2) 2 0 [(0, zI p1), (1, zI p2)] [] σ := by
  unfold f_X1_asked at h
  refine z_iload_n hX 0 rfl rfl dX1_asked_0 (z_iconst hX (v := 0) (by decide) dX1_asked_1 (z_iload_n hX 1 rfl rfl dX1_asked_2 ?_))
  refine z_cNI hX (rest := []) h (fun r9 σ9 e9 => z_runS hX lk_X1_347 (c_X1_in hX.tr e9) ⟨Nat.le_of_ble_eq_true rfl, Nat.le_of_ble_eq_true rfl⟩ rfl (Nat.le_of_ble_eq_true rfl) dX1_asked_3 rfl) (fun x1 σ2 h => ?_)
  refine z_if_ne (tgt := 17) hX h dX1_asked_6 (by decide) (fun h => ?_) (fun h => ?_)
  · obtain rfl := Option.some.inj h
    exact z_vret hX dX1_asked_17
  · obtain ⟨σ3, e9, h⟩ := z_bd h
    obtain rfl := Option.some.inj h
    exact z_throw0 hX (k := 3) (by decide +kernel) (by decide +kernel) q1431 q121 th_X1_359_a th_X1_359_b th_X1_359_c (Nat.le_of_ble_eq_true rfl) (Nat.le_of_ble_eq_true rfl) (Nat.le_of_ble_eq_true rfl) (fun x hx => nomatch hx) dX1_asked_9 dX1_asked_12 dX1_asked_13 dX1_asked_16 e9

theorem c_X1_asked {l : Launch} {D : va_G} {tys : zTy} (hl : l.stackTraces = false) {p1 : Int32} {p2 : Int32} {σ : zS} {Rt : (Unit ⊕ Nat) × zS} (h : f_X1_asked p1 p2 σ = some Rt) : zM l D tys yX1_asked (ws_ yX1_asked cX1_asked 2 (Option.none : Option Jvm.ClassFile.FieldType)) 7 110 [zI p1, zI p2] σ (zot eU Rt.1) Rt.2 :=
  zM_in hl rfl (Nat.le_of_ble_eq_true rfl) (fun p e R s m args below meth c hX => z_L rfl (s_X1_asked hX h))
def f_X2_beads_39 (o : Nat) (rec4 : Int32 → Int32 → zS → Option (Int32 × zS)) (v1 : Int32) (v3 : Int32) (t0 : Int32) (t1 : Int32) (σ : zS) : Option (Int32 × zS) :=
  zl (t0 + t1) fun x13 =>
  zl (v3 + 1) fun x14 =>
  rec4 x13 x14 σ

set_option maxHeartbeats 4000000 in
theorem s_X2_beads_39 {X : zX} (hX : zOk X RX2 cX2_beads 4 4 104 (Option.some Jvm.ClassFile.FieldType.int) "beads" []) {o : Nat} {Rt : Int32 × zS} {rec4 : Int32 → Int32 → zS → Option (Int32 × zS)} {v1 : Int32} {v3 : Int32} (hrec4 : ∀ (v2 : Int32) (v3 : Int32) (σ : zS), rec4 v2 v3 σ = some Rt → zG X (zQ X (.inl (eI Rt.1)) Rt.2) 4 4 [(0, zA (some o)), (1, zI v1), (2, zI v2), (3, zI v3)] [] σ) {t0 : Int32} {t1 : Int32} {σ : zS} (h : f_X2_beads_39 o rec4 v1 v3 t0 t1 σ = some Rt) : zG X (zQ X (.inl (eI Rt.1)) Rt.2) 4 39 [(0, zA (some o)), (1, zI v1), (3, zI v3)] [zI t1, zI t0] σ := by
  unfold f_X2_beads_39 at h
  refine z_iadd hX dX2_beads_39 ?_
  refine z_nmI h (fun x13 h => ?_)
  refine z_istore_n (L' := [(0, zA (some o)), (1, zI v1), (2, zI x13), (3, zI v3)]) hX rfl rfl (by decide) dX2_beads_40 ?_
  refine z_iinc hX (j := 3) h rfl (by decide) (by decide) dX2_beads_41 (fun x14 h => z_L (L' := [(0, zA (some o)), (1, zI v1), (2, zI x13), (3, zI x14)]) rfl ?_)
  refine z_goto (tgt := 4) hX dX2_beads_44 (by decide) ?_
  exact z_sub [0, 1, 2, 3] rfl (hrec4 _ _ _ h)

def f_X2_beads_4_b (o : Nat) (v1 : Int32) (rec4 : Int32 → Int32 → zS → Option (Int32 × zS)) (v2 : Int32) (v3 : Int32) (σ : zS) : Option (Int32 × zS) :=
  (gR σ o 1 11).bind fun r1 =>
  r1.bind fun a2 =>
  zif (zcl σ a2 = 19) <|
  zb2 (f_J2_size a2 σ) fun x4 σ5 =>
  if x4 ≤ v3 then
    some (v2, σ5)
  else
    (gR σ5 o 1 11).bind fun r6 =>
    r6.bind fun a7 =>
    zif (zcl σ5 a7 = 19) <|
    zb2 (f_J2_get a7 v3 σ5) fun r9 σ10 =>
    zif (zckC σ10 r9 8 = true) <|
    r9.bind fun a11 =>
    (gI σ10 a11 8 3).bind fun x12 =>
    if ¬ x12 = v1 then
      f_X2_beads_39 o rec4 v1 v3 v2 0 σ10
    else
      f_X2_beads_39 o rec4 v1 v3 v2 1 σ10

def f_X2_beads_4 (o : Nat) (v1 : Int32) : Int32 → Int32 → zS → Option (Int32 × zS) := zlp2 (f_X2_beads_4_b o v1) NN
set_option maxHeartbeats 4000000 in
theorem s_X2_beads_4_b {X : zX} (hX : zOk X RX2 cX2_beads 4 4 104 (Option.some Jvm.ClassFile.FieldType.int) "beads" []) {o : Nat} {Rt : Int32 × zS} {v1 : Int32} {rec4 : Int32 → Int32 → zS → Option (Int32 × zS)} (hrec4 : ∀ (v2 : Int32) (v3 : Int32) (σ : zS), rec4 v2 v3 σ = some Rt → zG X (zQ X (.inl (eI Rt.1)) Rt.2) 4 4 [(0, zA (some o)), (1, zI v1), (2, zI v2), (3, zI v3)] [] σ) {v2 : Int32} {v3 : Int32} {σ : zS} (h : f_X2_beads_4_b o v1 rec4 v2 v3 σ = some Rt) : zG X (zQ X (.inl (eI Rt.1)) Rt.2) 4 4 [(0, zA (some o)), (1, zI v1), (2, zI v2), (3, zI v3)] [] σ := by
  unfold f_X2_beads_4_b at h
  refine z_iload_n hX 3 rfl rfl dX2_beads_4 (z_aload_n hX 0 rfl rfl dX2_beads_5 ?_)
  refine z_getR hX fl_X2_35_1 h dX2_beads_6 (fun r1 h => ?_)
  obtain ⟨a2, e9, k_a2⟩ := z_nn h
  subst e9
  have h := k_a2
  obtain ⟨c3, h⟩ := z_ck h
  refine z_cNI hX (rest := [zI v3]) h (fun r9 σ9 e9 => z_runV hX lk_X2_64 (c_J2_size hX.tr e9) (ci := 19) zc9_19 c3 ⟨Nat.le_of_ble_eq_true rfl, Nat.le_of_ble_eq_true rfl⟩ rfl (Nat.le_of_ble_eq_true rfl) dX2_beads_9 rfl) (fun x4 σ5 h => ?_)
  refine z_icmp_ge (tgt := 47) hX h dX2_beads_12 (by decide) (fun h => ?_) (fun h => ?_)
  · refine z_iload_n hX 2 rfl rfl dX2_beads_47 ?_
    obtain rfl := Option.some.inj h
    exact z_iret hX dX2_beads_48
  · refine z_iload_n hX 2 rfl rfl dX2_beads_15 (z_aload_n hX 0 rfl rfl dX2_beads_16 ?_)
    refine z_getR hX fl_X2_35_1 h dX2_beads_17 (fun r6 h => ?_)
    refine z_iload_n hX 3 rfl rfl dX2_beads_20 ?_
    obtain ⟨a7, e9, k_a7⟩ := z_nn h
    subst e9
    have h := k_a7
    obtain ⟨c8, h⟩ := z_ck h
    refine z_cNA hX (rest := [zI v2]) h (fun r9 σ9 e9 => z_runV hX lk_X2_68 (c_J2_get hX.tr e9) (ci := 19) zc9_19 c8 ⟨Nat.le_of_ble_eq_true rfl, Nat.le_of_ble_eq_true rfl⟩ rfl (Nat.le_of_ble_eq_true rfl) dX2_beads_21 rfl) (fun r9 σ10 h => ?_)
    refine z_castC hX (ci := 8) rfl q412 h dX2_beads_24 (fun h => ?_)
    obtain ⟨a11, e9, k_a11⟩ := z_nn h
    subst e9
    have h := k_a11
    refine z_getI hX fl_X2_96_8 h dX2_beads_27 (fun x12 h => ?_)
    refine z_iload_n hX 1 rfl rfl dX2_beads_30 ?_
    refine z_icmp_ne (tgt := 38) hX h dX2_beads_31 (by decide) (fun h => ?_) (fun h => ?_)
    · refine z_iconst hX (v := 0) (by decide) dX2_beads_38 ?_
      exact z_sub [0, 1, 3] rfl (s_X2_beads_39 (o := o) hX hrec4 h)
    · refine z_iconst hX (v := 1) (by decide) dX2_beads_34 (z_goto (tgt := 39) hX dX2_beads_35 (by decide) ?_)
      exact z_sub [0, 1, 3] rfl (s_X2_beads_39 (o := o) hX hrec4 h)

theorem s_X2_beads_4 {X : zX} (hX : zOk X RX2 cX2_beads 4 4 104 (Option.some Jvm.ClassFile.FieldType.int) "beads" []) {o : Nat} {Rt : Int32 × zS} {v1 : Int32} {v2 : Int32} {v3 : Int32} {σ : zS} (h : f_X2_beads_4 o v1 v2 v3 σ = some Rt) : zG X (zQ X (.inl (eI Rt.1)) Rt.2) 4 4 [(0, zA (some o)), (1, zI v1), (2, zI v2), (3, zI v3)] [] σ :=
  zlp2_ok (P := fun v2 v3 σ => zG X (zQ X (.inl (eI Rt.1)) Rt.2) 4 4 [(0, zA (some o)), (1, zI v1), (2, zI v2), (3, zI v3)] [] σ) (fun rec hr v2 v3 σ h => s_X2_beads_4_b (o := o) hX hr h) NN v2 v3 σ h
def f_X2_beads (o : Nat) (p1 : Int32) (σ : zS) : Option (Int32 × zS) :=
  f_X2_beads_4 o p1 0 0 σ

set_option maxHeartbeats 4000000 in
theorem s_X2_beads {X : zX} (hX : zOk X RX2 cX2_beads 4 4 104 (Option.some Jvm.ClassFile.FieldType.int) "beads" []) {o : Nat} {p1 : Int32} {σ : zS} {Rt : Int32 × zS} (h : f_X2_beads o p1 σ = some Rt) : zG X (zQ X (.inl (eI Rt.1)) Rt.2) 4 0 [(0, zA (some o)), (1, zI p1)] [] σ := by
  unfold f_X2_beads at h
  refine z_iconst hX (v := 0) (by decide) dX2_beads_0 (z_istore_n (L' := [(0, zA (some o)), (1, zI p1), (2, zI 0)]) hX rfl rfl (by decide) dX2_beads_1 (z_iconst hX (v := 0) (by decide) dX2_beads_2 (z_istore_n (L' := [(0, zA (some o)), (1, zI p1), (2, zI 0), (3, zI 0)]) hX rfl rfl (by decide) dX2_beads_3 ?_)))
  exact z_sub [0, 1, 2, 3] rfl (s_X2_beads_4 (o := o) hX  h)

theorem c_X2_beads {l : Launch} {D : va_G} {tys : zTy} (hl : l.stackTraces = false) {o : Nat} {p1 : Int32} {σ : zS} {Rt : Int32 × zS} (h : f_X2_beads o p1 σ = some Rt) : zM l D tys yX2_beads (ws_ yX2_beads cX2_beads 4 (Option.some Jvm.ClassFile.FieldType.int)) 4 104 [zA (some o), zI p1] σ (.inl (eI Rt.1)) Rt.2 :=
  zM_in hl rfl (Nat.le_of_ble_eq_true rfl) (fun p e R s m args below meth c hX => z_L rfl (s_X2_beads hX h))
def f_X1_house_86 (o : Nat) (rec43 : Int32 → Int32 → zS → Option ((Int32 ⊕ Nat) × zS)) (v1 : Int32) (v4 : Int32) (t0 : Int32) (t1 : Int32) (σ : zS) : Option ((Int32 ⊕ Nat) × zS) :=
  zl (t0 + t1) fun x22 =>
  zl (v4 + 1) fun x23 =>
  rec43 x22 x23 σ

set_option maxHeartbeats 4000000 in
theorem s_X1_house_86 {X : zX} (hX : zOk X RX1 cX1_house 5 9 152 (Option.some Jvm.ClassFile.FieldType.int) "house" []) {o : Nat} {Rt : (Int32 ⊕ Nat) × zS} {rec43 : Int32 → Int32 → zS → Option ((Int32 ⊕ Nat) × zS)} {v1 : Int32} {v4 : Int32} (hrec43 : ∀ (v3 : Int32) (v4 : Int32) (σ : zS), rec43 v3 v4 σ = some Rt → zG X (zQ X (zot eI Rt.1) Rt.2) 5 43 [(0, zA (some o)), (1, zI v1), (3, zI v3), (4, zI v4)] [] σ) {t0 : Int32} {t1 : Int32} {σ : zS} (h : f_X1_house_86 o rec43 v1 v4 t0 t1 σ = some Rt) : zG X (zQ X (zot eI Rt.1) Rt.2) 5 86 [(0, zA (some o)), (1, zI v1), (4, zI v4)] [zI t1, zI t0] σ := by
  unfold f_X1_house_86 at h
  refine z_iadd hX dX1_house_86 ?_
  refine z_nmI h (fun x22 h => ?_)
  refine z_istore_n (L' := [(0, zA (some o)), (1, zI v1), (3, zI x22), (4, zI v4)]) hX rfl rfl (by decide) dX1_house_87 ?_
  refine z_iinc hX (j := 3) h rfl (by decide) (by decide) dX1_house_88 (fun x23 h => z_L (L' := [(0, zA (some o)), (1, zI v1), (3, zI x22), (4, zI x23)]) rfl ?_)
  refine z_goto (tgt := 43) hX dX1_house_91 (by decide) ?_
  exact z_sub [0, 1, 2, 3] rfl (hrec43 _ _ _ h)

def f_X1_house_43_b (o : Nat) (v1 : Int32) (rec43 : Int32 → Int32 → zS → Option ((Int32 ⊕ Nat) × zS)) (v3 : Int32) (v4 : Int32) (σ : zS) : Option ((Int32 ⊕ Nat) × zS) :=
  (gR σ o 0 0).bind fun r6 =>
  r6.bind fun a7 =>
  (gR σ a7 1 8).bind fun r8 =>
  r8.bind fun a9 =>
  zif (zcl σ a9 = 19) <|
  zb2 (f_J2_size a9 σ) fun x11 σ12 =>
  if x11 ≤ v4 then
    some (.inl v3, σ12)
  else
    (gR σ12 o 0 0).bind fun r13 =>
    r13.bind fun a14 =>
    (gR σ12 a14 1 8).bind fun r15 =>
    r15.bind fun a16 =>
    zif (zcl σ12 a16 = 19) <|
    zb2 (f_J2_get a16 v4 σ12) fun r18 σ19 =>
    zif (zckC σ19 r18 6 = true) <|
    r18.bind fun a20 =>
    (gI σ19 a20 6 3).bind fun x21 =>
    if ¬ x21 = v1 then
      f_X1_house_86 o rec43 v1 v4 v3 0 σ19
    else
      f_X1_house_86 o rec43 v1 v4 v3 1 σ19

def f_X1_house_43 (o : Nat) (v1 : Int32) : Int32 → Int32 → zS → Option ((Int32 ⊕ Nat) × zS) := zlp2 (f_X1_house_43_b o v1) NN
set_option maxHeartbeats 4000000 in
theorem s_X1_house_43_b {X : zX} (hX : zOk X RX1 cX1_house 5 9 152 (Option.some Jvm.ClassFile.FieldType.int) "house" []) {o : Nat} {Rt : (Int32 ⊕ Nat) × zS} {v1 : Int32} {rec43 : Int32 → Int32 → zS → Option ((Int32 ⊕ Nat) × zS)} (hrec43 : ∀ (v3 : Int32) (v4 : Int32) (σ : zS), rec43 v3 v4 σ = some Rt → zG X (zQ X (zot eI Rt.1) Rt.2) 5 43 [(0, zA (some o)), (1, zI v1), (3, zI v3), (4, zI v4)] [] σ) {v3 : Int32} {v4 : Int32} {σ : zS} (h : f_X1_house_43_b o v1 rec43 v3 v4 σ = some Rt) : zG X (zQ X (zot eI Rt.1) Rt.2) 5 43 [(0, zA (some o)), (1, zI v1), (3, zI v3), (4, zI v4)] [] σ := by
  unfold f_X1_house_43_b at h
  refine z_iload hX 3 rfl dX1_house_43 (z_aload_n hX 0 rfl rfl dX1_house_45 ?_)
  refine z_getR hX fl_X1_10_0 h dX1_house_46 (fun r6 h => ?_)
  obtain ⟨a7, e9, k_a7⟩ := z_nn h
  subst e9
  have h := k_a7
  refine z_getR hX fl_X1_55_1 h dX1_house_49 (fun r8 h => ?_)
  obtain ⟨a9, e9, k_a9⟩ := z_nn h
  subst e9
  have h := k_a9
  obtain ⟨c10, h⟩ := z_ck h
  refine z_cNI hX (rest := [zI v4]) h (fun r9 σ9 e9 => z_runV hX lk_X1_59 (c_J2_size hX.tr e9) (ci := 19) zc9_19 c10 ⟨Nat.le_of_ble_eq_true rfl, Nat.le_of_ble_eq_true rfl⟩ rfl (Nat.le_of_ble_eq_true rfl) dX1_house_52 rfl) (fun x11 σ12 h => ?_)
  refine z_icmp_ge (tgt := 94) hX h dX1_house_55 (by decide) (fun h => ?_) (fun h => ?_)
  · refine z_iload_n hX 2 rfl rfl dX1_house_94 ?_
    obtain rfl := Option.some.inj h
    exact z_iret hX dX1_house_95
  · refine z_iload_n hX 2 rfl rfl dX1_house_58 (z_aload_n hX 0 rfl rfl dX1_house_59 ?_)
    refine z_getR hX fl_X1_10_0 h dX1_house_60 (fun r13 h => ?_)
    obtain ⟨a14, e9, k_a14⟩ := z_nn h
    subst e9
    have h := k_a14
    refine z_getR hX fl_X1_55_1 h dX1_house_63 (fun r15 h => ?_)
    refine z_iload hX 3 rfl dX1_house_66 ?_
    obtain ⟨a16, e9, k_a16⟩ := z_nn h
    subst e9
    have h := k_a16
    obtain ⟨c17, h⟩ := z_ck h
    refine z_cNA hX (rest := [zI v3]) h (fun r9 σ9 e9 => z_runV hX lk_X1_313 (c_J2_get hX.tr e9) (ci := 19) zc9_19 c17 ⟨Nat.le_of_ble_eq_true rfl, Nat.le_of_ble_eq_true rfl⟩ rfl (Nat.le_of_ble_eq_true rfl) dX1_house_68 rfl) (fun r18 σ19 h => ?_)
    refine z_castC hX (ci := 6) rfl q1124 h dX1_house_71 (fun h => ?_)
    obtain ⟨a20, e9, k_a20⟩ := z_nn h
    subst e9
    have h := k_a20
    refine z_getI hX fl_X1_339_6 h dX1_house_74 (fun x21 h => ?_)
    refine z_iload_n hX 1 rfl rfl dX1_house_77 ?_
    refine z_icmp_ne (tgt := 85) hX h dX1_house_78 (by decide) (fun h => ?_) (fun h => ?_)
    · refine z_iconst hX (v := 0) (by decide) dX1_house_85 ?_
      exact z_sub [0, 1, 3] rfl (s_X1_house_86 (o := o) hX hrec43 h)
    · refine z_iconst hX (v := 1) (by decide) dX1_house_81 (z_goto (tgt := 86) hX dX1_house_82 (by decide) ?_)
      exact z_sub [0, 1, 3] rfl (s_X1_house_86 (o := o) hX hrec43 h)

theorem s_X1_house_43 {X : zX} (hX : zOk X RX1 cX1_house 5 9 152 (Option.some Jvm.ClassFile.FieldType.int) "house" []) {o : Nat} {Rt : (Int32 ⊕ Nat) × zS} {v1 : Int32} {v3 : Int32} {v4 : Int32} {σ : zS} (h : f_X1_house_43 o v1 v3 v4 σ = some Rt) : zG X (zQ X (zot eI Rt.1) Rt.2) 5 43 [(0, zA (some o)), (1, zI v1), (3, zI v3), (4, zI v4)] [] σ :=
  zlp2_ok (P := fun v3 v4 σ => zG X (zQ X (zot eI Rt.1) Rt.2) 5 43 [(0, zA (some o)), (1, zI v1), (3, zI v3), (4, zI v4)] [] σ) (fun rec hr v3 v4 σ h => s_X1_house_43_b (o := o) hX hr h) NN v3 v4 σ h
def f_X1_house (o : Nat) (p1 : Int32) (p2 : Int32) (σ : zS) : Option ((Int32 ⊕ Nat) × zS) :=
  zif (zcl σ o = 0) <|
  zbt (f_X1_houseAt o p1 σ) (fun k9 σ9 => some (.inr k9, σ9)) fun _ σ3 =>
  zbt (f_X1_asked p2 2 σ3) (fun k9 σ9 => some (.inr k9, σ9)) fun _ σ5 =>
  if ¬ p2 = 0 then
    if ¬ p2 = 2 then
      f_X1_house_43 o p1 0 0 σ5
    else
      (gR σ5 o 0 0).bind fun r24 =>
      r24.bind fun a25 =>
      zif (zcl σ5 a25 = 1) <|
      zb2 (f_X2_beads a25 p1 σ5) fun x27 σ28 =>
      some (.inl x27, σ28)
  else
    (gR σ5 o 0 0).bind fun r29 =>
    r29.bind fun a30 =>
    (gR σ5 a30 1 7).bind fun r31 =>
    r31.bind fun a32 =>
    (lI σ5 a32 0 p1).bind fun x33 =>
    some (.inl x33, σ5)

set_option maxHeartbeats 4000000 in
theorem s_X1_house {X : zX} (hX : zOk X RX1 cX1_house 5 9 152 (Option.some Jvm.ClassFile.FieldType.int) "house" []) {o : Nat} {p1 : Int32} {p2 : Int32} {σ : zS} {Rt : (Int32 ⊕ Nat) × zS} (h : f_X1_house o p1 p2 σ = some Rt) : zG X (zQ X (zot eI Rt.1) Rt.2) 5 0 [(0, zA (some o)), (1, zI p1), (2, zI p2)] [] σ := by
  unfold f_X1_house at h
  refine z_aload_n hX 0 rfl rfl dX1_house_0 (z_iload_n hX 1 rfl rfl dX1_house_1 ?_)
  obtain ⟨c1, h⟩ := z_ck h
  refine z_cTU hX (rest := []) h (fun r9 σ9 e9 => z_runV hX lk_X1_363 (c_X1_houseAt hX.tr e9) (ci := 0) zc9_0 c1 ⟨Nat.le_of_ble_eq_true rfl, Nat.le_of_ble_eq_true rfl⟩ rfl (Nat.le_of_ble_eq_true rfl) dX1_house_2 rfl) (fun k9 σ9 h => z_prop hX h (fun x hx => nomatch hx)) (fun _ σ3 h => ?_)
  refine z_iload_n hX 2 rfl rfl dX1_house_5 (z_iconst hX (v := 2) (by decide) dX1_house_6 ?_)
  refine z_cTU hX (rest := []) h (fun r9 σ9 e9 => z_runS hX lk_X1_366 (c_X1_asked hX.tr e9) ⟨Nat.le_of_ble_eq_true rfl, Nat.le_of_ble_eq_true rfl⟩ rfl (Nat.le_of_ble_eq_true rfl) dX1_house_7 rfl) (fun k9 σ9 h => z_prop hX h (fun x hx => nomatch hx)) (fun _ σ5 h => ?_)
  refine z_iload_n hX 2 rfl rfl dX1_house_10 ?_
  refine z_if_ne (tgt := 24) hX h dX1_house_11 (by decide) (fun h => ?_) (fun h => ?_)
  · refine z_iload_n hX 2 rfl rfl dX1_house_24 (z_iconst hX (v := 2) (by decide) dX1_house_25 ?_)
    refine z_icmp_ne (tgt := 38) hX h dX1_house_26 (by decide) (fun h => ?_) (fun h => ?_)
    · refine z_iconst hX (v := 0) (by decide) dX1_house_38 (z_istore_n (L' := [(0, zA (some o)), (1, zI p1), (2, zI p2), (3, zI 0)]) hX rfl rfl (by decide) dX1_house_39 (z_iconst hX (v := 0) (by decide) dX1_house_40 (z_istore (L' := [(0, zA (some o)), (1, zI p1), (2, zI p2), (3, zI 0), (4, zI 0)]) hX rfl (by decide) dX1_house_41 ?_)))
      exact z_sub [0, 1, 3, 4] rfl (s_X1_house_43 (o := o) hX  h)
    · refine z_aload_n hX 0 rfl rfl dX1_house_29 ?_
      refine z_getR hX fl_X1_10_0 h dX1_house_30 (fun r24 h => ?_)
      refine z_iload_n hX 1 rfl rfl dX1_house_33 ?_
      obtain ⟨a25, e9, k_a25⟩ := z_nn h
      subst e9
      have h := k_a25
      obtain ⟨c26, h⟩ := z_ck h
      refine z_cNI hX (rest := []) h (fun r9 σ9 e9 => z_runV hX lk_X1_369 (c_X2_beads hX.tr e9) (ci := 1) zc9_1 c26 ⟨Nat.le_of_ble_eq_true rfl, Nat.le_of_ble_eq_true rfl⟩ rfl (Nat.le_of_ble_eq_true rfl) dX1_house_34 rfl) (fun x27 σ28 h => ?_)
      obtain rfl := Option.some.inj h
      exact z_iret hX dX1_house_37
  · refine z_aload_n hX 0 rfl rfl dX1_house_14 ?_
    refine z_getR hX fl_X1_10_0 h dX1_house_15 (fun r29 h => ?_)
    obtain ⟨a30, e9, k_a30⟩ := z_nn h
    subst e9
    have h := k_a30
    refine z_getR hX fl_X1_137_1 h dX1_house_18 (fun r31 h => ?_)
    refine z_iload_n hX 1 rfl rfl dX1_house_21 ?_
    obtain ⟨a32, e9, k_a32⟩ := z_nn h
    subst e9
    have h := k_a32
    refine z_iald hX h dX1_house_22 (fun x33 h => ?_)
    obtain rfl := Option.some.inj h
    exact z_iret hX dX1_house_23

theorem c_X1_house {l : Launch} {D : va_G} {tys : zTy} (hl : l.stackTraces = false) {o : Nat} {p1 : Int32} {p2 : Int32} {σ : zS} {Rt : (Int32 ⊕ Nat) × zS} (h : f_X1_house o p1 p2 σ = some Rt) : zM l D tys yX1_house (ws_ yX1_house cX1_house 5 (Option.some Jvm.ClassFile.FieldType.int)) 9 152 [zA (some o), zI p1, zI p2] σ (zot eI Rt.1) Rt.2 :=
  zM_in hl rfl (Nat.le_of_ble_eq_true rfl) (fun p e R s m args below meth c hX => z_L rfl (s_X1_house hX h))
def f_X0_house (p1 : Option Nat) (p2 : Int32) (p3 : Int32) (p4 : Option Nat) (σ : zS) : Option (Int32 × zS) :=
  p1.bind fun a1 =>
  zif (zcl σ a1 = 0) <|
  zbt (f_X1_house a1 p2 p3 σ) (fun k9 σ9 =>
    if k9 = 2 then
      some ((1 : Int32), σ9)
    else
    if k9 = 3 then
      some ((2 : Int32), σ9)
    else
    none
  ) fun x3 σ4 =>
  p4.bind fun a5 =>
  (sJ σ4 a5 0 x3.toInt64).bind fun σ6 =>
  some ((0 : Int32), σ6)

set_option maxHeartbeats 4000000 in
theorem s_X0_house {X : zX} (hX : zOk X RX0 cX0_house 5 10 176 (Option.some Jvm.ClassFile.FieldType.int) "house" (tableOf [(0, 10, 13, 24), (0, 10, 17, 26)])) {p1 : Option Nat} {p2 : Int32} {p3 : Int32} {p4 : Option Nat} {σ : zS} {Rt : Int32 × zS} (h : f_X0_house p1 p2 p3 p4 σ = some Rt) : zG X (zQ X (.inl (eI Rt.1)) Rt.2) 5 0 [(0, zA p1), (1, zI p2), (2, zI p3), (3, zA p4)] [] σ := by
  unfold f_X0_house at h
  refine z_aload_n hX 3 rfl rfl dX0_house_0 (z_iconst hX (v := 0) (by decide) dX0_house_1 (z_aload_n hX 0 rfl rfl dX0_house_2 (z_iload_n hX 1 rfl rfl dX0_house_3 (z_iload_n hX 2 rfl rfl dX0_house_4 ?_))))
  obtain ⟨a1, e9, k_a1⟩ := z_nn h
  subst e9
  have h := k_a1
  obtain ⟨c2, h⟩ := z_ck h
  refine z_cTI hX (rest := [zI 0, zA p4]) h (fun r9 σ9 e9 => z_runV hX lk_X0_20 (c_X1_house hX.tr e9) (ci := 0) zc9_0 c2 ⟨Nat.le_of_ble_eq_true rfl, Nat.le_of_ble_eq_true rfl⟩ rfl (Nat.le_of_ble_eq_true rfl) dX0_house_5 rfl) (fun k9 σ9 h => ?_) (fun x3 σ4 h => ?_)
  · rcases z_ite h with ⟨e9, k_σ4_2⟩ | ⟨-, h⟩
    · subst e9
      have h := k_σ4_2
      refine z_catch hX (k := 2) (nmC := "java/lang/IndexOutOfBoundsException") [] ⟨0, 10, 13, 24⟩ [⟨0, 10, 17, 26⟩] rfl (fun z hz => nomatch hz) rfl (by decide) q1381 (zNw_of q1415 rfl) (fun q9 => ?_)
      refine z_astore (L' := [(0, zA (some a1)), (1, zI p2), (2, zI p3), (3, zA p4), (4, zA (some q9))]) hX rfl (by decide) dX0_house_13 (z_iconst hX (v := 1) (by decide) dX0_house_15 ?_)
      obtain rfl := Option.some.inj h
      exact z_iret hX dX0_house_16
    rcases z_ite h with ⟨e9, k_σ4_3⟩ | ⟨-, h⟩
    · subst e9
      have h := k_σ4_3
      refine z_catch hX (k := 3) (nmC := "java/util/NoSuchElementException") [⟨0, 10, 13, 24⟩] ⟨0, 10, 17, 26⟩ [] rfl (List.forall_mem_cons.mpr ⟨Or.inr ⟨by decide, "java/lang/IndexOutOfBoundsException", q1381, by simp [zNc, zEx]⟩, fun z hz => nomatch hz⟩) rfl (by decide) q1400 (zNw_of q1433 rfl) (fun q9 => ?_)
      refine z_astore (L' := [(0, zA (some a1)), (1, zI p2), (2, zI p3), (3, zA p4), (4, zA (some q9))]) hX rfl (by decide) dX0_house_17 (z_iconst hX (v := 2) (by decide) dX0_house_19 ?_)
      obtain rfl := Option.some.inj h
      exact z_iret hX dX0_house_20
    cases h
  refine z_i2l hX dX0_house_8 ?_
  obtain ⟨a5, e9, k_a5⟩ := z_nn h
  subst e9
  have h := k_a5
  refine z_last hX h dX0_house_9 (fun σ6 h => ?_)
  refine z_goto (tgt := 21) hX dX0_house_10 (by decide) (z_iconst hX (v := 0) (by decide) dX0_house_21 ?_)
  obtain rfl := Option.some.inj h
  exact z_iret hX dX0_house_22

theorem c_X0_house {l : Launch} {D : va_G} {tys : zTy} (hl : l.stackTraces = false) {p1 : Option Nat} {p2 : Int32} {p3 : Int32} {p4 : Option Nat} {σ : zS} {Rt : Int32 × zS} (h : f_X0_house p1 p2 p3 p4 σ = some Rt) : zM l D tys yX0_house (wsW_ yX0_house cX0_house 5 (Option.some Jvm.ClassFile.FieldType.int) [(0, 10, 13, 24), (0, 10, 17, 26)]) 10 176 [zA p1, zI p2, zI p3, zA p4] σ (.inl (eI Rt.1)) Rt.2 :=
  zM_inW hl rfl (Nat.le_of_ble_eq_true rfl) (fun p e R s m args below meth c hX => z_L rfl (s_X0_house hX h))
def f_X1_walker_98_b (o : Nat) (v1 : Int32) (rec98 : Int32 → zS → Option ((Int32 ⊕ Nat) × zS)) (v4 : Int32) (σ : zS) : Option ((Int32 ⊕ Nat) × zS) :=
  if v4 < 0 then
    some (.inl ((-1) : Int32), σ)
  else
    (gR σ o 0 0).bind fun r27 =>
    r27.bind fun a28 =>
    (gR σ a28 1 11).bind fun r29 =>
    r29.bind fun a30 =>
    zif (zcl σ a30 = 19) <|
    zb2 (f_J2_get a30 v4 σ) fun r32 σ33 =>
    zif (zckC σ33 r32 8 = true) <|
    r32.bind fun a34 =>
    (gI σ33 a34 8 2).bind fun x35 =>
    if ¬ x35 = v1 then
      zl (v4 + (-1)) fun x36 =>
      rec98 x36 σ33
    else
      (gR σ33 o 0 0).bind fun r37 =>
      r37.bind fun a38 =>
      (gR σ33 a38 1 11).bind fun r39 =>
      r39.bind fun a40 =>
      zif (zcl σ33 a40 = 19) <|
      zb2 (f_J2_get a40 v4 σ33) fun r42 σ43 =>
      zif (zckC σ43 r42 8 = true) <|
      r42.bind fun a44 =>
      (gI σ43 a44 8 1).bind fun x45 =>
      some (.inl x45, σ43)

def f_X1_walker_98 (o : Nat) (v1 : Int32) : Int32 → zS → Option ((Int32 ⊕ Nat) × zS) := zlp1 (f_X1_walker_98_b o v1) NN
set_option maxHeartbeats 4000000 in
theorem s_X1_walker_98_b {X : zX} (hX : zOk X RX1 cX1_walker 5 8 131 (Option.some Jvm.ClassFile.FieldType.int) "walker" []) {o : Nat} {Rt : (Int32 ⊕ Nat) × zS} {v1 : Int32} {rec98 : Int32 → zS → Option ((Int32 ⊕ Nat) × zS)} (hrec98 : ∀ (v4 : Int32) (σ : zS), rec98 v4 σ = some Rt → zG X (zQ X (zot eI Rt.1) Rt.2) 5 98 [(0, zA (some o)), (1, zI v1), (4, zI v4)] [] σ) {v4 : Int32} {σ : zS} (h : f_X1_walker_98_b o v1 rec98 v4 σ = some Rt) : zG X (zQ X (zot eI Rt.1) Rt.2) 5 98 [(0, zA (some o)), (1, zI v1), (4, zI v4)] [] σ := by
  unfold f_X1_walker_98_b at h
  refine z_iload hX 2 rfl dX1_walker_98 ?_
  refine z_if_lt (tgt := 150) hX h dX1_walker_100 (by decide) (fun h => ?_) (fun h => ?_)
  · refine z_iconst hX (v := (-1)) (by decide) dX1_walker_150 ?_
    obtain rfl := Option.some.inj h
    exact z_iret hX dX1_walker_151
  · refine z_aload_n hX 0 rfl rfl dX1_walker_103 ?_
    refine z_getR hX fl_X1_10_0 h dX1_walker_104 (fun r27 h => ?_)
    obtain ⟨a28, e9, k_a28⟩ := z_nn h
    subst e9
    have h := k_a28
    refine z_getR hX fl_X1_374_1 h dX1_walker_107 (fun r29 h => ?_)
    refine z_iload hX 2 rfl dX1_walker_110 ?_
    obtain ⟨a30, e9, k_a30⟩ := z_nn h
    subst e9
    have h := k_a30
    obtain ⟨c31, h⟩ := z_ck h
    refine z_cNA hX (rest := []) h (fun r9 σ9 e9 => z_runV hX lk_X1_313 (c_J2_get hX.tr e9) (ci := 19) zc9_19 c31 ⟨Nat.le_of_ble_eq_true rfl, Nat.le_of_ble_eq_true rfl⟩ rfl (Nat.le_of_ble_eq_true rfl) dX1_walker_112 rfl) (fun r32 σ33 h => ?_)
    refine z_castC hX (ci := 8) rfl q385 h dX1_walker_115 (fun h => ?_)
    obtain ⟨a34, e9, k_a34⟩ := z_nn h
    subst e9
    have h := k_a34
    refine z_getI hX fl_X1_379_8 h dX1_walker_118 (fun x35 h => ?_)
    refine z_iload_n hX 1 rfl rfl dX1_walker_121 ?_
    refine z_icmp_ne (tgt := 144) hX h dX1_walker_122 (by decide) (fun h => ?_) (fun h => ?_)
    · refine z_iinc hX (j := 2) h rfl (by decide) (by decide) dX1_walker_144 (fun x36 h => z_L (L' := [(0, zA (some o)), (1, zI v1), (4, zI x36)]) rfl ?_)
      refine z_goto (tgt := 98) hX dX1_walker_147 (by decide) ?_
      exact z_sub [0, 1, 2] rfl (hrec98 _ _ h)
    · refine z_aload_n hX 0 rfl rfl dX1_walker_125 ?_
      refine z_getR hX fl_X1_10_0 h dX1_walker_126 (fun r37 h => ?_)
      obtain ⟨a38, e9, k_a38⟩ := z_nn h
      subst e9
      have h := k_a38
      refine z_getR hX fl_X1_374_1 h dX1_walker_129 (fun r39 h => ?_)
      refine z_iload hX 2 rfl dX1_walker_132 ?_
      obtain ⟨a40, e9, k_a40⟩ := z_nn h
      subst e9
      have h := k_a40
      obtain ⟨c41, h⟩ := z_ck h
      refine z_cNA hX (rest := []) h (fun r9 σ9 e9 => z_runV hX lk_X1_313 (c_J2_get hX.tr e9) (ci := 19) zc9_19 c41 ⟨Nat.le_of_ble_eq_true rfl, Nat.le_of_ble_eq_true rfl⟩ rfl (Nat.le_of_ble_eq_true rfl) dX1_walker_134 rfl) (fun r42 σ43 h => ?_)
      refine z_castC hX (ci := 8) rfl q385 h dX1_walker_137 (fun h => ?_)
      obtain ⟨a44, e9, k_a44⟩ := z_nn h
      subst e9
      have h := k_a44
      refine z_getI hX fl_X1_382_8 h dX1_walker_140 (fun x45 h => ?_)
      obtain rfl := Option.some.inj h
      exact z_iret hX dX1_walker_143

theorem s_X1_walker_98 {X : zX} (hX : zOk X RX1 cX1_walker 5 8 131 (Option.some Jvm.ClassFile.FieldType.int) "walker" []) {o : Nat} {Rt : (Int32 ⊕ Nat) × zS} {v1 : Int32} {v4 : Int32} {σ : zS} (h : f_X1_walker_98 o v1 v4 σ = some Rt) : zG X (zQ X (zot eI Rt.1) Rt.2) 5 98 [(0, zA (some o)), (1, zI v1), (4, zI v4)] [] σ :=
  zlp1_ok (P := fun v4 σ => zG X (zQ X (zot eI Rt.1) Rt.2) 5 98 [(0, zA (some o)), (1, zI v1), (4, zI v4)] [] σ) (fun rec hr v4 σ h => s_X1_walker_98_b (o := o) hX hr h) NN v4 σ h
def f_X1_walker (o : Nat) (p1 : Int32) (p2 : Int32) (σ : zS) : Option ((Int32 ⊕ Nat) × zS) :=
  (gR σ o 0 0).bind fun r1 =>
  r1.bind fun a2 =>
  (gR σ a2 1 8).bind fun r3 =>
  r3.bind fun a4 =>
  zif (zcl σ a4 = 19) <|
  zb2 (f_J2_size a4 σ) fun x6 σ7 =>
  zbt (f_X1_there p1 x6 σ7) (fun k9 σ9 => some (.inr k9, σ9)) fun _ σ9 =>
  zbt (f_X1_asked p2 4 σ9) (fun k9 σ9 => some (.inr k9, σ9)) fun _ σ11 =>
  (gR σ11 o 0 0).bind fun r12 =>
  r12.bind fun a13 =>
  (gR σ11 a13 1 8).bind fun r14 =>
  r14.bind fun a15 =>
  zif (zcl σ11 a15 = 19) <|
  zb2 (f_J2_get a15 p1 σ11) fun r17 σ18 =>
  zif (zckC σ18 r17 6 = true) <|
  if p2.toInt < 0 ∨ 3 < p2.toInt then
    (gR σ18 o 0 0).bind fun r19 =>
    r19.bind fun a20 =>
    (gR σ18 a20 1 11).bind fun r21 =>
    r21.bind fun a22 =>
    zif (zcl σ18 a22 = 19) <|
    zb2 (f_J2_size a22 σ18) fun x24 σ25 =>
    zl (x24 - 1) fun x26 =>
    f_X1_walker_98 o p1 x26 σ25
  else if p2 = 0 then
    r17.bind fun a46 =>
    (gI σ18 a46 6 0).bind fun x47 =>
    some (.inl x47, σ18)
  else if p2 = 1 then
    r17.bind fun a48 =>
    (gI σ18 a48 6 1).bind fun x49 =>
    some (.inl x49, σ18)
  else if p2 = 2 then
    r17.bind fun a50 =>
    (gI σ18 a50 6 3).bind fun x51 =>
    some (.inl x51, σ18)
  else if p2 = 3 then
    r17.bind fun a52 =>
    (gI σ18 a52 6 2).bind fun x53 =>
    some (.inl x53, σ18)
  else none

set_option maxHeartbeats 4000000 in
theorem s_X1_walker {X : zX} (hX : zOk X RX1 cX1_walker 5 8 131 (Option.some Jvm.ClassFile.FieldType.int) "walker" []) {o : Nat} {p1 : Int32} {p2 : Int32} {σ : zS} {Rt : (Int32 ⊕ Nat) × zS} (h : f_X1_walker o p1 p2 σ = some Rt) : zG X (zQ X (zot eI Rt.1) Rt.2) 5 0 [(0, zA (some o)), (1, zI p1), (2, zI p2)] [] σ := by
  unfold f_X1_walker at h
  refine z_iload_n hX 1 rfl rfl dX1_walker_0 (z_aload_n hX 0 rfl rfl dX1_walker_1 ?_)
  refine z_getR hX fl_X1_10_0 h dX1_walker_2 (fun r1 h => ?_)
  obtain ⟨a2, e9, k_a2⟩ := z_nn h
  subst e9
  have h := k_a2
  refine z_getR hX fl_X1_55_1 h dX1_walker_5 (fun r3 h => ?_)
  obtain ⟨a4, e9, k_a4⟩ := z_nn h
  subst e9
  have h := k_a4
  obtain ⟨c5, h⟩ := z_ck h
  refine z_cNI hX (rest := [zI p1]) h (fun r9 σ9 e9 => z_runV hX lk_X1_59 (c_J2_size hX.tr e9) (ci := 19) zc9_19 c5 ⟨Nat.le_of_ble_eq_true rfl, Nat.le_of_ble_eq_true rfl⟩ rfl (Nat.le_of_ble_eq_true rfl) dX1_walker_8 rfl) (fun x6 σ7 h => ?_)
  refine z_cTU hX (rest := []) h (fun r9 σ9 e9 => z_runS hX lk_X1_360 (c_X1_there hX.tr e9) ⟨Nat.le_of_ble_eq_true rfl, Nat.le_of_ble_eq_true rfl⟩ rfl (Nat.le_of_ble_eq_true rfl) dX1_walker_11 rfl) (fun k9 σ9 h => z_prop hX h (fun x hx => nomatch hx)) (fun _ σ9 h => ?_)
  refine z_iload_n hX 2 rfl rfl dX1_walker_14 (z_iconst hX (v := 4) (by decide) dX1_walker_15 ?_)
  refine z_cTU hX (rest := []) h (fun r9 σ9 e9 => z_runS hX lk_X1_366 (c_X1_asked hX.tr e9) ⟨Nat.le_of_ble_eq_true rfl, Nat.le_of_ble_eq_true rfl⟩ rfl (Nat.le_of_ble_eq_true rfl) dX1_walker_16 rfl) (fun k9 σ9 h => z_prop hX h (fun x hx => nomatch hx)) (fun _ σ11 h => ?_)
  refine z_aload_n hX 0 rfl rfl dX1_walker_19 ?_
  refine z_getR hX fl_X1_10_0 h dX1_walker_20 (fun r12 h => ?_)
  obtain ⟨a13, e9, k_a13⟩ := z_nn h
  subst e9
  have h := k_a13
  refine z_getR hX fl_X1_55_1 h dX1_walker_23 (fun r14 h => ?_)
  refine z_iload_n hX 1 rfl rfl dX1_walker_26 ?_
  obtain ⟨a15, e9, k_a15⟩ := z_nn h
  subst e9
  have h := k_a15
  obtain ⟨c16, h⟩ := z_ck h
  refine z_cNA hX (rest := []) h (fun r9 σ9 e9 => z_runV hX lk_X1_313 (c_J2_get hX.tr e9) (ci := 19) zc9_19 c16 ⟨Nat.le_of_ble_eq_true rfl, Nat.le_of_ble_eq_true rfl⟩ rfl (Nat.le_of_ble_eq_true rfl) dX1_walker_27 rfl) (fun r17 σ18 h => ?_)
  refine z_castC hX (ci := 6) rfl q1124 h dX1_walker_30 (fun h => ?_)
  refine z_astore_n (L' := [(0, zA (some o)), (1, zI p1), (2, zI p2), (3, zA r17)]) hX rfl rfl (by decide) dX1_walker_33 (z_iload_n hX 2 rfl rfl dX1_walker_34 ?_)
  rcases z_ite h with ⟨c9, h⟩ | ⟨c9, h⟩
  · refine z_tableOut (tgt := 84) hX dX1_walker_35 c9 (by decide) ?_
    refine z_aload_n hX 0 rfl rfl dX1_walker_84 ?_
    refine z_getR hX fl_X1_10_0 h dX1_walker_85 (fun r19 h => ?_)
    obtain ⟨a20, e9, k_a20⟩ := z_nn h
    subst e9
    have h := k_a20
    refine z_getR hX fl_X1_374_1 h dX1_walker_88 (fun r21 h => ?_)
    obtain ⟨a22, e9, k_a22⟩ := z_nn h
    subst e9
    have h := k_a22
    obtain ⟨c23, h⟩ := z_ck h
    refine z_cNI hX (rest := []) h (fun r9 σ9 e9 => z_runV hX lk_X1_59 (c_J2_size hX.tr e9) (ci := 19) zc9_19 c23 ⟨Nat.le_of_ble_eq_true rfl, Nat.le_of_ble_eq_true rfl⟩ rfl (Nat.le_of_ble_eq_true rfl) dX1_walker_91 rfl) (fun x24 σ25 h => ?_)
    refine z_iconst hX (v := 1) (by decide) dX1_walker_94 (z_isub hX dX1_walker_95 ?_)
    refine z_nmI h (fun x26 h => ?_)
    refine z_istore (L' := [(0, zA (some o)), (1, zI p1), (2, zI p2), (3, zA r17), (4, zI x26)]) hX rfl (by decide) dX1_walker_96 ?_
    exact z_sub [0, 1, 4] rfl (s_X1_walker_98 (o := o) hX  h)
  · rcases z_ite h with ⟨e9, h⟩ | ⟨-, h⟩
    · rw [e9]
      refine z_tableIn (tgt := 64) hX dX1_walker_35 (by decide) (by decide) rfl (by decide) ?_
      refine z_aload_n hX 3 rfl rfl dX1_walker_64 ?_
      obtain ⟨a46, e9, k_a46⟩ := z_nn h
      subst e9
      have h := k_a46
      refine z_getI hX fl_X1_317_6 h dX1_walker_65 (fun x47 h => ?_)
      obtain rfl := Option.some.inj h
      exact z_iret hX dX1_walker_68
    rcases z_ite h with ⟨e9, h⟩ | ⟨-, h⟩
    · rw [e9]
      refine z_tableIn (tgt := 69) hX dX1_walker_35 (by decide) (by decide) rfl (by decide) ?_
      refine z_aload_n hX 3 rfl rfl dX1_walker_69 ?_
      obtain ⟨a48, e9, k_a48⟩ := z_nn h
      subst e9
      have h := k_a48
      refine z_getI hX fl_X1_321_6 h dX1_walker_70 (fun x49 h => ?_)
      obtain rfl := Option.some.inj h
      exact z_iret hX dX1_walker_73
    rcases z_ite h with ⟨e9, h⟩ | ⟨-, h⟩
    · rw [e9]
      refine z_tableIn (tgt := 74) hX dX1_walker_35 (by decide) (by decide) rfl (by decide) ?_
      refine z_aload_n hX 3 rfl rfl dX1_walker_74 ?_
      obtain ⟨a50, e9, k_a50⟩ := z_nn h
      subst e9
      have h := k_a50
      refine z_getI hX fl_X1_339_6 h dX1_walker_75 (fun x51 h => ?_)
      obtain rfl := Option.some.inj h
      exact z_iret hX dX1_walker_78
    rcases z_ite h with ⟨e9, h⟩ | ⟨-, h⟩
    · rw [e9]
      refine z_tableIn (tgt := 79) hX dX1_walker_35 (by decide) (by decide) rfl (by decide) ?_
      refine z_aload_n hX 3 rfl rfl dX1_walker_79 ?_
      obtain ⟨a52, e9, k_a52⟩ := z_nn h
      subst e9
      have h := k_a52
      refine z_getI hX fl_X1_372_6 h dX1_walker_80 (fun x53 h => ?_)
      obtain rfl := Option.some.inj h
      exact z_iret hX dX1_walker_83
    cases h

theorem c_X1_walker {l : Launch} {D : va_G} {tys : zTy} (hl : l.stackTraces = false) {o : Nat} {p1 : Int32} {p2 : Int32} {σ : zS} {Rt : (Int32 ⊕ Nat) × zS} (h : f_X1_walker o p1 p2 σ = some Rt) : zM l D tys yX1_walker (ws_ yX1_walker cX1_walker 5 (Option.some Jvm.ClassFile.FieldType.int)) 8 131 [zA (some o), zI p1, zI p2] σ (zot eI Rt.1) Rt.2 :=
  zM_in hl rfl (Nat.le_of_ble_eq_true rfl) (fun p e R s m args below meth c hX => z_L rfl (s_X1_walker hX h))
def f_X0_walker (p1 : Option Nat) (p2 : Int32) (p3 : Int32) (p4 : Option Nat) (σ : zS) : Option (Int32 × zS) :=
  p1.bind fun a1 =>
  zif (zcl σ a1 = 0) <|
  zbt (f_X1_walker a1 p2 p3 σ) (fun k9 σ9 =>
    if k9 = 2 then
      some ((1 : Int32), σ9)
    else
    if k9 = 3 then
      some ((2 : Int32), σ9)
    else
    none
  ) fun x3 σ4 =>
  p4.bind fun a5 =>
  (sJ σ4 a5 0 x3.toInt64).bind fun σ6 =>
  some ((0 : Int32), σ6)

set_option maxHeartbeats 4000000 in
theorem s_X0_walker {X : zX} (hX : zOk X RX0 cX0_walker 5 9 155 (Option.some Jvm.ClassFile.FieldType.int) "walker" (tableOf [(0, 10, 13, 24), (0, 10, 17, 26)])) {p1 : Option Nat} {p2 : Int32} {p3 : Int32} {p4 : Option Nat} {σ : zS} {Rt : Int32 × zS} (h : f_X0_walker p1 p2 p3 p4 σ = some Rt) : zG X (zQ X (.inl (eI Rt.1)) Rt.2) 5 0 [(0, zA p1), (1, zI p2), (2, zI p3), (3, zA p4)] [] σ := by
  unfold f_X0_walker at h
  refine z_aload_n hX 3 rfl rfl dX0_walker_0 (z_iconst hX (v := 0) (by decide) dX0_walker_1 (z_aload_n hX 0 rfl rfl dX0_walker_2 (z_iload_n hX 1 rfl rfl dX0_walker_3 (z_iload_n hX 2 rfl rfl dX0_walker_4 ?_))))
  obtain ⟨a1, e9, k_a1⟩ := z_nn h
  subst e9
  have h := k_a1
  obtain ⟨c2, h⟩ := z_ck h
  refine z_cTI hX (rest := [zI 0, zA p4]) h (fun r9 σ9 e9 => z_runV hX lk_X0_28 (c_X1_walker hX.tr e9) (ci := 0) zc9_0 c2 ⟨Nat.le_of_ble_eq_true rfl, Nat.le_of_ble_eq_true rfl⟩ rfl (Nat.le_of_ble_eq_true rfl) dX0_walker_5 rfl) (fun k9 σ9 h => ?_) (fun x3 σ4 h => ?_)
  · rcases z_ite h with ⟨e9, k_σ4_2⟩ | ⟨-, h⟩
    · subst e9
      have h := k_σ4_2
      refine z_catch hX (k := 2) (nmC := "java/lang/IndexOutOfBoundsException") [] ⟨0, 10, 13, 24⟩ [⟨0, 10, 17, 26⟩] rfl (fun z hz => nomatch hz) rfl (by decide) q1381 (zNw_of q1415 rfl) (fun q9 => ?_)
      refine z_astore (L' := [(0, zA (some a1)), (1, zI p2), (2, zI p3), (3, zA p4), (4, zA (some q9))]) hX rfl (by decide) dX0_walker_13 (z_iconst hX (v := 1) (by decide) dX0_walker_15 ?_)
      obtain rfl := Option.some.inj h
      exact z_iret hX dX0_walker_16
    rcases z_ite h with ⟨e9, k_σ4_3⟩ | ⟨-, h⟩
    · subst e9
      have h := k_σ4_3
      refine z_catch hX (k := 3) (nmC := "java/util/NoSuchElementException") [⟨0, 10, 13, 24⟩] ⟨0, 10, 17, 26⟩ [] rfl (List.forall_mem_cons.mpr ⟨Or.inr ⟨by decide, "java/lang/IndexOutOfBoundsException", q1381, by simp [zNc, zEx]⟩, fun z hz => nomatch hz⟩) rfl (by decide) q1400 (zNw_of q1433 rfl) (fun q9 => ?_)
      refine z_astore (L' := [(0, zA (some a1)), (1, zI p2), (2, zI p3), (3, zA p4), (4, zA (some q9))]) hX rfl (by decide) dX0_walker_17 (z_iconst hX (v := 2) (by decide) dX0_walker_19 ?_)
      obtain rfl := Option.some.inj h
      exact z_iret hX dX0_walker_20
    cases h
  refine z_i2l hX dX0_walker_8 ?_
  obtain ⟨a5, e9, k_a5⟩ := z_nn h
  subst e9
  have h := k_a5
  refine z_last hX h dX0_walker_9 (fun σ6 h => ?_)
  refine z_goto (tgt := 21) hX dX0_walker_10 (by decide) (z_iconst hX (v := 0) (by decide) dX0_walker_21 ?_)
  obtain rfl := Option.some.inj h
  exact z_iret hX dX0_walker_22

theorem c_X0_walker {l : Launch} {D : va_G} {tys : zTy} (hl : l.stackTraces = false) {p1 : Option Nat} {p2 : Int32} {p3 : Int32} {p4 : Option Nat} {σ : zS} {Rt : Int32 × zS} (h : f_X0_walker p1 p2 p3 p4 σ = some Rt) : zM l D tys yX0_walker (wsW_ yX0_walker cX0_walker 5 (Option.some Jvm.ClassFile.FieldType.int) [(0, 10, 13, 24), (0, 10, 17, 26)]) 9 155 [zA p1, zI p2, zI p3, zA p4] σ (.inl (eI Rt.1)) Rt.2 :=
  zM_inW hl rfl (Nat.le_of_ble_eq_true rfl) (fun p e R s m args below meth c hX => z_L rfl (s_X0_walker hX h))
def f_X1_turnAt (o : Nat) (p1 : Int32) (σ : zS) : Option (((Option Nat) ⊕ Nat) × zS) :=
  (gR σ o 0 0).bind fun r1 =>
  r1.bind fun a2 =>
  (gR σ a2 1 9).bind fun r3 =>
  r3.bind fun a4 =>
  zif (zcl σ a4 = 19) <|
  zb2 (f_J2_size a4 σ) fun x6 σ7 =>
  zbt (f_X1_there p1 x6 σ7) (fun k9 σ9 => some (.inr k9, σ9)) fun _ σ9 =>
  (gR σ9 o 0 0).bind fun r10 =>
  r10.bind fun a11 =>
  (gR σ9 a11 1 9).bind fun r12 =>
  r12.bind fun a13 =>
  zif (zcl σ9 a13 = 19) <|
  zb2 (f_J2_get a13 p1 σ9) fun r15 σ16 =>
  zif (zckC σ16 r15 7 = true) <|
  some (.inl r15, σ16)

set_option maxHeartbeats 4000000 in
theorem s_X1_turnAt {X : zX} (hX : zOk X RX1 cX1_turnAt 2 8 131 (Option.some (Jvm.ClassFile.FieldType.object "StepDebts$Turn")) "turnAt" []) {o : Nat} {p1 : Int32} {σ : zS} {Rt : ((Option Nat) ⊕ Nat) × zS} (h : f_X1_turnAt o p1 σ = some Rt) : zG X (zQ X (zot eA Rt.1) Rt.2) 2 0 [(0, zA (some o)), (1, zI p1)] [] σ := by
  unfold f_X1_turnAt at h
  refine z_iload_n hX 1 rfl rfl dX1_turnAt_0 (z_aload_n hX 0 rfl rfl dX1_turnAt_1 ?_)
  refine z_getR hX fl_X1_10_0 h dX1_turnAt_2 (fun r1 h => ?_)
  obtain ⟨a2, e9, k_a2⟩ := z_nn h
  subst e9
  have h := k_a2
  refine z_getR hX fl_X1_144_1 h dX1_turnAt_5 (fun r3 h => ?_)
  obtain ⟨a4, e9, k_a4⟩ := z_nn h
  subst e9
  have h := k_a4
  obtain ⟨c5, h⟩ := z_ck h
  refine z_cNI hX (rest := [zI p1]) h (fun r9 σ9 e9 => z_runV hX lk_X1_59 (c_J2_size hX.tr e9) (ci := 19) zc9_19 c5 ⟨Nat.le_of_ble_eq_true rfl, Nat.le_of_ble_eq_true rfl⟩ rfl (Nat.le_of_ble_eq_true rfl) dX1_turnAt_8 rfl) (fun x6 σ7 h => ?_)
  refine z_cTU hX (rest := []) h (fun r9 σ9 e9 => z_runS hX lk_X1_360 (c_X1_there hX.tr e9) ⟨Nat.le_of_ble_eq_true rfl, Nat.le_of_ble_eq_true rfl⟩ rfl (Nat.le_of_ble_eq_true rfl) dX1_turnAt_11 rfl) (fun k9 σ9 h => z_prop hX h (fun x hx => nomatch hx)) (fun _ σ9 h => ?_)
  refine z_aload_n hX 0 rfl rfl dX1_turnAt_14 ?_
  refine z_getR hX fl_X1_10_0 h dX1_turnAt_15 (fun r10 h => ?_)
  obtain ⟨a11, e9, k_a11⟩ := z_nn h
  subst e9
  have h := k_a11
  refine z_getR hX fl_X1_144_1 h dX1_turnAt_18 (fun r12 h => ?_)
  refine z_iload_n hX 1 rfl rfl dX1_turnAt_21 ?_
  obtain ⟨a13, e9, k_a13⟩ := z_nn h
  subst e9
  have h := k_a13
  obtain ⟨c14, h⟩ := z_ck h
  refine z_cNA hX (rest := []) h (fun r9 σ9 e9 => z_runV hX lk_X1_313 (c_J2_get hX.tr e9) (ci := 19) zc9_19 c14 ⟨Nat.le_of_ble_eq_true rfl, Nat.le_of_ble_eq_true rfl⟩ rfl (Nat.le_of_ble_eq_true rfl) dX1_turnAt_22 rfl) (fun r15 σ16 h => ?_)
  refine z_castC hX (ci := 7) rfl q397 h dX1_turnAt_25 (fun h => ?_)
  obtain rfl := Option.some.inj h
  exact z_aret hX (Or.inl ⟨_, rfl⟩) dX1_turnAt_28

theorem c_X1_turnAt {l : Launch} {D : va_G} {tys : zTy} (hl : l.stackTraces = false) {o : Nat} {p1 : Int32} {σ : zS} {Rt : ((Option Nat) ⊕ Nat) × zS} (h : f_X1_turnAt o p1 σ = some Rt) : zM l D tys yX1_turnAt (ws_ yX1_turnAt cX1_turnAt 2 (Option.some (Jvm.ClassFile.FieldType.object "StepDebts$Turn"))) 8 131 [zA (some o), zI p1] σ (zot eA Rt.1) Rt.2 :=
  zM_in hl rfl (Nat.le_of_ble_eq_true rfl) (fun p e R s m args below meth c hX => z_L rfl (s_X1_turnAt hX h))
def f_X2_missed_74 (o : Nat) (rec21 : Int32 → Int32 → zS → Option (Int32 × zS)) (v1 : Int32) (v2 : Option Nat) (v4 : Int32) (t0 : Int32) (t1 : Int32) (σ : zS) : Option (Int32 × zS) :=
  zl (t0 + t1) fun x21 =>
  zl (v4 + 1) fun x22 =>
  rec21 x21 x22 σ

set_option maxHeartbeats 4000000 in
theorem s_X2_missed_74 {X : zX} (hX : zOk X RX2 cX2_missed 6 4 104 (Option.some Jvm.ClassFile.FieldType.int) "missed" []) {o : Nat} {Rt : Int32 × zS} {rec21 : Int32 → Int32 → zS → Option (Int32 × zS)} {v1 : Int32} {v2 : Option Nat} {v4 : Int32} (hrec21 : ∀ (v3 : Int32) (v4 : Int32) (σ : zS), rec21 v3 v4 σ = some Rt → zG X (zQ X (.inl (eI Rt.1)) Rt.2) 6 21 [(0, zA (some o)), (1, zI v1), (2, zA v2), (3, zI v3), (4, zI v4)] [] σ) {t0 : Int32} {t1 : Int32} {σ : zS} (h : f_X2_missed_74 o rec21 v1 v2 v4 t0 t1 σ = some Rt) : zG X (zQ X (.inl (eI Rt.1)) Rt.2) 6 74 [(0, zA (some o)), (1, zI v1), (2, zA v2), (4, zI v4)] [zI t1, zI t0] σ := by
  unfold f_X2_missed_74 at h
  refine z_iadd hX dX2_missed_74 ?_
  refine z_nmI h (fun x21 h => ?_)
  refine z_istore_n (L' := [(0, zA (some o)), (1, zI v1), (2, zA v2), (3, zI x21), (4, zI v4)]) hX rfl rfl (by decide) dX2_missed_75 ?_
  refine z_iinc hX (j := 4) h rfl (by decide) (by decide) dX2_missed_76 (fun x22 h => z_L (L' := [(0, zA (some o)), (1, zI v1), (2, zA v2), (3, zI x21), (4, zI x22)]) rfl ?_)
  refine z_goto (tgt := 21) hX dX2_missed_79 (by decide) ?_
  exact z_sub [0, 1, 2, 3, 4] rfl (hrec21 _ _ _ h)

def f_X2_missed_73 (o : Nat) (rec21 : Int32 → Int32 → zS → Option (Int32 × zS)) (v1 : Int32) (v2 : Option Nat) (v4 : Int32) (t0 : Int32) (σ : zS) : Option (Int32 × zS) :=
  f_X2_missed_74 o rec21 v1 v2 v4 t0 0 σ

set_option maxHeartbeats 4000000 in
theorem s_X2_missed_73 {X : zX} (hX : zOk X RX2 cX2_missed 6 4 104 (Option.some Jvm.ClassFile.FieldType.int) "missed" []) {o : Nat} {Rt : Int32 × zS} {rec21 : Int32 → Int32 → zS → Option (Int32 × zS)} {v1 : Int32} {v2 : Option Nat} {v4 : Int32} (hrec21 : ∀ (v3 : Int32) (v4 : Int32) (σ : zS), rec21 v3 v4 σ = some Rt → zG X (zQ X (.inl (eI Rt.1)) Rt.2) 6 21 [(0, zA (some o)), (1, zI v1), (2, zA v2), (3, zI v3), (4, zI v4)] [] σ) {t0 : Int32} {σ : zS} (h : f_X2_missed_73 o rec21 v1 v2 v4 t0 σ = some Rt) : zG X (zQ X (.inl (eI Rt.1)) Rt.2) 6 73 [(0, zA (some o)), (1, zI v1), (2, zA v2), (4, zI v4)] [zI t0] σ := by
  unfold f_X2_missed_73 at h
  refine z_iconst hX (v := 0) (by decide) dX2_missed_73 ?_
  exact z_sub [0, 1, 2, 3] rfl (s_X2_missed_74 (o := o) hX hrec21 h)

def f_X2_missed_21_b (o : Nat) (v1 : Int32) (v2 : Option Nat) (rec21 : Int32 → Int32 → zS → Option (Int32 × zS)) (v3 : Int32) (v4 : Int32) (σ : zS) : Option (Int32 × zS) :=
  (gR σ o 1 11).bind fun r9 =>
  r9.bind fun a10 =>
  zif (zcl σ a10 = 19) <|
  zb2 (f_J2_size a10 σ) fun x12 σ13 =>
  if x12 ≤ v4 then
    some (v3, σ13)
  else
    (gR σ13 o 1 11).bind fun r14 =>
    r14.bind fun a15 =>
    zif (zcl σ13 a15 = 19) <|
    zb2 (f_J2_get a15 v4 σ13) fun r17 σ18 =>
    zif (zckC σ18 r17 8 = true) <|
    r17.bind fun a19 =>
    (gI σ18 a19 8 4).bind fun x20 =>
    if x20 ≤ v1 then
      f_X2_missed_73 o rec21 v1 v2 v4 v3 σ18
    else
      (gI σ18 a19 8 0).bind fun x23 =>
      v2.bind fun a24 =>
      (gI σ18 a24 7 2).bind fun x25 =>
      if x23 ≤ x25 then
        f_X2_missed_73 o rec21 v1 (some a24) v4 v3 σ18
      else
        f_X2_missed_74 o rec21 v1 (some a24) v4 v3 1 σ18

def f_X2_missed_21 (o : Nat) (v1 : Int32) (v2 : Option Nat) : Int32 → Int32 → zS → Option (Int32 × zS) := zlp2 (f_X2_missed_21_b o v1 v2) NN
set_option maxHeartbeats 4000000 in
theorem s_X2_missed_21_b {X : zX} (hX : zOk X RX2 cX2_missed 6 4 104 (Option.some Jvm.ClassFile.FieldType.int) "missed" []) {o : Nat} {Rt : Int32 × zS} {v1 : Int32} {v2 : Option Nat} {rec21 : Int32 → Int32 → zS → Option (Int32 × zS)} (hrec21 : ∀ (v3 : Int32) (v4 : Int32) (σ : zS), rec21 v3 v4 σ = some Rt → zG X (zQ X (.inl (eI Rt.1)) Rt.2) 6 21 [(0, zA (some o)), (1, zI v1), (2, zA v2), (3, zI v3), (4, zI v4)] [] σ) {v3 : Int32} {v4 : Int32} {σ : zS} (h : f_X2_missed_21_b o v1 v2 rec21 v3 v4 σ = some Rt) : zG X (zQ X (.inl (eI Rt.1)) Rt.2) 6 21 [(0, zA (some o)), (1, zI v1), (2, zA v2), (3, zI v3), (4, zI v4)] [] σ := by
  unfold f_X2_missed_21_b at h
  refine z_iload hX 4 rfl dX2_missed_21 (z_aload_n hX 0 rfl rfl dX2_missed_23 ?_)
  refine z_getR hX fl_X2_35_1 h dX2_missed_24 (fun r9 h => ?_)
  obtain ⟨a10, e9, k_a10⟩ := z_nn h
  subst e9
  have h := k_a10
  obtain ⟨c11, h⟩ := z_ck h
  refine z_cNI hX (rest := [zI v4]) h (fun r9 σ9 e9 => z_runV hX lk_X2_64 (c_J2_size hX.tr e9) (ci := 19) zc9_19 c11 ⟨Nat.le_of_ble_eq_true rfl, Nat.le_of_ble_eq_true rfl⟩ rfl (Nat.le_of_ble_eq_true rfl) dX2_missed_27 rfl) (fun x12 σ13 h => ?_)
  refine z_icmp_ge (tgt := 82) hX h dX2_missed_30 (by decide) (fun h => ?_) (fun h => ?_)
  · refine z_iload_n hX 3 rfl rfl dX2_missed_82 ?_
    obtain rfl := Option.some.inj h
    exact z_iret hX dX2_missed_83
  · refine z_aload_n hX 0 rfl rfl dX2_missed_33 ?_
    refine z_getR hX fl_X2_35_1 h dX2_missed_34 (fun r14 h => ?_)
    refine z_iload hX 4 rfl dX2_missed_37 ?_
    obtain ⟨a15, e9, k_a15⟩ := z_nn h
    subst e9
    have h := k_a15
    obtain ⟨c16, h⟩ := z_ck h
    refine z_cNA hX (rest := []) h (fun r9 σ9 e9 => z_runV hX lk_X2_68 (c_J2_get hX.tr e9) (ci := 19) zc9_19 c16 ⟨Nat.le_of_ble_eq_true rfl, Nat.le_of_ble_eq_true rfl⟩ rfl (Nat.le_of_ble_eq_true rfl) dX2_missed_39 rfl) (fun r17 σ18 h => ?_)
    refine z_castC hX (ci := 8) rfl q412 h dX2_missed_42 (fun h => ?_)
    refine z_astore (L' := [(0, zA (some o)), (1, zI v1), (2, zA v2), (3, zI v3), (4, zI v4), (5, zA r17)]) hX rfl (by decide) dX2_missed_45 (z_iload_n hX 3 rfl rfl dX2_missed_47 (z_aload hX 5 rfl dX2_missed_48 ?_))
    obtain ⟨a19, e9, k_a19⟩ := z_nn h
    subst e9
    have h := k_a19
    refine z_getI hX fl_X2_125_8 h dX2_missed_50 (fun x20 h => ?_)
    refine z_iload_n hX 1 rfl rfl dX2_missed_53 ?_
    refine z_icmp_le (tgt := 73) hX h dX2_missed_54 (by decide) (fun h => ?_) (fun h => ?_)
    · exact z_sub [0, 1, 2, 4] rfl (s_X2_missed_73 (o := o) hX hrec21 h)
    · refine z_aload hX 5 rfl dX2_missed_57 ?_
      refine z_getI hX fl_X2_127_8 h dX2_missed_59 (fun x23 h => ?_)
      refine z_aload_n hX 2 rfl rfl dX2_missed_62 ?_
      obtain ⟨a24, e9, k_a24⟩ := z_nn h
      subst e9
      have h := k_a24
      refine z_getI hX fl_X2_128_7 h dX2_missed_63 (fun x25 h => ?_)
      refine z_icmp_le (tgt := 73) hX h dX2_missed_66 (by decide) (fun h => ?_) (fun h => ?_)
      · exact z_sub [0, 1, 2, 4] rfl (s_X2_missed_73 (o := o) hX hrec21 h)
      · refine z_iconst hX (v := 1) (by decide) dX2_missed_69 (z_goto (tgt := 74) hX dX2_missed_70 (by decide) ?_)
        exact z_sub [0, 1, 2, 4] rfl (s_X2_missed_74 (o := o) hX hrec21 h)

theorem s_X2_missed_21 {X : zX} (hX : zOk X RX2 cX2_missed 6 4 104 (Option.some Jvm.ClassFile.FieldType.int) "missed" []) {o : Nat} {Rt : Int32 × zS} {v1 : Int32} {v2 : Option Nat} {v3 : Int32} {v4 : Int32} {σ : zS} (h : f_X2_missed_21 o v1 v2 v3 v4 σ = some Rt) : zG X (zQ X (.inl (eI Rt.1)) Rt.2) 6 21 [(0, zA (some o)), (1, zI v1), (2, zA v2), (3, zI v3), (4, zI v4)] [] σ :=
  zlp2_ok (P := fun v3 v4 σ => zG X (zQ X (.inl (eI Rt.1)) Rt.2) 6 21 [(0, zA (some o)), (1, zI v1), (2, zA v2), (3, zI v3), (4, zI v4)] [] σ) (fun rec hr v3 v4 σ h => s_X2_missed_21_b (o := o) hX hr h) NN v3 v4 σ h
def f_X2_missed (o : Nat) (p1 : Int32) (σ : zS) : Option (Int32 × zS) :=
  (gR σ o 1 9).bind fun r1 =>
  r1.bind fun a2 =>
  zif (zcl σ a2 = 19) <|
  zb2 (f_J2_get a2 p1 σ) fun r4 σ5 =>
  zif (zckC σ5 r4 7 = true) <|
  r4.bind fun a6 =>
  (gI σ5 a6 7 1).bind fun x7 =>
  zl (-x7) fun x8 =>
  f_X2_missed_21 o p1 (some a6) x8 0 σ5

set_option maxHeartbeats 4000000 in
theorem s_X2_missed {X : zX} (hX : zOk X RX2 cX2_missed 6 4 104 (Option.some Jvm.ClassFile.FieldType.int) "missed" []) {o : Nat} {p1 : Int32} {σ : zS} {Rt : Int32 × zS} (h : f_X2_missed o p1 σ = some Rt) : zG X (zQ X (.inl (eI Rt.1)) Rt.2) 6 0 [(0, zA (some o)), (1, zI p1)] [] σ := by
  unfold f_X2_missed at h
  refine z_aload_n hX 0 rfl rfl dX2_missed_0 ?_
  refine z_getR hX fl_X2_29_1 h dX2_missed_1 (fun r1 h => ?_)
  refine z_iload_n hX 1 rfl rfl dX2_missed_4 ?_
  obtain ⟨a2, e9, k_a2⟩ := z_nn h
  subst e9
  have h := k_a2
  obtain ⟨c3, h⟩ := z_ck h
  refine z_cNA hX (rest := []) h (fun r9 σ9 e9 => z_runV hX lk_X2_68 (c_J2_get hX.tr e9) (ci := 19) zc9_19 c3 ⟨Nat.le_of_ble_eq_true rfl, Nat.le_of_ble_eq_true rfl⟩ rfl (Nat.le_of_ble_eq_true rfl) dX2_missed_5 rfl) (fun r4 σ5 h => ?_)
  refine z_castC hX (ci := 7) rfl q410 h dX2_missed_8 (fun h => ?_)
  refine z_astore_n (L' := [(0, zA (some o)), (1, zI p1), (2, zA r4)]) hX rfl rfl (by decide) dX2_missed_11 (z_aload_n hX 2 rfl rfl dX2_missed_12 ?_)
  obtain ⟨a6, e9, k_a6⟩ := z_nn h
  subst e9
  have h := k_a6
  refine z_getI hX fl_X2_106_7 h dX2_missed_13 (fun x7 h => ?_)
  refine z_ineg hX dX2_missed_16 ?_
  refine z_nmI h (fun x8 h => ?_)
  refine z_istore_n (L' := [(0, zA (some o)), (1, zI p1), (2, zA (some a6)), (3, zI x8)]) hX rfl rfl (by decide) dX2_missed_17 (z_iconst hX (v := 0) (by decide) dX2_missed_18 (z_istore (L' := [(0, zA (some o)), (1, zI p1), (2, zA (some a6)), (3, zI x8), (4, zI 0)]) hX rfl (by decide) dX2_missed_19 ?_))
  exact z_sub [0, 1, 2, 3, 4] rfl (s_X2_missed_21 (o := o) hX  h)

theorem c_X2_missed {l : Launch} {D : va_G} {tys : zTy} (hl : l.stackTraces = false) {o : Nat} {p1 : Int32} {σ : zS} {Rt : Int32 × zS} (h : f_X2_missed o p1 σ = some Rt) : zM l D tys yX2_missed (ws_ yX2_missed cX2_missed 6 (Option.some Jvm.ClassFile.FieldType.int)) 4 104 [zA (some o), zI p1] σ (.inl (eI Rt.1)) Rt.2 :=
  zM_in hl rfl (Nat.le_of_ble_eq_true rfl) (fun p e R s m args below meth c hX => z_L rfl (s_X2_missed hX h))
def f_X1_turn (o : Nat) (p1 : Int32) (p2 : Int32) (σ : zS) : Option ((Int32 ⊕ Nat) × zS) :=
  zif (zcl σ o = 0) <|
  zbt (f_X1_turnAt o p1 σ) (fun k9 σ9 => some (.inr k9, σ9)) fun r2 σ3 =>
  zbt (f_X1_asked p2 2 σ3) (fun k9 σ9 => some (.inr k9, σ9)) fun _ σ5 =>
  if ¬ p2 = 0 then
    if ¬ p2 = 1 then
      (gR σ5 o 0 0).bind fun r6 =>
      r6.bind fun a7 =>
      zif (zcl σ5 a7 = 1) <|
      zb2 (f_X2_missed a7 p1 σ5) fun x9 σ10 =>
      some (.inl x9, σ10)
    else
      r2.bind fun a11 =>
      (gI σ5 a11 7 1).bind fun x12 =>
      some (.inl x12, σ5)
  else
    r2.bind fun a13 =>
    (gI σ5 a13 7 0).bind fun x14 =>
    some (.inl x14, σ5)

set_option maxHeartbeats 4000000 in
theorem s_X1_turn {X : zX} (hX : zOk X RX1 cX1_turn 4 9 152 (Option.some Jvm.ClassFile.FieldType.int) "turn" []) {o : Nat} {p1 : Int32} {p2 : Int32} {σ : zS} {Rt : (Int32 ⊕ Nat) × zS} (h : f_X1_turn o p1 p2 σ = some Rt) : zG X (zQ X (zot eI Rt.1) Rt.2) 4 0 [(0, zA (some o)), (1, zI p1), (2, zI p2)] [] σ := by
  unfold f_X1_turn at h
  refine z_aload_n hX 0 rfl rfl dX1_turn_0 (z_iload_n hX 1 rfl rfl dX1_turn_1 ?_)
  obtain ⟨c1, h⟩ := z_ck h
  refine z_cTA hX (rest := []) h (fun r9 σ9 e9 => z_runV hX lk_X1_383 (c_X1_turnAt hX.tr e9) (ci := 0) zc9_0 c1 ⟨Nat.le_of_ble_eq_true rfl, Nat.le_of_ble_eq_true rfl⟩ rfl (Nat.le_of_ble_eq_true rfl) dX1_turn_2 rfl) (fun k9 σ9 h => z_prop hX h (fun x hx => nomatch hx)) (fun r2 σ3 h => ?_)
  refine z_astore_n (L' := [(0, zA (some o)), (1, zI p1), (2, zI p2), (3, zA r2)]) hX rfl rfl (by decide) dX1_turn_5 (z_iload_n hX 2 rfl rfl dX1_turn_6 (z_iconst hX (v := 2) (by decide) dX1_turn_7 ?_))
  refine z_cTU hX (rest := []) h (fun r9 σ9 e9 => z_runS hX lk_X1_366 (c_X1_asked hX.tr e9) ⟨Nat.le_of_ble_eq_true rfl, Nat.le_of_ble_eq_true rfl⟩ rfl (Nat.le_of_ble_eq_true rfl) dX1_turn_8 rfl) (fun k9 σ9 h => z_prop hX h (fun x hx => nomatch hx)) (fun _ σ5 h => ?_)
  refine z_iload_n hX 2 rfl rfl dX1_turn_11 ?_
  refine z_if_ne (tgt := 22) hX h dX1_turn_12 (by decide) (fun h => ?_) (fun h => ?_)
  · refine z_iload_n hX 2 rfl rfl dX1_turn_22 (z_iconst hX (v := 1) (by decide) dX1_turn_23 ?_)
    refine z_icmp_ne (tgt := 34) hX h dX1_turn_24 (by decide) (fun h => ?_) (fun h => ?_)
    · refine z_aload_n hX 0 rfl rfl dX1_turn_34 ?_
      refine z_getR hX fl_X1_10_0 h dX1_turn_35 (fun r6 h => ?_)
      refine z_iload_n hX 1 rfl rfl dX1_turn_38 ?_
      obtain ⟨a7, e9, k_a7⟩ := z_nn h
      subst e9
      have h := k_a7
      obtain ⟨c8, h⟩ := z_ck h
      refine z_cNI hX (rest := []) h (fun r9 σ9 e9 => z_runV hX lk_X1_390 (c_X2_missed hX.tr e9) (ci := 1) zc9_1 c8 ⟨Nat.le_of_ble_eq_true rfl, Nat.le_of_ble_eq_true rfl⟩ rfl (Nat.le_of_ble_eq_true rfl) dX1_turn_39 rfl) (fun x9 σ10 h => ?_)
      obtain rfl := Option.some.inj h
      exact z_iret hX dX1_turn_42
    · refine z_aload_n hX 3 rfl rfl dX1_turn_27 ?_
      obtain ⟨a11, e9, k_a11⟩ := z_nn h
      subst e9
      have h := k_a11
      refine z_getI hX fl_X1_325_7 h dX1_turn_28 (fun x12 h => ?_)
      refine z_goto (tgt := 42) hX dX1_turn_31 (by decide) ?_
      obtain rfl := Option.some.inj h
      exact z_iret hX dX1_turn_42
  · refine z_aload_n hX 3 rfl rfl dX1_turn_15 ?_
    obtain ⟨a13, e9, k_a13⟩ := z_nn h
    subst e9
    have h := k_a13
    refine z_getI hX fl_X1_387_7 h dX1_turn_16 (fun x14 h => ?_)
    refine z_goto (tgt := 42) hX dX1_turn_19 (by decide) ?_
    obtain rfl := Option.some.inj h
    exact z_iret hX dX1_turn_42

theorem c_X1_turn {l : Launch} {D : va_G} {tys : zTy} (hl : l.stackTraces = false) {o : Nat} {p1 : Int32} {p2 : Int32} {σ : zS} {Rt : (Int32 ⊕ Nat) × zS} (h : f_X1_turn o p1 p2 σ = some Rt) : zM l D tys yX1_turn (ws_ yX1_turn cX1_turn 4 (Option.some Jvm.ClassFile.FieldType.int)) 9 152 [zA (some o), zI p1, zI p2] σ (zot eI Rt.1) Rt.2 :=
  zM_in hl rfl (Nat.le_of_ble_eq_true rfl) (fun p e R s m args below meth c hX => z_L rfl (s_X1_turn hX h))
def f_X0_turn (p1 : Option Nat) (p2 : Int32) (p3 : Int32) (p4 : Option Nat) (σ : zS) : Option (Int32 × zS) :=
  p1.bind fun a1 =>
  zif (zcl σ a1 = 0) <|
  zbt (f_X1_turn a1 p2 p3 σ) (fun k9 σ9 =>
    if k9 = 2 then
      some ((1 : Int32), σ9)
    else
    if k9 = 3 then
      some ((2 : Int32), σ9)
    else
    none
  ) fun x3 σ4 =>
  p4.bind fun a5 =>
  (sJ σ4 a5 0 x3.toInt64).bind fun σ6 =>
  some ((0 : Int32), σ6)

set_option maxHeartbeats 4000000 in
theorem s_X0_turn {X : zX} (hX : zOk X RX0 cX0_turn 5 10 175 (Option.some Jvm.ClassFile.FieldType.int) "turn" (tableOf [(0, 10, 13, 24), (0, 10, 17, 26)])) {p1 : Option Nat} {p2 : Int32} {p3 : Int32} {p4 : Option Nat} {σ : zS} {Rt : Int32 × zS} (h : f_X0_turn p1 p2 p3 p4 σ = some Rt) : zG X (zQ X (.inl (eI Rt.1)) Rt.2) 5 0 [(0, zA p1), (1, zI p2), (2, zI p3), (3, zA p4)] [] σ := by
  unfold f_X0_turn at h
  refine z_aload_n hX 3 rfl rfl dX0_turn_0 (z_iconst hX (v := 0) (by decide) dX0_turn_1 (z_aload_n hX 0 rfl rfl dX0_turn_2 (z_iload_n hX 1 rfl rfl dX0_turn_3 (z_iload_n hX 2 rfl rfl dX0_turn_4 ?_))))
  obtain ⟨a1, e9, k_a1⟩ := z_nn h
  subst e9
  have h := k_a1
  obtain ⟨c2, h⟩ := z_ck h
  refine z_cTI hX (rest := [zI 0, zA p4]) h (fun r9 σ9 e9 => z_runV hX lk_X0_31 (c_X1_turn hX.tr e9) (ci := 0) zc9_0 c2 ⟨Nat.le_of_ble_eq_true rfl, Nat.le_of_ble_eq_true rfl⟩ rfl (Nat.le_of_ble_eq_true rfl) dX0_turn_5 rfl) (fun k9 σ9 h => ?_) (fun x3 σ4 h => ?_)
  · rcases z_ite h with ⟨e9, k_σ4_2⟩ | ⟨-, h⟩
    · subst e9
      have h := k_σ4_2
      refine z_catch hX (k := 2) (nmC := "java/lang/IndexOutOfBoundsException") [] ⟨0, 10, 13, 24⟩ [⟨0, 10, 17, 26⟩] rfl (fun z hz => nomatch hz) rfl (by decide) q1381 (zNw_of q1415 rfl) (fun q9 => ?_)
      refine z_astore (L' := [(0, zA (some a1)), (1, zI p2), (2, zI p3), (3, zA p4), (4, zA (some q9))]) hX rfl (by decide) dX0_turn_13 (z_iconst hX (v := 1) (by decide) dX0_turn_15 ?_)
      obtain rfl := Option.some.inj h
      exact z_iret hX dX0_turn_16
    rcases z_ite h with ⟨e9, k_σ4_3⟩ | ⟨-, h⟩
    · subst e9
      have h := k_σ4_3
      refine z_catch hX (k := 3) (nmC := "java/util/NoSuchElementException") [⟨0, 10, 13, 24⟩] ⟨0, 10, 17, 26⟩ [] rfl (List.forall_mem_cons.mpr ⟨Or.inr ⟨by decide, "java/lang/IndexOutOfBoundsException", q1381, by simp [zNc, zEx]⟩, fun z hz => nomatch hz⟩) rfl (by decide) q1400 (zNw_of q1433 rfl) (fun q9 => ?_)
      refine z_astore (L' := [(0, zA (some a1)), (1, zI p2), (2, zI p3), (3, zA p4), (4, zA (some q9))]) hX rfl (by decide) dX0_turn_17 (z_iconst hX (v := 2) (by decide) dX0_turn_19 ?_)
      obtain rfl := Option.some.inj h
      exact z_iret hX dX0_turn_20
    cases h
  refine z_i2l hX dX0_turn_8 ?_
  obtain ⟨a5, e9, k_a5⟩ := z_nn h
  subst e9
  have h := k_a5
  refine z_last hX h dX0_turn_9 (fun σ6 h => ?_)
  refine z_goto (tgt := 21) hX dX0_turn_10 (by decide) (z_iconst hX (v := 0) (by decide) dX0_turn_21 ?_)
  obtain rfl := Option.some.inj h
  exact z_iret hX dX0_turn_22

theorem c_X0_turn {l : Launch} {D : va_G} {tys : zTy} (hl : l.stackTraces = false) {p1 : Option Nat} {p2 : Int32} {p3 : Int32} {p4 : Option Nat} {σ : zS} {Rt : Int32 × zS} (h : f_X0_turn p1 p2 p3 p4 σ = some Rt) : zM l D tys yX0_turn (wsW_ yX0_turn cX0_turn 5 (Option.some Jvm.ClassFile.FieldType.int) [(0, 10, 13, 24), (0, 10, 17, 26)]) 10 175 [zA p1, zI p2, zI p3, zA p4] σ (.inl (eI Rt.1)) Rt.2 :=
  zM_inW hl rfl (Nat.le_of_ble_eq_true rfl) (fun p e R s m args below meth c hX => z_L rfl (s_X0_turn hX h))
def f_X1_entry (o : Nat) (p1 : Int32) (p2 : Int32) (σ : zS) : Option ((Int32 ⊕ Nat) × zS) :=
  (gR σ o 0 0).bind fun r1 =>
  r1.bind fun a2 =>
  (gR σ a2 1 11).bind fun r3 =>
  r3.bind fun a4 =>
  zif (zcl σ a4 = 19) <|
  zb2 (f_J2_size a4 σ) fun x6 σ7 =>
  zbt (f_X1_there p1 x6 σ7) (fun k9 σ9 => some (.inr k9, σ9)) fun _ σ9 =>
  zbt (f_X1_asked p2 5 σ9) (fun k9 σ9 => some (.inr k9, σ9)) fun _ σ11 =>
  (gR σ11 o 0 0).bind fun r12 =>
  r12.bind fun a13 =>
  (gR σ11 a13 1 11).bind fun r14 =>
  r14.bind fun a15 =>
  zif (zcl σ11 a15 = 19) <|
  zb2 (f_J2_get a15 p1 σ11) fun r17 σ18 =>
  zif (zckC σ18 r17 8 = true) <|
  if ¬ p2 = 5 then
    r17.bind fun a19 =>
    (gI σ18 a19 8 7).bind fun x20 =>
    if x20 = 0 then
      if p2.toInt < 0 ∨ 3 < p2.toInt then
        (gI σ18 a19 8 6).bind fun x21 =>
        if x21 = 0 then
          some (.inl (0 : Int32), σ18)
        else
          some (.inl (1 : Int32), σ18)
      else if p2 = 0 then
        (gI σ18 a19 8 1).bind fun x22 =>
        some (.inl x22, σ18)
      else if p2 = 1 then
        (gI σ18 a19 8 2).bind fun x23 =>
        some (.inl x23, σ18)
      else if p2 = 2 then
        (gI σ18 a19 8 3).bind fun x24 =>
        some (.inl x24, σ18)
      else if p2 = 3 then
        (gI σ18 a19 8 4).bind fun x25 =>
        some (.inl x25, σ18)
      else none
    else
      some (.inl ((-1) : Int32), σ18)
  else
    r17.bind fun a26 =>
    (gI σ18 a26 8 5).bind fun x27 =>
    some (.inl x27, σ18)

set_option maxHeartbeats 4000000 in
theorem s_X1_entry {X : zX} (hX : zOk X RX1 cX1_entry 4 8 131 (Option.some Jvm.ClassFile.FieldType.int) "entry" []) {o : Nat} {p1 : Int32} {p2 : Int32} {σ : zS} {Rt : (Int32 ⊕ Nat) × zS} (h : f_X1_entry o p1 p2 σ = some Rt) : zG X (zQ X (zot eI Rt.1) Rt.2) 4 0 [(0, zA (some o)), (1, zI p1), (2, zI p2)] [] σ := by
  unfold f_X1_entry at h
  refine z_iload_n hX 1 rfl rfl dX1_entry_0 (z_aload_n hX 0 rfl rfl dX1_entry_1 ?_)
  refine z_getR hX fl_X1_10_0 h dX1_entry_2 (fun r1 h => ?_)
  obtain ⟨a2, e9, k_a2⟩ := z_nn h
  subst e9
  have h := k_a2
  refine z_getR hX fl_X1_374_1 h dX1_entry_5 (fun r3 h => ?_)
  obtain ⟨a4, e9, k_a4⟩ := z_nn h
  subst e9
  have h := k_a4
  obtain ⟨c5, h⟩ := z_ck h
  refine z_cNI hX (rest := [zI p1]) h (fun r9 σ9 e9 => z_runV hX lk_X1_59 (c_J2_size hX.tr e9) (ci := 19) zc9_19 c5 ⟨Nat.le_of_ble_eq_true rfl, Nat.le_of_ble_eq_true rfl⟩ rfl (Nat.le_of_ble_eq_true rfl) dX1_entry_8 rfl) (fun x6 σ7 h => ?_)
  refine z_cTU hX (rest := []) h (fun r9 σ9 e9 => z_runS hX lk_X1_360 (c_X1_there hX.tr e9) ⟨Nat.le_of_ble_eq_true rfl, Nat.le_of_ble_eq_true rfl⟩ rfl (Nat.le_of_ble_eq_true rfl) dX1_entry_11 rfl) (fun k9 σ9 h => z_prop hX h (fun x hx => nomatch hx)) (fun _ σ9 h => ?_)
  refine z_iload_n hX 2 rfl rfl dX1_entry_14 (z_iconst hX (v := 5) (by decide) dX1_entry_15 ?_)
  refine z_cTU hX (rest := []) h (fun r9 σ9 e9 => z_runS hX lk_X1_366 (c_X1_asked hX.tr e9) ⟨Nat.le_of_ble_eq_true rfl, Nat.le_of_ble_eq_true rfl⟩ rfl (Nat.le_of_ble_eq_true rfl) dX1_entry_16 rfl) (fun k9 σ9 h => z_prop hX h (fun x hx => nomatch hx)) (fun _ σ11 h => ?_)
  refine z_aload_n hX 0 rfl rfl dX1_entry_19 ?_
  refine z_getR hX fl_X1_10_0 h dX1_entry_20 (fun r12 h => ?_)
  obtain ⟨a13, e9, k_a13⟩ := z_nn h
  subst e9
  have h := k_a13
  refine z_getR hX fl_X1_374_1 h dX1_entry_23 (fun r14 h => ?_)
  refine z_iload_n hX 1 rfl rfl dX1_entry_26 ?_
  obtain ⟨a15, e9, k_a15⟩ := z_nn h
  subst e9
  have h := k_a15
  obtain ⟨c16, h⟩ := z_ck h
  refine z_cNA hX (rest := []) h (fun r9 σ9 e9 => z_runV hX lk_X1_313 (c_J2_get hX.tr e9) (ci := 19) zc9_19 c16 ⟨Nat.le_of_ble_eq_true rfl, Nat.le_of_ble_eq_true rfl⟩ rfl (Nat.le_of_ble_eq_true rfl) dX1_entry_27 rfl) (fun r17 σ18 h => ?_)
  refine z_castC hX (ci := 8) rfl q385 h dX1_entry_30 (fun h => ?_)
  refine z_astore_n (L' := [(0, zA (some o)), (1, zI p1), (2, zI p2), (3, zA r17)]) hX rfl rfl (by decide) dX1_entry_33 (z_iload_n hX 2 rfl rfl dX1_entry_34 (z_iconst hX (v := 5) (by decide) dX1_entry_35 ?_))
  refine z_icmp_ne (tgt := 44) hX h dX1_entry_36 (by decide) (fun h => ?_) (fun h => ?_)
  · refine z_aload_n hX 3 rfl rfl dX1_entry_44 ?_
    obtain ⟨a19, e9, k_a19⟩ := z_nn h
    subst e9
    have h := k_a19
    refine z_getI hX fl_X1_396_8 h dX1_entry_45 (fun x20 h => ?_)
    refine z_if_eq (tgt := 53) hX h dX1_entry_48 (by decide) (fun h => ?_) (fun h => ?_)
    · refine z_iload_n hX 2 rfl rfl dX1_entry_53 ?_
      rcases z_ite h with ⟨c9, h⟩ | ⟨c9, h⟩
      · refine z_tableOut (tgt := 104) hX dX1_entry_54 c9 (by decide) ?_
        refine z_aload_n hX 3 rfl rfl dX1_entry_104 ?_
        refine z_getI hX fl_X1_402_8 h dX1_entry_105 (fun x21 h => ?_)
        refine z_if_eq (tgt := 115) hX h dX1_entry_108 (by decide) (fun h => ?_) (fun h => ?_)
        · refine z_iconst hX (v := 0) (by decide) dX1_entry_115 ?_
          obtain rfl := Option.some.inj h
          exact z_iret hX dX1_entry_116
        · refine z_iconst hX (v := 1) (by decide) dX1_entry_111 (z_goto (tgt := 116) hX dX1_entry_112 (by decide) ?_)
          obtain rfl := Option.some.inj h
          exact z_iret hX dX1_entry_116
      · rcases z_ite h with ⟨e9, h⟩ | ⟨-, h⟩
        · rw [e9]
          refine z_tableIn (tgt := 84) hX dX1_entry_54 (by decide) (by decide) rfl (by decide) ?_
          refine z_aload_n hX 3 rfl rfl dX1_entry_84 ?_
          refine z_getI hX fl_X1_382_8 h dX1_entry_85 (fun x22 h => ?_)
          obtain rfl := Option.some.inj h
          exact z_iret hX dX1_entry_88
        rcases z_ite h with ⟨e9, h⟩ | ⟨-, h⟩
        · rw [e9]
          refine z_tableIn (tgt := 89) hX dX1_entry_54 (by decide) (by decide) rfl (by decide) ?_
          refine z_aload_n hX 3 rfl rfl dX1_entry_89 ?_
          refine z_getI hX fl_X1_379_8 h dX1_entry_90 (fun x23 h => ?_)
          obtain rfl := Option.some.inj h
          exact z_iret hX dX1_entry_93
        rcases z_ite h with ⟨e9, h⟩ | ⟨-, h⟩
        · rw [e9]
          refine z_tableIn (tgt := 94) hX dX1_entry_54 (by decide) (by decide) rfl (by decide) ?_
          refine z_aload_n hX 3 rfl rfl dX1_entry_94 ?_
          refine z_getI hX fl_X1_399_8 h dX1_entry_95 (fun x24 h => ?_)
          obtain rfl := Option.some.inj h
          exact z_iret hX dX1_entry_98
        rcases z_ite h with ⟨e9, h⟩ | ⟨-, h⟩
        · rw [e9]
          refine z_tableIn (tgt := 99) hX dX1_entry_54 (by decide) (by decide) rfl (by decide) ?_
          refine z_aload_n hX 3 rfl rfl dX1_entry_99 ?_
          refine z_getI hX fl_X1_400_8 h dX1_entry_100 (fun x25 h => ?_)
          obtain rfl := Option.some.inj h
          exact z_iret hX dX1_entry_103
        cases h
    · refine z_iconst hX (v := (-1)) (by decide) dX1_entry_51 ?_
      obtain rfl := Option.some.inj h
      exact z_iret hX dX1_entry_52
  · refine z_aload_n hX 3 rfl rfl dX1_entry_39 ?_
    obtain ⟨a26, e9, k_a26⟩ := z_nn h
    subst e9
    have h := k_a26
    refine z_getI hX fl_X1_393_8 h dX1_entry_40 (fun x27 h => ?_)
    obtain rfl := Option.some.inj h
    exact z_iret hX dX1_entry_43

theorem c_X1_entry {l : Launch} {D : va_G} {tys : zTy} (hl : l.stackTraces = false) {o : Nat} {p1 : Int32} {p2 : Int32} {σ : zS} {Rt : (Int32 ⊕ Nat) × zS} (h : f_X1_entry o p1 p2 σ = some Rt) : zM l D tys yX1_entry (ws_ yX1_entry cX1_entry 4 (Option.some Jvm.ClassFile.FieldType.int)) 8 131 [zA (some o), zI p1, zI p2] σ (zot eI Rt.1) Rt.2 :=
  zM_in hl rfl (Nat.le_of_ble_eq_true rfl) (fun p e R s m args below meth c hX => z_L rfl (s_X1_entry hX h))
def f_X0_entry (p1 : Option Nat) (p2 : Int32) (p3 : Int32) (p4 : Option Nat) (σ : zS) : Option (Int32 × zS) :=
  p1.bind fun a1 =>
  zif (zcl σ a1 = 0) <|
  zbt (f_X1_entry a1 p2 p3 σ) (fun k9 σ9 =>
    if k9 = 2 then
      some ((1 : Int32), σ9)
    else
    if k9 = 3 then
      some ((2 : Int32), σ9)
    else
    none
  ) fun x3 σ4 =>
  p4.bind fun a5 =>
  (sJ σ4 a5 0 x3.toInt64).bind fun σ6 =>
  some ((0 : Int32), σ6)

set_option maxHeartbeats 4000000 in
theorem s_X0_entry {X : zX} (hX : zOk X RX0 cX0_entry 5 9 154 (Option.some Jvm.ClassFile.FieldType.int) "entry" (tableOf [(0, 10, 13, 24), (0, 10, 17, 26)])) {p1 : Option Nat} {p2 : Int32} {p3 : Int32} {p4 : Option Nat} {σ : zS} {Rt : Int32 × zS} (h : f_X0_entry p1 p2 p3 p4 σ = some Rt) : zG X (zQ X (.inl (eI Rt.1)) Rt.2) 5 0 [(0, zA p1), (1, zI p2), (2, zI p3), (3, zA p4)] [] σ := by
  unfold f_X0_entry at h
  refine z_aload_n hX 3 rfl rfl dX0_entry_0 (z_iconst hX (v := 0) (by decide) dX0_entry_1 (z_aload_n hX 0 rfl rfl dX0_entry_2 (z_iload_n hX 1 rfl rfl dX0_entry_3 (z_iload_n hX 2 rfl rfl dX0_entry_4 ?_))))
  obtain ⟨a1, e9, k_a1⟩ := z_nn h
  subst e9
  have h := k_a1
  obtain ⟨c2, h⟩ := z_ck h
  refine z_cTI hX (rest := [zI 0, zA p4]) h (fun r9 σ9 e9 => z_runV hX lk_X0_34 (c_X1_entry hX.tr e9) (ci := 0) zc9_0 c2 ⟨Nat.le_of_ble_eq_true rfl, Nat.le_of_ble_eq_true rfl⟩ rfl (Nat.le_of_ble_eq_true rfl) dX0_entry_5 rfl) (fun k9 σ9 h => ?_) (fun x3 σ4 h => ?_)
  · rcases z_ite h with ⟨e9, k_σ4_2⟩ | ⟨-, h⟩
    · subst e9
      have h := k_σ4_2
      refine z_catch hX (k := 2) (nmC := "java/lang/IndexOutOfBoundsException") [] ⟨0, 10, 13, 24⟩ [⟨0, 10, 17, 26⟩] rfl (fun z hz => nomatch hz) rfl (by decide) q1381 (zNw_of q1415 rfl) (fun q9 => ?_)
      refine z_astore (L' := [(0, zA (some a1)), (1, zI p2), (2, zI p3), (3, zA p4), (4, zA (some q9))]) hX rfl (by decide) dX0_entry_13 (z_iconst hX (v := 1) (by decide) dX0_entry_15 ?_)
      obtain rfl := Option.some.inj h
      exact z_iret hX dX0_entry_16
    rcases z_ite h with ⟨e9, k_σ4_3⟩ | ⟨-, h⟩
    · subst e9
      have h := k_σ4_3
      refine z_catch hX (k := 3) (nmC := "java/util/NoSuchElementException") [⟨0, 10, 13, 24⟩] ⟨0, 10, 17, 26⟩ [] rfl (List.forall_mem_cons.mpr ⟨Or.inr ⟨by decide, "java/lang/IndexOutOfBoundsException", q1381, by simp [zNc, zEx]⟩, fun z hz => nomatch hz⟩) rfl (by decide) q1400 (zNw_of q1433 rfl) (fun q9 => ?_)
      refine z_astore (L' := [(0, zA (some a1)), (1, zI p2), (2, zI p3), (3, zA p4), (4, zA (some q9))]) hX rfl (by decide) dX0_entry_17 (z_iconst hX (v := 2) (by decide) dX0_entry_19 ?_)
      obtain rfl := Option.some.inj h
      exact z_iret hX dX0_entry_20
    cases h
  refine z_i2l hX dX0_entry_8 ?_
  obtain ⟨a5, e9, k_a5⟩ := z_nn h
  subst e9
  have h := k_a5
  refine z_last hX h dX0_entry_9 (fun σ6 h => ?_)
  refine z_goto (tgt := 21) hX dX0_entry_10 (by decide) (z_iconst hX (v := 0) (by decide) dX0_entry_21 ?_)
  obtain rfl := Option.some.inj h
  exact z_iret hX dX0_entry_22

theorem c_X0_entry {l : Launch} {D : va_G} {tys : zTy} (hl : l.stackTraces = false) {p1 : Option Nat} {p2 : Int32} {p3 : Int32} {p4 : Option Nat} {σ : zS} {Rt : Int32 × zS} (h : f_X0_entry p1 p2 p3 p4 σ = some Rt) : zM l D tys yX0_entry (wsW_ yX0_entry cX0_entry 5 (Option.some Jvm.ClassFile.FieldType.int) [(0, 10, 13, 24), (0, 10, 17, 26)]) 9 154 [zA p1, zI p2, zI p3, zA p4] σ (.inl (eI Rt.1)) Rt.2 :=
  zM_inW hl rfl (Nat.le_of_ble_eq_true rfl) (fun p e R s m args below meth c hX => z_L rfl (s_X0_entry hX h))
def f_X1_demand (p1 : Int32) (σ : zS) : Option ((Unit ⊕ Nat) × zS) :=
  if ¬ p1 = 0 then
    some (.inl (), σ)
  else
    (zth σ).bind fun σ1 =>
    some (.inr 0, σ1)

set_option maxHeartbeats 4000000 in
theorem s_X1_demand {X : zX} (hX : zOk X RX1 cX1_demand 1 7 110 (Option.none : Option Jvm.ClassFile.FieldType) "demand" []) {p1 : Int32} {σ : zS} {Rt : (Unit ⊕ Nat) × zS} (h : f_X1_demand p1 σ = some Rt) : zG X (zQ X (zot eU Rt.1) Rt.2) 1 0 [(0, zI p1)] [] σ := by
  unfold f_X1_demand at h
  refine z_iload_n hX 0 rfl rfl dX1_demand_0 ?_
  refine z_if_ne (tgt := 12) hX h dX1_demand_1 (by decide) (fun h => ?_) (fun h => ?_)
  · obtain rfl := Option.some.inj h
    exact z_vret hX dX1_demand_12
  · obtain ⟨σ1, e9, h⟩ := z_bd h
    obtain rfl := Option.some.inj h
    exact z_throw0 hX (k := 0) (by decide +kernel) (by decide +kernel) q1167 q102 th_X1_181_a th_X1_181_b th_X1_181_c (Nat.le_of_ble_eq_true rfl) (Nat.le_of_ble_eq_true rfl) (Nat.le_of_ble_eq_true rfl) (fun x hx => nomatch hx) dX1_demand_4 dX1_demand_7 dX1_demand_8 dX1_demand_11 e9

theorem c_X1_demand {l : Launch} {D : va_G} {tys : zTy} (hl : l.stackTraces = false) {p1 : Int32} {σ : zS} {Rt : (Unit ⊕ Nat) × zS} (h : f_X1_demand p1 σ = some Rt) : zM l D tys yX1_demand (ws_ yX1_demand cX1_demand 1 (Option.none : Option Jvm.ClassFile.FieldType)) 7 110 [zI p1] σ (zot eU Rt.1) Rt.2 :=
  zM_in hl rfl (Nat.le_of_ble_eq_true rfl) (fun p e R s m args below meth c hX => z_L rfl (s_X1_demand hX h))
def f_X1_aWalk (o : Nat) (p1 : Int32) (p2 : Int32) (p3 : Int32) (σ : zS) : Option ((Unit ⊕ Nat) × zS) :=
  (gR σ o 0 0).bind fun r1 =>
  r1.bind fun a2 =>
  (gR σ a2 1 8).bind fun r3 =>
  r3.bind fun a4 =>
  zif (zcl σ a4 = 19) <|
  zb2 (f_J2_size a4 σ) fun x6 σ7 =>
  zbt (f_X1_there p1 x6 σ7) (fun k9 σ9 => some (.inr k9, σ9)) fun _ σ9 =>
  zif (zcl σ9 o = 0) <|
  zbt (f_X1_houseAt o p2 σ9) (fun k9 σ9 => some (.inr k9, σ9)) fun _ σ12 =>
  (gR σ12 o 0 0).bind fun r13 =>
  r13.bind fun a14 =>
  (gR σ12 a14 1 9).bind fun r15 =>
  r15.bind fun a16 =>
  zif (zcl σ12 a16 = 19) <|
  zb2 (f_J2_size a16 σ12) fun x18 σ19 =>
  zb2 (f_X1_in p3 1 x18 σ19) fun x20 σ21 =>
  zbt (f_X1_demand x20 σ21) (fun k9 σ9 => some (.inr k9, σ9)) fun _ σ23 =>
  some (.inl (), σ23)

set_option maxHeartbeats 4000000 in
theorem s_X1_aWalk {X : zX} (hX : zOk X RX1 cX1_aWalk 4 9 152 (Option.none : Option Jvm.ClassFile.FieldType) "aWalk" []) {o : Nat} {p1 : Int32} {p2 : Int32} {p3 : Int32} {σ : zS} {Rt : (Unit ⊕ Nat) × zS} (h : f_X1_aWalk o p1 p2 p3 σ = some Rt) : zG X (zQ X (zot eU Rt.1) Rt.2) 4 0 [(0, zA (some o)), (1, zI p1), (2, zI p2), (3, zI p3)] [] σ := by
  unfold f_X1_aWalk at h
  refine z_iload_n hX 1 rfl rfl dX1_aWalk_0 (z_aload_n hX 0 rfl rfl dX1_aWalk_1 ?_)
  refine z_getR hX fl_X1_10_0 h dX1_aWalk_2 (fun r1 h => ?_)
  obtain ⟨a2, e9, k_a2⟩ := z_nn h
  subst e9
  have h := k_a2
  refine z_getR hX fl_X1_55_1 h dX1_aWalk_5 (fun r3 h => ?_)
  obtain ⟨a4, e9, k_a4⟩ := z_nn h
  subst e9
  have h := k_a4
  obtain ⟨c5, h⟩ := z_ck h
  refine z_cNI hX (rest := [zI p1]) h (fun r9 σ9 e9 => z_runV hX lk_X1_59 (c_J2_size hX.tr e9) (ci := 19) zc9_19 c5 ⟨Nat.le_of_ble_eq_true rfl, Nat.le_of_ble_eq_true rfl⟩ rfl (Nat.le_of_ble_eq_true rfl) dX1_aWalk_8 rfl) (fun x6 σ7 h => ?_)
  refine z_cTU hX (rest := []) h (fun r9 σ9 e9 => z_runS hX lk_X1_360 (c_X1_there hX.tr e9) ⟨Nat.le_of_ble_eq_true rfl, Nat.le_of_ble_eq_true rfl⟩ rfl (Nat.le_of_ble_eq_true rfl) dX1_aWalk_11 rfl) (fun k9 σ9 h => z_prop hX h (fun x hx => nomatch hx)) (fun _ σ9 h => ?_)
  refine z_aload_n hX 0 rfl rfl dX1_aWalk_14 (z_iload_n hX 2 rfl rfl dX1_aWalk_15 ?_)
  obtain ⟨c10, h⟩ := z_ck h
  refine z_cTU hX (rest := []) h (fun r9 σ9 e9 => z_runV hX lk_X1_363 (c_X1_houseAt hX.tr e9) (ci := 0) zc9_0 c10 ⟨Nat.le_of_ble_eq_true rfl, Nat.le_of_ble_eq_true rfl⟩ rfl (Nat.le_of_ble_eq_true rfl) dX1_aWalk_16 rfl) (fun k9 σ9 h => z_prop hX h (fun x hx => nomatch hx)) (fun _ σ12 h => ?_)
  refine z_iload_n hX 3 rfl rfl dX1_aWalk_19 (z_iconst hX (v := 1) (by decide) dX1_aWalk_20 (z_aload_n hX 0 rfl rfl dX1_aWalk_21 ?_))
  refine z_getR hX fl_X1_10_0 h dX1_aWalk_22 (fun r13 h => ?_)
  obtain ⟨a14, e9, k_a14⟩ := z_nn h
  subst e9
  have h := k_a14
  refine z_getR hX fl_X1_144_1 h dX1_aWalk_25 (fun r15 h => ?_)
  obtain ⟨a16, e9, k_a16⟩ := z_nn h
  subst e9
  have h := k_a16
  obtain ⟨c17, h⟩ := z_ck h
  refine z_cNI hX (rest := [zI 1, zI p3]) h (fun r9 σ9 e9 => z_runV hX lk_X1_59 (c_J2_size hX.tr e9) (ci := 19) zc9_19 c17 ⟨Nat.le_of_ble_eq_true rfl, Nat.le_of_ble_eq_true rfl⟩ rfl (Nat.le_of_ble_eq_true rfl) dX1_aWalk_28 rfl) (fun x18 σ19 h => ?_)
  refine z_cNI hX (rest := []) h (fun r9 σ9 e9 => z_runS hX lk_X1_347 (c_X1_in hX.tr e9) ⟨Nat.le_of_ble_eq_true rfl, Nat.le_of_ble_eq_true rfl⟩ rfl (Nat.le_of_ble_eq_true rfl) dX1_aWalk_31 rfl) (fun x20 σ21 h => ?_)
  refine z_cTU hX (rest := []) h (fun r9 σ9 e9 => z_runS hX lk_X1_403 (c_X1_demand hX.tr e9) ⟨Nat.le_of_ble_eq_true rfl, Nat.le_of_ble_eq_true rfl⟩ rfl (Nat.le_of_ble_eq_true rfl) dX1_aWalk_34 rfl) (fun k9 σ9 h => z_prop hX h (fun x hx => nomatch hx)) (fun _ σ23 h => ?_)
  obtain rfl := Option.some.inj h
  exact z_vret hX dX1_aWalk_37

theorem c_X1_aWalk {l : Launch} {D : va_G} {tys : zTy} (hl : l.stackTraces = false) {o : Nat} {p1 : Int32} {p2 : Int32} {p3 : Int32} {σ : zS} {Rt : (Unit ⊕ Nat) × zS} (h : f_X1_aWalk o p1 p2 p3 σ = some Rt) : zM l D tys yX1_aWalk (ws_ yX1_aWalk cX1_aWalk 4 (Option.none : Option Jvm.ClassFile.FieldType)) 9 152 [zA (some o), zI p1, zI p2, zI p3] σ (zot eU Rt.1) Rt.2 :=
  zM_in hl rfl (Nat.le_of_ble_eq_true rfl) (fun p e R s m args below meth c hX => z_L rfl (s_X1_aWalk hX h))
def f_X2_paces_4_b (o : Nat) (v1 : Int32) (rec4 : Int32 → Int32 → zS → Option (Int32 × zS)) (v2 : Int32) (v3 : Int32) (σ : zS) : Option (Int32 × zS) :=
  if v1 ≤ v3 then
    some (v2, σ)
  else
    (gR σ o 1 9).bind fun r1 =>
    r1.bind fun a2 =>
    zif (zcl σ a2 = 19) <|
    zb2 (f_J2_get a2 v3 σ) fun r4 σ5 =>
    zif (zckC σ5 r4 7 = true) <|
    r4.bind fun a6 =>
    (gI σ5 a6 7 0).bind fun x7 =>
    zl (v2 + x7) fun x8 =>
    zl (v3 + 1) fun x9 =>
    rec4 x8 x9 σ5

def f_X2_paces_4 (o : Nat) (v1 : Int32) : Int32 → Int32 → zS → Option (Int32 × zS) := zlp2 (f_X2_paces_4_b o v1) NN
set_option maxHeartbeats 4000000 in
theorem s_X2_paces_4_b {X : zX} (hX : zOk X RX2 cX2_paces 4 4 104 (Option.some Jvm.ClassFile.FieldType.int) "paces" []) {o : Nat} {Rt : Int32 × zS} {v1 : Int32} {rec4 : Int32 → Int32 → zS → Option (Int32 × zS)} (hrec4 : ∀ (v2 : Int32) (v3 : Int32) (σ : zS), rec4 v2 v3 σ = some Rt → zG X (zQ X (.inl (eI Rt.1)) Rt.2) 4 4 [(0, zA (some o)), (1, zI v1), (2, zI v2), (3, zI v3)] [] σ) {v2 : Int32} {v3 : Int32} {σ : zS} (h : f_X2_paces_4_b o v1 rec4 v2 v3 σ = some Rt) : zG X (zQ X (.inl (eI Rt.1)) Rt.2) 4 4 [(0, zA (some o)), (1, zI v1), (2, zI v2), (3, zI v3)] [] σ := by
  unfold f_X2_paces_4_b at h
  refine z_iload_n hX 3 rfl rfl dX2_paces_4 (z_iload_n hX 1 rfl rfl dX2_paces_5 ?_)
  refine z_icmp_ge (tgt := 32) hX h dX2_paces_6 (by decide) (fun h => ?_) (fun h => ?_)
  · refine z_iload_n hX 2 rfl rfl dX2_paces_32 ?_
    obtain rfl := Option.some.inj h
    exact z_iret hX dX2_paces_33
  · refine z_iload_n hX 2 rfl rfl dX2_paces_9 (z_aload_n hX 0 rfl rfl dX2_paces_10 ?_)
    refine z_getR hX fl_X2_29_1 h dX2_paces_11 (fun r1 h => ?_)
    refine z_iload_n hX 3 rfl rfl dX2_paces_14 ?_
    obtain ⟨a2, e9, k_a2⟩ := z_nn h
    subst e9
    have h := k_a2
    obtain ⟨c3, h⟩ := z_ck h
    refine z_cNA hX (rest := [zI v2]) h (fun r9 σ9 e9 => z_runV hX lk_X2_68 (c_J2_get hX.tr e9) (ci := 19) zc9_19 c3 ⟨Nat.le_of_ble_eq_true rfl, Nat.le_of_ble_eq_true rfl⟩ rfl (Nat.le_of_ble_eq_true rfl) dX2_paces_15 rfl) (fun r4 σ5 h => ?_)
    refine z_castC hX (ci := 7) rfl q410 h dX2_paces_18 (fun h => ?_)
    obtain ⟨a6, e9, k_a6⟩ := z_nn h
    subst e9
    have h := k_a6
    refine z_getI hX fl_X2_103_7 h dX2_paces_21 (fun x7 h => ?_)
    refine z_iadd hX dX2_paces_24 ?_
    refine z_nmI h (fun x8 h => ?_)
    refine z_istore_n (L' := [(0, zA (some o)), (1, zI v1), (2, zI x8), (3, zI v3)]) hX rfl rfl (by decide) dX2_paces_25 ?_
    refine z_iinc hX (j := 3) h rfl (by decide) (by decide) dX2_paces_26 (fun x9 h => z_L (L' := [(0, zA (some o)), (1, zI v1), (2, zI x8), (3, zI x9)]) rfl ?_)
    refine z_goto (tgt := 4) hX dX2_paces_29 (by decide) ?_
    exact z_sub [0, 1, 2, 3] rfl (hrec4 _ _ _ h)

theorem s_X2_paces_4 {X : zX} (hX : zOk X RX2 cX2_paces 4 4 104 (Option.some Jvm.ClassFile.FieldType.int) "paces" []) {o : Nat} {Rt : Int32 × zS} {v1 : Int32} {v2 : Int32} {v3 : Int32} {σ : zS} (h : f_X2_paces_4 o v1 v2 v3 σ = some Rt) : zG X (zQ X (.inl (eI Rt.1)) Rt.2) 4 4 [(0, zA (some o)), (1, zI v1), (2, zI v2), (3, zI v3)] [] σ :=
  zlp2_ok (P := fun v2 v3 σ => zG X (zQ X (.inl (eI Rt.1)) Rt.2) 4 4 [(0, zA (some o)), (1, zI v1), (2, zI v2), (3, zI v3)] [] σ) (fun rec hr v2 v3 σ h => s_X2_paces_4_b (o := o) hX hr h) NN v2 v3 σ h
def f_X2_paces (o : Nat) (p1 : Int32) (σ : zS) : Option (Int32 × zS) :=
  f_X2_paces_4 o p1 0 0 σ

set_option maxHeartbeats 4000000 in
theorem s_X2_paces {X : zX} (hX : zOk X RX2 cX2_paces 4 4 104 (Option.some Jvm.ClassFile.FieldType.int) "paces" []) {o : Nat} {p1 : Int32} {σ : zS} {Rt : Int32 × zS} (h : f_X2_paces o p1 σ = some Rt) : zG X (zQ X (.inl (eI Rt.1)) Rt.2) 4 0 [(0, zA (some o)), (1, zI p1)] [] σ := by
  unfold f_X2_paces at h
  refine z_iconst hX (v := 0) (by decide) dX2_paces_0 (z_istore_n (L' := [(0, zA (some o)), (1, zI p1), (2, zI 0)]) hX rfl rfl (by decide) dX2_paces_1 (z_iconst hX (v := 0) (by decide) dX2_paces_2 (z_istore_n (L' := [(0, zA (some o)), (1, zI p1), (2, zI 0), (3, zI 0)]) hX rfl rfl (by decide) dX2_paces_3 ?_)))
  exact z_sub [0, 1, 2, 3] rfl (s_X2_paces_4 (o := o) hX  h)

theorem c_X2_paces {l : Launch} {D : va_G} {tys : zTy} (hl : l.stackTraces = false) {o : Nat} {p1 : Int32} {σ : zS} {Rt : Int32 × zS} (h : f_X2_paces o p1 σ = some Rt) : zM l D tys yX2_paces (ws_ yX2_paces cX2_paces 4 (Option.some Jvm.ClassFile.FieldType.int)) 4 104 [zA (some o), zI p1] σ (.inl (eI Rt.1)) Rt.2 :=
  zM_in hl rfl (Nat.le_of_ble_eq_true rfl) (fun p e R s m args below meth c hX => z_L rfl (s_X2_paces hX h))
def f_X14_holds_2_b (fh : Nat → Option Nat → zS → Option (Int32 × zS)) (o : Nat) (v1 : Option Nat) (rec2 : Int32 → zS → Option (Int32 × zS)) (v2 : Int32) (σ : zS) : Option (Int32 × zS) :=
  (gR σ o 13 1).bind fun r1 =>
  r1.bind fun a2 =>
  zif (zcl σ a2 = 19) <|
  zb2 (f_J2_size a2 σ) fun x4 σ5 =>
  if x4 ≤ v2 then
    (gI σ5 o 13 0).bind fun x6 =>
    zbo x6 (some (x6, σ5))
  else
    (gR σ5 o 13 1).bind fun r7 =>
    r7.bind fun a8 =>
    zif (zcl σ5 a8 = 19) <|
    zb2 (f_J2_get a8 v2 σ5) fun r10 σ11 =>
    zif (zckI σ11 r10 [13, 14, 15, 18] = true) <|
    r10.bind fun a12 =>
    zb2 (fh a12 v1 σ11) fun x13 σ14 =>
    (gI σ14 o 13 0).bind fun x15 =>
    if x13 = x15 then
      zl (v2 + 1) fun x16 =>
      rec2 x16 σ14
    else
      (gI σ14 o 13 0).bind fun x17 =>
      if ¬ x17 = 0 then
        some ((0 : Int32), σ14)
      else
        some ((1 : Int32), σ14)

def f_X14_holds_2 (fh : Nat → Option Nat → zS → Option (Int32 × zS)) (o : Nat) (v1 : Option Nat) : Int32 → zS → Option (Int32 × zS) := zlp1 (f_X14_holds_2_b fh o v1) NN
set_option maxHeartbeats 4000000 in
theorem s_X14_holds_2_b {f9 w9 : Nat} {X : zX} (hX : zOk X RX14 cX14_holds 3 (f9 + 5) (w9 + 127) (Option.some Jvm.ClassFile.FieldType.boolean) "holds" []) {fh : Nat → Option Nat → zS → Option (Int32 × zS)} {o : Nat} (hfh : zHolds (xl X) (xD X) (xt X) fh f9 w9) {Rt : Int32 × zS} {v1 : Option Nat} {rec2 : Int32 → zS → Option (Int32 × zS)} (hrec2 : ∀ (v2 : Int32) (σ : zS), rec2 v2 σ = some Rt → zG X (zQ X (.inl (eI Rt.1)) Rt.2) 3 2 [(0, zA (some o)), (1, zA v1), (2, zI v2)] [] σ) {v2 : Int32} {σ : zS} (h : f_X14_holds_2_b fh o v1 rec2 v2 σ = some Rt) : zG X (zQ X (.inl (eI Rt.1)) Rt.2) 3 2 [(0, zA (some o)), (1, zA v1), (2, zI v2)] [] σ := by
  unfold f_X14_holds_2_b at h
  refine z_iload_n hX 2 rfl rfl dX14_holds_2 (z_aload_n hX 0 rfl rfl dX14_holds_3 ?_)
  refine z_getR hX fl_X14_10_13 h dX14_holds_4 (fun r1 h => ?_)
  obtain ⟨a2, e9, k_a2⟩ := z_nn h
  subst e9
  have h := k_a2
  obtain ⟨c3, h⟩ := z_ck h
  refine z_cNI hX (rest := [zI v2]) h (fun r9 σ9 e9 => z_runV hX lk_X14_20 (c_J2_size hX.tr e9) (ci := 19) zc9_19 c3 ⟨by omega, by omega⟩ rfl (Nat.le_of_ble_eq_true rfl) dX14_holds_7 rfl) (fun x4 σ5 h => ?_)
  refine z_icmp_ge (tgt := 56) hX h dX14_holds_10 (by decide) (fun h => ?_) (fun h => ?_)
  · refine z_aload_n hX 0 rfl rfl dX14_holds_56 ?_
    refine z_getI hX fl_X14_16_13 h dX14_holds_57 (fun x6 h => ?_)
    obtain ⟨n9, h⟩ := zbo_inv h
    obtain rfl := Option.some.inj h
    exact z_zretT hX n9 dX14_holds_60
  · refine z_aload_n hX 0 rfl rfl dX14_holds_13 ?_
    refine z_getR hX fl_X14_10_13 h dX14_holds_14 (fun r7 h => ?_)
    refine z_iload_n hX 2 rfl rfl dX14_holds_17 ?_
    obtain ⟨a8, e9, k_a8⟩ := z_nn h
    subst e9
    have h := k_a8
    obtain ⟨c9, h⟩ := z_ck h
    refine z_cNA hX (rest := []) h (fun r9 σ9 e9 => z_runV hX lk_X14_24 (c_J2_get hX.tr e9) (ci := 19) zc9_19 c9 ⟨by omega, by omega⟩ rfl (Nat.le_of_ble_eq_true rfl) dX14_holds_18 rfl) (fun r10 σ11 h => ?_)
    refine z_castI hX zcond q1568 h dX14_holds_21 (fun h => ?_)
    refine z_aload_n hX 1 rfl rfl dX14_holds_24 ?_
    obtain ⟨a12, e9, k_a12⟩ := z_nn h
    subst e9
    have h := k_a12
    refine z_cNI5 hX (rest := []) h (fun r9 σ9 e9 => z_holds hX lkh_X14_30 hfh e9 ⟨by omega, by omega⟩ (Nat.le_of_ble_eq_true rfl) dX14_holds_25 rfl) (fun x13 σ14 h => ?_)
    refine z_aload_n hX 0 rfl rfl dX14_holds_30 ?_
    refine z_getI hX fl_X14_16_13 h dX14_holds_31 (fun x15 h => ?_)
    refine z_icmp_eq (tgt := 50) hX h dX14_holds_34 (by decide) (fun h => ?_) (fun h => ?_)
    · refine z_iinc hX (j := 2) h rfl (by decide) (by decide) dX14_holds_50 (fun x16 h => z_L (L' := [(0, zA (some o)), (1, zA v1), (2, zI x16)]) rfl ?_)
      refine z_goto (tgt := 2) hX dX14_holds_53 (by decide) ?_
      exact z_sub [0, 1, 2] rfl (hrec2 _ _ h)
    · refine z_aload_n hX 0 rfl rfl dX14_holds_37 ?_
      refine z_getI hX fl_X14_16_13 h dX14_holds_38 (fun x17 h => ?_)
      refine z_if_ne (tgt := 48) hX h dX14_holds_41 (by decide) (fun h => ?_) (fun h => ?_)
      · refine z_iconst hX (v := 0) (by decide) dX14_holds_48 ?_
        obtain rfl := Option.some.inj h
        exact z_zretT (r := 0) hX (by decide) dX14_holds_49
      · refine z_iconst hX (v := 1) (by decide) dX14_holds_44 (z_goto (tgt := 49) hX dX14_holds_45 (by decide) ?_)
        obtain rfl := Option.some.inj h
        exact z_zretT (r := 1) hX (by decide) dX14_holds_49

theorem s_X14_holds_2 {f9 w9 : Nat} {X : zX} (hX : zOk X RX14 cX14_holds 3 (f9 + 5) (w9 + 127) (Option.some Jvm.ClassFile.FieldType.boolean) "holds" []) {fh : Nat → Option Nat → zS → Option (Int32 × zS)} {o : Nat} (hfh : zHolds (xl X) (xD X) (xt X) fh f9 w9) {Rt : Int32 × zS} {v1 : Option Nat} {v2 : Int32} {σ : zS} (h : f_X14_holds_2 fh o v1 v2 σ = some Rt) : zG X (zQ X (.inl (eI Rt.1)) Rt.2) 3 2 [(0, zA (some o)), (1, zA v1), (2, zI v2)] [] σ :=
  zlp1_ok (P := fun v2 σ => zG X (zQ X (.inl (eI Rt.1)) Rt.2) 3 2 [(0, zA (some o)), (1, zA v1), (2, zI v2)] [] σ) (fun rec hr v2 σ h => s_X14_holds_2_b (o := o) hX hfh hr h) NN v2 σ h
def f_X14_holds (fh : Nat → Option Nat → zS → Option (Int32 × zS)) (o : Nat) (p1 : Option Nat) (σ : zS) : Option (Int32 × zS) :=
  f_X14_holds_2 fh o p1 0 σ

set_option maxHeartbeats 4000000 in
theorem s_X14_holds {f9 w9 : Nat} {X : zX} (hX : zOk X RX14 cX14_holds 3 (f9 + 5) (w9 + 127) (Option.some Jvm.ClassFile.FieldType.boolean) "holds" []) {fh : Nat → Option Nat → zS → Option (Int32 × zS)} {o : Nat} (hfh : zHolds (xl X) (xD X) (xt X) fh f9 w9) {p1 : Option Nat} {σ : zS} {Rt : Int32 × zS} (h : f_X14_holds fh o p1 σ = some Rt) : zG X (zQ X (.inl (eI Rt.1)) Rt.2) 3 0 [(0, zA (some o)), (1, zA p1)] [] σ := by
  unfold f_X14_holds at h
  refine z_iconst hX (v := 0) (by decide) dX14_holds_0 (z_istore_n (L' := [(0, zA (some o)), (1, zA p1), (2, zI 0)]) hX rfl rfl (by decide) dX14_holds_1 ?_)
  exact z_sub [0, 1, 2] rfl (s_X14_holds_2 (o := o) hX hfh  h)

theorem c_X14_holds {l : Launch} {D : va_G} {tys : zTy} (hl : l.stackTraces = false) {fh : Nat → Option Nat → zS → Option (Int32 × zS)} {f9 w9 : Nat} {o : Nat} (hfh : zHolds l D tys fh f9 w9) {p1 : Option Nat} {σ : zS} {Rt : Int32 × zS} (h : f_X14_holds fh o p1 σ = some Rt) : zM l D tys yX14_holds (ws_ yX14_holds cX14_holds 3 (Option.some Jvm.ClassFile.FieldType.boolean)) (f9 + 5) (w9 + 127) [zA (some o), zA p1] σ (.inl (eI Rt.1)) Rt.2 :=
  zM_in hl rfl (Nat.le_of_ble_eq_true rfl) (fun p e R s m args below meth c hX => z_L rfl (s_X14_holds hX hfh h))
def f_X15_holds (fh : Nat → Option Nat → zS → Option (Int32 × zS)) (o : Nat) (p1 : Option Nat) (σ : zS) : Option (Int32 × zS) :=
  (gR σ o 14 0).bind fun r1 =>
  r1.bind fun a2 =>
  zb2 (fh a2 p1 σ) fun x3 σ4 =>
  if ¬ x3 = 0 then
    some ((0 : Int32), σ4)
  else
    some ((1 : Int32), σ4)

set_option maxHeartbeats 4000000 in
theorem s_X15_holds {f9 w9 : Nat} {X : zX} (hX : zOk X RX15 cX15_holds 2 (f9 + 5) (w9 + 127) (Option.some Jvm.ClassFile.FieldType.boolean) "holds" []) {fh : Nat → Option Nat → zS → Option (Int32 × zS)} {o : Nat} (hfh : zHolds (xl X) (xD X) (xt X) fh f9 w9) {p1 : Option Nat} {σ : zS} {Rt : Int32 × zS} (h : f_X15_holds fh o p1 σ = some Rt) : zG X (zQ X (.inl (eI Rt.1)) Rt.2) 2 0 [(0, zA (some o)), (1, zA p1)] [] σ := by
  unfold f_X15_holds at h
  refine z_aload_n hX 0 rfl rfl dX15_holds_0 ?_
  refine z_getR hX fl_X15_7_14 h dX15_holds_1 (fun r1 h => ?_)
  refine z_aload_n hX 1 rfl rfl dX15_holds_4 ?_
  obtain ⟨a2, e9, k_a2⟩ := z_nn h
  subst e9
  have h := k_a2
  refine z_cNI5 hX (rest := []) h (fun r9 σ9 e9 => z_holds hX lkh_X15_13 hfh e9 ⟨by omega, by omega⟩ (Nat.le_of_ble_eq_true rfl) dX15_holds_5 rfl) (fun x3 σ4 h => ?_)
  refine z_if_ne (tgt := 17) hX h dX15_holds_10 (by decide) (fun h => ?_) (fun h => ?_)
  · refine z_iconst hX (v := 0) (by decide) dX15_holds_17 ?_
    obtain rfl := Option.some.inj h
    exact z_zretT (r := 0) hX (by decide) dX15_holds_18
  · refine z_iconst hX (v := 1) (by decide) dX15_holds_13 (z_goto (tgt := 18) hX dX15_holds_14 (by decide) ?_)
    obtain rfl := Option.some.inj h
    exact z_zretT (r := 1) hX (by decide) dX15_holds_18

theorem c_X15_holds {l : Launch} {D : va_G} {tys : zTy} (hl : l.stackTraces = false) {fh : Nat → Option Nat → zS → Option (Int32 × zS)} {f9 w9 : Nat} {o : Nat} (hfh : zHolds l D tys fh f9 w9) {p1 : Option Nat} {σ : zS} {Rt : Int32 × zS} (h : f_X15_holds fh o p1 σ = some Rt) : zM l D tys yX15_holds (ws_ yX15_holds cX15_holds 2 (Option.some Jvm.ClassFile.FieldType.boolean)) (f9 + 5) (w9 + 127) [zA (some o), zA p1] σ (.inl (eI Rt.1)) Rt.2 :=
  zM_in hl rfl (Nat.le_of_ble_eq_true rfl) (fun p e R s m args below meth c hX => z_L rfl (s_X15_holds hX hfh h))
def f_J19_ordinal (o : Nat) (σ : zS) : Option (Int32 × zS) :=
  (gI σ o 50 0).bind fun x1 =>
  some (x1, σ)

set_option maxHeartbeats 4000000 in
theorem s_J19_ordinal {X : zX} (hX : zOk X RJ19 cJ19_ordinal 1 1 40 (Option.some Jvm.ClassFile.FieldType.int) "ordinal" []) {o : Nat} {σ : zS} {Rt : Int32 × zS} (h : f_J19_ordinal o σ = some Rt) : zG X (zQ X (.inl (eI Rt.1)) Rt.2) 1 0 [(0, zA (some o))] [] σ := by
  unfold f_J19_ordinal at h
  refine z_aload_n hX 0 rfl rfl dJ19_ordinal_0 ?_
  refine z_getI hX fl_J19_7_50 h dJ19_ordinal_1 (fun x1 h => ?_)
  obtain rfl := Option.some.inj h
  exact z_iret hX dJ19_ordinal_4

theorem c_J19_ordinal {l : Launch} {D : va_G} {tys : zTy} (hl : l.stackTraces = false) {o : Nat} {σ : zS} {Rt : Int32 × zS} (h : f_J19_ordinal o σ = some Rt) : zM l D tys yJ19_ordinal (ws_ yJ19_ordinal cJ19_ordinal 1 (Option.some Jvm.ClassFile.FieldType.int)) 1 40 [zA (some o)] σ (.inl (eI Rt.1)) Rt.2 :=
  zM_in hl rfl (Nat.le_of_ble_eq_true rfl) (fun p e R s m args below meth c hX => z_L rfl (s_J19_ordinal hX h))
def f_J19_ordinalF (o : Nat) (σ : zS) : Option (Int32 × zS) :=
  (gI σ o 51 0).bind fun x1 =>
  some (x1, σ)

set_option maxHeartbeats 4000000 in
theorem s_J19_ordinalF {X : zX} (hX : zOk X RJ19 cJ19_ordinal 1 1 40 (Option.some Jvm.ClassFile.FieldType.int) "ordinal" []) {o : Nat} {σ : zS} {Rt : Int32 × zS} (h : f_J19_ordinalF o σ = some Rt) : zG X (zQ X (.inl (eI Rt.1)) Rt.2) 1 0 [(0, zA (some o))] [] σ := by
  unfold f_J19_ordinalF at h
  refine z_aload_n hX 0 rfl rfl dJ19_ordinal_0 ?_
  refine z_getI hX fl_J19_7_51 h dJ19_ordinal_1 (fun x1 h => ?_)
  obtain rfl := Option.some.inj h
  exact z_iret hX dJ19_ordinal_4

theorem c_J19_ordinalF {l : Launch} {D : va_G} {tys : zTy} (hl : l.stackTraces = false) {o : Nat} {σ : zS} {Rt : Int32 × zS} (h : f_J19_ordinalF o σ = some Rt) : zM l D tys yJ19_ordinal (ws_ yJ19_ordinal cJ19_ordinal 1 (Option.some Jvm.ClassFile.FieldType.int)) 1 40 [zA (some o)] σ (.inl (eI Rt.1)) Rt.2 :=
  zM_in hl rfl (Nat.le_of_ble_eq_true rfl) (fun p e R s m args below meth c hX => z_L rfl (s_J19_ordinalF hX h))
def f_X4_is (o : Nat) (p1 : Option Nat) (σ : zS) : Option (Int32 × zS) :=
  zl (zk σ 14) fun r1 =>
  if ¬ p1 = r1 then
    zl (zk σ 15) fun r2 =>
    if ¬ p1 = r2 then
      (gI σ o 3 0).bind fun x3 =>
      p1.bind fun a4 =>
      zif (zcl σ a4 = 50) <|
      zb2 (f_J19_ordinal a4 σ) fun x6 σ7 =>
      if ¬ x3 = x6 then
        some ((0 : Int32), σ7)
      else
        some ((1 : Int32), σ7)
    else
      (gI σ o 3 6).bind fun x8 =>
      zbo x8 (some (x8, σ))
  else
    (gI σ o 3 5).bind fun x9 =>
    zbo x9 (some (x9, σ))

set_option maxHeartbeats 4000000 in
theorem s_X4_is {X : zX} (hX : zOk X RX4 cX4_is 2 2 60 (Option.some Jvm.ClassFile.FieldType.boolean) "is" []) {o : Nat} {p1 : Option Nat} {σ : zS} {Rt : Int32 × zS} (h : f_X4_is o p1 σ = some Rt) : zG X (zQ X (.inl (eI Rt.1)) Rt.2) 2 0 [(0, zA (some o)), (1, zA p1)] [] σ := by
  unfold f_X4_is at h
  refine z_aload_n hX 1 rfl rfl dX4_is_0 ?_
  refine z_gets hX (k := 14) (C := "StepDebts$Tag") (n := "NIGHT") (dsc := "LStepDebts$Tag;") (by simp [zSt]) q1518 h dX4_is_1 (fun r1 _ h => ?_)
  refine z_acmp_ne (tgt := 14) hX h dX4_is_4 (by decide) (fun h => ?_) (fun h => ?_)
  · refine z_aload_n hX 1 rfl rfl dX4_is_14 ?_
    refine z_gets hX (k := 15) (C := "StepDebts$Tag") (n := "OWN") (dsc := "LStepDebts$Tag;") (by simp [zSt]) q1520 h dX4_is_15 (fun r2 _ h => ?_)
    refine z_acmp_ne (tgt := 28) hX h dX4_is_18 (by decide) (fun h => ?_) (fun h => ?_)
    · refine z_aload_n hX 0 rfl rfl dX4_is_28 ?_
      refine z_getI hX fl_X4_44_3 h dX4_is_29 (fun x3 h => ?_)
      refine z_aload_n hX 1 rfl rfl dX4_is_32 ?_
      obtain ⟨a4, e9, k_a4⟩ := z_nn h
      subst e9
      have h := k_a4
      obtain ⟨c5, h⟩ := z_ck h
      refine z_cNI hX (rest := [zI x3]) h (fun r9 σ9 e9 => z_runG hX lk_X4_47 (c_J19_ordinal hX.tr e9) (ci := 50) zc9_50 c5 ⟨Nat.le_of_ble_eq_true rfl, Nat.le_of_ble_eq_true rfl⟩ rfl (Nat.le_of_ble_eq_true rfl) dX4_is_33 rfl) (fun x6 σ7 h => ?_)
      refine z_icmp_ne (tgt := 43) hX h dX4_is_36 (by decide) (fun h => ?_) (fun h => ?_)
      · refine z_iconst hX (v := 0) (by decide) dX4_is_43 ?_
        obtain rfl := Option.some.inj h
        exact z_zretT (r := 0) hX (by decide) dX4_is_44
      · refine z_iconst hX (v := 1) (by decide) dX4_is_39 (z_goto (tgt := 44) hX dX4_is_40 (by decide) ?_)
        obtain rfl := Option.some.inj h
        exact z_zretT (r := 1) hX (by decide) dX4_is_44
    · refine z_aload_n hX 0 rfl rfl dX4_is_21 ?_
      refine z_getI hX fl_X4_41_3 h dX4_is_22 (fun x8 h => ?_)
      refine z_goto (tgt := 44) hX dX4_is_25 (by decide) ?_
      obtain ⟨n9, h⟩ := zbo_inv h
      obtain rfl := Option.some.inj h
      exact z_zretT hX n9 dX4_is_44
  · refine z_aload_n hX 0 rfl rfl dX4_is_7 ?_
    refine z_getI hX fl_X4_34_3 h dX4_is_8 (fun x9 h => ?_)
    refine z_goto (tgt := 44) hX dX4_is_11 (by decide) ?_
    obtain ⟨n9, h⟩ := zbo_inv h
    obtain rfl := Option.some.inj h
    exact z_zretT hX n9 dX4_is_44

theorem c_X4_is {l : Launch} {D : va_G} {tys : zTy} (hl : l.stackTraces = false) {o : Nat} {p1 : Option Nat} {σ : zS} {Rt : Int32 × zS} (h : f_X4_is o p1 σ = some Rt) : zM l D tys yX4_is (ws_ yX4_is cX4_is 2 (Option.some Jvm.ClassFile.FieldType.boolean)) 2 60 [zA (some o), zA p1] σ (.inl (eI Rt.1)) Rt.2 :=
  zM_in hl rfl (Nat.le_of_ble_eq_true rfl) (fun p e R s m args below meth c hX => z_L rfl (s_X4_is hX h))
def f_X17_holds (o : Nat) (p1 : Option Nat) (σ : zS) : Option (Int32 × zS) :=
  (gR σ o 15 0).bind fun r1 =>
  p1.bind fun a2 =>
  zif (zcl σ a2 = 3) <|
  zb2 (f_X4_is a2 r1 σ) fun x4 σ5 =>
  zbo x4 (some (x4, σ5))

set_option maxHeartbeats 4000000 in
theorem s_X17_holds {f9 w9 : Nat} {X : zX} (hX : zOk X RX17 cX17_holds 2 (f9 + 5) (w9 + 127) (Option.some Jvm.ClassFile.FieldType.boolean) "holds" []) {o : Nat} {p1 : Option Nat} {σ : zS} {Rt : Int32 × zS} (h : f_X17_holds o p1 σ = some Rt) : zG X (zQ X (.inl (eI Rt.1)) Rt.2) 2 0 [(0, zA (some o)), (1, zA p1)] [] σ := by
  unfold f_X17_holds at h
  refine z_aload_n hX 1 rfl rfl dX17_holds_0 (z_aload_n hX 0 rfl rfl dX17_holds_1 ?_)
  refine z_getR hX fl_X17_7_15 h dX17_holds_2 (fun r1 h => ?_)
  obtain ⟨a2, e9, k_a2⟩ := z_nn h
  subst e9
  have h := k_a2
  obtain ⟨c3, h⟩ := z_ck h
  refine z_cNI hX (rest := []) h (fun r9 σ9 e9 => z_runV hX lk_X17_13 (c_X4_is hX.tr e9) (ci := 3) zc9_3 c3 ⟨by omega, by omega⟩ rfl (Nat.le_of_ble_eq_true rfl) dX17_holds_5 rfl) (fun x4 σ5 h => ?_)
  obtain ⟨n9, h⟩ := zbo_inv h
  obtain rfl := Option.some.inj h
  exact z_zretT hX n9 dX17_holds_8

theorem c_X17_holds {l : Launch} {D : va_G} {tys : zTy} (hl : l.stackTraces = false) {f9 w9 : Nat} {o : Nat} {p1 : Option Nat} {σ : zS} {Rt : Int32 × zS} (h : f_X17_holds o p1 σ = some Rt) : zM l D tys yX17_holds (ws_ yX17_holds cX17_holds 2 (Option.some Jvm.ClassFile.FieldType.boolean)) (f9 + 5) (w9 + 127) [zA (some o), zA p1] σ (.inl (eI Rt.1)) Rt.2 :=
  zM_in hl rfl (Nat.le_of_ble_eq_true rfl) (fun p e R s m args below meth c hX => z_L rfl (s_X17_holds hX h))
def f_X4_of (o : Nat) (p1 : Option Nat) (σ : zS) : Option (Int32 × zS) :=
  p1.bind fun a1 =>
  zif (zcl σ a1 = 51) <|
  zb2 (f_J19_ordinalF a1 σ) fun x3 σ4 =>
  if x3.toInt < 0 ∨ 2 < x3.toInt then
    (gI σ4 o 3 4).bind fun x5 =>
    some (x5, σ4)
  else if x3 = 0 then
    (gI σ4 o 3 1).bind fun x6 =>
    some (x6, σ4)
  else if x3 = 1 then
    (gI σ4 o 3 2).bind fun x7 =>
    some (x7, σ4)
  else if x3 = 2 then
    (gI σ4 o 3 3).bind fun x8 =>
    some (x8, σ4)
  else none

set_option maxHeartbeats 4000000 in
theorem s_X4_of {X : zX} (hX : zOk X RX4 cX4_of 2 2 60 (Option.some Jvm.ClassFile.FieldType.int) "of" []) {o : Nat} {p1 : Option Nat} {σ : zS} {Rt : Int32 × zS} (h : f_X4_of o p1 σ = some Rt) : zG X (zQ X (.inl (eI Rt.1)) Rt.2) 2 0 [(0, zA (some o)), (1, zA p1)] [] σ := by
  unfold f_X4_of at h
  refine z_aload_n hX 1 rfl rfl dX4_of_0 ?_
  obtain ⟨a1, e9, k_a1⟩ := z_nn h
  subst e9
  have h := k_a1
  obtain ⟨c2, h⟩ := z_ck h
  refine z_cNI hX (rest := []) h (fun r9 σ9 e9 => z_runG hX lk_X4_7 (c_J19_ordinalF hX.tr e9) (ci := 51) zc9_51 c2 ⟨Nat.le_of_ble_eq_true rfl, Nat.le_of_ble_eq_true rfl⟩ rfl (Nat.le_of_ble_eq_true rfl) dX4_of_1 rfl) (fun x3 σ4 h => ?_)
  rcases z_ite h with ⟨c9, h⟩ | ⟨c9, h⟩
  · refine z_tableOut (tgt := 47) hX dX4_of_4 c9 (by decide) ?_
    refine z_aload_n hX 0 rfl rfl dX4_of_47 ?_
    refine z_getI hX fl_X4_25_3 h dX4_of_48 (fun x5 h => ?_)
    obtain rfl := Option.some.inj h
    exact z_iret hX dX4_of_51
  · rcases z_ite h with ⟨e9, h⟩ | ⟨-, h⟩
    · rw [e9]
      refine z_tableIn (tgt := 32) hX dX4_of_4 (by decide) (by decide) rfl (by decide) ?_
      refine z_aload_n hX 0 rfl rfl dX4_of_32 ?_
      refine z_getI hX fl_X4_13_3 h dX4_of_33 (fun x6 h => ?_)
      obtain rfl := Option.some.inj h
      exact z_iret hX dX4_of_36
    rcases z_ite h with ⟨e9, h⟩ | ⟨-, h⟩
    · rw [e9]
      refine z_tableIn (tgt := 37) hX dX4_of_4 (by decide) (by decide) rfl (by decide) ?_
      refine z_aload_n hX 0 rfl rfl dX4_of_37 ?_
      refine z_getI hX fl_X4_19_3 h dX4_of_38 (fun x7 h => ?_)
      obtain rfl := Option.some.inj h
      exact z_iret hX dX4_of_41
    rcases z_ite h with ⟨e9, h⟩ | ⟨-, h⟩
    · rw [e9]
      refine z_tableIn (tgt := 42) hX dX4_of_4 (by decide) (by decide) rfl (by decide) ?_
      refine z_aload_n hX 0 rfl rfl dX4_of_42 ?_
      refine z_getI hX fl_X4_22_3 h dX4_of_43 (fun x8 h => ?_)
      obtain rfl := Option.some.inj h
      exact z_iret hX dX4_of_46
    cases h

theorem c_X4_of {l : Launch} {D : va_G} {tys : zTy} (hl : l.stackTraces = false) {o : Nat} {p1 : Option Nat} {σ : zS} {Rt : Int32 × zS} (h : f_X4_of o p1 σ = some Rt) : zM l D tys yX4_of (ws_ yX4_of cX4_of 2 (Option.some Jvm.ClassFile.FieldType.int)) 2 60 [zA (some o), zA p1] σ (.inl (eI Rt.1)) Rt.2 :=
  zM_in hl rfl (Nat.le_of_ble_eq_true rfl) (fun p e R s m args below meth c hX => z_L rfl (s_X4_of hX h))
def f_X19_in (o : Nat) (p1 : Option Nat) (σ : zS) : Option (Int32 × zS) :=
  (gR σ o 17 1).bind fun r1 =>
  zcs r1 (
    (gI σ o 17 0).bind fun x3 =>
    some (x3, σ)
  ) fun a2 =>
    (gR σ o 17 1).bind fun r4 =>
    p1.bind fun a5 =>
    zif (zcl σ a5 = 3) <|
    zb2 (f_X4_of a5 r4 σ) fun x7 σ8 =>
    some (x7, σ8)

set_option maxHeartbeats 4000000 in
theorem s_X19_in {X : zX} (hX : zOk X RX19 cX19_in 2 3 81 (Option.some Jvm.ClassFile.FieldType.int) "in" []) {o : Nat} {p1 : Option Nat} {σ : zS} {Rt : Int32 × zS} (h : f_X19_in o p1 σ = some Rt) : zG X (zQ X (.inl (eI Rt.1)) Rt.2) 2 0 [(0, zA (some o)), (1, zA p1)] [] σ := by
  unfold f_X19_in at h
  refine z_aload_n hX 0 rfl rfl dX19_in_0 ?_
  refine z_getR hX fl_X19_13_17 h dX19_in_1 (fun r1 h => ?_)
  refine z_ifnonnull (tgt := 14) hX h dX19_in_4 (by decide) (fun e9 k_a2 => ?_) (fun a2 e9 k_a2 => ?_)
  · subst e9
    have h := k_a2
    refine z_aload_n hX 0 rfl rfl dX19_in_7 ?_
    refine z_getI hX fl_X19_7_17 h dX19_in_8 (fun x3 h => ?_)
    refine z_goto (tgt := 22) hX dX19_in_11 (by decide) ?_
    obtain rfl := Option.some.inj h
    exact z_iret hX dX19_in_22
  · subst e9
    have h := k_a2
    refine z_aload_n hX 1 rfl rfl dX19_in_14 (z_aload_n hX 0 rfl rfl dX19_in_15 ?_)
    refine z_getR hX fl_X19_13_17 h dX19_in_16 (fun r4 h => ?_)
    obtain ⟨a5, e9, k_a5⟩ := z_nn h
    subst e9
    have h := k_a5
    obtain ⟨c6, h⟩ := z_ck h
    refine z_cNI hX (rest := []) h (fun r9 σ9 e9 => z_runV hX lk_X19_17 (c_X4_of hX.tr e9) (ci := 3) zc9_3 c6 ⟨Nat.le_of_ble_eq_true rfl, Nat.le_of_ble_eq_true rfl⟩ rfl (Nat.le_of_ble_eq_true rfl) dX19_in_19 rfl) (fun x7 σ8 h => ?_)
    obtain rfl := Option.some.inj h
    exact z_iret hX dX19_in_22

theorem c_X19_in {l : Launch} {D : va_G} {tys : zTy} (hl : l.stackTraces = false) {o : Nat} {p1 : Option Nat} {σ : zS} {Rt : Int32 × zS} (h : f_X19_in o p1 σ = some Rt) : zM l D tys yX19_in (ws_ yX19_in cX19_in 2 (Option.some Jvm.ClassFile.FieldType.int)) 3 81 [zA (some o), zA p1] σ (.inl (eI Rt.1)) Rt.2 :=
  zM_in hl rfl (Nat.le_of_ble_eq_true rfl) (fun p e R s m args below meth c hX => z_L rfl (s_X19_in hX h))
def f_X18_in_4_b (o : Nat) (v1 : Option Nat) (rec4 : Int32 → Int32 → zS → Option (Int32 × zS)) (v2 : Int32) (v3 : Int32) (σ : zS) : Option (Int32 × zS) :=
  (gR σ o 16 0).bind fun r1 =>
  r1.bind fun a2 =>
  zif (zcl σ a2 = 19) <|
  zb2 (f_J2_size a2 σ) fun x4 σ5 =>
  if x4 ≤ v3 then
    some (v2, σ5)
  else
    (gR σ5 o 16 0).bind fun r6 =>
    r6.bind fun a7 =>
    zif (zcl σ5 a7 = 19) <|
    zb2 (f_J2_get a7 v3 σ5) fun r9 σ10 =>
    zif (zckC σ10 r9 17 = true) <|
    r9.bind fun a11 =>
    zif (zcl σ10 a11 = 17) <|
    zb2 (f_X19_in a11 v1 σ10) fun x13 σ14 =>
    zl (v2 + x13) fun x15 =>
    zl (v3 + 1) fun x16 =>
    rec4 x15 x16 σ14

def f_X18_in_4 (o : Nat) (v1 : Option Nat) : Int32 → Int32 → zS → Option (Int32 × zS) := zlp2 (f_X18_in_4_b o v1) NN
set_option maxHeartbeats 4000000 in
theorem s_X18_in_4_b {X : zX} (hX : zOk X RX18 cX18_in 4 4 104 (Option.some Jvm.ClassFile.FieldType.int) "in" []) {o : Nat} {Rt : Int32 × zS} {v1 : Option Nat} {rec4 : Int32 → Int32 → zS → Option (Int32 × zS)} (hrec4 : ∀ (v2 : Int32) (v3 : Int32) (σ : zS), rec4 v2 v3 σ = some Rt → zG X (zQ X (.inl (eI Rt.1)) Rt.2) 4 4 [(0, zA (some o)), (1, zA v1), (2, zI v2), (3, zI v3)] [] σ) {v2 : Int32} {v3 : Int32} {σ : zS} (h : f_X18_in_4_b o v1 rec4 v2 v3 σ = some Rt) : zG X (zQ X (.inl (eI Rt.1)) Rt.2) 4 4 [(0, zA (some o)), (1, zA v1), (2, zI v2), (3, zI v3)] [] σ := by
  unfold f_X18_in_4_b at h
  refine z_iload_n hX 3 rfl rfl dX18_in_4 (z_aload_n hX 0 rfl rfl dX18_in_5 ?_)
  refine z_getR hX fl_X18_10_16 h dX18_in_6 (fun r1 h => ?_)
  obtain ⟨a2, e9, k_a2⟩ := z_nn h
  subst e9
  have h := k_a2
  obtain ⟨c3, h⟩ := z_ck h
  refine z_cNI hX (rest := [zI v3]) h (fun r9 σ9 e9 => z_runV hX lk_X18_16 (c_J2_size hX.tr e9) (ci := 19) zc9_19 c3 ⟨Nat.le_of_ble_eq_true rfl, Nat.le_of_ble_eq_true rfl⟩ rfl (Nat.le_of_ble_eq_true rfl) dX18_in_9 rfl) (fun x4 σ5 h => ?_)
  refine z_icmp_ge (tgt := 39) hX h dX18_in_12 (by decide) (fun h => ?_) (fun h => ?_)
  · refine z_iload_n hX 2 rfl rfl dX18_in_39 ?_
    obtain rfl := Option.some.inj h
    exact z_iret hX dX18_in_40
  · refine z_iload_n hX 2 rfl rfl dX18_in_15 (z_aload_n hX 0 rfl rfl dX18_in_16 ?_)
    refine z_getR hX fl_X18_10_16 h dX18_in_17 (fun r6 h => ?_)
    refine z_iload_n hX 3 rfl rfl dX18_in_20 ?_
    obtain ⟨a7, e9, k_a7⟩ := z_nn h
    subst e9
    have h := k_a7
    obtain ⟨c8, h⟩ := z_ck h
    refine z_cNA hX (rest := [zI v2]) h (fun r9 σ9 e9 => z_runV hX lk_X18_20 (c_J2_get hX.tr e9) (ci := 19) zc9_19 c8 ⟨Nat.le_of_ble_eq_true rfl, Nat.le_of_ble_eq_true rfl⟩ rfl (Nat.le_of_ble_eq_true rfl) dX18_in_21 rfl) (fun r9 σ10 h => ?_)
    refine z_castC hX (ci := 17) rfl q1540 h dX18_in_24 (fun h => ?_)
    refine z_aload_n hX 1 rfl rfl dX18_in_27 ?_
    obtain ⟨a11, e9, k_a11⟩ := z_nn h
    subst e9
    have h := k_a11
    obtain ⟨c12, h⟩ := z_ck h
    refine z_cNI hX (rest := [zI v2]) h (fun r9 σ9 e9 => z_runV hX lk_X18_26 (c_X19_in hX.tr e9) (ci := 17) zc9_17 c12 ⟨Nat.le_of_ble_eq_true rfl, Nat.le_of_ble_eq_true rfl⟩ rfl (Nat.le_of_ble_eq_true rfl) dX18_in_28 rfl) (fun x13 σ14 h => ?_)
    refine z_iadd hX dX18_in_31 ?_
    refine z_nmI h (fun x15 h => ?_)
    refine z_istore_n (L' := [(0, zA (some o)), (1, zA v1), (2, zI x15), (3, zI v3)]) hX rfl rfl (by decide) dX18_in_32 ?_
    refine z_iinc hX (j := 3) h rfl (by decide) (by decide) dX18_in_33 (fun x16 h => z_L (L' := [(0, zA (some o)), (1, zA v1), (2, zI x15), (3, zI x16)]) rfl ?_)
    refine z_goto (tgt := 4) hX dX18_in_36 (by decide) ?_
    exact z_sub [0, 1, 2, 3] rfl (hrec4 _ _ _ h)

theorem s_X18_in_4 {X : zX} (hX : zOk X RX18 cX18_in 4 4 104 (Option.some Jvm.ClassFile.FieldType.int) "in" []) {o : Nat} {Rt : Int32 × zS} {v1 : Option Nat} {v2 : Int32} {v3 : Int32} {σ : zS} (h : f_X18_in_4 o v1 v2 v3 σ = some Rt) : zG X (zQ X (.inl (eI Rt.1)) Rt.2) 4 4 [(0, zA (some o)), (1, zA v1), (2, zI v2), (3, zI v3)] [] σ :=
  zlp2_ok (P := fun v2 v3 σ => zG X (zQ X (.inl (eI Rt.1)) Rt.2) 4 4 [(0, zA (some o)), (1, zA v1), (2, zI v2), (3, zI v3)] [] σ) (fun rec hr v2 v3 σ h => s_X18_in_4_b (o := o) hX hr h) NN v2 v3 σ h
def f_X18_in (o : Nat) (p1 : Option Nat) (σ : zS) : Option (Int32 × zS) :=
  f_X18_in_4 o p1 0 0 σ

set_option maxHeartbeats 4000000 in
theorem s_X18_in {X : zX} (hX : zOk X RX18 cX18_in 4 4 104 (Option.some Jvm.ClassFile.FieldType.int) "in" []) {o : Nat} {p1 : Option Nat} {σ : zS} {Rt : Int32 × zS} (h : f_X18_in o p1 σ = some Rt) : zG X (zQ X (.inl (eI Rt.1)) Rt.2) 4 0 [(0, zA (some o)), (1, zA p1)] [] σ := by
  unfold f_X18_in at h
  refine z_iconst hX (v := 0) (by decide) dX18_in_0 (z_istore_n (L' := [(0, zA (some o)), (1, zA p1), (2, zI 0)]) hX rfl rfl (by decide) dX18_in_1 (z_iconst hX (v := 0) (by decide) dX18_in_2 (z_istore_n (L' := [(0, zA (some o)), (1, zA p1), (2, zI 0), (3, zI 0)]) hX rfl rfl (by decide) dX18_in_3 ?_)))
  exact z_sub [0, 1, 2, 3] rfl (s_X18_in_4 (o := o) hX  h)

theorem c_X18_in {l : Launch} {D : va_G} {tys : zTy} (hl : l.stackTraces = false) {o : Nat} {p1 : Option Nat} {σ : zS} {Rt : Int32 × zS} (h : f_X18_in o p1 σ = some Rt) : zM l D tys yX18_in (ws_ yX18_in cX18_in 4 (Option.some Jvm.ClassFile.FieldType.int)) 4 104 [zA (some o), zA p1] σ (.inl (eI Rt.1)) Rt.2 :=
  zM_in hl rfl (Nat.le_of_ble_eq_true rfl) (fun p e R s m args below meth c hX => z_L rfl (s_X18_in hX h))
def f_X21_holds (o : Nat) (p1 : Option Nat) (σ : zS) : Option (Int32 × zS) :=
  (gR σ o 18 0).bind fun r1 =>
  r1.bind fun a2 =>
  zif (zcl σ a2 = 16) <|
  zb2 (f_X18_in a2 p1 σ) fun x4 σ5 =>
  (gR σ5 o 18 1).bind fun r6 =>
  r6.bind fun a7 =>
  zif (zcl σ5 a7 = 16) <|
  zb2 (f_X18_in a7 p1 σ5) fun x9 σ10 =>
  if x9 ≤ x4 then
    some ((0 : Int32), σ10)
  else
    some ((1 : Int32), σ10)

set_option maxHeartbeats 4000000 in
theorem s_X21_holds {f9 w9 : Nat} {X : zX} (hX : zOk X RX21 cX21_holds 2 (f9 + 5) (w9 + 127) (Option.some Jvm.ClassFile.FieldType.boolean) "holds" []) {o : Nat} {p1 : Option Nat} {σ : zS} {Rt : Int32 × zS} (h : f_X21_holds o p1 σ = some Rt) : zG X (zQ X (.inl (eI Rt.1)) Rt.2) 2 0 [(0, zA (some o)), (1, zA p1)] [] σ := by
  unfold f_X21_holds at h
  refine z_aload_n hX 0 rfl rfl dX21_holds_0 ?_
  refine z_getR hX fl_X21_7_18 h dX21_holds_1 (fun r1 h => ?_)
  refine z_aload_n hX 1 rfl rfl dX21_holds_4 ?_
  obtain ⟨a2, e9, k_a2⟩ := z_nn h
  subst e9
  have h := k_a2
  obtain ⟨c3, h⟩ := z_ck h
  refine z_cNI hX (rest := []) h (fun r9 σ9 e9 => z_runV hX lk_X21_16 (c_X18_in hX.tr e9) (ci := 16) zc9_16 c3 ⟨by omega, by omega⟩ rfl (Nat.le_of_ble_eq_true rfl) dX21_holds_5 rfl) (fun x4 σ5 h => ?_)
  refine z_aload_n hX 0 rfl rfl dX21_holds_8 ?_
  refine z_getR hX fl_X21_13_18 h dX21_holds_9 (fun r6 h => ?_)
  refine z_aload_n hX 1 rfl rfl dX21_holds_12 ?_
  obtain ⟨a7, e9, k_a7⟩ := z_nn h
  subst e9
  have h := k_a7
  obtain ⟨c8, h⟩ := z_ck h
  refine z_cNI hX (rest := [zI x4]) h (fun r9 σ9 e9 => z_runV hX lk_X21_16 (c_X18_in hX.tr e9) (ci := 16) zc9_16 c8 ⟨by omega, by omega⟩ rfl (Nat.le_of_ble_eq_true rfl) dX21_holds_13 rfl) (fun x9 σ10 h => ?_)
  refine z_icmp_ge (tgt := 23) hX h dX21_holds_16 (by decide) (fun h => ?_) (fun h => ?_)
  · refine z_iconst hX (v := 0) (by decide) dX21_holds_23 ?_
    obtain rfl := Option.some.inj h
    exact z_zretT (r := 0) hX (by decide) dX21_holds_24
  · refine z_iconst hX (v := 1) (by decide) dX21_holds_19 (z_goto (tgt := 24) hX dX21_holds_20 (by decide) ?_)
    obtain rfl := Option.some.inj h
    exact z_zretT (r := 1) hX (by decide) dX21_holds_24

theorem c_X21_holds {l : Launch} {D : va_G} {tys : zTy} (hl : l.stackTraces = false) {f9 w9 : Nat} {o : Nat} {p1 : Option Nat} {σ : zS} {Rt : Int32 × zS} (h : f_X21_holds o p1 σ = some Rt) : zM l D tys yX21_holds (ws_ yX21_holds cX21_holds 2 (Option.some Jvm.ClassFile.FieldType.boolean)) (f9 + 5) (w9 + 127) [zA (some o), zA p1] σ (.inl (eI Rt.1)) Rt.2 :=
  zM_in hl rfl (Nat.le_of_ble_eq_true rfl) (fun p e R s m args below meth c hX => z_L rfl (s_X21_holds hX h))
def f_holds : Nat → Nat → Option Nat → zS → Option (Int32 × zS)
  | 0 => fun _ _ _ => none
  | n + 1 => fun a r σ => if zcl σ a = 13 then f_X14_holds (f_holds n) a r σ else if zcl σ a = 14 then f_X15_holds (f_holds n) a r σ else if zcl σ a = 15 then f_X17_holds a r σ else if zcl σ a = 18 then f_X21_holds a r σ else none
theorem c_holds {l : Launch} {D : va_G} {tys : zTy} (hl : l.stackTraces = false) : ∀ n : Nat, zHolds l D tys (f_holds n) (5 * n) (127 * n)
  | 0 => fun _ _ _ _ _ h => nomatch h
  | n + 1 => fun a r σ σ' x h => by
    have ih := c_holds (l := l) (D := D) (tys := tys) hl n
    rcases z_ite h with ⟨e, h⟩ | ⟨-, h⟩
    · exact ⟨13, _, _, _, yX14_holds, _, _, _, rfl, e, List.mem_cons_self, q1565, by decide, c_X14_holds hl ih h⟩
    rcases z_ite h with ⟨e, h⟩ | ⟨-, h⟩
    · exact ⟨14, _, _, _, yX15_holds, _, _, _, rfl, e, (List.mem_cons_of_mem _ List.mem_cons_self), q1557, by decide, c_X15_holds hl ih h⟩
    rcases z_ite h with ⟨e, h⟩ | ⟨-, h⟩
    · exact ⟨15, _, _, _, yX17_holds, _, _, _, rfl, e, (List.mem_cons_of_mem _ (List.mem_cons_of_mem _ List.mem_cons_self)), q1513, by decide, c_X17_holds hl h⟩
    rcases z_ite h with ⟨e, h⟩ | ⟨-, h⟩
    · exact ⟨18, _, _, _, yX21_holds, _, _, _, rfl, e, (List.mem_cons_of_mem _ (List.mem_cons_of_mem _ (List.mem_cons_of_mem _ List.mem_cons_self))), q1533, by decide, c_X21_holds hl h⟩
    cases h
def f_X12_number_45 (o : Nat) (v3 : Option Nat) (σ : zS) : Option (Int32 × zS) :=
  v3.bind fun a14 =>
  (gI σ a14 12 0).bind fun x15 =>
  some (x15, σ)

set_option maxHeartbeats 4000000 in
theorem s_X12_number_45 {X : zX} (hX : zOk X RX12 cX12_number 4 101 2562 (Option.some Jvm.ClassFile.FieldType.int) "number" []) {o : Nat} {Rt : Int32 × zS} {v3 : Option Nat} {σ : zS} (h : f_X12_number_45 o v3 σ = some Rt) : zG X (zQ X (.inl (eI Rt.1)) Rt.2) 4 45 [(3, zA v3)] [] σ := by
  unfold f_X12_number_45 at h
  refine z_aload_n hX 0 rfl rfl dX12_number_45 ?_
  obtain ⟨a14, e9, k_a14⟩ := z_nn h
  subst e9
  have h := k_a14
  refine z_getI hX fl_X12_36_12 h dX12_number_46 (fun x15 h => ?_)
  obtain rfl := Option.some.inj h
  exact z_iret hX dX12_number_49

def f_X12_number_2_b (o : Nat) (v1 : Option Nat) (rec2 : Int32 → zS → Option (Int32 × zS)) (v2 : Int32) (σ : zS) : Option (Int32 × zS) :=
  (gR σ o 11 0).bind fun r1 =>
  r1.bind fun a2 =>
  zif (zcl σ a2 = 19) <|
  zb2 (f_J2_size a2 σ) fun x4 σ5 =>
  if x4 ≤ v2 then
    some ((0 : Int32), σ5)
  else
    (gR σ5 o 11 0).bind fun r6 =>
    r6.bind fun a7 =>
    zif (zcl σ5 a7 = 19) <|
    zb2 (f_J2_get a7 v2 σ5) fun r9 σ10 =>
    zif (zckC σ10 r9 12 = true) <|
    r9.bind fun a11 =>
    (gR σ10 a11 12 1).bind fun r12 =>
    zcs r12 (
      f_X12_number_45 o (some a11) σ10
    ) fun a13 =>
      (gR σ10 a11 12 1).bind fun r16 =>
      r16.bind fun a17 =>
      zb2 ((f_holds 20) a17 v1 σ10) fun x18 σ19 =>
      if x18 = 0 then
        zl (v2 + 1) fun x20 =>
        rec2 x20 σ19
      else
        f_X12_number_45 o (some a11) σ19

def f_X12_number_2 (o : Nat) (v1 : Option Nat) : Int32 → zS → Option (Int32 × zS) := zlp1 (f_X12_number_2_b o v1) NN
set_option maxHeartbeats 4000000 in
theorem s_X12_number_2_b {X : zX} (hX : zOk X RX12 cX12_number 4 101 2562 (Option.some Jvm.ClassFile.FieldType.int) "number" []) {o : Nat} {Rt : Int32 × zS} {v1 : Option Nat} {rec2 : Int32 → zS → Option (Int32 × zS)} (hrec2 : ∀ (v2 : Int32) (σ : zS), rec2 v2 σ = some Rt → zG X (zQ X (.inl (eI Rt.1)) Rt.2) 4 2 [(0, zA (some o)), (1, zA v1), (2, zI v2)] [] σ) {v2 : Int32} {σ : zS} (h : f_X12_number_2_b o v1 rec2 v2 σ = some Rt) : zG X (zQ X (.inl (eI Rt.1)) Rt.2) 4 2 [(0, zA (some o)), (1, zA v1), (2, zI v2)] [] σ := by
  unfold f_X12_number_2_b at h
  refine z_iload_n hX 2 rfl rfl dX12_number_2 (z_aload_n hX 0 rfl rfl dX12_number_3 ?_)
  refine z_getR hX fl_X12_10_11 h dX12_number_4 (fun r1 h => ?_)
  obtain ⟨a2, e9, k_a2⟩ := z_nn h
  subst e9
  have h := k_a2
  obtain ⟨c3, h⟩ := z_ck h
  refine z_cNI hX (rest := [zI v2]) h (fun r9 σ9 e9 => z_runV hX lk_X12_16 (c_J2_size hX.tr e9) (ci := 19) zc9_19 c3 ⟨Nat.le_of_ble_eq_true rfl, Nat.le_of_ble_eq_true rfl⟩ rfl (Nat.le_of_ble_eq_true rfl) dX12_number_7 rfl) (fun x4 σ5 h => ?_)
  refine z_icmp_ge (tgt := 56) hX h dX12_number_10 (by decide) (fun h => ?_) (fun h => ?_)
  · refine z_iconst hX (v := 0) (by decide) dX12_number_56 ?_
    obtain rfl := Option.some.inj h
    exact z_iret hX dX12_number_57
  · refine z_aload_n hX 0 rfl rfl dX12_number_13 ?_
    refine z_getR hX fl_X12_10_11 h dX12_number_14 (fun r6 h => ?_)
    refine z_iload_n hX 2 rfl rfl dX12_number_17 ?_
    obtain ⟨a7, e9, k_a7⟩ := z_nn h
    subst e9
    have h := k_a7
    obtain ⟨c8, h⟩ := z_ck h
    refine z_cNA hX (rest := []) h (fun r9 σ9 e9 => z_runV hX lk_X12_20 (c_J2_get hX.tr e9) (ci := 19) zc9_19 c8 ⟨Nat.le_of_ble_eq_true rfl, Nat.le_of_ble_eq_true rfl⟩ rfl (Nat.le_of_ble_eq_true rfl) dX12_number_18 rfl) (fun r9 σ10 h => ?_)
    refine z_castC hX (ci := 12) rfl q1503 h dX12_number_21 (fun h => ?_)
    refine z_astore_n (L' := [(0, zA (some o)), (1, zA v1), (2, zI v2), (3, zA r9)]) hX rfl rfl (by decide) dX12_number_24 (z_aload_n hX 3 rfl rfl dX12_number_25 ?_)
    obtain ⟨a11, e9, k_a11⟩ := z_nn h
    subst e9
    have h := k_a11
    refine z_getR hX fl_X12_26_12 h dX12_number_26 (fun r12 h => ?_)
    refine z_ifnull (tgt := 45) hX h dX12_number_29 (by decide) (fun e9 k_a13 => ?_) (fun a13 e9 k_a13 => ?_)
    · subst e9
      have h := k_a13
      exact z_sub [3] rfl (s_X12_number_45 (o := o) hX  h)
    · subst e9
      have h := k_a13
      refine z_aload_n hX 3 rfl rfl dX12_number_32 ?_
      refine z_getR hX fl_X12_26_12 h dX12_number_33 (fun r16 h => ?_)
      refine z_aload_n hX 1 rfl rfl dX12_number_36 ?_
      obtain ⟨a17, e9, k_a17⟩ := z_nn h
      subst e9
      have h := k_a17
      refine z_cNI5 hX (rest := []) h (fun r9 σ9 e9 => z_holds hX lkh_X12_30 (c_holds hX.tr 20) e9 ⟨Nat.le_of_ble_eq_true rfl, Nat.le_of_ble_eq_true rfl⟩ (Nat.le_of_ble_eq_true rfl) dX12_number_37 rfl) (fun x18 σ19 h => ?_)
      refine z_if_eq (tgt := 50) hX h dX12_number_42 (by decide) (fun h => ?_) (fun h => ?_)
      · refine z_iinc hX (j := 2) h rfl (by decide) (by decide) dX12_number_50 (fun x20 h => z_L (L' := [(0, zA (some o)), (1, zA v1), (2, zI x20), (3, zA (some a11))]) rfl ?_)
        refine z_goto (tgt := 2) hX dX12_number_53 (by decide) ?_
        exact z_sub [0, 1, 2] rfl (hrec2 _ _ h)
      · exact z_sub [3] rfl (s_X12_number_45 (o := o) hX  h)

theorem s_X12_number_2 {X : zX} (hX : zOk X RX12 cX12_number 4 101 2562 (Option.some Jvm.ClassFile.FieldType.int) "number" []) {o : Nat} {Rt : Int32 × zS} {v1 : Option Nat} {v2 : Int32} {σ : zS} (h : f_X12_number_2 o v1 v2 σ = some Rt) : zG X (zQ X (.inl (eI Rt.1)) Rt.2) 4 2 [(0, zA (some o)), (1, zA v1), (2, zI v2)] [] σ :=
  zlp1_ok (P := fun v2 σ => zG X (zQ X (.inl (eI Rt.1)) Rt.2) 4 2 [(0, zA (some o)), (1, zA v1), (2, zI v2)] [] σ) (fun rec hr v2 σ h => s_X12_number_2_b (o := o) hX hr h) NN v2 σ h
def f_X12_number (o : Nat) (p1 : Option Nat) (σ : zS) : Option (Int32 × zS) :=
  f_X12_number_2 o p1 0 σ

set_option maxHeartbeats 4000000 in
theorem s_X12_number {X : zX} (hX : zOk X RX12 cX12_number 4 101 2562 (Option.some Jvm.ClassFile.FieldType.int) "number" []) {o : Nat} {p1 : Option Nat} {σ : zS} {Rt : Int32 × zS} (h : f_X12_number o p1 σ = some Rt) : zG X (zQ X (.inl (eI Rt.1)) Rt.2) 4 0 [(0, zA (some o)), (1, zA p1)] [] σ := by
  unfold f_X12_number at h
  refine z_iconst hX (v := 0) (by decide) dX12_number_0 (z_istore_n (L' := [(0, zA (some o)), (1, zA p1), (2, zI 0)]) hX rfl rfl (by decide) dX12_number_1 ?_)
  exact z_sub [0, 1, 2] rfl (s_X12_number_2 (o := o) hX  h)

theorem c_X12_number {l : Launch} {D : va_G} {tys : zTy} (hl : l.stackTraces = false) {o : Nat} {p1 : Option Nat} {σ : zS} {Rt : Int32 × zS} (h : f_X12_number o p1 σ = some Rt) : zM l D tys yX12_number (ws_ yX12_number cX12_number 4 (Option.some Jvm.ClassFile.FieldType.int)) 101 2562 [zA (some o), zA p1] σ (.inl (eI Rt.1)) Rt.2 :=
  zM_in hl rfl (Nat.le_of_ble_eq_true rfl) (fun p e R s m args below meth c hX => z_L rfl (s_X12_number hX h))
def f_X1_counted_142 (o : Nat) (v5 : Option Nat) (v6 : Int32) (t0 : Option Nat) (t1 : Int32) (σ : zS) : Option (Int32 × zS) :=
  t0.bind fun a44 =>
  (pZ σ a44 3 6 t1).bind fun σ45 =>
  v5.bind fun a46 =>
  (gR σ45 a46 1 12).bind fun r47 =>
  (gR σ45 o 0 3).bind fun r48 =>
  r47.bind fun a49 =>
  zif (zcl σ45 a49 = 11) <|
  zb2 (f_X12_number a49 r48 σ45) fun x51 σ52 =>
  some ((v6 * x51) / 10, σ52)

set_option maxHeartbeats 4000000 in
theorem s_X1_counted_142 {X : zX} (hX : zOk X RX1 cX1_counted 8 102 2585 (Option.some Jvm.ClassFile.FieldType.int) "counted" []) {o : Nat} {Rt : Int32 × zS} {v5 : Option Nat} {v6 : Int32} {t0 : Option Nat} {t1 : Int32} {σ : zS} (h : f_X1_counted_142 o v5 v6 t0 t1 σ = some Rt) : zG X (zQ X (.inl (eI Rt.1)) Rt.2) 8 142 [(0, zA (some o)), (5, zA v5), (6, zI v6)] [zI t1, zA t0] σ := by
  unfold f_X1_counted_142 at h
  obtain ⟨a44, e9, k_a44⟩ := z_nn h
  subst e9
  have h := k_a44
  refine z_putZ hX fp_X1_341_3 (fun h => nomatch h) h dX1_counted_142 (fun σ45 h => ?_)
  refine z_iload hX 2 rfl dX1_counted_145 (z_aload hX 1 rfl dX1_counted_147 ?_)
  obtain ⟨a46, e9, k_a46⟩ := z_nn h
  subst e9
  have h := k_a46
  refine z_getR hX fl_X1_305_1 h dX1_counted_149 (fun r47 h => ?_)
  refine z_aload_n hX 0 rfl rfl dX1_counted_152 ?_
  refine z_getR hX fl_X1_26_0 h dX1_counted_153 (fun r48 h => ?_)
  obtain ⟨a49, e9, k_a49⟩ := z_nn h
  subst e9
  have h := k_a49
  obtain ⟨c50, h⟩ := z_ck h
  refine z_cNI hX (rest := [zI v6]) h (fun r9 σ9 e9 => z_runV hX lk_X1_344 (c_X12_number hX.tr e9) (ci := 11) zc9_11 c50 ⟨Nat.le_of_ble_eq_true rfl, Nat.le_of_ble_eq_true rfl⟩ rfl (Nat.le_of_ble_eq_true rfl) dX1_counted_156 rfl) (fun x51 σ52 h => ?_)
  refine z_imul hX dX1_counted_159 (z_bipush hX (v := 10) (by decide) dX1_counted_160 (z_idivK hX (by decide) dX1_counted_162 ?_))
  obtain rfl := Option.some.inj h
  exact z_iret hX dX1_counted_163

def f_X1_counted (o : Nat) (p1 : Int32) (p2 : Int32) (p3 : Int32) (p4 : Int32) (σ : zS) : Option (Int32 × zS) :=
  (gR σ o 0 0).bind fun r1 =>
  r1.bind fun a2 =>
  zif (zcl σ a2 = 1) <|
  zb2 (f_X2_paces a2 p3 σ) fun x4 σ5 =>
  (gR σ5 a2 1 12).bind fun r6 =>
  zcs r6 (
    some (x4, σ5)
  ) fun a7 =>
    if ¬ p3 = 0 then
      (gR σ5 a2 1 8).bind fun r8 =>
      r8.bind fun a9 =>
      zif (zcl σ5 a9 = 19) <|
      zb2 (f_J2_get a9 p1 σ5) fun r11 σ12 =>
      zif (zckC σ12 r11 6 = true) <|
      (gR σ12 o 0 3).bind fun r13 =>
      r11.bind fun a14 =>
      (gI σ12 a14 6 0).bind fun x15 =>
      r13.bind fun a16 =>
      (pI σ12 a16 3 0 x15).bind fun σ17 =>
      (gR σ17 o 0 3).bind fun r18 =>
      (gI σ17 a14 6 1).bind fun x19 =>
      r18.bind fun a20 =>
      (pI σ17 a20 3 1 x19).bind fun σ21 =>
      (gR σ21 o 0 3).bind fun r22 =>
      (gR σ21 a2 1 9).bind fun r23 =>
      r23.bind fun a24 =>
      zif (zcl σ21 a24 = 19) <|
      zb2 (f_J2_get a24 (p3 - 1) σ21) fun r26 σ27 =>
      zif (zckC σ27 r26 7 = true) <|
      r26.bind fun a28 =>
      (gI σ27 a28 7 1).bind fun x29 =>
      r22.bind fun a30 =>
      (pI σ27 a30 3 2 x29).bind fun σ31 =>
      (gR σ31 o 0 3).bind fun r32 =>
      r32.bind fun a33 =>
      (pI σ31 a33 3 3 x4).bind fun σ34 =>
      (gR σ34 o 0 3).bind fun r35 =>
      (gI σ34 a2 1 4).bind fun x36 =>
      r35.bind fun a37 =>
      (pI σ34 a37 3 4 (x36 - x36 / 7 * 7)).bind fun σ38 =>
      (gR σ38 o 0 3).bind fun r39 =>
      r39.bind fun a40 =>
      (pZ σ38 a40 3 5 p4).bind fun σ41 =>
      (gR σ41 o 0 3).bind fun r42 =>
      (gI σ41 a14 6 3).bind fun x43 =>
      if ¬ x43 = p2 then
        f_X1_counted_142 o (some a2) x4 r42 0 σ41
      else
        f_X1_counted_142 o (some a2) x4 r42 1 σ41
    else
      some (x4, σ5)

set_option maxHeartbeats 4000000 in
theorem s_X1_counted {X : zX} (hX : zOk X RX1 cX1_counted 8 102 2585 (Option.some Jvm.ClassFile.FieldType.int) "counted" []) {o : Nat} {p1 : Int32} {p2 : Int32} {p3 : Int32} {p4 : Int32} {σ : zS} {Rt : Int32 × zS} (h : f_X1_counted o p1 p2 p3 p4 σ = some Rt) : zG X (zQ X (.inl (eI Rt.1)) Rt.2) 8 0 [(0, zA (some o)), (1, zI p1), (2, zI p2), (3, zI p3), (4, zI p4)] [] σ := by
  unfold f_X1_counted at h
  refine z_aload_n hX 0 rfl rfl dX1_counted_0 ?_
  refine z_getR hX fl_X1_10_0 h dX1_counted_1 (fun r1 h => ?_)
  refine z_astore (L' := [(0, zA (some o)), (1, zI p1), (2, zI p2), (3, zI p3), (4, zI p4), (5, zA r1)]) hX rfl (by decide) dX1_counted_4 (z_aload hX 5 rfl dX1_counted_6 (z_iload_n hX 3 rfl rfl dX1_counted_8 ?_))
  obtain ⟨a2, e9, k_a2⟩ := z_nn h
  subst e9
  have h := k_a2
  obtain ⟨c3, h⟩ := z_ck h
  refine z_cNI hX (rest := []) h (fun r9 σ9 e9 => z_runV hX lk_X1_309 (c_X2_paces hX.tr e9) (ci := 1) zc9_1 c3 ⟨Nat.le_of_ble_eq_true rfl, Nat.le_of_ble_eq_true rfl⟩ rfl (Nat.le_of_ble_eq_true rfl) dX1_counted_9 rfl) (fun x4 σ5 h => ?_)
  refine z_istore (L' := [(0, zA (some o)), (1, zI p1), (2, zI p2), (3, zI p3), (4, zI p4), (5, zA (some a2)), (6, zI x4)]) hX rfl (by decide) dX1_counted_12 (z_aload hX 5 rfl dX1_counted_14 ?_)
  refine z_getR hX fl_X1_305_1 h dX1_counted_16 (fun r6 h => ?_)
  refine z_ifnull (tgt := 26) hX h dX1_counted_19 (by decide) (fun e9 k_a7 => ?_) (fun a7 e9 k_a7 => ?_)
  · subst e9
    have h := k_a7
    refine z_iload hX 6 rfl dX1_counted_26 ?_
    obtain rfl := Option.some.inj h
    exact z_iret hX dX1_counted_28
  · subst e9
    have h := k_a7
    refine z_iload_n hX 3 rfl rfl dX1_counted_22 ?_
    refine z_if_ne (tgt := 29) hX h dX1_counted_23 (by decide) (fun h => ?_) (fun h => ?_)
    · refine z_aload hX 5 rfl dX1_counted_29 ?_
      refine z_getR hX fl_X1_55_1 h dX1_counted_31 (fun r8 h => ?_)
      refine z_iload_n hX 1 rfl rfl dX1_counted_34 ?_
      obtain ⟨a9, e9, k_a9⟩ := z_nn h
      subst e9
      have h := k_a9
      obtain ⟨c10, h⟩ := z_ck h
      refine z_cNA hX (rest := []) h (fun r9 σ9 e9 => z_runV hX lk_X1_313 (c_J2_get hX.tr e9) (ci := 19) zc9_19 c10 ⟨Nat.le_of_ble_eq_true rfl, Nat.le_of_ble_eq_true rfl⟩ rfl (Nat.le_of_ble_eq_true rfl) dX1_counted_35 rfl) (fun r11 σ12 h => ?_)
      refine z_castC hX (ci := 6) rfl q1124 h dX1_counted_38 (fun h => ?_)
      refine z_astore (L' := [(0, zA (some o)), (1, zI p1), (2, zI p2), (3, zI p3), (4, zI p4), (5, zA (some a2)), (6, zI x4), (7, zA r11)]) hX rfl (by decide) dX1_counted_41 (z_aload_n hX 0 rfl rfl dX1_counted_43 ?_)
      refine z_getR hX fl_X1_26_0 h dX1_counted_44 (fun r13 h => ?_)
      refine z_aload hX 7 rfl dX1_counted_47 ?_
      obtain ⟨a14, e9, k_a14⟩ := z_nn h
      subst e9
      have h := k_a14
      refine z_getI hX fl_X1_317_6 h dX1_counted_49 (fun x15 h => ?_)
      obtain ⟨a16, e9, k_a16⟩ := z_nn h
      subst e9
      have h := k_a16
      refine z_putI hX fp_X1_320_3 (fun h => nomatch h) h dX1_counted_52 (fun σ17 h => ?_)
      refine z_aload_n hX 0 rfl rfl dX1_counted_55 ?_
      refine z_getR hX fl_X1_26_0 h dX1_counted_56 (fun r18 h => ?_)
      refine z_aload hX 7 rfl dX1_counted_59 ?_
      refine z_getI hX fl_X1_321_6 h dX1_counted_61 (fun x19 h => ?_)
      obtain ⟨a20, e9, k_a20⟩ := z_nn h
      subst e9
      have h := k_a20
      refine z_putI hX fp_X1_324_3 (fun h => nomatch h) h dX1_counted_64 (fun σ21 h => ?_)
      refine z_aload_n hX 0 rfl rfl dX1_counted_67 ?_
      refine z_getR hX fl_X1_26_0 h dX1_counted_68 (fun r22 h => ?_)
      refine z_aload hX 5 rfl dX1_counted_71 ?_
      refine z_getR hX fl_X1_144_1 h dX1_counted_73 (fun r23 h => ?_)
      refine z_iload_n hX 3 rfl rfl dX1_counted_76 (z_iconst hX (v := 1) (by decide) dX1_counted_77 (z_isub hX dX1_counted_78 ?_))
      obtain ⟨a24, e9, k_a24⟩ := z_nn h
      subst e9
      have h := k_a24
      obtain ⟨c25, h⟩ := z_ck h
      refine z_cNA hX (rest := [zA r22]) h (fun r9 σ9 e9 => z_runV hX lk_X1_313 (c_J2_get hX.tr e9) (ci := 19) zc9_19 c25 ⟨Nat.le_of_ble_eq_true rfl, Nat.le_of_ble_eq_true rfl⟩ rfl (Nat.le_of_ble_eq_true rfl) dX1_counted_79 rfl) (fun r26 σ27 h => ?_)
      refine z_castC hX (ci := 7) rfl q397 h dX1_counted_82 (fun h => ?_)
      obtain ⟨a28, e9, k_a28⟩ := z_nn h
      subst e9
      have h := k_a28
      refine z_getI hX fl_X1_325_7 h dX1_counted_85 (fun x29 h => ?_)
      obtain ⟨a30, e9, k_a30⟩ := z_nn h
      subst e9
      have h := k_a30
      refine z_putI hX fp_X1_328_3 (fun h => nomatch h) h dX1_counted_88 (fun σ31 h => ?_)
      refine z_aload_n hX 0 rfl rfl dX1_counted_91 ?_
      refine z_getR hX fl_X1_26_0 h dX1_counted_92 (fun r32 h => ?_)
      refine z_iload hX 6 rfl dX1_counted_95 ?_
      obtain ⟨a33, e9, k_a33⟩ := z_nn h
      subst e9
      have h := k_a33
      refine z_putI hX fp_X1_329_3 (fun h => nomatch h) h dX1_counted_97 (fun σ34 h => ?_)
      refine z_aload_n hX 0 rfl rfl dX1_counted_100 ?_
      refine z_getR hX fl_X1_26_0 h dX1_counted_101 (fun r35 h => ?_)
      refine z_aload hX 5 rfl dX1_counted_104 ?_
      refine z_getI hX fl_X1_331_1 h dX1_counted_106 (fun x36 h => ?_)
      refine z_bipush hX (v := 7) (by decide) dX1_counted_109 (z_iremK hX (by decide) dX1_counted_111 ?_)
      obtain ⟨a37, e9, k_a37⟩ := z_nn h
      subst e9
      have h := k_a37
      refine z_putI hX fp_X1_334_3 (fun h => nomatch h) h dX1_counted_112 (fun σ38 h => ?_)
      refine z_aload_n hX 0 rfl rfl dX1_counted_115 ?_
      refine z_getR hX fl_X1_26_0 h dX1_counted_116 (fun r39 h => ?_)
      refine z_iload hX 4 rfl dX1_counted_119 ?_
      obtain ⟨a40, e9, k_a40⟩ := z_nn h
      subst e9
      have h := k_a40
      refine z_putZ hX fp_X1_335_3 (fun h => nomatch h) h dX1_counted_121 (fun σ41 h => ?_)
      refine z_aload_n hX 0 rfl rfl dX1_counted_124 ?_
      refine z_getR hX fl_X1_26_0 h dX1_counted_125 (fun r42 h => ?_)
      refine z_aload hX 7 rfl dX1_counted_128 ?_
      refine z_getI hX fl_X1_339_6 h dX1_counted_130 (fun x43 h => ?_)
      refine z_iload_n hX 2 rfl rfl dX1_counted_133 ?_
      refine z_icmp_ne (tgt := 141) hX h dX1_counted_134 (by decide) (fun h => ?_) (fun h => ?_)
      · refine z_iconst hX (v := 0) (by decide) dX1_counted_141 ?_
        exact z_sub [0, 5, 6] rfl (s_X1_counted_142 (o := o) hX  h)
      · refine z_iconst hX (v := 1) (by decide) dX1_counted_137 (z_goto (tgt := 142) hX dX1_counted_138 (by decide) ?_)
        exact z_sub [0, 5, 6] rfl (s_X1_counted_142 (o := o) hX  h)
    · refine z_iload hX 6 rfl dX1_counted_26 ?_
      obtain rfl := Option.some.inj h
      exact z_iret hX dX1_counted_28

theorem c_X1_counted {l : Launch} {D : va_G} {tys : zTy} (hl : l.stackTraces = false) {o : Nat} {p1 : Int32} {p2 : Int32} {p3 : Int32} {p4 : Int32} {σ : zS} {Rt : Int32 × zS} (h : f_X1_counted o p1 p2 p3 p4 σ = some Rt) : zM l D tys yX1_counted (ws_ yX1_counted cX1_counted 8 (Option.some Jvm.ClassFile.FieldType.int)) 102 2585 [zA (some o), zI p1, zI p2, zI p3, zI p4] σ (.inl (eI Rt.1)) Rt.2 :=
  zM_in hl rfl (Nat.le_of_ble_eq_true rfl) (fun p e R s m args below meth c hX => z_L rfl (s_X1_counted hX h))
def f_X1_counts (o : Nat) (p1 : Int32) (p2 : Int32) (p3 : Int32) (p4 : Int32) (σ : zS) : Option ((Int32 ⊕ Nat) × zS) :=
  zif (zcl σ o = 0) <|
  zbt (f_X1_aWalk o p1 p2 p3 σ) (fun k9 σ9 => some (.inr k9, σ9)) fun _ σ3 =>
  zif (zcl σ3 o = 0) <|
  zb2 (f_X1_counted o p1 p2 p3 p4 σ3) fun x5 σ6 =>
  some (.inl x5, σ6)

set_option maxHeartbeats 4000000 in
theorem s_X1_counts {X : zX} (hX : zOk X RX1 cX1_counts 5 103 2612 (Option.some Jvm.ClassFile.FieldType.int) "counts" []) {o : Nat} {p1 : Int32} {p2 : Int32} {p3 : Int32} {p4 : Int32} {σ : zS} {Rt : (Int32 ⊕ Nat) × zS} (h : f_X1_counts o p1 p2 p3 p4 σ = some Rt) : zG X (zQ X (zot eI Rt.1) Rt.2) 5 0 [(0, zA (some o)), (1, zI p1), (2, zI p2), (3, zI p3), (4, zI p4)] [] σ := by
  unfold f_X1_counts at h
  refine z_aload_n hX 0 rfl rfl dX1_counts_0 (z_iload_n hX 1 rfl rfl dX1_counts_1 (z_iload_n hX 2 rfl rfl dX1_counts_2 (z_iload_n hX 3 rfl rfl dX1_counts_3 ?_)))
  obtain ⟨c1, h⟩ := z_ck h
  refine z_cTU hX (rest := []) h (fun r9 σ9 e9 => z_runV hX lk_X1_406 (c_X1_aWalk hX.tr e9) (ci := 0) zc9_0 c1 ⟨Nat.le_of_ble_eq_true rfl, Nat.le_of_ble_eq_true rfl⟩ rfl (Nat.le_of_ble_eq_true rfl) dX1_counts_4 rfl) (fun k9 σ9 h => z_prop hX h (fun x hx => nomatch hx)) (fun _ σ3 h => ?_)
  refine z_aload_n hX 0 rfl rfl dX1_counts_7 (z_iload_n hX 1 rfl rfl dX1_counts_8 (z_iload_n hX 2 rfl rfl dX1_counts_9 (z_iload_n hX 3 rfl rfl dX1_counts_10 (z_iload hX 4 rfl dX1_counts_11 ?_))))
  obtain ⟨c4, h⟩ := z_ck h
  refine z_cNI hX (rest := []) h (fun r9 σ9 e9 => z_runV hX lk_X1_410 (c_X1_counted hX.tr e9) (ci := 0) zc9_0 c4 ⟨Nat.le_of_ble_eq_true rfl, Nat.le_of_ble_eq_true rfl⟩ rfl (Nat.le_of_ble_eq_true rfl) dX1_counts_13 rfl) (fun x5 σ6 h => ?_)
  obtain rfl := Option.some.inj h
  exact z_iret hX dX1_counts_16

theorem c_X1_counts {l : Launch} {D : va_G} {tys : zTy} (hl : l.stackTraces = false) {o : Nat} {p1 : Int32} {p2 : Int32} {p3 : Int32} {p4 : Int32} {σ : zS} {Rt : (Int32 ⊕ Nat) × zS} (h : f_X1_counts o p1 p2 p3 p4 σ = some Rt) : zM l D tys yX1_counts (ws_ yX1_counts cX1_counts 5 (Option.some Jvm.ClassFile.FieldType.int)) 103 2612 [zA (some o), zI p1, zI p2, zI p3, zI p4] σ (zot eI Rt.1) Rt.2 :=
  zM_in hl rfl (Nat.le_of_ble_eq_true rfl) (fun p e R s m args below meth c hX => z_L rfl (s_X1_counts hX h))
def f_X0_counts (p1 : Option Nat) (p2 : Int32) (p3 : Int32) (p4 : Int32) (p5 : Int32) (p6 : Option Nat) (σ : zS) : Option (Int32 × zS) :=
  p1.bind fun a1 =>
  zif (zcl σ a1 = 0) <|
  zbt (f_X1_counts a1 p2 p3 p4 p5 σ) (fun k9 σ9 =>
    if k9 = 0 then
      some ((2 : Int32), σ9)
    else
    if k9 = 2 then
      some ((1 : Int32), σ9)
    else
    none
  ) fun x3 σ4 =>
  p6.bind fun a5 =>
  (sJ σ4 a5 0 x3.toInt64).bind fun σ6 =>
  some ((0 : Int32), σ6)

set_option maxHeartbeats 4000000 in
theorem s_X0_counts {X : zX} (hX : zOk X RX0 cX0_counts 7 104 2636 (Option.some Jvm.ClassFile.FieldType.int) "counts" (tableOf [(0, 14, 17, 24), (0, 14, 21, 13)])) {p1 : Option Nat} {p2 : Int32} {p3 : Int32} {p4 : Int32} {p5 : Int32} {p6 : Option Nat} {σ : zS} {Rt : Int32 × zS} (h : f_X0_counts p1 p2 p3 p4 p5 p6 σ = some Rt) : zG X (zQ X (.inl (eI Rt.1)) Rt.2) 7 0 [(0, zA p1), (1, zI p2), (2, zI p3), (3, zI p4), (4, zI p5), (5, zA p6)] [] σ := by
  unfold f_X0_counts at h
  refine z_aload hX 5 rfl dX0_counts_0 (z_iconst hX (v := 0) (by decide) dX0_counts_2 (z_aload_n hX 0 rfl rfl dX0_counts_3 (z_iload_n hX 1 rfl rfl dX0_counts_4 (z_iload_n hX 2 rfl rfl dX0_counts_5 (z_iload_n hX 3 rfl rfl dX0_counts_6 (z_iload hX 4 rfl dX0_counts_7 ?_))))))
  obtain ⟨a1, e9, k_a1⟩ := z_nn h
  subst e9
  have h := k_a1
  obtain ⟨c2, h⟩ := z_ck h
  refine z_cTI hX (rest := [zI 0, zA p6]) h (fun r9 σ9 e9 => z_runV hX lk_X0_37 (c_X1_counts hX.tr e9) (ci := 0) zc9_0 c2 ⟨Nat.le_of_ble_eq_true rfl, Nat.le_of_ble_eq_true rfl⟩ rfl (Nat.le_of_ble_eq_true rfl) dX0_counts_9 rfl) (fun k9 σ9 h => ?_) (fun x3 σ4 h => ?_)
  · rcases z_ite h with ⟨e9, k_σ4_0⟩ | ⟨-, h⟩
    · subst e9
      have h := k_σ4_0
      refine z_catch hX (k := 0) (nmC := "java/lang/IllegalArgumentException") [⟨0, 14, 17, 24⟩] ⟨0, 14, 21, 13⟩ [] rfl (List.forall_mem_cons.mpr ⟨Or.inr ⟨by decide, "java/lang/IndexOutOfBoundsException", q1381, by simp [zNc, zEx]⟩, fun z hz => nomatch hz⟩) rfl (by decide) q647 (zNw_of q832 rfl) (fun q9 => ?_)
      refine z_astore (L' := [(0, zA (some a1)), (1, zI p2), (2, zI p3), (3, zI p4), (4, zI p5), (5, zA p6), (6, zA (some q9))]) hX rfl (by decide) dX0_counts_21 (z_iconst hX (v := 2) (by decide) dX0_counts_23 ?_)
      obtain rfl := Option.some.inj h
      exact z_iret hX dX0_counts_24
    rcases z_ite h with ⟨e9, k_σ4_2⟩ | ⟨-, h⟩
    · subst e9
      have h := k_σ4_2
      refine z_catch hX (k := 2) (nmC := "java/lang/IndexOutOfBoundsException") [] ⟨0, 14, 17, 24⟩ [⟨0, 14, 21, 13⟩] rfl (fun z hz => nomatch hz) rfl (by decide) q1381 (zNw_of q1415 rfl) (fun q9 => ?_)
      refine z_astore (L' := [(0, zA (some a1)), (1, zI p2), (2, zI p3), (3, zI p4), (4, zI p5), (5, zA p6), (6, zA (some q9))]) hX rfl (by decide) dX0_counts_17 (z_iconst hX (v := 1) (by decide) dX0_counts_19 ?_)
      obtain rfl := Option.some.inj h
      exact z_iret hX dX0_counts_20
    cases h
  refine z_i2l hX dX0_counts_12 ?_
  obtain ⟨a5, e9, k_a5⟩ := z_nn h
  subst e9
  have h := k_a5
  refine z_last hX h dX0_counts_13 (fun σ6 h => ?_)
  refine z_goto (tgt := 25) hX dX0_counts_14 (by decide) (z_iconst hX (v := 0) (by decide) dX0_counts_25 ?_)
  obtain rfl := Option.some.inj h
  exact z_iret hX dX0_counts_26

theorem c_X0_counts {l : Launch} {D : va_G} {tys : zTy} (hl : l.stackTraces = false) {p1 : Option Nat} {p2 : Int32} {p3 : Int32} {p4 : Int32} {p5 : Int32} {p6 : Option Nat} {σ : zS} {Rt : Int32 × zS} (h : f_X0_counts p1 p2 p3 p4 p5 p6 σ = some Rt) : zM l D tys yX0_counts (wsW_ yX0_counts cX0_counts 7 (Option.some Jvm.ClassFile.FieldType.int) [(0, 14, 17, 24), (0, 14, 21, 13)]) 104 2636 [zA p1, zI p2, zI p3, zI p4, zI p5, zA p6] σ (.inl (eI Rt.1)) Rt.2 :=
  zM_inW hl rfl (Nat.le_of_ble_eq_true rfl) (fun p e R s m args below meth c hX => z_L rfl (s_X0_counts hX h))
def f_X2_may_134 (o : Nat) (rec56 : Int32 → zS → Option (Int32 × zS)) (v1 : Int32) (v3 : Int32) (v4 : Int32) (σ : zS) : Option (Int32 × zS) :=
  zl (v4 + 1) fun x18 =>
  rec56 x18 σ

set_option maxHeartbeats 4000000 in
theorem s_X2_may_134 {X : zX} (hX : zOk X RX2 cX2_may 6 4 104 (Option.some Jvm.ClassFile.FieldType.boolean) "may" []) {o : Nat} {Rt : Int32 × zS} {rec56 : Int32 → zS → Option (Int32 × zS)} {v1 : Int32} {v3 : Int32} {v4 : Int32} (hrec56 : ∀ (v4 : Int32) (σ : zS), rec56 v4 σ = some Rt → zG X (zQ X (.inl (eI Rt.1)) Rt.2) 6 56 [(0, zA (some o)), (1, zI v1), (3, zI v3), (4, zI v4)] [] σ) {σ : zS} (h : f_X2_may_134 o rec56 v1 v3 v4 σ = some Rt) : zG X (zQ X (.inl (eI Rt.1)) Rt.2) 6 134 [(0, zA (some o)), (1, zI v1), (3, zI v3), (4, zI v4)] [] σ := by
  unfold f_X2_may_134 at h
  refine z_iinc hX (j := 3) h rfl (by decide) (by decide) dX2_may_134 (fun x18 h => z_L (L' := [(0, zA (some o)), (1, zI v1), (3, zI v3), (4, zI x18)]) rfl ?_)
  refine z_goto (tgt := 56) hX dX2_may_137 (by decide) ?_
  exact z_sub [0, 1, 2, 3] rfl (hrec56 _ _ h)

def f_X2_may_56_b (o : Nat) (v1 : Int32) (v3 : Int32) (rec56 : Int32 → zS → Option (Int32 × zS)) (v4 : Int32) (σ : zS) : Option (Int32 × zS) :=
  (gR σ o 1 11).bind fun r6 =>
  r6.bind fun a7 =>
  zif (zcl σ a7 = 19) <|
  zb2 (f_J2_size a7 σ) fun x9 σ10 =>
  if x9 ≤ v4 then
    some ((1 : Int32), σ10)
  else
    (gR σ10 o 1 11).bind fun r11 =>
    r11.bind fun a12 =>
    zif (zcl σ10 a12 = 19) <|
    zb2 (f_J2_get a12 v4 σ10) fun r14 σ15 =>
    zif (zckC σ15 r14 8 = true) <|
    r14.bind fun a16 =>
    (gI σ15 a16 8 2).bind fun x17 =>
    if ¬ x17 = v1 then
      f_X2_may_134 o rec56 v1 v3 v4 σ15
    else
      (gI σ15 a16 8 1).bind fun x19 =>
      (gI σ15 o 1 4).bind fun x20 =>
      if x20 ≤ x19 then
        (gI σ15 a16 8 6).bind fun x21 =>
        if ¬ x21 = v3 then
          f_X2_may_134 o rec56 v1 v3 v4 σ15
        else
          some ((0 : Int32), σ15)
      else
        (gI σ15 o 1 4).bind fun x22 =>
        (gI σ15 a16 8 1).bind fun x23 =>
        (gI σ15 o 1 3).bind fun x24 =>
        if x24 < (x22 - x23) then
          f_X2_may_134 o rec56 v1 v3 v4 σ15
        else
          some ((0 : Int32), σ15)

def f_X2_may_56 (o : Nat) (v1 : Int32) (v3 : Int32) : Int32 → zS → Option (Int32 × zS) := zlp1 (f_X2_may_56_b o v1 v3) NN
set_option maxHeartbeats 4000000 in
theorem s_X2_may_56_b {X : zX} (hX : zOk X RX2 cX2_may 6 4 104 (Option.some Jvm.ClassFile.FieldType.boolean) "may" []) {o : Nat} {Rt : Int32 × zS} {v1 : Int32} {v3 : Int32} {rec56 : Int32 → zS → Option (Int32 × zS)} (hrec56 : ∀ (v4 : Int32) (σ : zS), rec56 v4 σ = some Rt → zG X (zQ X (.inl (eI Rt.1)) Rt.2) 6 56 [(0, zA (some o)), (1, zI v1), (3, zI v3), (4, zI v4)] [] σ) {v4 : Int32} {σ : zS} (h : f_X2_may_56_b o v1 v3 rec56 v4 σ = some Rt) : zG X (zQ X (.inl (eI Rt.1)) Rt.2) 6 56 [(0, zA (some o)), (1, zI v1), (3, zI v3), (4, zI v4)] [] σ := by
  unfold f_X2_may_56_b at h
  refine z_iload hX 3 rfl dX2_may_56 (z_aload_n hX 0 rfl rfl dX2_may_58 ?_)
  refine z_getR hX fl_X2_35_1 h dX2_may_59 (fun r6 h => ?_)
  obtain ⟨a7, e9, k_a7⟩ := z_nn h
  subst e9
  have h := k_a7
  obtain ⟨c8, h⟩ := z_ck h
  refine z_cNI hX (rest := [zI v4]) h (fun r9 σ9 e9 => z_runV hX lk_X2_64 (c_J2_size hX.tr e9) (ci := 19) zc9_19 c8 ⟨Nat.le_of_ble_eq_true rfl, Nat.le_of_ble_eq_true rfl⟩ rfl (Nat.le_of_ble_eq_true rfl) dX2_may_62 rfl) (fun x9 σ10 h => ?_)
  refine z_icmp_ge (tgt := 140) hX h dX2_may_65 (by decide) (fun h => ?_) (fun h => ?_)
  · refine z_iconst hX (v := 1) (by decide) dX2_may_140 ?_
    obtain rfl := Option.some.inj h
    exact z_zretT (r := 1) hX (by decide) dX2_may_141
  · refine z_aload_n hX 0 rfl rfl dX2_may_68 ?_
    refine z_getR hX fl_X2_35_1 h dX2_may_69 (fun r11 h => ?_)
    refine z_iload hX 3 rfl dX2_may_72 ?_
    obtain ⟨a12, e9, k_a12⟩ := z_nn h
    subst e9
    have h := k_a12
    obtain ⟨c13, h⟩ := z_ck h
    refine z_cNA hX (rest := []) h (fun r9 σ9 e9 => z_runV hX lk_X2_68 (c_J2_get hX.tr e9) (ci := 19) zc9_19 c13 ⟨Nat.le_of_ble_eq_true rfl, Nat.le_of_ble_eq_true rfl⟩ rfl (Nat.le_of_ble_eq_true rfl) dX2_may_74 rfl) (fun r14 σ15 h => ?_)
    refine z_castC hX (ci := 8) rfl q412 h dX2_may_77 (fun h => ?_)
    refine z_astore (L' := [(0, zA (some o)), (1, zI v1), (3, zI v3), (4, zI v4), (5, zA r14)]) hX rfl (by decide) dX2_may_80 (z_aload hX 4 rfl dX2_may_82 ?_)
    obtain ⟨a16, e9, k_a16⟩ := z_nn h
    subst e9
    have h := k_a16
    refine z_getI hX fl_X2_109_8 h dX2_may_84 (fun x17 h => ?_)
    refine z_iload_n hX 1 rfl rfl dX2_may_87 ?_
    refine z_icmp_ne (tgt := 134) hX h dX2_may_88 (by decide) (fun h => ?_) (fun h => ?_)
    · exact z_sub [0, 1, 2, 3] rfl (s_X2_may_134 (o := o) hX hrec56 h)
    · refine z_aload hX 4 rfl dX2_may_91 ?_
      refine z_getI hX fl_X2_112_8 h dX2_may_93 (fun x19 h => ?_)
      refine z_aload_n hX 0 rfl rfl dX2_may_96 ?_
      refine z_getI hX fl_X2_48_1 h dX2_may_97 (fun x20 h => ?_)
      refine z_icmp_ge (tgt := 123) hX h dX2_may_100 (by decide) (fun h => ?_) (fun h => ?_)
      · refine z_aload hX 4 rfl dX2_may_123 ?_
        refine z_getI hX fl_X2_113_8 h dX2_may_125 (fun x21 h => ?_)
        refine z_iload_n hX 2 rfl rfl dX2_may_128 ?_
        refine z_icmp_ne (tgt := 134) hX h dX2_may_129 (by decide) (fun h => ?_) (fun h => ?_)
        · exact z_sub [0, 1, 2, 3] rfl (s_X2_may_134 (o := o) hX hrec56 h)
        · refine z_iconst hX (v := 0) (by decide) dX2_may_132 ?_
          obtain rfl := Option.some.inj h
          exact z_zretT (r := 0) hX (by decide) dX2_may_133
      · refine z_aload_n hX 0 rfl rfl dX2_may_103 ?_
        refine z_getI hX fl_X2_48_1 h dX2_may_104 (fun x22 h => ?_)
        refine z_aload hX 4 rfl dX2_may_107 ?_
        refine z_getI hX fl_X2_112_8 h dX2_may_109 (fun x23 h => ?_)
        refine z_isub hX dX2_may_112 (z_aload_n hX 0 rfl rfl dX2_may_113 ?_)
        refine z_getI hX fl_X2_45_1 h dX2_may_114 (fun x24 h => ?_)
        refine z_icmp_gt (tgt := 134) hX h dX2_may_117 (by decide) (fun h => ?_) (fun h => ?_)
        · exact z_sub [0, 1, 2, 3] rfl (s_X2_may_134 (o := o) hX hrec56 h)
        · refine z_goto (tgt := 132) hX dX2_may_120 (by decide) (z_iconst hX (v := 0) (by decide) dX2_may_132 ?_)
          obtain rfl := Option.some.inj h
          exact z_zretT (r := 0) hX (by decide) dX2_may_133

theorem s_X2_may_56 {X : zX} (hX : zOk X RX2 cX2_may 6 4 104 (Option.some Jvm.ClassFile.FieldType.boolean) "may" []) {o : Nat} {Rt : Int32 × zS} {v1 : Int32} {v3 : Int32} {v4 : Int32} {σ : zS} (h : f_X2_may_56 o v1 v3 v4 σ = some Rt) : zG X (zQ X (.inl (eI Rt.1)) Rt.2) 6 56 [(0, zA (some o)), (1, zI v1), (3, zI v3), (4, zI v4)] [] σ :=
  zlp1_ok (P := fun v4 σ => zG X (zQ X (.inl (eI Rt.1)) Rt.2) 6 56 [(0, zA (some o)), (1, zI v1), (3, zI v3), (4, zI v4)] [] σ) (fun rec hr v4 σ h => s_X2_may_56_b (o := o) hX hr h) NN v4 σ h
def f_X2_may_17_b (o : Nat) (v1 : Int32) (v2 : Int32) (v3 : Int32) (rec17 : Int32 → zS → Option (Int32 × zS)) (v4 : Int32) (σ : zS) : Option (Int32 × zS) :=
  if v2 ≤ v4 then
    f_X2_may_56 o v1 v3 0 σ
  else
    (gR σ o 1 9).bind fun r25 =>
    r25.bind fun a26 =>
    zif (zcl σ a26 = 19) <|
    zb2 (f_J2_get a26 v4 σ) fun r28 σ29 =>
    zif (zckC σ29 r28 7 = true) <|
    r28.bind fun a30 =>
    (gI σ29 a30 7 1).bind fun x31 =>
    (gI σ29 o 1 2).bind fun x32 =>
    if x31 < x32 then
      zl (v4 + 1) fun x33 =>
      rec17 x33 σ29
    else
      some ((0 : Int32), σ29)

def f_X2_may_17 (o : Nat) (v1 : Int32) (v2 : Int32) (v3 : Int32) : Int32 → zS → Option (Int32 × zS) := zlp1 (f_X2_may_17_b o v1 v2 v3) NN
set_option maxHeartbeats 4000000 in
theorem s_X2_may_17_b {X : zX} (hX : zOk X RX2 cX2_may 6 4 104 (Option.some Jvm.ClassFile.FieldType.boolean) "may" []) {o : Nat} {Rt : Int32 × zS} {v1 : Int32} {v2 : Int32} {v3 : Int32} {rec17 : Int32 → zS → Option (Int32 × zS)} (hrec17 : ∀ (v4 : Int32) (σ : zS), rec17 v4 σ = some Rt → zG X (zQ X (.inl (eI Rt.1)) Rt.2) 6 17 [(0, zA (some o)), (1, zI v1), (2, zI v2), (3, zI v3), (4, zI v4)] [] σ) {v4 : Int32} {σ : zS} (h : f_X2_may_17_b o v1 v2 v3 rec17 v4 σ = some Rt) : zG X (zQ X (.inl (eI Rt.1)) Rt.2) 6 17 [(0, zA (some o)), (1, zI v1), (2, zI v2), (3, zI v3), (4, zI v4)] [] σ := by
  unfold f_X2_may_17_b at h
  refine z_iload hX 4 rfl dX2_may_17 (z_iload_n hX 2 rfl rfl dX2_may_19 ?_)
  refine z_icmp_ge (tgt := 53) hX h dX2_may_20 (by decide) (fun h => ?_) (fun h => ?_)
  · refine z_iconst hX (v := 0) (by decide) dX2_may_53 (z_istore (L' := [(0, zA (some o)), (1, zI v1), (2, zI v2), (3, zI v3), (4, zI 0)]) hX rfl (by decide) dX2_may_54 ?_)
    exact z_sub [0, 1, 3, 4] rfl (s_X2_may_56 (o := o) hX  h)
  · refine z_aload_n hX 0 rfl rfl dX2_may_23 ?_
    refine z_getR hX fl_X2_29_1 h dX2_may_24 (fun r25 h => ?_)
    refine z_iload hX 4 rfl dX2_may_27 ?_
    obtain ⟨a26, e9, k_a26⟩ := z_nn h
    subst e9
    have h := k_a26
    obtain ⟨c27, h⟩ := z_ck h
    refine z_cNA hX (rest := []) h (fun r9 σ9 e9 => z_runV hX lk_X2_68 (c_J2_get hX.tr e9) (ci := 19) zc9_19 c27 ⟨Nat.le_of_ble_eq_true rfl, Nat.le_of_ble_eq_true rfl⟩ rfl (Nat.le_of_ble_eq_true rfl) dX2_may_29 rfl) (fun r28 σ29 h => ?_)
    refine z_castC hX (ci := 7) rfl q410 h dX2_may_32 (fun h => ?_)
    obtain ⟨a30, e9, k_a30⟩ := z_nn h
    subst e9
    have h := k_a30
    refine z_getI hX fl_X2_106_7 h dX2_may_35 (fun x31 h => ?_)
    refine z_aload_n hX 0 rfl rfl dX2_may_38 ?_
    refine z_getI hX fl_X2_9_1 h dX2_may_39 (fun x32 h => ?_)
    refine z_icmp_lt (tgt := 47) hX h dX2_may_42 (by decide) (fun h => ?_) (fun h => ?_)
    · refine z_iinc hX (j := 4) h rfl (by decide) (by decide) dX2_may_47 (fun x33 h => z_L (L' := [(0, zA (some o)), (1, zI v1), (2, zI v2), (3, zI v3), (4, zI x33)]) rfl ?_)
      refine z_goto (tgt := 17) hX dX2_may_50 (by decide) ?_
      exact z_sub [0, 1, 2, 3, 4] rfl (hrec17 _ _ h)
    · refine z_iconst hX (v := 0) (by decide) dX2_may_45 ?_
      obtain rfl := Option.some.inj h
      exact z_zretT (r := 0) hX (by decide) dX2_may_46

theorem s_X2_may_17 {X : zX} (hX : zOk X RX2 cX2_may 6 4 104 (Option.some Jvm.ClassFile.FieldType.boolean) "may" []) {o : Nat} {Rt : Int32 × zS} {v1 : Int32} {v2 : Int32} {v3 : Int32} {v4 : Int32} {σ : zS} (h : f_X2_may_17 o v1 v2 v3 v4 σ = some Rt) : zG X (zQ X (.inl (eI Rt.1)) Rt.2) 6 17 [(0, zA (some o)), (1, zI v1), (2, zI v2), (3, zI v3), (4, zI v4)] [] σ :=
  zlp1_ok (P := fun v4 σ => zG X (zQ X (.inl (eI Rt.1)) Rt.2) 6 17 [(0, zA (some o)), (1, zI v1), (2, zI v2), (3, zI v3), (4, zI v4)] [] σ) (fun rec hr v4 σ h => s_X2_may_17_b (o := o) hX hr h) NN v4 σ h
def f_X2_may (o : Nat) (p1 : Int32) (p2 : Int32) (p3 : Int32) (σ : zS) : Option (Int32 × zS) :=
  (gR σ o 1 11).bind fun r1 =>
  r1.bind fun a2 =>
  zif (zcl σ a2 = 19) <|
  zb2 (f_J2_size a2 σ) fun x4 σ5 =>
  if ¬ x4 = 60 then
    f_X2_may_17 o p1 p2 p3 0 σ5
  else
    some ((0 : Int32), σ5)

set_option maxHeartbeats 4000000 in
theorem s_X2_may {X : zX} (hX : zOk X RX2 cX2_may 6 4 104 (Option.some Jvm.ClassFile.FieldType.boolean) "may" []) {o : Nat} {p1 : Int32} {p2 : Int32} {p3 : Int32} {σ : zS} {Rt : Int32 × zS} (h : f_X2_may o p1 p2 p3 σ = some Rt) : zG X (zQ X (.inl (eI Rt.1)) Rt.2) 6 0 [(0, zA (some o)), (1, zI p1), (2, zI p2), (3, zI p3)] [] σ := by
  unfold f_X2_may at h
  refine z_aload_n hX 0 rfl rfl dX2_may_0 ?_
  refine z_getR hX fl_X2_35_1 h dX2_may_1 (fun r1 h => ?_)
  obtain ⟨a2, e9, k_a2⟩ := z_nn h
  subst e9
  have h := k_a2
  obtain ⟨c3, h⟩ := z_ck h
  refine z_cNI hX (rest := []) h (fun r9 σ9 e9 => z_runV hX lk_X2_64 (c_J2_size hX.tr e9) (ci := 19) zc9_19 c3 ⟨Nat.le_of_ble_eq_true rfl, Nat.le_of_ble_eq_true rfl⟩ rfl (Nat.le_of_ble_eq_true rfl) dX2_may_4 rfl) (fun x4 σ5 h => ?_)
  refine z_bipush hX (v := 60) (by decide) dX2_may_7 ?_
  refine z_icmp_ne (tgt := 14) hX h dX2_may_9 (by decide) (fun h => ?_) (fun h => ?_)
  · refine z_iconst hX (v := 0) (by decide) dX2_may_14 (z_istore (L' := [(0, zA (some o)), (1, zI p1), (2, zI p2), (3, zI p3), (4, zI 0)]) hX rfl (by decide) dX2_may_15 ?_)
    exact z_sub [0, 1, 2, 3, 4] rfl (s_X2_may_17 (o := o) hX  h)
  · refine z_iconst hX (v := 0) (by decide) dX2_may_12 ?_
    obtain rfl := Option.some.inj h
    exact z_zretT (r := 0) hX (by decide) dX2_may_13

theorem c_X2_may {l : Launch} {D : va_G} {tys : zTy} (hl : l.stackTraces = false) {o : Nat} {p1 : Int32} {p2 : Int32} {p3 : Int32} {σ : zS} {Rt : Int32 × zS} (h : f_X2_may o p1 p2 p3 σ = some Rt) : zM l D tys yX2_may (ws_ yX2_may cX2_may 6 (Option.some Jvm.ClassFile.FieldType.boolean)) 4 104 [zA (some o), zI p1, zI p2, zI p3] σ (.inl (eI Rt.1)) Rt.2 :=
  zM_in hl rfl (Nat.le_of_ble_eq_true rfl) (fun p e R s m args below meth c hX => z_L rfl (s_X2_may hX h))
def f_X1_can (p1 : Int32) (σ : zS) : Option ((Unit ⊕ Nat) × zS) :=
  if ¬ p1 = 0 then
    some (.inl (), σ)
  else
    (zth σ).bind fun σ1 =>
    some (.inr 4, σ1)

set_option maxHeartbeats 4000000 in
theorem s_X1_can {X : zX} (hX : zOk X RX1 cX1_can 1 7 110 (Option.none : Option Jvm.ClassFile.FieldType) "can" []) {p1 : Int32} {σ : zS} {Rt : (Unit ⊕ Nat) × zS} (h : f_X1_can p1 σ = some Rt) : zG X (zQ X (zot eU Rt.1) Rt.2) 1 0 [(0, zI p1)] [] σ := by
  unfold f_X1_can at h
  refine z_iload_n hX 0 rfl rfl dX1_can_0 ?_
  refine z_if_ne (tgt := 12) hX h dX1_can_1 (by decide) (fun h => ?_) (fun h => ?_)
  · obtain rfl := Option.some.inj h
    exact z_vret hX dX1_can_12
  · obtain ⟨σ1, e9, h⟩ := z_bd h
    obtain rfl := Option.some.inj h
    exact z_throw0 hX (k := 4) (by decide +kernel) (by decide +kernel) q1586 q122 th_X1_356_a th_X1_356_b th_X1_356_c (Nat.le_of_ble_eq_true rfl) (Nat.le_of_ble_eq_true rfl) (Nat.le_of_ble_eq_true rfl) (fun x hx => nomatch hx) dX1_can_4 dX1_can_7 dX1_can_8 dX1_can_11 e9

theorem c_X1_can {l : Launch} {D : va_G} {tys : zTy} (hl : l.stackTraces = false) {p1 : Int32} {σ : zS} {Rt : (Unit ⊕ Nat) × zS} (h : f_X1_can p1 σ = some Rt) : zM l D tys yX1_can (ws_ yX1_can cX1_can 1 (Option.none : Option Jvm.ClassFile.FieldType)) 7 110 [zI p1] σ (zot eU Rt.1) Rt.2 :=
  zM_in hl rfl (Nat.le_of_ble_eq_true rfl) (fun p e R s m args below meth c hX => z_L rfl (s_X1_can hX h))
def f_X2_walks_27_b (o : Nat) (v1 : Int32) (v2 : Int32) (v3 : Int32) (v4 : Int32) (v6 : Int32) (rec27 : Int32 → zS → Option (Int32 × zS)) (v7 : Int32) (σ : zS) : Option (Int32 × zS) :=
  if v3 ≤ v7 then
    (gI σ o 1 6).bind fun x9 =>
    (pI σ o 1 6 (x9 + 1)).bind fun σ10 =>
    (gR σ10 o 1 11).bind fun r11 =>
    zb2 (znewO σ10 8 [.int 0, .int 0, .int 0, .int 0, .int 0, .int 0, .int 0, .int 0]) fun a12 σ13 =>
    (gI σ13 o 1 6).bind fun x14 =>
    (gI σ13 o 1 4).bind fun x15 =>
    zb2 (f_X9_init a12 x14 x15 v1 v2 v3 v4 v6 σ13) fun _ σ17 =>
    r11.bind fun a18 =>
    zif (zcl σ17 a18 = 19) <|
    zb2 (f_J2_add a18 (some a12) σ17) fun x20 σ21 =>
    some (v6, σ21)
  else
    (gR σ o 1 9).bind fun r22 =>
    r22.bind fun a23 =>
    zif (zcl σ a23 = 19) <|
    zb2 (f_J2_get a23 v7 σ) fun r25 σ26 =>
    zif (zckC σ26 r25 7 = true) <|
    r25.bind fun a27 =>
    (gI σ26 a27 7 1).bind fun x28 =>
    (pI σ26 a27 7 1 (x28 + 1)).bind fun σ29 =>
    zl (v7 + 1) fun x30 =>
    rec27 x30 σ29

def f_X2_walks_27 (o : Nat) (v1 : Int32) (v2 : Int32) (v3 : Int32) (v4 : Int32) (v6 : Int32) : Int32 → zS → Option (Int32 × zS) := zlp1 (f_X2_walks_27_b o v1 v2 v3 v4 v6) NN
set_option maxHeartbeats 4000000 in
theorem s_X2_walks_27_b {X : zX} (hX : zOk X RX2 cX2_walks 8 7 171 (Option.some Jvm.ClassFile.FieldType.int) "walks" []) {o : Nat} {Rt : Int32 × zS} {v1 : Int32} {v2 : Int32} {v3 : Int32} {v4 : Int32} {v6 : Int32} {rec27 : Int32 → zS → Option (Int32 × zS)} (hrec27 : ∀ (v7 : Int32) (σ : zS), rec27 v7 σ = some Rt → zG X (zQ X (.inl (eI Rt.1)) Rt.2) 8 27 [(0, zA (some o)), (1, zI v1), (2, zI v2), (3, zI v3), (4, zI v4), (6, zI v6), (7, zI v7)] [] σ) {v7 : Int32} {σ : zS} (h : f_X2_walks_27_b o v1 v2 v3 v4 v6 rec27 v7 σ = some Rt) : zG X (zQ X (.inl (eI Rt.1)) Rt.2) 8 27 [(0, zA (some o)), (1, zI v1), (2, zI v2), (3, zI v3), (4, zI v4), (6, zI v6), (7, zI v7)] [] σ := by
  unfold f_X2_walks_27_b at h
  refine z_iload hX 6 rfl dX2_walks_27 (z_iload_n hX 3 rfl rfl dX2_walks_29 ?_)
  refine z_icmp_ge (tgt := 60) hX h dX2_walks_30 (by decide) (fun h => ?_) (fun h => ?_)
  · refine z_aload_n hX 0 rfl rfl dX2_walks_60 (z_dup hX rfl dX2_walks_61 ?_)
    refine z_getI hX fl_X2_51_1 h dX2_walks_62 (fun x9 h => ?_)
    refine z_iconst hX (v := 1) (by decide) dX2_walks_65 (z_iadd hX dX2_walks_66 ?_)
    refine z_putI hX fp_X2_51_1 (fun h => nomatch h) h dX2_walks_67 (fun σ10 h => ?_)
    refine z_aload_n hX 0 rfl rfl dX2_walks_70 ?_
    refine z_getR hX fl_X2_35_1 h dX2_walks_71 (fun r11 h => ?_)
    refine z_new hX ne_X2_87 h dX2_walks_74 (fun a12 σ13 h => ?_)
    refine z_dup hX rfl dX2_walks_77 (z_aload_n hX 0 rfl rfl dX2_walks_78 ?_)
    refine z_getI hX fl_X2_51_1 h dX2_walks_79 (fun x14 h => ?_)
    refine z_aload_n hX 0 rfl rfl dX2_walks_82 ?_
    refine z_getI hX fl_X2_48_1 h dX2_walks_83 (fun x15 h => ?_)
    refine z_iload_n hX 1 rfl rfl dX2_walks_86 (z_iload_n hX 2 rfl rfl dX2_walks_87 (z_iload_n hX 3 rfl rfl dX2_walks_88 (z_iload hX 4 rfl dX2_walks_89 (z_iload hX 5 rfl dX2_walks_91 ?_))))
    refine z_cNU hX (rest := [zA (some a12), zA r11]) h (fun r9 σ9 e9 => z_runI hX lk_X2_122 (c_X9_init hX.tr e9) ⟨Nat.le_of_ble_eq_true rfl, Nat.le_of_ble_eq_true rfl⟩ rfl (Nat.le_of_ble_eq_true rfl) dX2_walks_93 rfl) (fun _ σ17 h => ?_)
    obtain ⟨a18, e9, k_a18⟩ := z_nn h
    subst e9
    have h := k_a18
    obtain ⟨c19, h⟩ := z_ck h
    refine z_cNI hX (rest := []) h (fun r9 σ9 e9 => z_runV hX lk_X2_78 (c_J2_add hX.tr e9) (ci := 19) zc9_19 c19 ⟨Nat.le_of_ble_eq_true rfl, Nat.le_of_ble_eq_true rfl⟩ rfl (Nat.le_of_ble_eq_true rfl) dX2_walks_96 rfl) (fun x20 σ21 h => ?_)
    refine z_pop hX rfl dX2_walks_99 (z_iload hX 5 rfl dX2_walks_100 ?_)
    obtain rfl := Option.some.inj h
    exact z_iret hX dX2_walks_102
  · refine z_aload_n hX 0 rfl rfl dX2_walks_33 ?_
    refine z_getR hX fl_X2_29_1 h dX2_walks_34 (fun r22 h => ?_)
    refine z_iload hX 6 rfl dX2_walks_37 ?_
    obtain ⟨a23, e9, k_a23⟩ := z_nn h
    subst e9
    have h := k_a23
    obtain ⟨c24, h⟩ := z_ck h
    refine z_cNA hX (rest := []) h (fun r9 σ9 e9 => z_runV hX lk_X2_68 (c_J2_get hX.tr e9) (ci := 19) zc9_19 c24 ⟨Nat.le_of_ble_eq_true rfl, Nat.le_of_ble_eq_true rfl⟩ rfl (Nat.le_of_ble_eq_true rfl) dX2_walks_39 rfl) (fun r25 σ26 h => ?_)
    refine z_castC hX (ci := 7) rfl q410 h dX2_walks_42 (fun h => ?_)
    refine z_dup hX rfl dX2_walks_45 ?_
    obtain ⟨a27, e9, k_a27⟩ := z_nn h
    subst e9
    have h := k_a27
    refine z_getI hX fl_X2_106_7 h dX2_walks_46 (fun x28 h => ?_)
    refine z_iconst hX (v := 1) (by decide) dX2_walks_49 (z_iadd hX dX2_walks_50 ?_)
    refine z_putI hX fp_X2_106_7 (fun h => nomatch h) h dX2_walks_51 (fun σ29 h => ?_)
    refine z_iinc hX (j := 6) h rfl (by decide) (by decide) dX2_walks_54 (fun x30 h => z_L (L' := [(0, zA (some o)), (1, zI v1), (2, zI v2), (3, zI v3), (4, zI v4), (6, zI v6), (7, zI x30)]) rfl ?_)
    refine z_goto (tgt := 27) hX dX2_walks_57 (by decide) ?_
    exact z_sub [0, 1, 2, 3, 4, 5, 6] rfl (hrec27 _ _ h)

theorem s_X2_walks_27 {X : zX} (hX : zOk X RX2 cX2_walks 8 7 171 (Option.some Jvm.ClassFile.FieldType.int) "walks" []) {o : Nat} {Rt : Int32 × zS} {v1 : Int32} {v2 : Int32} {v3 : Int32} {v4 : Int32} {v6 : Int32} {v7 : Int32} {σ : zS} (h : f_X2_walks_27 o v1 v2 v3 v4 v6 v7 σ = some Rt) : zG X (zQ X (.inl (eI Rt.1)) Rt.2) 8 27 [(0, zA (some o)), (1, zI v1), (2, zI v2), (3, zI v3), (4, zI v4), (6, zI v6), (7, zI v7)] [] σ :=
  zlp1_ok (P := fun v7 σ => zG X (zQ X (.inl (eI Rt.1)) Rt.2) 8 27 [(0, zA (some o)), (1, zI v1), (2, zI v2), (3, zI v3), (4, zI v4), (6, zI v6), (7, zI v7)] [] σ) (fun rec hr v7 σ h => s_X2_walks_27_b (o := o) hX hr h) NN v7 σ h
def f_X2_walks (o : Nat) (p1 : Int32) (p2 : Int32) (p3 : Int32) (p4 : Int32) (p5 : Int32) (σ : zS) : Option (Int32 × zS) :=
  (gR σ o 1 7).bind fun r1 =>
  r1.bind fun a2 =>
  (lI σ a2 0 p2).bind fun x3 =>
  zl (zmin p5 x3) fun x4 =>
  (gR σ o 1 7).bind fun r5 =>
  r5.bind fun a6 =>
  (lI σ a6 0 p2).bind fun x7 =>
  (sI σ a6 p2 (x7 - x4)).bind fun σ8 =>
  f_X2_walks_27 o p1 p2 p3 p4 x4 0 σ8

set_option maxHeartbeats 4000000 in
theorem s_X2_walks {X : zX} (hX : zOk X RX2 cX2_walks 8 7 171 (Option.some Jvm.ClassFile.FieldType.int) "walks" []) {o : Nat} {p1 : Int32} {p2 : Int32} {p3 : Int32} {p4 : Int32} {p5 : Int32} {σ : zS} {Rt : Int32 × zS} (h : f_X2_walks o p1 p2 p3 p4 p5 σ = some Rt) : zG X (zQ X (.inl (eI Rt.1)) Rt.2) 8 0 [(0, zA (some o)), (1, zI p1), (2, zI p2), (3, zI p3), (4, zI p4), (5, zI p5)] [] σ := by
  unfold f_X2_walks at h
  refine z_iload hX 5 rfl dX2_walks_0 (z_aload_n hX 0 rfl rfl dX2_walks_2 ?_)
  refine z_getR hX fl_X2_18_1 h dX2_walks_3 (fun r1 h => ?_)
  refine z_iload_n hX 2 rfl rfl dX2_walks_6 ?_
  obtain ⟨a2, e9, k_a2⟩ := z_nn h
  subst e9
  have h := k_a2
  refine z_iald hX h dX2_walks_7 (fun x3 h => ?_)
  refine z_mmin hX q1605 (Nat.le_of_ble_eq_true rfl) (Nat.le_of_ble_eq_true rfl) (Nat.le_of_ble_eq_true rfl) dX2_walks_8 ?_
  refine z_nmI h (fun x4 h => ?_)
  refine z_istore (L' := [(0, zA (some o)), (1, zI p1), (2, zI p2), (3, zI p3), (4, zI p4), (5, zI p5), (6, zI x4)]) hX rfl (by decide) dX2_walks_11 (z_aload_n hX 0 rfl rfl dX2_walks_13 ?_)
  refine z_getR hX fl_X2_18_1 h dX2_walks_14 (fun r5 h => ?_)
  refine z_iload_n hX 2 rfl rfl dX2_walks_17 (z_dup2 hX rfl rfl dX2_walks_18 ?_)
  obtain ⟨a6, e9, k_a6⟩ := z_nn h
  subst e9
  have h := k_a6
  refine z_iald hX h dX2_walks_19 (fun x7 h => ?_)
  refine z_iload hX 6 rfl dX2_walks_20 (z_isub hX dX2_walks_22 ?_)
  refine z_iast hX h dX2_walks_23 (fun σ8 h => ?_)
  refine z_iconst hX (v := 0) (by decide) dX2_walks_24 (z_istore (L' := [(0, zA (some o)), (1, zI p1), (2, zI p2), (3, zI p3), (4, zI p4), (5, zI p5), (6, zI x4), (7, zI 0)]) hX rfl (by decide) dX2_walks_25 ?_)
  exact z_sub [0, 1, 2, 3, 4, 6, 7] rfl (s_X2_walks_27 (o := o) hX  h)

theorem c_X2_walks {l : Launch} {D : va_G} {tys : zTy} (hl : l.stackTraces = false) {o : Nat} {p1 : Int32} {p2 : Int32} {p3 : Int32} {p4 : Int32} {p5 : Int32} {σ : zS} {Rt : Int32 × zS} (h : f_X2_walks o p1 p2 p3 p4 p5 σ = some Rt) : zM l D tys yX2_walks (ws_ yX2_walks cX2_walks 8 (Option.some Jvm.ClassFile.FieldType.int)) 7 171 [zA (some o), zI p1, zI p2, zI p3, zI p4, zI p5] σ (.inl (eI Rt.1)) Rt.2 :=
  zM_in hl rfl (Nat.le_of_ble_eq_true rfl) (fun p e R s m args below meth c hX => z_L rfl (s_X2_walks hX h))
def f_X1_walk (o : Nat) (p1 : Int32) (p2 : Int32) (p3 : Int32) (p4 : Int32) (σ : zS) : Option ((Int32 ⊕ Nat) × zS) :=
  zif (zcl σ o = 0) <|
  zbt (f_X1_aWalk o p1 p2 p3 σ) (fun k9 σ9 => some (.inr k9, σ9)) fun _ σ3 =>
  (gR σ3 o 0 0).bind fun r4 =>
  r4.bind fun a5 =>
  zif (zcl σ3 a5 = 1) <|
  zb2 (f_X2_may a5 p1 p3 p4 σ3) fun x7 σ8 =>
  zbt (f_X1_can x7 σ8) (fun k9 σ9 => some (.inr k9, σ9)) fun _ σ10 =>
  (gR σ10 o 0 0).bind fun r11 =>
  zif (zcl σ10 o = 0) <|
  zb2 (f_X1_counted o p1 p2 p3 p4 σ10) fun x13 σ14 =>
  r11.bind fun a15 =>
  zif (zcl σ14 a15 = 1) <|
  zb2 (f_X2_walks a15 p1 p2 p3 p4 x13 σ14) fun x17 σ18 =>
  some (.inl x17, σ18)

set_option maxHeartbeats 4000000 in
theorem s_X1_walk {X : zX} (hX : zOk X RX1 cX1_walk 5 103 2612 (Option.some Jvm.ClassFile.FieldType.int) "walk" []) {o : Nat} {p1 : Int32} {p2 : Int32} {p3 : Int32} {p4 : Int32} {σ : zS} {Rt : (Int32 ⊕ Nat) × zS} (h : f_X1_walk o p1 p2 p3 p4 σ = some Rt) : zG X (zQ X (zot eI Rt.1) Rt.2) 5 0 [(0, zA (some o)), (1, zI p1), (2, zI p2), (3, zI p3), (4, zI p4)] [] σ := by
  unfold f_X1_walk at h
  refine z_aload_n hX 0 rfl rfl dX1_walk_0 (z_iload_n hX 1 rfl rfl dX1_walk_1 (z_iload_n hX 2 rfl rfl dX1_walk_2 (z_iload_n hX 3 rfl rfl dX1_walk_3 ?_)))
  obtain ⟨c1, h⟩ := z_ck h
  refine z_cTU hX (rest := []) h (fun r9 σ9 e9 => z_runV hX lk_X1_406 (c_X1_aWalk hX.tr e9) (ci := 0) zc9_0 c1 ⟨Nat.le_of_ble_eq_true rfl, Nat.le_of_ble_eq_true rfl⟩ rfl (Nat.le_of_ble_eq_true rfl) dX1_walk_4 rfl) (fun k9 σ9 h => z_prop hX h (fun x hx => nomatch hx)) (fun _ σ3 h => ?_)
  refine z_aload_n hX 0 rfl rfl dX1_walk_7 ?_
  refine z_getR hX fl_X1_10_0 h dX1_walk_8 (fun r4 h => ?_)
  refine z_iload_n hX 1 rfl rfl dX1_walk_11 (z_iload_n hX 3 rfl rfl dX1_walk_12 (z_iload hX 4 rfl dX1_walk_13 ?_))
  obtain ⟨a5, e9, k_a5⟩ := z_nn h
  subst e9
  have h := k_a5
  obtain ⟨c6, h⟩ := z_ck h
  refine z_cNI hX (rest := []) h (fun r9 σ9 e9 => z_runV hX lk_X1_414 (c_X2_may hX.tr e9) (ci := 1) zc9_1 c6 ⟨Nat.le_of_ble_eq_true rfl, Nat.le_of_ble_eq_true rfl⟩ rfl (Nat.le_of_ble_eq_true rfl) dX1_walk_15 rfl) (fun x7 σ8 h => ?_)
  refine z_cTU hX (rest := []) h (fun r9 σ9 e9 => z_runS hX lk_X1_418 (c_X1_can hX.tr e9) ⟨Nat.le_of_ble_eq_true rfl, Nat.le_of_ble_eq_true rfl⟩ rfl (Nat.le_of_ble_eq_true rfl) dX1_walk_18 rfl) (fun k9 σ9 h => z_prop hX h (fun x hx => nomatch hx)) (fun _ σ10 h => ?_)
  refine z_aload_n hX 0 rfl rfl dX1_walk_21 ?_
  refine z_getR hX fl_X1_10_0 h dX1_walk_22 (fun r11 h => ?_)
  refine z_iload_n hX 1 rfl rfl dX1_walk_25 (z_iload_n hX 2 rfl rfl dX1_walk_26 (z_iload_n hX 3 rfl rfl dX1_walk_27 (z_iload hX 4 rfl dX1_walk_28 (z_aload_n hX 0 rfl rfl dX1_walk_30 (z_iload_n hX 1 rfl rfl dX1_walk_31 (z_iload_n hX 2 rfl rfl dX1_walk_32 (z_iload_n hX 3 rfl rfl dX1_walk_33 (z_iload hX 4 rfl dX1_walk_34 ?_))))))))
  obtain ⟨c12, h⟩ := z_ck h
  refine z_cNI hX (rest := [zI p4, zI p3, zI p2, zI p1, zA r11]) h (fun r9 σ9 e9 => z_runV hX lk_X1_410 (c_X1_counted hX.tr e9) (ci := 0) zc9_0 c12 ⟨Nat.le_of_ble_eq_true rfl, Nat.le_of_ble_eq_true rfl⟩ rfl (Nat.le_of_ble_eq_true rfl) dX1_walk_36 rfl) (fun x13 σ14 h => ?_)
  obtain ⟨a15, e9, k_a15⟩ := z_nn h
  subst e9
  have h := k_a15
  obtain ⟨c16, h⟩ := z_ck h
  refine z_cNI hX (rest := []) h (fun r9 σ9 e9 => z_runV hX lk_X1_421 (c_X2_walks hX.tr e9) (ci := 1) zc9_1 c16 ⟨Nat.le_of_ble_eq_true rfl, Nat.le_of_ble_eq_true rfl⟩ rfl (Nat.le_of_ble_eq_true rfl) dX1_walk_39 rfl) (fun x17 σ18 h => ?_)
  obtain rfl := Option.some.inj h
  exact z_iret hX dX1_walk_42

theorem c_X1_walk {l : Launch} {D : va_G} {tys : zTy} (hl : l.stackTraces = false) {o : Nat} {p1 : Int32} {p2 : Int32} {p3 : Int32} {p4 : Int32} {σ : zS} {Rt : (Int32 ⊕ Nat) × zS} (h : f_X1_walk o p1 p2 p3 p4 σ = some Rt) : zM l D tys yX1_walk (ws_ yX1_walk cX1_walk 5 (Option.some Jvm.ClassFile.FieldType.int)) 103 2612 [zA (some o), zI p1, zI p2, zI p3, zI p4] σ (zot eI Rt.1) Rt.2 :=
  zM_in hl rfl (Nat.le_of_ble_eq_true rfl) (fun p e R s m args below meth c hX => z_L rfl (s_X1_walk hX h))
def f_X0_walk (p1 : Option Nat) (p2 : Int32) (p3 : Int32) (p4 : Int32) (p5 : Int32) (p6 : Option Nat) (σ : zS) : Option (Int32 × zS) :=
  p1.bind fun a1 =>
  zif (zcl σ a1 = 0) <|
  zbt (f_X1_walk a1 p2 p3 p4 p5 σ) (fun k9 σ9 =>
    if k9 = 0 then
      some ((2 : Int32), σ9)
    else
    if k9 = 2 then
      some ((1 : Int32), σ9)
    else
    if k9 = 4 then
      some ((3 : Int32), σ9)
    else
    none
  ) fun x3 σ4 =>
  p6.bind fun a5 =>
  (sJ σ4 a5 0 x3.toInt64).bind fun σ6 =>
  some ((0 : Int32), σ6)

set_option maxHeartbeats 4000000 in
theorem s_X0_walk {X : zX} (hX : zOk X RX0 cX0_walk 7 104 2636 (Option.some Jvm.ClassFile.FieldType.int) "walk" (tableOf [(0, 14, 17, 24), (0, 14, 21, 13), (0, 14, 25, 44)])) {p1 : Option Nat} {p2 : Int32} {p3 : Int32} {p4 : Int32} {p5 : Int32} {p6 : Option Nat} {σ : zS} {Rt : Int32 × zS} (h : f_X0_walk p1 p2 p3 p4 p5 p6 σ = some Rt) : zG X (zQ X (.inl (eI Rt.1)) Rt.2) 7 0 [(0, zA p1), (1, zI p2), (2, zI p3), (3, zI p4), (4, zI p5), (5, zA p6)] [] σ := by
  unfold f_X0_walk at h
  refine z_aload hX 5 rfl dX0_walk_0 (z_iconst hX (v := 0) (by decide) dX0_walk_2 (z_aload_n hX 0 rfl rfl dX0_walk_3 (z_iload_n hX 1 rfl rfl dX0_walk_4 (z_iload_n hX 2 rfl rfl dX0_walk_5 (z_iload_n hX 3 rfl rfl dX0_walk_6 (z_iload hX 4 rfl dX0_walk_7 ?_))))))
  obtain ⟨a1, e9, k_a1⟩ := z_nn h
  subst e9
  have h := k_a1
  obtain ⟨c2, h⟩ := z_ck h
  refine z_cTI hX (rest := [zI 0, zA p6]) h (fun r9 σ9 e9 => z_runV hX lk_X0_41 (c_X1_walk hX.tr e9) (ci := 0) zc9_0 c2 ⟨Nat.le_of_ble_eq_true rfl, Nat.le_of_ble_eq_true rfl⟩ rfl (Nat.le_of_ble_eq_true rfl) dX0_walk_9 rfl) (fun k9 σ9 h => ?_) (fun x3 σ4 h => ?_)
  · rcases z_ite h with ⟨e9, k_σ4_0⟩ | ⟨-, h⟩
    · subst e9
      have h := k_σ4_0
      refine z_catch hX (k := 0) (nmC := "java/lang/IllegalArgumentException") [⟨0, 14, 17, 24⟩] ⟨0, 14, 21, 13⟩ [⟨0, 14, 25, 44⟩] rfl (List.forall_mem_cons.mpr ⟨Or.inr ⟨by decide, "java/lang/IndexOutOfBoundsException", q1381, by simp [zNc, zEx]⟩, fun z hz => nomatch hz⟩) rfl (by decide) q647 (zNw_of q832 rfl) (fun q9 => ?_)
      refine z_astore (L' := [(0, zA (some a1)), (1, zI p2), (2, zI p3), (3, zI p4), (4, zI p5), (5, zA p6), (6, zA (some q9))]) hX rfl (by decide) dX0_walk_21 (z_iconst hX (v := 2) (by decide) dX0_walk_23 ?_)
      obtain rfl := Option.some.inj h
      exact z_iret hX dX0_walk_24
    rcases z_ite h with ⟨e9, k_σ4_2⟩ | ⟨-, h⟩
    · subst e9
      have h := k_σ4_2
      refine z_catch hX (k := 2) (nmC := "java/lang/IndexOutOfBoundsException") [] ⟨0, 14, 17, 24⟩ [⟨0, 14, 21, 13⟩, ⟨0, 14, 25, 44⟩] rfl (fun z hz => nomatch hz) rfl (by decide) q1381 (zNw_of q1415 rfl) (fun q9 => ?_)
      refine z_astore (L' := [(0, zA (some a1)), (1, zI p2), (2, zI p3), (3, zI p4), (4, zI p5), (5, zA p6), (6, zA (some q9))]) hX rfl (by decide) dX0_walk_17 (z_iconst hX (v := 1) (by decide) dX0_walk_19 ?_)
      obtain rfl := Option.some.inj h
      exact z_iret hX dX0_walk_20
    rcases z_ite h with ⟨e9, k_σ4_4⟩ | ⟨-, h⟩
    · subst e9
      have h := k_σ4_4
      refine z_catch hX (k := 4) (nmC := "java/lang/IllegalStateException") [⟨0, 14, 17, 24⟩, ⟨0, 14, 21, 13⟩] ⟨0, 14, 25, 44⟩ [] rfl (List.forall_mem_cons.mpr ⟨Or.inr ⟨by decide, "java/lang/IndexOutOfBoundsException", q1381, by simp [zNc, zEx]⟩, List.forall_mem_cons.mpr ⟨Or.inr ⟨by decide, "java/lang/IllegalArgumentException", q647, by simp [zNc, zEx]⟩, fun z hz => nomatch hz⟩⟩) rfl (by decide) q1574 (zNw_of q1588 rfl) (fun q9 => ?_)
      refine z_astore (L' := [(0, zA (some a1)), (1, zI p2), (2, zI p3), (3, zI p4), (4, zI p5), (5, zA p6), (6, zA (some q9))]) hX rfl (by decide) dX0_walk_25 (z_iconst hX (v := 3) (by decide) dX0_walk_27 ?_)
      obtain rfl := Option.some.inj h
      exact z_iret hX dX0_walk_28
    cases h
  refine z_i2l hX dX0_walk_12 ?_
  obtain ⟨a5, e9, k_a5⟩ := z_nn h
  subst e9
  have h := k_a5
  refine z_last hX h dX0_walk_13 (fun σ6 h => ?_)
  refine z_goto (tgt := 29) hX dX0_walk_14 (by decide) (z_iconst hX (v := 0) (by decide) dX0_walk_29 ?_)
  obtain rfl := Option.some.inj h
  exact z_iret hX dX0_walk_30

theorem c_X0_walk {l : Launch} {D : va_G} {tys : zTy} (hl : l.stackTraces = false) {p1 : Option Nat} {p2 : Int32} {p3 : Int32} {p4 : Int32} {p5 : Int32} {p6 : Option Nat} {σ : zS} {Rt : Int32 × zS} (h : f_X0_walk p1 p2 p3 p4 p5 p6 σ = some Rt) : zM l D tys yX0_walk (wsW_ yX0_walk cX0_walk 7 (Option.some Jvm.ClassFile.FieldType.int) [(0, 14, 17, 24), (0, 14, 21, 13), (0, 14, 25, 44)]) 104 2636 [zA p1, zI p2, zI p3, zI p4, zI p5, zA p6] σ (.inl (eI Rt.1)) Rt.2 :=
  zM_inW hl rfl (Nat.le_of_ble_eq_true rfl) (fun p e R s m args below meth c hX => z_L rfl (s_X0_walk hX h))
def f_X1_days (o : Nat) (p1 : Int32) (σ : zS) : Option ((Int32 ⊕ Nat) × zS) :=
  zb2 (f_X1_in p1 1 99 σ) fun x1 σ2 =>
  zbt (f_X1_demand x1 σ2) (fun k9 σ9 => some (.inr k9, σ9)) fun _ σ4 =>
  (gR σ4 o 0 0).bind fun r5 =>
  r5.bind fun a6 =>
  (gI σ4 a6 1 4).bind fun x7 =>
  (pI σ4 a6 1 4 (x7 + p1)).bind fun σ8 =>
  (gR σ8 o 0 0).bind fun r9 =>
  r9.bind fun a10 =>
  (gI σ8 a10 1 4).bind fun x11 =>
  some (.inl x11, σ8)

set_option maxHeartbeats 4000000 in
theorem s_X1_days {X : zX} (hX : zOk X RX1 cX1_days 2 8 130 (Option.some Jvm.ClassFile.FieldType.int) "days" []) {o : Nat} {p1 : Int32} {σ : zS} {Rt : (Int32 ⊕ Nat) × zS} (h : f_X1_days o p1 σ = some Rt) : zG X (zQ X (zot eI Rt.1) Rt.2) 2 0 [(0, zA (some o)), (1, zI p1)] [] σ := by
  unfold f_X1_days at h
  refine z_iload_n hX 1 rfl rfl dX1_days_0 (z_iconst hX (v := 1) (by decide) dX1_days_1 (z_bipush hX (v := 99) (by decide) dX1_days_2 ?_))
  refine z_cNI hX (rest := []) h (fun r9 σ9 e9 => z_runS hX lk_X1_347 (c_X1_in hX.tr e9) ⟨Nat.le_of_ble_eq_true rfl, Nat.le_of_ble_eq_true rfl⟩ rfl (Nat.le_of_ble_eq_true rfl) dX1_days_4 rfl) (fun x1 σ2 h => ?_)
  refine z_cTU hX (rest := []) h (fun r9 σ9 e9 => z_runS hX lk_X1_403 (c_X1_demand hX.tr e9) ⟨Nat.le_of_ble_eq_true rfl, Nat.le_of_ble_eq_true rfl⟩ rfl (Nat.le_of_ble_eq_true rfl) dX1_days_7 rfl) (fun k9 σ9 h => z_prop hX h (fun x hx => nomatch hx)) (fun _ σ4 h => ?_)
  refine z_aload_n hX 0 rfl rfl dX1_days_10 ?_
  refine z_getR hX fl_X1_10_0 h dX1_days_11 (fun r5 h => ?_)
  refine z_dup hX rfl dX1_days_14 ?_
  obtain ⟨a6, e9, k_a6⟩ := z_nn h
  subst e9
  have h := k_a6
  refine z_getI hX fl_X1_331_1 h dX1_days_15 (fun x7 h => ?_)
  refine z_iload_n hX 1 rfl rfl dX1_days_18 (z_iadd hX dX1_days_19 ?_)
  refine z_putI hX fp_X1_331_1 (fun h => nomatch h) h dX1_days_20 (fun σ8 h => ?_)
  refine z_aload_n hX 0 rfl rfl dX1_days_23 ?_
  refine z_getR hX fl_X1_10_0 h dX1_days_24 (fun r9 h => ?_)
  obtain ⟨a10, e9, k_a10⟩ := z_nn h
  subst e9
  have h := k_a10
  refine z_getI hX fl_X1_331_1 h dX1_days_27 (fun x11 h => ?_)
  obtain rfl := Option.some.inj h
  exact z_iret hX dX1_days_30

theorem c_X1_days {l : Launch} {D : va_G} {tys : zTy} (hl : l.stackTraces = false) {o : Nat} {p1 : Int32} {σ : zS} {Rt : (Int32 ⊕ Nat) × zS} (h : f_X1_days o p1 σ = some Rt) : zM l D tys yX1_days (ws_ yX1_days cX1_days 2 (Option.some Jvm.ClassFile.FieldType.int)) 8 130 [zA (some o), zI p1] σ (zot eI Rt.1) Rt.2 :=
  zM_in hl rfl (Nat.le_of_ble_eq_true rfl) (fun p e R s m args below meth c hX => z_L rfl (s_X1_days hX h))
def f_X0_days (p1 : Option Nat) (p2 : Int32) (p3 : Option Nat) (σ : zS) : Option (Int32 × zS) :=
  p1.bind fun a1 =>
  zif (zcl σ a1 = 0) <|
  zbt (f_X1_days a1 p2 σ) (fun k9 σ9 =>
    if k9 = 0 then
      some ((1 : Int32), σ9)
    else
    none
  ) fun x3 σ4 =>
  p3.bind fun a5 =>
  (sJ σ4 a5 0 x3.toInt64).bind fun σ6 =>
  some ((0 : Int32), σ6)

set_option maxHeartbeats 4000000 in
theorem s_X0_days {X : zX} (hX : zOk X RX0 cX0_days 4 9 151 (Option.some Jvm.ClassFile.FieldType.int) "days" (tableOf [(0, 9, 12, 13)])) {p1 : Option Nat} {p2 : Int32} {p3 : Option Nat} {σ : zS} {Rt : Int32 × zS} (h : f_X0_days p1 p2 p3 σ = some Rt) : zG X (zQ X (.inl (eI Rt.1)) Rt.2) 4 0 [(0, zA p1), (1, zI p2), (2, zA p3)] [] σ := by
  unfold f_X0_days at h
  refine z_aload_n hX 2 rfl rfl dX0_days_0 (z_iconst hX (v := 0) (by decide) dX0_days_1 (z_aload_n hX 0 rfl rfl dX0_days_2 (z_iload_n hX 1 rfl rfl dX0_days_3 ?_)))
  obtain ⟨a1, e9, k_a1⟩ := z_nn h
  subst e9
  have h := k_a1
  obtain ⟨c2, h⟩ := z_ck h
  refine z_cTI hX (rest := [zI 0, zA p3]) h (fun r9 σ9 e9 => z_runV hX lk_X0_46 (c_X1_days hX.tr e9) (ci := 0) zc9_0 c2 ⟨Nat.le_of_ble_eq_true rfl, Nat.le_of_ble_eq_true rfl⟩ rfl (Nat.le_of_ble_eq_true rfl) dX0_days_4 rfl) (fun k9 σ9 h => ?_) (fun x3 σ4 h => ?_)
  · rcases z_ite h with ⟨e9, k_σ4_0⟩ | ⟨-, h⟩
    · subst e9
      have h := k_σ4_0
      refine z_catch hX (k := 0) (nmC := "java/lang/IllegalArgumentException") [] ⟨0, 9, 12, 13⟩ [] rfl (fun z hz => nomatch hz) rfl (by decide) q647 (zNw_of q832 rfl) (fun q9 => ?_)
      refine z_astore_n (L' := [(0, zA (some a1)), (1, zI p2), (2, zA p3), (3, zA (some q9))]) hX rfl rfl (by decide) dX0_days_12 (z_iconst hX (v := 1) (by decide) dX0_days_13 ?_)
      obtain rfl := Option.some.inj h
      exact z_iret hX dX0_days_14
    cases h
  refine z_i2l hX dX0_days_7 ?_
  obtain ⟨a5, e9, k_a5⟩ := z_nn h
  subst e9
  have h := k_a5
  refine z_last hX h dX0_days_8 (fun σ6 h => ?_)
  refine z_goto (tgt := 15) hX dX0_days_9 (by decide) (z_iconst hX (v := 0) (by decide) dX0_days_15 ?_)
  obtain rfl := Option.some.inj h
  exact z_iret hX dX0_days_16

theorem c_X0_days {l : Launch} {D : va_G} {tys : zTy} (hl : l.stackTraces = false) {p1 : Option Nat} {p2 : Int32} {p3 : Option Nat} {σ : zS} {Rt : Int32 × zS} (h : f_X0_days p1 p2 p3 σ = some Rt) : zM l D tys yX0_days (wsW_ yX0_days cX0_days 4 (Option.some Jvm.ClassFile.FieldType.int) [(0, 9, 12, 13)]) 9 151 [zA p1, zI p2, zA p3] σ (.inl (eI Rt.1)) Rt.2 :=
  zM_inW hl rfl (Nat.le_of_ble_eq_true rfl) (fun p e R s m args below meth c hX => z_L rfl (s_X0_days hX h))
def f_X1_twoHouses_20 (o : Nat) (t0 : Int32) (σ : zS) : Option ((Unit ⊕ Nat) × zS) :=
  zbt (f_X1_demand t0 σ) (fun k9 σ9 => some (.inr k9, σ9)) fun _ σ8 =>
  some (.inl (), σ8)

set_option maxHeartbeats 4000000 in
theorem s_X1_twoHouses_20 {X : zX} (hX : zOk X RX1 cX1_twoHouses 3 9 152 (Option.none : Option Jvm.ClassFile.FieldType) "twoHouses" []) {o : Nat} {Rt : (Unit ⊕ Nat) × zS} {t0 : Int32} {σ : zS} (h : f_X1_twoHouses_20 o t0 σ = some Rt) : zG X (zQ X (zot eU Rt.1) Rt.2) 3 20 [] [zI t0] σ := by
  unfold f_X1_twoHouses_20 at h
  refine z_cTU hX (rest := []) h (fun r9 σ9 e9 => z_runS hX lk_X1_403 (c_X1_demand hX.tr e9) ⟨Nat.le_of_ble_eq_true rfl, Nat.le_of_ble_eq_true rfl⟩ rfl (Nat.le_of_ble_eq_true rfl) dX1_twoHouses_20 rfl) (fun k9 σ9 h => z_prop hX h (fun x hx => nomatch hx)) (fun _ σ8 h => ?_)
  obtain rfl := Option.some.inj h
  exact z_vret hX dX1_twoHouses_23

def f_X1_twoHouses (o : Nat) (p1 : Int32) (p2 : Int32) (σ : zS) : Option ((Unit ⊕ Nat) × zS) :=
  zif (zcl σ o = 0) <|
  zbt (f_X1_houseAt o p1 σ) (fun k9 σ9 => some (.inr k9, σ9)) fun _ σ3 =>
  zif (zcl σ3 o = 0) <|
  zbt (f_X1_houseAt o p2 σ3) (fun k9 σ9 => some (.inr k9, σ9)) fun _ σ6 =>
  if p1 = p2 then
    f_X1_twoHouses_20 o  0 σ6
  else
    f_X1_twoHouses_20 o  1 σ6

set_option maxHeartbeats 4000000 in
theorem s_X1_twoHouses {X : zX} (hX : zOk X RX1 cX1_twoHouses 3 9 152 (Option.none : Option Jvm.ClassFile.FieldType) "twoHouses" []) {o : Nat} {p1 : Int32} {p2 : Int32} {σ : zS} {Rt : (Unit ⊕ Nat) × zS} (h : f_X1_twoHouses o p1 p2 σ = some Rt) : zG X (zQ X (zot eU Rt.1) Rt.2) 3 0 [(0, zA (some o)), (1, zI p1), (2, zI p2)] [] σ := by
  unfold f_X1_twoHouses at h
  refine z_aload_n hX 0 rfl rfl dX1_twoHouses_0 (z_iload_n hX 1 rfl rfl dX1_twoHouses_1 ?_)
  obtain ⟨c1, h⟩ := z_ck h
  refine z_cTU hX (rest := []) h (fun r9 σ9 e9 => z_runV hX lk_X1_363 (c_X1_houseAt hX.tr e9) (ci := 0) zc9_0 c1 ⟨Nat.le_of_ble_eq_true rfl, Nat.le_of_ble_eq_true rfl⟩ rfl (Nat.le_of_ble_eq_true rfl) dX1_twoHouses_2 rfl) (fun k9 σ9 h => z_prop hX h (fun x hx => nomatch hx)) (fun _ σ3 h => ?_)
  refine z_aload_n hX 0 rfl rfl dX1_twoHouses_5 (z_iload_n hX 2 rfl rfl dX1_twoHouses_6 ?_)
  obtain ⟨c4, h⟩ := z_ck h
  refine z_cTU hX (rest := []) h (fun r9 σ9 e9 => z_runV hX lk_X1_363 (c_X1_houseAt hX.tr e9) (ci := 0) zc9_0 c4 ⟨Nat.le_of_ble_eq_true rfl, Nat.le_of_ble_eq_true rfl⟩ rfl (Nat.le_of_ble_eq_true rfl) dX1_twoHouses_7 rfl) (fun k9 σ9 h => z_prop hX h (fun x hx => nomatch hx)) (fun _ σ6 h => ?_)
  refine z_iload_n hX 1 rfl rfl dX1_twoHouses_10 (z_iload_n hX 2 rfl rfl dX1_twoHouses_11 ?_)
  refine z_icmp_eq (tgt := 19) hX h dX1_twoHouses_12 (by decide) (fun h => ?_) (fun h => ?_)
  · refine z_iconst hX (v := 0) (by decide) dX1_twoHouses_19 ?_
    exact z_sub [] rfl (s_X1_twoHouses_20 (o := o) hX  h)
  · refine z_iconst hX (v := 1) (by decide) dX1_twoHouses_15 (z_goto (tgt := 20) hX dX1_twoHouses_16 (by decide) ?_)
    exact z_sub [] rfl (s_X1_twoHouses_20 (o := o) hX  h)

theorem c_X1_twoHouses {l : Launch} {D : va_G} {tys : zTy} (hl : l.stackTraces = false) {o : Nat} {p1 : Int32} {p2 : Int32} {σ : zS} {Rt : (Unit ⊕ Nat) × zS} (h : f_X1_twoHouses o p1 p2 σ = some Rt) : zM l D tys yX1_twoHouses (ws_ yX1_twoHouses cX1_twoHouses 3 (Option.none : Option Jvm.ClassFile.FieldType)) 9 152 [zA (some o), zI p1, zI p2] σ (zot eU Rt.1) Rt.2 :=
  zM_in hl rfl (Nat.le_of_ble_eq_true rfl) (fun p e R s m args below meth c hX => z_L rfl (s_X1_twoHouses hX h))
def f_X1_pass_53 (o : Nat) (v1 : Int32) (v2 : Int32) (v4 : Int32) (t0 : Int32) (σ : zS) : Option ((Int32 ⊕ Nat) × zS) :=
  zbt (f_X1_can t0 σ) (fun k9 σ9 => some (.inr k9, σ9)) fun _ σ20 =>
  (gR σ20 o 0 0).bind fun r21 =>
  r21.bind fun a22 =>
  (gR σ20 a22 1 7).bind fun r23 =>
  r23.bind fun a24 =>
  (lI σ20 a24 0 v1).bind fun x25 =>
  (sI σ20 a24 v1 (x25 - v4)).bind fun σ26 =>
  (gR σ26 o 0 0).bind fun r27 =>
  r27.bind fun a28 =>
  (gR σ26 a28 1 7).bind fun r29 =>
  r29.bind fun a30 =>
  (lI σ26 a30 0 v2).bind fun x31 =>
  (sI σ26 a30 v2 (x31 + v4)).bind fun σ32 =>
  some (.inl v4, σ32)

set_option maxHeartbeats 4000000 in
theorem s_X1_pass_53 {X : zX} (hX : zOk X RX1 cX1_pass 5 10 174 (Option.some Jvm.ClassFile.FieldType.int) "pass" []) {o : Nat} {Rt : (Int32 ⊕ Nat) × zS} {v1 : Int32} {v2 : Int32} {v4 : Int32} {t0 : Int32} {σ : zS} (h : f_X1_pass_53 o v1 v2 v4 t0 σ = some Rt) : zG X (zQ X (zot eI Rt.1) Rt.2) 5 53 [(0, zA (some o)), (1, zI v1), (2, zI v2), (4, zI v4)] [zI t0] σ := by
  unfold f_X1_pass_53 at h
  refine z_cTU hX (rest := []) h (fun r9 σ9 e9 => z_runS hX lk_X1_418 (c_X1_can hX.tr e9) ⟨Nat.le_of_ble_eq_true rfl, Nat.le_of_ble_eq_true rfl⟩ rfl (Nat.le_of_ble_eq_true rfl) dX1_pass_53 rfl) (fun k9 σ9 h => z_prop hX h (fun x hx => nomatch hx)) (fun _ σ20 h => ?_)
  refine z_aload_n hX 0 rfl rfl dX1_pass_56 ?_
  refine z_getR hX fl_X1_10_0 h dX1_pass_57 (fun r21 h => ?_)
  obtain ⟨a22, e9, k_a22⟩ := z_nn h
  subst e9
  have h := k_a22
  refine z_getR hX fl_X1_137_1 h dX1_pass_60 (fun r23 h => ?_)
  refine z_iload_n hX 1 rfl rfl dX1_pass_63 (z_dup2 hX rfl rfl dX1_pass_64 ?_)
  obtain ⟨a24, e9, k_a24⟩ := z_nn h
  subst e9
  have h := k_a24
  refine z_iald hX h dX1_pass_65 (fun x25 h => ?_)
  refine z_iload hX 3 rfl dX1_pass_66 (z_isub hX dX1_pass_68 ?_)
  refine z_iast hX h dX1_pass_69 (fun σ26 h => ?_)
  refine z_aload_n hX 0 rfl rfl dX1_pass_70 ?_
  refine z_getR hX fl_X1_10_0 h dX1_pass_71 (fun r27 h => ?_)
  obtain ⟨a28, e9, k_a28⟩ := z_nn h
  subst e9
  have h := k_a28
  refine z_getR hX fl_X1_137_1 h dX1_pass_74 (fun r29 h => ?_)
  refine z_iload_n hX 2 rfl rfl dX1_pass_77 (z_dup2 hX rfl rfl dX1_pass_78 ?_)
  obtain ⟨a30, e9, k_a30⟩ := z_nn h
  subst e9
  have h := k_a30
  refine z_iald hX h dX1_pass_79 (fun x31 h => ?_)
  refine z_iload hX 3 rfl dX1_pass_80 (z_iadd hX dX1_pass_82 ?_)
  refine z_iast hX h dX1_pass_83 (fun σ32 h => ?_)
  refine z_iload hX 3 rfl dX1_pass_84 ?_
  obtain rfl := Option.some.inj h
  exact z_iret hX dX1_pass_86

def f_X1_pass (o : Nat) (p1 : Int32) (p2 : Int32) (p3 : Int32) (σ : zS) : Option ((Int32 ⊕ Nat) × zS) :=
  zif (zcl σ o = 0) <|
  zbt (f_X1_twoHouses o p1 p2 σ) (fun k9 σ9 => some (.inr k9, σ9)) fun _ σ3 =>
  zb2 (f_X1_in p3 1 99999 σ3) fun x4 σ5 =>
  zbt (f_X1_demand x4 σ5) (fun k9 σ9 => some (.inr k9, σ9)) fun _ σ7 =>
  (gR σ7 o 0 0).bind fun r8 =>
  r8.bind fun a9 =>
  (gR σ7 a9 1 7).bind fun r10 =>
  r10.bind fun a11 =>
  (lI σ7 a11 0 p1).bind fun x12 =>
  zl (zmin p3 x12) fun x13 =>
  (gR σ7 o 0 0).bind fun r14 =>
  r14.bind fun a15 =>
  (gR σ7 a15 1 7).bind fun r16 =>
  r16.bind fun a17 =>
  (lI σ7 a17 0 p2).bind fun x18 =>
  if 99999 < (x18 + x13) then
    f_X1_pass_53 o p1 p2 x13 0 σ7
  else
    f_X1_pass_53 o p1 p2 x13 1 σ7

set_option maxHeartbeats 4000000 in
theorem s_X1_pass {X : zX} (hX : zOk X RX1 cX1_pass 5 10 174 (Option.some Jvm.ClassFile.FieldType.int) "pass" []) {o : Nat} {p1 : Int32} {p2 : Int32} {p3 : Int32} {σ : zS} {Rt : (Int32 ⊕ Nat) × zS} (h : f_X1_pass o p1 p2 p3 σ = some Rt) : zG X (zQ X (zot eI Rt.1) Rt.2) 5 0 [(0, zA (some o)), (1, zI p1), (2, zI p2), (3, zI p3)] [] σ := by
  unfold f_X1_pass at h
  refine z_aload_n hX 0 rfl rfl dX1_pass_0 (z_iload_n hX 1 rfl rfl dX1_pass_1 (z_iload_n hX 2 rfl rfl dX1_pass_2 ?_))
  obtain ⟨c1, h⟩ := z_ck h
  refine z_cTU hX (rest := []) h (fun r9 σ9 e9 => z_runV hX lk_X1_433 (c_X1_twoHouses hX.tr e9) (ci := 0) zc9_0 c1 ⟨Nat.le_of_ble_eq_true rfl, Nat.le_of_ble_eq_true rfl⟩ rfl (Nat.le_of_ble_eq_true rfl) dX1_pass_3 rfl) (fun k9 σ9 h => z_prop hX h (fun x hx => nomatch hx)) (fun _ σ3 h => ?_)
  refine z_iload_n hX 3 rfl rfl dX1_pass_6 (z_iconst hX (v := 1) (by decide) dX1_pass_7 (z_ldc hX (v := 99999) q1108 dX1_pass_8 ?_))
  refine z_cNI hX (rest := []) h (fun r9 σ9 e9 => z_runS hX lk_X1_347 (c_X1_in hX.tr e9) ⟨Nat.le_of_ble_eq_true rfl, Nat.le_of_ble_eq_true rfl⟩ rfl (Nat.le_of_ble_eq_true rfl) dX1_pass_10 rfl) (fun x4 σ5 h => ?_)
  refine z_cTU hX (rest := []) h (fun r9 σ9 e9 => z_runS hX lk_X1_403 (c_X1_demand hX.tr e9) ⟨Nat.le_of_ble_eq_true rfl, Nat.le_of_ble_eq_true rfl⟩ rfl (Nat.le_of_ble_eq_true rfl) dX1_pass_13 rfl) (fun k9 σ9 h => z_prop hX h (fun x hx => nomatch hx)) (fun _ σ7 h => ?_)
  refine z_iload_n hX 3 rfl rfl dX1_pass_16 (z_aload_n hX 0 rfl rfl dX1_pass_17 ?_)
  refine z_getR hX fl_X1_10_0 h dX1_pass_18 (fun r8 h => ?_)
  obtain ⟨a9, e9, k_a9⟩ := z_nn h
  subst e9
  have h := k_a9
  refine z_getR hX fl_X1_137_1 h dX1_pass_21 (fun r10 h => ?_)
  refine z_iload_n hX 1 rfl rfl dX1_pass_24 ?_
  obtain ⟨a11, e9, k_a11⟩ := z_nn h
  subst e9
  have h := k_a11
  refine z_iald hX h dX1_pass_25 (fun x12 h => ?_)
  refine z_mmin hX q1625 (Nat.le_of_ble_eq_true rfl) (Nat.le_of_ble_eq_true rfl) (Nat.le_of_ble_eq_true rfl) dX1_pass_26 ?_
  refine z_nmI h (fun x13 h => ?_)
  refine z_istore (L' := [(0, zA (some o)), (1, zI p1), (2, zI p2), (3, zI p3), (4, zI x13)]) hX rfl (by decide) dX1_pass_29 (z_aload_n hX 0 rfl rfl dX1_pass_31 ?_)
  refine z_getR hX fl_X1_10_0 h dX1_pass_32 (fun r14 h => ?_)
  obtain ⟨a15, e9, k_a15⟩ := z_nn h
  subst e9
  have h := k_a15
  refine z_getR hX fl_X1_137_1 h dX1_pass_35 (fun r16 h => ?_)
  refine z_iload_n hX 2 rfl rfl dX1_pass_38 ?_
  obtain ⟨a17, e9, k_a17⟩ := z_nn h
  subst e9
  have h := k_a17
  refine z_iald hX h dX1_pass_39 (fun x18 h => ?_)
  refine z_iload hX 4 rfl dX1_pass_40 (z_iadd hX dX1_pass_42 (z_ldc hX (v := 99999) q1108 dX1_pass_43 ?_))
  refine z_icmp_gt (tgt := 52) hX h dX1_pass_45 (by decide) (fun h => ?_) (fun h => ?_)
  · refine z_iconst hX (v := 0) (by decide) dX1_pass_52 ?_
    exact z_sub [0, 1, 2, 4] rfl (s_X1_pass_53 (o := o) hX  h)
  · refine z_iconst hX (v := 1) (by decide) dX1_pass_48 (z_goto (tgt := 53) hX dX1_pass_49 (by decide) ?_)
    exact z_sub [0, 1, 2, 4] rfl (s_X1_pass_53 (o := o) hX  h)

theorem c_X1_pass {l : Launch} {D : va_G} {tys : zTy} (hl : l.stackTraces = false) {o : Nat} {p1 : Int32} {p2 : Int32} {p3 : Int32} {σ : zS} {Rt : (Int32 ⊕ Nat) × zS} (h : f_X1_pass o p1 p2 p3 σ = some Rt) : zM l D tys yX1_pass (ws_ yX1_pass cX1_pass 5 (Option.some Jvm.ClassFile.FieldType.int)) 10 174 [zA (some o), zI p1, zI p2, zI p3] σ (zot eI Rt.1) Rt.2 :=
  zM_in hl rfl (Nat.le_of_ble_eq_true rfl) (fun p e R s m args below meth c hX => z_L rfl (s_X1_pass hX h))
def f_X0_pass (p1 : Option Nat) (p2 : Int32) (p3 : Int32) (p4 : Int32) (p5 : Option Nat) (σ : zS) : Option (Int32 × zS) :=
  p1.bind fun a1 =>
  zif (zcl σ a1 = 0) <|
  zbt (f_X1_pass a1 p2 p3 p4 σ) (fun k9 σ9 =>
    if k9 = 0 then
      some ((2 : Int32), σ9)
    else
    if k9 = 2 then
      some ((1 : Int32), σ9)
    else
    if k9 = 4 then
      some ((3 : Int32), σ9)
    else
    none
  ) fun x3 σ4 =>
  p5.bind fun a5 =>
  (sJ σ4 a5 0 x3.toInt64).bind fun σ6 =>
  some ((0 : Int32), σ6)

set_option maxHeartbeats 4000000 in
theorem s_X0_pass {X : zX} (hX : zOk X RX0 cX0_pass 6 11 198 (Option.some Jvm.ClassFile.FieldType.int) "pass" (tableOf [(0, 12, 15, 24), (0, 12, 19, 13), (0, 12, 23, 44)])) {p1 : Option Nat} {p2 : Int32} {p3 : Int32} {p4 : Int32} {p5 : Option Nat} {σ : zS} {Rt : Int32 × zS} (h : f_X0_pass p1 p2 p3 p4 p5 σ = some Rt) : zG X (zQ X (.inl (eI Rt.1)) Rt.2) 6 0 [(0, zA p1), (1, zI p2), (2, zI p3), (3, zI p4), (4, zA p5)] [] σ := by
  unfold f_X0_pass at h
  refine z_aload hX 4 rfl dX0_pass_0 (z_iconst hX (v := 0) (by decide) dX0_pass_2 (z_aload_n hX 0 rfl rfl dX0_pass_3 (z_iload_n hX 1 rfl rfl dX0_pass_4 (z_iload_n hX 2 rfl rfl dX0_pass_5 (z_iload_n hX 3 rfl rfl dX0_pass_6 ?_)))))
  obtain ⟨a1, e9, k_a1⟩ := z_nn h
  subst e9
  have h := k_a1
  obtain ⟨c2, h⟩ := z_ck h
  refine z_cTI hX (rest := [zI 0, zA p5]) h (fun r9 σ9 e9 => z_runV hX lk_X0_50 (c_X1_pass hX.tr e9) (ci := 0) zc9_0 c2 ⟨Nat.le_of_ble_eq_true rfl, Nat.le_of_ble_eq_true rfl⟩ rfl (Nat.le_of_ble_eq_true rfl) dX0_pass_7 rfl) (fun k9 σ9 h => ?_) (fun x3 σ4 h => ?_)
  · rcases z_ite h with ⟨e9, k_σ4_0⟩ | ⟨-, h⟩
    · subst e9
      have h := k_σ4_0
      refine z_catch hX (k := 0) (nmC := "java/lang/IllegalArgumentException") [⟨0, 12, 15, 24⟩] ⟨0, 12, 19, 13⟩ [⟨0, 12, 23, 44⟩] rfl (List.forall_mem_cons.mpr ⟨Or.inr ⟨by decide, "java/lang/IndexOutOfBoundsException", q1381, by simp [zNc, zEx]⟩, fun z hz => nomatch hz⟩) rfl (by decide) q647 (zNw_of q832 rfl) (fun q9 => ?_)
      refine z_astore (L' := [(0, zA (some a1)), (1, zI p2), (2, zI p3), (3, zI p4), (4, zA p5), (5, zA (some q9))]) hX rfl (by decide) dX0_pass_19 (z_iconst hX (v := 2) (by decide) dX0_pass_21 ?_)
      obtain rfl := Option.some.inj h
      exact z_iret hX dX0_pass_22
    rcases z_ite h with ⟨e9, k_σ4_2⟩ | ⟨-, h⟩
    · subst e9
      have h := k_σ4_2
      refine z_catch hX (k := 2) (nmC := "java/lang/IndexOutOfBoundsException") [] ⟨0, 12, 15, 24⟩ [⟨0, 12, 19, 13⟩, ⟨0, 12, 23, 44⟩] rfl (fun z hz => nomatch hz) rfl (by decide) q1381 (zNw_of q1415 rfl) (fun q9 => ?_)
      refine z_astore (L' := [(0, zA (some a1)), (1, zI p2), (2, zI p3), (3, zI p4), (4, zA p5), (5, zA (some q9))]) hX rfl (by decide) dX0_pass_15 (z_iconst hX (v := 1) (by decide) dX0_pass_17 ?_)
      obtain rfl := Option.some.inj h
      exact z_iret hX dX0_pass_18
    rcases z_ite h with ⟨e9, k_σ4_4⟩ | ⟨-, h⟩
    · subst e9
      have h := k_σ4_4
      refine z_catch hX (k := 4) (nmC := "java/lang/IllegalStateException") [⟨0, 12, 15, 24⟩, ⟨0, 12, 19, 13⟩] ⟨0, 12, 23, 44⟩ [] rfl (List.forall_mem_cons.mpr ⟨Or.inr ⟨by decide, "java/lang/IndexOutOfBoundsException", q1381, by simp [zNc, zEx]⟩, List.forall_mem_cons.mpr ⟨Or.inr ⟨by decide, "java/lang/IllegalArgumentException", q647, by simp [zNc, zEx]⟩, fun z hz => nomatch hz⟩⟩) rfl (by decide) q1574 (zNw_of q1588 rfl) (fun q9 => ?_)
      refine z_astore (L' := [(0, zA (some a1)), (1, zI p2), (2, zI p3), (3, zI p4), (4, zA p5), (5, zA (some q9))]) hX rfl (by decide) dX0_pass_23 (z_iconst hX (v := 3) (by decide) dX0_pass_25 ?_)
      obtain rfl := Option.some.inj h
      exact z_iret hX dX0_pass_26
    cases h
  refine z_i2l hX dX0_pass_10 ?_
  obtain ⟨a5, e9, k_a5⟩ := z_nn h
  subst e9
  have h := k_a5
  refine z_last hX h dX0_pass_11 (fun σ6 h => ?_)
  refine z_goto (tgt := 27) hX dX0_pass_12 (by decide) (z_iconst hX (v := 0) (by decide) dX0_pass_27 ?_)
  obtain rfl := Option.some.inj h
  exact z_iret hX dX0_pass_28

theorem c_X0_pass {l : Launch} {D : va_G} {tys : zTy} (hl : l.stackTraces = false) {p1 : Option Nat} {p2 : Int32} {p3 : Int32} {p4 : Int32} {p5 : Option Nat} {σ : zS} {Rt : Int32 × zS} (h : f_X0_pass p1 p2 p3 p4 p5 σ = some Rt) : zM l D tys yX0_pass (wsW_ yX0_pass cX0_pass 6 (Option.some Jvm.ClassFile.FieldType.int) [(0, 12, 15, 24), (0, 12, 19, 13), (0, 12, 23, 44)]) 11 198 [zA p1, zI p2, zI p3, zI p4, zA p5] σ (.inl (eI Rt.1)) Rt.2 :=
  zM_inW hl rfl (Nat.le_of_ble_eq_true rfl) (fun p e R s m args below meth c hX => z_L rfl (s_X0_pass hX h))
def f_X1_marry_124 (o : Nat) (rec71 : Int32 → zS → Option ((Int32 ⊕ Nat) × zS)) (v1 : Int32) (v2 : Int32) (v3 : Int32) (σ : zS) : Option ((Int32 ⊕ Nat) × zS) :=
  zl (v3 + 1) fun x53 =>
  rec71 x53 σ

set_option maxHeartbeats 4000000 in
theorem s_X1_marry_124 {X : zX} (hX : zOk X RX1 cX1_marry 4 10 174 (Option.some Jvm.ClassFile.FieldType.int) "marry" []) {o : Nat} {Rt : (Int32 ⊕ Nat) × zS} {rec71 : Int32 → zS → Option ((Int32 ⊕ Nat) × zS)} {v1 : Int32} {v2 : Int32} {v3 : Int32} (hrec71 : ∀ (v3 : Int32) (σ : zS), rec71 v3 σ = some Rt → zG X (zQ X (zot eI Rt.1) Rt.2) 4 71 [(0, zA (some o)), (1, zI v1), (2, zI v2), (3, zI v3)] [] σ) {σ : zS} (h : f_X1_marry_124 o rec71 v1 v2 v3 σ = some Rt) : zG X (zQ X (zot eI Rt.1) Rt.2) 4 124 [(0, zA (some o)), (1, zI v1), (2, zI v2), (3, zI v3)] [] σ := by
  unfold f_X1_marry_124 at h
  refine z_iinc hX (j := 3) h rfl (by decide) (by decide) dX1_marry_124 (fun x53 h => z_L (L' := [(0, zA (some o)), (1, zI v1), (2, zI v2), (3, zI x53)]) rfl ?_)
  refine z_goto (tgt := 71) hX dX1_marry_127 (by decide) ?_
  exact z_sub [0, 1, 2, 3] rfl (hrec71 _ _ h)

def f_X1_marry_71_b (o : Nat) (v1 : Int32) (v2 : Int32) (rec71 : Int32 → zS → Option ((Int32 ⊕ Nat) × zS)) (v3 : Int32) (σ : zS) : Option ((Int32 ⊕ Nat) × zS) :=
  (gR σ o 0 0).bind fun r32 =>
  r32.bind fun a33 =>
  (gR σ a33 1 8).bind fun r34 =>
  r34.bind fun a35 =>
  zif (zcl σ a35 = 19) <|
  zb2 (f_J2_size a35 σ) fun x37 σ38 =>
  if x37 ≤ v3 then
    (gR σ38 o 0 0).bind fun r39 =>
    r39.bind fun a40 =>
    (gR σ38 a40 1 7).bind fun r41 =>
    r41.bind fun a42 =>
    (lI σ38 a42 0 v1).bind fun x43 =>
    some (.inl x43, σ38)
  else
    (gR σ38 o 0 0).bind fun r44 =>
    r44.bind fun a45 =>
    (gR σ38 a45 1 8).bind fun r46 =>
    r46.bind fun a47 =>
    zif (zcl σ38 a47 = 19) <|
    zb2 (f_J2_get a47 v3 σ38) fun r49 σ50 =>
    zif (zckC σ50 r49 6 = true) <|
    r49.bind fun a51 =>
    (gI σ50 a51 6 3).bind fun x52 =>
    if ¬ x52 = v2 then
      f_X1_marry_124 o rec71 v1 v2 v3 σ50
    else
      (gR σ50 o 0 0).bind fun r54 =>
      r54.bind fun a55 =>
      (gR σ50 a55 1 8).bind fun r56 =>
      r56.bind fun a57 =>
      zif (zcl σ50 a57 = 19) <|
      zb2 (f_J2_get a57 v3 σ50) fun r59 σ60 =>
      zif (zckC σ60 r59 6 = true) <|
      r59.bind fun a61 =>
      (pI σ60 a61 6 3 v1).bind fun σ62 =>
      f_X1_marry_124 o rec71 v1 v2 v3 σ62

def f_X1_marry_71 (o : Nat) (v1 : Int32) (v2 : Int32) : Int32 → zS → Option ((Int32 ⊕ Nat) × zS) := zlp1 (f_X1_marry_71_b o v1 v2) NN
set_option maxHeartbeats 4000000 in
theorem s_X1_marry_71_b {X : zX} (hX : zOk X RX1 cX1_marry 4 10 174 (Option.some Jvm.ClassFile.FieldType.int) "marry" []) {o : Nat} {Rt : (Int32 ⊕ Nat) × zS} {v1 : Int32} {v2 : Int32} {rec71 : Int32 → zS → Option ((Int32 ⊕ Nat) × zS)} (hrec71 : ∀ (v3 : Int32) (σ : zS), rec71 v3 σ = some Rt → zG X (zQ X (zot eI Rt.1) Rt.2) 4 71 [(0, zA (some o)), (1, zI v1), (2, zI v2), (3, zI v3)] [] σ) {v3 : Int32} {σ : zS} (h : f_X1_marry_71_b o v1 v2 rec71 v3 σ = some Rt) : zG X (zQ X (zot eI Rt.1) Rt.2) 4 71 [(0, zA (some o)), (1, zI v1), (2, zI v2), (3, zI v3)] [] σ := by
  unfold f_X1_marry_71_b at h
  refine z_iload_n hX 3 rfl rfl dX1_marry_71 (z_aload_n hX 0 rfl rfl dX1_marry_72 ?_)
  refine z_getR hX fl_X1_10_0 h dX1_marry_73 (fun r32 h => ?_)
  obtain ⟨a33, e9, k_a33⟩ := z_nn h
  subst e9
  have h := k_a33
  refine z_getR hX fl_X1_55_1 h dX1_marry_76 (fun r34 h => ?_)
  obtain ⟨a35, e9, k_a35⟩ := z_nn h
  subst e9
  have h := k_a35
  obtain ⟨c36, h⟩ := z_ck h
  refine z_cNI hX (rest := [zI v3]) h (fun r9 σ9 e9 => z_runV hX lk_X1_59 (c_J2_size hX.tr e9) (ci := 19) zc9_19 c36 ⟨Nat.le_of_ble_eq_true rfl, Nat.le_of_ble_eq_true rfl⟩ rfl (Nat.le_of_ble_eq_true rfl) dX1_marry_79 rfl) (fun x37 σ38 h => ?_)
  refine z_icmp_ge (tgt := 130) hX h dX1_marry_82 (by decide) (fun h => ?_) (fun h => ?_)
  · refine z_aload_n hX 0 rfl rfl dX1_marry_130 ?_
    refine z_getR hX fl_X1_10_0 h dX1_marry_131 (fun r39 h => ?_)
    obtain ⟨a40, e9, k_a40⟩ := z_nn h
    subst e9
    have h := k_a40
    refine z_getR hX fl_X1_137_1 h dX1_marry_134 (fun r41 h => ?_)
    refine z_iload_n hX 1 rfl rfl dX1_marry_137 ?_
    obtain ⟨a42, e9, k_a42⟩ := z_nn h
    subst e9
    have h := k_a42
    refine z_iald hX h dX1_marry_138 (fun x43 h => ?_)
    obtain rfl := Option.some.inj h
    exact z_iret hX dX1_marry_139
  · refine z_aload_n hX 0 rfl rfl dX1_marry_85 ?_
    refine z_getR hX fl_X1_10_0 h dX1_marry_86 (fun r44 h => ?_)
    obtain ⟨a45, e9, k_a45⟩ := z_nn h
    subst e9
    have h := k_a45
    refine z_getR hX fl_X1_55_1 h dX1_marry_89 (fun r46 h => ?_)
    refine z_iload_n hX 3 rfl rfl dX1_marry_92 ?_
    obtain ⟨a47, e9, k_a47⟩ := z_nn h
    subst e9
    have h := k_a47
    obtain ⟨c48, h⟩ := z_ck h
    refine z_cNA hX (rest := []) h (fun r9 σ9 e9 => z_runV hX lk_X1_313 (c_J2_get hX.tr e9) (ci := 19) zc9_19 c48 ⟨Nat.le_of_ble_eq_true rfl, Nat.le_of_ble_eq_true rfl⟩ rfl (Nat.le_of_ble_eq_true rfl) dX1_marry_93 rfl) (fun r49 σ50 h => ?_)
    refine z_castC hX (ci := 6) rfl q1124 h dX1_marry_96 (fun h => ?_)
    obtain ⟨a51, e9, k_a51⟩ := z_nn h
    subst e9
    have h := k_a51
    refine z_getI hX fl_X1_339_6 h dX1_marry_99 (fun x52 h => ?_)
    refine z_iload_n hX 2 rfl rfl dX1_marry_102 ?_
    refine z_icmp_ne (tgt := 124) hX h dX1_marry_103 (by decide) (fun h => ?_) (fun h => ?_)
    · exact z_sub [0, 1, 2, 3] rfl (s_X1_marry_124 (o := o) hX hrec71 h)
    · refine z_aload_n hX 0 rfl rfl dX1_marry_106 ?_
      refine z_getR hX fl_X1_10_0 h dX1_marry_107 (fun r54 h => ?_)
      obtain ⟨a55, e9, k_a55⟩ := z_nn h
      subst e9
      have h := k_a55
      refine z_getR hX fl_X1_55_1 h dX1_marry_110 (fun r56 h => ?_)
      refine z_iload_n hX 3 rfl rfl dX1_marry_113 ?_
      obtain ⟨a57, e9, k_a57⟩ := z_nn h
      subst e9
      have h := k_a57
      obtain ⟨c58, h⟩ := z_ck h
      refine z_cNA hX (rest := []) h (fun r9 σ9 e9 => z_runV hX lk_X1_313 (c_J2_get hX.tr e9) (ci := 19) zc9_19 c58 ⟨Nat.le_of_ble_eq_true rfl, Nat.le_of_ble_eq_true rfl⟩ rfl (Nat.le_of_ble_eq_true rfl) dX1_marry_114 rfl) (fun r59 σ60 h => ?_)
      refine z_castC hX (ci := 6) rfl q1124 h dX1_marry_117 (fun h => ?_)
      refine z_iload_n hX 1 rfl rfl dX1_marry_120 ?_
      obtain ⟨a61, e9, k_a61⟩ := z_nn h
      subst e9
      have h := k_a61
      refine z_putI hX fp_X1_339_6 (fun h => nomatch h) h dX1_marry_121 (fun σ62 h => ?_)
      exact z_sub [0, 1, 2, 3] rfl (s_X1_marry_124 (o := o) hX hrec71 h)

theorem s_X1_marry_71 {X : zX} (hX : zOk X RX1 cX1_marry 4 10 174 (Option.some Jvm.ClassFile.FieldType.int) "marry" []) {o : Nat} {Rt : (Int32 ⊕ Nat) × zS} {v1 : Int32} {v2 : Int32} {v3 : Int32} {σ : zS} (h : f_X1_marry_71 o v1 v2 v3 σ = some Rt) : zG X (zQ X (zot eI Rt.1) Rt.2) 4 71 [(0, zA (some o)), (1, zI v1), (2, zI v2), (3, zI v3)] [] σ :=
  zlp1_ok (P := fun v3 σ => zG X (zQ X (zot eI Rt.1) Rt.2) 4 71 [(0, zA (some o)), (1, zI v1), (2, zI v2), (3, zI v3)] [] σ) (fun rec hr v3 σ h => s_X1_marry_71_b (o := o) hX hr h) NN v3 σ h
def f_X1_marry_35 (o : Nat) (v1 : Int32) (v2 : Int32) (t0 : Int32) (σ : zS) : Option ((Int32 ⊕ Nat) × zS) :=
  zbt (f_X1_can t0 σ) (fun k9 σ9 => some (.inr k9, σ9)) fun _ σ15 =>
  (gR σ15 o 0 0).bind fun r16 =>
  r16.bind fun a17 =>
  (gR σ15 a17 1 7).bind fun r18 =>
  r18.bind fun a19 =>
  (lI σ15 a19 0 v1).bind fun x20 =>
  (gR σ15 o 0 0).bind fun r21 =>
  r21.bind fun a22 =>
  (gR σ15 a22 1 7).bind fun r23 =>
  r23.bind fun a24 =>
  (lI σ15 a24 0 v2).bind fun x25 =>
  (sI σ15 a19 v1 (x20 + x25)).bind fun σ26 =>
  (gR σ26 o 0 0).bind fun r27 =>
  r27.bind fun a28 =>
  (gR σ26 a28 1 7).bind fun r29 =>
  r29.bind fun a30 =>
  (sI σ26 a30 v2 0).bind fun σ31 =>
  f_X1_marry_71 o v1 v2 0 σ31

set_option maxHeartbeats 4000000 in
theorem s_X1_marry_35 {X : zX} (hX : zOk X RX1 cX1_marry 4 10 174 (Option.some Jvm.ClassFile.FieldType.int) "marry" []) {o : Nat} {Rt : (Int32 ⊕ Nat) × zS} {v1 : Int32} {v2 : Int32} {t0 : Int32} {σ : zS} (h : f_X1_marry_35 o v1 v2 t0 σ = some Rt) : zG X (zQ X (zot eI Rt.1) Rt.2) 4 35 [(0, zA (some o)), (1, zI v1), (2, zI v2)] [zI t0] σ := by
  unfold f_X1_marry_35 at h
  refine z_cTU hX (rest := []) h (fun r9 σ9 e9 => z_runS hX lk_X1_418 (c_X1_can hX.tr e9) ⟨Nat.le_of_ble_eq_true rfl, Nat.le_of_ble_eq_true rfl⟩ rfl (Nat.le_of_ble_eq_true rfl) dX1_marry_35 rfl) (fun k9 σ9 h => z_prop hX h (fun x hx => nomatch hx)) (fun _ σ15 h => ?_)
  refine z_aload_n hX 0 rfl rfl dX1_marry_38 ?_
  refine z_getR hX fl_X1_10_0 h dX1_marry_39 (fun r16 h => ?_)
  obtain ⟨a17, e9, k_a17⟩ := z_nn h
  subst e9
  have h := k_a17
  refine z_getR hX fl_X1_137_1 h dX1_marry_42 (fun r18 h => ?_)
  refine z_iload_n hX 1 rfl rfl dX1_marry_45 (z_dup2 hX rfl rfl dX1_marry_46 ?_)
  obtain ⟨a19, e9, k_a19⟩ := z_nn h
  subst e9
  have h := k_a19
  refine z_iald hX h dX1_marry_47 (fun x20 h => ?_)
  refine z_aload_n hX 0 rfl rfl dX1_marry_48 ?_
  refine z_getR hX fl_X1_10_0 h dX1_marry_49 (fun r21 h => ?_)
  obtain ⟨a22, e9, k_a22⟩ := z_nn h
  subst e9
  have h := k_a22
  refine z_getR hX fl_X1_137_1 h dX1_marry_52 (fun r23 h => ?_)
  refine z_iload_n hX 2 rfl rfl dX1_marry_55 ?_
  obtain ⟨a24, e9, k_a24⟩ := z_nn h
  subst e9
  have h := k_a24
  refine z_iald hX h dX1_marry_56 (fun x25 h => ?_)
  refine z_iadd hX dX1_marry_57 ?_
  refine z_iast hX h dX1_marry_58 (fun σ26 h => ?_)
  refine z_aload_n hX 0 rfl rfl dX1_marry_59 ?_
  refine z_getR hX fl_X1_10_0 h dX1_marry_60 (fun r27 h => ?_)
  obtain ⟨a28, e9, k_a28⟩ := z_nn h
  subst e9
  have h := k_a28
  refine z_getR hX fl_X1_137_1 h dX1_marry_63 (fun r29 h => ?_)
  refine z_iload_n hX 2 rfl rfl dX1_marry_66 (z_iconst hX (v := 0) (by decide) dX1_marry_67 ?_)
  obtain ⟨a30, e9, k_a30⟩ := z_nn h
  subst e9
  have h := k_a30
  refine z_iast hX h dX1_marry_68 (fun σ31 h => ?_)
  refine z_iconst hX (v := 0) (by decide) dX1_marry_69 (z_istore_n (L' := [(0, zA (some o)), (1, zI v1), (2, zI v2), (3, zI 0)]) hX rfl rfl (by decide) dX1_marry_70 ?_)
  exact z_sub [0, 1, 2, 3] rfl (s_X1_marry_71 (o := o) hX  h)

def f_X1_marry (o : Nat) (p1 : Int32) (p2 : Int32) (σ : zS) : Option ((Int32 ⊕ Nat) × zS) :=
  zif (zcl σ o = 0) <|
  zbt (f_X1_twoHouses o p1 p2 σ) (fun k9 σ9 => some (.inr k9, σ9)) fun _ σ3 =>
  (gR σ3 o 0 0).bind fun r4 =>
  r4.bind fun a5 =>
  (gR σ3 a5 1 7).bind fun r6 =>
  r6.bind fun a7 =>
  (lI σ3 a7 0 p1).bind fun x8 =>
  (gR σ3 o 0 0).bind fun r9 =>
  r9.bind fun a10 =>
  (gR σ3 a10 1 7).bind fun r11 =>
  r11.bind fun a12 =>
  (lI σ3 a12 0 p2).bind fun x13 =>
  if 99999 < (x8 + x13) then
    f_X1_marry_35 o p1 p2 0 σ3
  else
    f_X1_marry_35 o p1 p2 1 σ3

set_option maxHeartbeats 4000000 in
theorem s_X1_marry {X : zX} (hX : zOk X RX1 cX1_marry 4 10 174 (Option.some Jvm.ClassFile.FieldType.int) "marry" []) {o : Nat} {p1 : Int32} {p2 : Int32} {σ : zS} {Rt : (Int32 ⊕ Nat) × zS} (h : f_X1_marry o p1 p2 σ = some Rt) : zG X (zQ X (zot eI Rt.1) Rt.2) 4 0 [(0, zA (some o)), (1, zI p1), (2, zI p2)] [] σ := by
  unfold f_X1_marry at h
  refine z_aload_n hX 0 rfl rfl dX1_marry_0 (z_iload_n hX 1 rfl rfl dX1_marry_1 (z_iload_n hX 2 rfl rfl dX1_marry_2 ?_))
  obtain ⟨c1, h⟩ := z_ck h
  refine z_cTU hX (rest := []) h (fun r9 σ9 e9 => z_runV hX lk_X1_433 (c_X1_twoHouses hX.tr e9) (ci := 0) zc9_0 c1 ⟨Nat.le_of_ble_eq_true rfl, Nat.le_of_ble_eq_true rfl⟩ rfl (Nat.le_of_ble_eq_true rfl) dX1_marry_3 rfl) (fun k9 σ9 h => z_prop hX h (fun x hx => nomatch hx)) (fun _ σ3 h => ?_)
  refine z_aload_n hX 0 rfl rfl dX1_marry_6 ?_
  refine z_getR hX fl_X1_10_0 h dX1_marry_7 (fun r4 h => ?_)
  obtain ⟨a5, e9, k_a5⟩ := z_nn h
  subst e9
  have h := k_a5
  refine z_getR hX fl_X1_137_1 h dX1_marry_10 (fun r6 h => ?_)
  refine z_iload_n hX 1 rfl rfl dX1_marry_13 ?_
  obtain ⟨a7, e9, k_a7⟩ := z_nn h
  subst e9
  have h := k_a7
  refine z_iald hX h dX1_marry_14 (fun x8 h => ?_)
  refine z_aload_n hX 0 rfl rfl dX1_marry_15 ?_
  refine z_getR hX fl_X1_10_0 h dX1_marry_16 (fun r9 h => ?_)
  obtain ⟨a10, e9, k_a10⟩ := z_nn h
  subst e9
  have h := k_a10
  refine z_getR hX fl_X1_137_1 h dX1_marry_19 (fun r11 h => ?_)
  refine z_iload_n hX 2 rfl rfl dX1_marry_22 ?_
  obtain ⟨a12, e9, k_a12⟩ := z_nn h
  subst e9
  have h := k_a12
  refine z_iald hX h dX1_marry_23 (fun x13 h => ?_)
  refine z_iadd hX dX1_marry_24 (z_ldc hX (v := 99999) q1108 dX1_marry_25 ?_)
  refine z_icmp_gt (tgt := 34) hX h dX1_marry_27 (by decide) (fun h => ?_) (fun h => ?_)
  · refine z_iconst hX (v := 0) (by decide) dX1_marry_34 ?_
    exact z_sub [0, 1, 2] rfl (s_X1_marry_35 (o := o) hX  h)
  · refine z_iconst hX (v := 1) (by decide) dX1_marry_30 (z_goto (tgt := 35) hX dX1_marry_31 (by decide) ?_)
    exact z_sub [0, 1, 2] rfl (s_X1_marry_35 (o := o) hX  h)

theorem c_X1_marry {l : Launch} {D : va_G} {tys : zTy} (hl : l.stackTraces = false) {o : Nat} {p1 : Int32} {p2 : Int32} {σ : zS} {Rt : (Int32 ⊕ Nat) × zS} (h : f_X1_marry o p1 p2 σ = some Rt) : zM l D tys yX1_marry (ws_ yX1_marry cX1_marry 4 (Option.some Jvm.ClassFile.FieldType.int)) 10 174 [zA (some o), zI p1, zI p2] σ (zot eI Rt.1) Rt.2 :=
  zM_in hl rfl (Nat.le_of_ble_eq_true rfl) (fun p e R s m args below meth c hX => z_L rfl (s_X1_marry hX h))
def f_X0_marry (p1 : Option Nat) (p2 : Int32) (p3 : Int32) (p4 : Option Nat) (σ : zS) : Option (Int32 × zS) :=
  p1.bind fun a1 =>
  zif (zcl σ a1 = 0) <|
  zbt (f_X1_marry a1 p2 p3 σ) (fun k9 σ9 =>
    if k9 = 0 then
      some ((2 : Int32), σ9)
    else
    if k9 = 2 then
      some ((1 : Int32), σ9)
    else
    if k9 = 4 then
      some ((3 : Int32), σ9)
    else
    none
  ) fun x3 σ4 =>
  p4.bind fun a5 =>
  (sJ σ4 a5 0 x3.toInt64).bind fun σ6 =>
  some ((0 : Int32), σ6)

set_option maxHeartbeats 4000000 in
theorem s_X0_marry {X : zX} (hX : zOk X RX0 cX0_marry 5 11 197 (Option.some Jvm.ClassFile.FieldType.int) "marry" (tableOf [(0, 10, 13, 24), (0, 10, 17, 13), (0, 10, 21, 44)])) {p1 : Option Nat} {p2 : Int32} {p3 : Int32} {p4 : Option Nat} {σ : zS} {Rt : Int32 × zS} (h : f_X0_marry p1 p2 p3 p4 σ = some Rt) : zG X (zQ X (.inl (eI Rt.1)) Rt.2) 5 0 [(0, zA p1), (1, zI p2), (2, zI p3), (3, zA p4)] [] σ := by
  unfold f_X0_marry at h
  refine z_aload_n hX 3 rfl rfl dX0_marry_0 (z_iconst hX (v := 0) (by decide) dX0_marry_1 (z_aload_n hX 0 rfl rfl dX0_marry_2 (z_iload_n hX 1 rfl rfl dX0_marry_3 (z_iload_n hX 2 rfl rfl dX0_marry_4 ?_))))
  obtain ⟨a1, e9, k_a1⟩ := z_nn h
  subst e9
  have h := k_a1
  obtain ⟨c2, h⟩ := z_ck h
  refine z_cTI hX (rest := [zI 0, zA p4]) h (fun r9 σ9 e9 => z_runV hX lk_X0_54 (c_X1_marry hX.tr e9) (ci := 0) zc9_0 c2 ⟨Nat.le_of_ble_eq_true rfl, Nat.le_of_ble_eq_true rfl⟩ rfl (Nat.le_of_ble_eq_true rfl) dX0_marry_5 rfl) (fun k9 σ9 h => ?_) (fun x3 σ4 h => ?_)
  · rcases z_ite h with ⟨e9, k_σ4_0⟩ | ⟨-, h⟩
    · subst e9
      have h := k_σ4_0
      refine z_catch hX (k := 0) (nmC := "java/lang/IllegalArgumentException") [⟨0, 10, 13, 24⟩] ⟨0, 10, 17, 13⟩ [⟨0, 10, 21, 44⟩] rfl (List.forall_mem_cons.mpr ⟨Or.inr ⟨by decide, "java/lang/IndexOutOfBoundsException", q1381, by simp [zNc, zEx]⟩, fun z hz => nomatch hz⟩) rfl (by decide) q647 (zNw_of q832 rfl) (fun q9 => ?_)
      refine z_astore (L' := [(0, zA (some a1)), (1, zI p2), (2, zI p3), (3, zA p4), (4, zA (some q9))]) hX rfl (by decide) dX0_marry_17 (z_iconst hX (v := 2) (by decide) dX0_marry_19 ?_)
      obtain rfl := Option.some.inj h
      exact z_iret hX dX0_marry_20
    rcases z_ite h with ⟨e9, k_σ4_2⟩ | ⟨-, h⟩
    · subst e9
      have h := k_σ4_2
      refine z_catch hX (k := 2) (nmC := "java/lang/IndexOutOfBoundsException") [] ⟨0, 10, 13, 24⟩ [⟨0, 10, 17, 13⟩, ⟨0, 10, 21, 44⟩] rfl (fun z hz => nomatch hz) rfl (by decide) q1381 (zNw_of q1415 rfl) (fun q9 => ?_)
      refine z_astore (L' := [(0, zA (some a1)), (1, zI p2), (2, zI p3), (3, zA p4), (4, zA (some q9))]) hX rfl (by decide) dX0_marry_13 (z_iconst hX (v := 1) (by decide) dX0_marry_15 ?_)
      obtain rfl := Option.some.inj h
      exact z_iret hX dX0_marry_16
    rcases z_ite h with ⟨e9, k_σ4_4⟩ | ⟨-, h⟩
    · subst e9
      have h := k_σ4_4
      refine z_catch hX (k := 4) (nmC := "java/lang/IllegalStateException") [⟨0, 10, 13, 24⟩, ⟨0, 10, 17, 13⟩] ⟨0, 10, 21, 44⟩ [] rfl (List.forall_mem_cons.mpr ⟨Or.inr ⟨by decide, "java/lang/IndexOutOfBoundsException", q1381, by simp [zNc, zEx]⟩, List.forall_mem_cons.mpr ⟨Or.inr ⟨by decide, "java/lang/IllegalArgumentException", q647, by simp [zNc, zEx]⟩, fun z hz => nomatch hz⟩⟩) rfl (by decide) q1574 (zNw_of q1588 rfl) (fun q9 => ?_)
      refine z_astore (L' := [(0, zA (some a1)), (1, zI p2), (2, zI p3), (3, zA p4), (4, zA (some q9))]) hX rfl (by decide) dX0_marry_21 (z_iconst hX (v := 3) (by decide) dX0_marry_23 ?_)
      obtain rfl := Option.some.inj h
      exact z_iret hX dX0_marry_24
    cases h
  refine z_i2l hX dX0_marry_8 ?_
  obtain ⟨a5, e9, k_a5⟩ := z_nn h
  subst e9
  have h := k_a5
  refine z_last hX h dX0_marry_9 (fun σ6 h => ?_)
  refine z_goto (tgt := 25) hX dX0_marry_10 (by decide) (z_iconst hX (v := 0) (by decide) dX0_marry_25 ?_)
  obtain rfl := Option.some.inj h
  exact z_iret hX dX0_marry_26

theorem c_X0_marry {l : Launch} {D : va_G} {tys : zTy} (hl : l.stackTraces = false) {p1 : Option Nat} {p2 : Int32} {p3 : Int32} {p4 : Option Nat} {σ : zS} {Rt : Int32 × zS} (h : f_X0_marry p1 p2 p3 p4 σ = some Rt) : zM l D tys yX0_marry (wsW_ yX0_marry cX0_marry 5 (Option.some Jvm.ClassFile.FieldType.int) [(0, 10, 13, 24), (0, 10, 17, 13), (0, 10, 21, 44)]) 11 197 [zA p1, zI p2, zI p3, zA p4] σ (.inl (eI Rt.1)) Rt.2 :=
  zM_inW hl rfl (Nat.le_of_ble_eq_true rfl) (fun p e R s m args below meth c hX => z_L rfl (s_X0_marry hX h))
def f_X1_mend (o : Nat) (p1 : Int32) (σ : zS) : Option ((Int32 ⊕ Nat) × zS) :=
  zif (zcl σ o = 0) <|
  zbt (f_X1_turnAt o p1 σ) (fun k9 σ9 => some (.inr k9, σ9)) fun r2 σ3 =>
  r2.bind fun a4 =>
  (gI σ3 a4 7 1).bind fun x5 =>
  (pI σ3 a4 7 1 0).bind fun σ6 =>
  (gR σ6 o 0 0).bind fun r7 =>
  r7.bind fun a8 =>
  (gI σ6 a8 1 6).bind fun x9 =>
  (pI σ6 a4 7 2 x9).bind fun σ10 =>
  some (.inl x5, σ10)

set_option maxHeartbeats 4000000 in
theorem s_X1_mend {X : zX} (hX : zOk X RX1 cX1_mend 4 9 152 (Option.some Jvm.ClassFile.FieldType.int) "mend" []) {o : Nat} {p1 : Int32} {σ : zS} {Rt : (Int32 ⊕ Nat) × zS} (h : f_X1_mend o p1 σ = some Rt) : zG X (zQ X (zot eI Rt.1) Rt.2) 4 0 [(0, zA (some o)), (1, zI p1)] [] σ := by
  unfold f_X1_mend at h
  refine z_aload_n hX 0 rfl rfl dX1_mend_0 (z_iload_n hX 1 rfl rfl dX1_mend_1 ?_)
  obtain ⟨c1, h⟩ := z_ck h
  refine z_cTA hX (rest := []) h (fun r9 σ9 e9 => z_runV hX lk_X1_383 (c_X1_turnAt hX.tr e9) (ci := 0) zc9_0 c1 ⟨Nat.le_of_ble_eq_true rfl, Nat.le_of_ble_eq_true rfl⟩ rfl (Nat.le_of_ble_eq_true rfl) dX1_mend_2 rfl) (fun k9 σ9 h => z_prop hX h (fun x hx => nomatch hx)) (fun r2 σ3 h => ?_)
  refine z_astore_n (L' := [(0, zA (some o)), (1, zI p1), (2, zA r2)]) hX rfl rfl (by decide) dX1_mend_5 (z_aload_n hX 2 rfl rfl dX1_mend_6 ?_)
  obtain ⟨a4, e9, k_a4⟩ := z_nn h
  subst e9
  have h := k_a4
  refine z_getI hX fl_X1_325_7 h dX1_mend_7 (fun x5 h => ?_)
  refine z_istore_n (L' := [(0, zA (some o)), (1, zI p1), (2, zA (some a4)), (3, zI x5)]) hX rfl rfl (by decide) dX1_mend_10 (z_aload_n hX 2 rfl rfl dX1_mend_11 (z_iconst hX (v := 0) (by decide) dX1_mend_12 ?_))
  refine z_putI hX fp_X1_325_7 (fun h => nomatch h) h dX1_mend_13 (fun σ6 h => ?_)
  refine z_aload_n hX 2 rfl rfl dX1_mend_16 (z_aload_n hX 0 rfl rfl dX1_mend_17 ?_)
  refine z_getR hX fl_X1_10_0 h dX1_mend_18 (fun r7 h => ?_)
  obtain ⟨a8, e9, k_a8⟩ := z_nn h
  subst e9
  have h := k_a8
  refine z_getI hX fl_X1_439_1 h dX1_mend_21 (fun x9 h => ?_)
  refine z_putI hX fp_X1_442_7 (fun h => nomatch h) h dX1_mend_24 (fun σ10 h => ?_)
  refine z_iload_n hX 3 rfl rfl dX1_mend_27 ?_
  obtain rfl := Option.some.inj h
  exact z_iret hX dX1_mend_28

theorem c_X1_mend {l : Launch} {D : va_G} {tys : zTy} (hl : l.stackTraces = false) {o : Nat} {p1 : Int32} {σ : zS} {Rt : (Int32 ⊕ Nat) × zS} (h : f_X1_mend o p1 σ = some Rt) : zM l D tys yX1_mend (ws_ yX1_mend cX1_mend 4 (Option.some Jvm.ClassFile.FieldType.int)) 9 152 [zA (some o), zI p1] σ (zot eI Rt.1) Rt.2 :=
  zM_in hl rfl (Nat.le_of_ble_eq_true rfl) (fun p e R s m args below meth c hX => z_L rfl (s_X1_mend hX h))
def f_X0_mend (p1 : Option Nat) (p2 : Int32) (p3 : Option Nat) (σ : zS) : Option (Int32 × zS) :=
  p1.bind fun a1 =>
  zif (zcl σ a1 = 0) <|
  zbt (f_X1_mend a1 p2 σ) (fun k9 σ9 =>
    if k9 = 2 then
      some ((1 : Int32), σ9)
    else
    none
  ) fun x3 σ4 =>
  p3.bind fun a5 =>
  (sJ σ4 a5 0 x3.toInt64).bind fun σ6 =>
  some ((0 : Int32), σ6)

set_option maxHeartbeats 4000000 in
theorem s_X0_mend {X : zX} (hX : zOk X RX0 cX0_mend 4 10 175 (Option.some Jvm.ClassFile.FieldType.int) "mend" (tableOf [(0, 9, 12, 24)])) {p1 : Option Nat} {p2 : Int32} {p3 : Option Nat} {σ : zS} {Rt : Int32 × zS} (h : f_X0_mend p1 p2 p3 σ = some Rt) : zG X (zQ X (.inl (eI Rt.1)) Rt.2) 4 0 [(0, zA p1), (1, zI p2), (2, zA p3)] [] σ := by
  unfold f_X0_mend at h
  refine z_aload_n hX 2 rfl rfl dX0_mend_0 (z_iconst hX (v := 0) (by decide) dX0_mend_1 (z_aload_n hX 0 rfl rfl dX0_mend_2 (z_iload_n hX 1 rfl rfl dX0_mend_3 ?_)))
  obtain ⟨a1, e9, k_a1⟩ := z_nn h
  subst e9
  have h := k_a1
  obtain ⟨c2, h⟩ := z_ck h
  refine z_cTI hX (rest := [zI 0, zA p3]) h (fun r9 σ9 e9 => z_runV hX lk_X0_57 (c_X1_mend hX.tr e9) (ci := 0) zc9_0 c2 ⟨Nat.le_of_ble_eq_true rfl, Nat.le_of_ble_eq_true rfl⟩ rfl (Nat.le_of_ble_eq_true rfl) dX0_mend_4 rfl) (fun k9 σ9 h => ?_) (fun x3 σ4 h => ?_)
  · rcases z_ite h with ⟨e9, k_σ4_2⟩ | ⟨-, h⟩
    · subst e9
      have h := k_σ4_2
      refine z_catch hX (k := 2) (nmC := "java/lang/IndexOutOfBoundsException") [] ⟨0, 9, 12, 24⟩ [] rfl (fun z hz => nomatch hz) rfl (by decide) q1381 (zNw_of q1415 rfl) (fun q9 => ?_)
      refine z_astore_n (L' := [(0, zA (some a1)), (1, zI p2), (2, zA p3), (3, zA (some q9))]) hX rfl rfl (by decide) dX0_mend_12 (z_iconst hX (v := 1) (by decide) dX0_mend_13 ?_)
      obtain rfl := Option.some.inj h
      exact z_iret hX dX0_mend_14
    cases h
  refine z_i2l hX dX0_mend_7 ?_
  obtain ⟨a5, e9, k_a5⟩ := z_nn h
  subst e9
  have h := k_a5
  refine z_last hX h dX0_mend_8 (fun σ6 h => ?_)
  refine z_goto (tgt := 15) hX dX0_mend_9 (by decide) (z_iconst hX (v := 0) (by decide) dX0_mend_15 ?_)
  obtain rfl := Option.some.inj h
  exact z_iret hX dX0_mend_16

theorem c_X0_mend {l : Launch} {D : va_G} {tys : zTy} (hl : l.stackTraces = false) {p1 : Option Nat} {p2 : Int32} {p3 : Option Nat} {σ : zS} {Rt : Int32 × zS} (h : f_X0_mend p1 p2 p3 σ = some Rt) : zM l D tys yX0_mend (wsW_ yX0_mend cX0_mend 4 (Option.some Jvm.ClassFile.FieldType.int) [(0, 9, 12, 24)]) 10 175 [zA p1, zI p2, zA p3] σ (.inl (eI Rt.1)) Rt.2 :=
  zM_inW hl rfl (Nat.le_of_ble_eq_true rfl) (fun p e R s m args below meth c hX => z_L rfl (s_X0_mend hX h))
def f_X1_worn (o : Nat) (p1 : Int32) (p2 : Int32) (σ : zS) : Option ((Int32 ⊕ Nat) × zS) :=
  zif (zcl σ o = 0) <|
  zbt (f_X1_turnAt o p1 σ) (fun k9 σ9 => some (.inr k9, σ9)) fun r2 σ3 =>
  zb2 (f_X1_in p2 0 999 σ3) fun x4 σ5 =>
  zbt (f_X1_demand x4 σ5) (fun k9 σ9 => some (.inr k9, σ9)) fun _ σ7 =>
  r2.bind fun a8 =>
  (gI σ7 a8 7 1).bind fun x9 =>
  (pI σ7 a8 7 1 p2).bind fun σ10 =>
  some (.inl x9, σ10)

set_option maxHeartbeats 4000000 in
theorem s_X1_worn {X : zX} (hX : zOk X RX1 cX1_worn 5 9 152 (Option.some Jvm.ClassFile.FieldType.int) "worn" []) {o : Nat} {p1 : Int32} {p2 : Int32} {σ : zS} {Rt : (Int32 ⊕ Nat) × zS} (h : f_X1_worn o p1 p2 σ = some Rt) : zG X (zQ X (zot eI Rt.1) Rt.2) 5 0 [(0, zA (some o)), (1, zI p1), (2, zI p2)] [] σ := by
  unfold f_X1_worn at h
  refine z_aload_n hX 0 rfl rfl dX1_worn_0 (z_iload_n hX 1 rfl rfl dX1_worn_1 ?_)
  obtain ⟨c1, h⟩ := z_ck h
  refine z_cTA hX (rest := []) h (fun r9 σ9 e9 => z_runV hX lk_X1_383 (c_X1_turnAt hX.tr e9) (ci := 0) zc9_0 c1 ⟨Nat.le_of_ble_eq_true rfl, Nat.le_of_ble_eq_true rfl⟩ rfl (Nat.le_of_ble_eq_true rfl) dX1_worn_2 rfl) (fun k9 σ9 h => z_prop hX h (fun x hx => nomatch hx)) (fun r2 σ3 h => ?_)
  refine z_astore_n (L' := [(0, zA (some o)), (1, zI p1), (2, zI p2), (3, zA r2)]) hX rfl rfl (by decide) dX1_worn_5 (z_iload_n hX 2 rfl rfl dX1_worn_6 (z_iconst hX (v := 0) (by decide) dX1_worn_7 (z_sipush hX (v := 999) (by decide) dX1_worn_8 ?_)))
  refine z_cNI hX (rest := []) h (fun r9 σ9 e9 => z_runS hX lk_X1_347 (c_X1_in hX.tr e9) ⟨Nat.le_of_ble_eq_true rfl, Nat.le_of_ble_eq_true rfl⟩ rfl (Nat.le_of_ble_eq_true rfl) dX1_worn_11 rfl) (fun x4 σ5 h => ?_)
  refine z_cTU hX (rest := []) h (fun r9 σ9 e9 => z_runS hX lk_X1_403 (c_X1_demand hX.tr e9) ⟨Nat.le_of_ble_eq_true rfl, Nat.le_of_ble_eq_true rfl⟩ rfl (Nat.le_of_ble_eq_true rfl) dX1_worn_14 rfl) (fun k9 σ9 h => z_prop hX h (fun x hx => nomatch hx)) (fun _ σ7 h => ?_)
  refine z_aload_n hX 3 rfl rfl dX1_worn_17 ?_
  obtain ⟨a8, e9, k_a8⟩ := z_nn h
  subst e9
  have h := k_a8
  refine z_getI hX fl_X1_325_7 h dX1_worn_18 (fun x9 h => ?_)
  refine z_istore (L' := [(0, zA (some o)), (1, zI p1), (2, zI p2), (3, zA (some a8)), (4, zI x9)]) hX rfl (by decide) dX1_worn_21 (z_aload_n hX 3 rfl rfl dX1_worn_23 (z_iload_n hX 2 rfl rfl dX1_worn_24 ?_))
  refine z_putI hX fp_X1_325_7 (fun h => nomatch h) h dX1_worn_25 (fun σ10 h => ?_)
  refine z_iload hX 4 rfl dX1_worn_28 ?_
  obtain rfl := Option.some.inj h
  exact z_iret hX dX1_worn_30

theorem c_X1_worn {l : Launch} {D : va_G} {tys : zTy} (hl : l.stackTraces = false) {o : Nat} {p1 : Int32} {p2 : Int32} {σ : zS} {Rt : (Int32 ⊕ Nat) × zS} (h : f_X1_worn o p1 p2 σ = some Rt) : zM l D tys yX1_worn (ws_ yX1_worn cX1_worn 5 (Option.some Jvm.ClassFile.FieldType.int)) 9 152 [zA (some o), zI p1, zI p2] σ (zot eI Rt.1) Rt.2 :=
  zM_in hl rfl (Nat.le_of_ble_eq_true rfl) (fun p e R s m args below meth c hX => z_L rfl (s_X1_worn hX h))
def f_X0_worn (p1 : Option Nat) (p2 : Int32) (p3 : Int32) (p4 : Option Nat) (σ : zS) : Option (Int32 × zS) :=
  p1.bind fun a1 =>
  zif (zcl σ a1 = 0) <|
  zbt (f_X1_worn a1 p2 p3 σ) (fun k9 σ9 =>
    if k9 = 0 then
      some ((2 : Int32), σ9)
    else
    if k9 = 2 then
      some ((1 : Int32), σ9)
    else
    none
  ) fun x3 σ4 =>
  p4.bind fun a5 =>
  (sJ σ4 a5 0 x3.toInt64).bind fun σ6 =>
  some ((0 : Int32), σ6)

set_option maxHeartbeats 4000000 in
theorem s_X0_worn {X : zX} (hX : zOk X RX0 cX0_worn 5 10 176 (Option.some Jvm.ClassFile.FieldType.int) "worn" (tableOf [(0, 10, 13, 24), (0, 10, 17, 13)])) {p1 : Option Nat} {p2 : Int32} {p3 : Int32} {p4 : Option Nat} {σ : zS} {Rt : Int32 × zS} (h : f_X0_worn p1 p2 p3 p4 σ = some Rt) : zG X (zQ X (.inl (eI Rt.1)) Rt.2) 5 0 [(0, zA p1), (1, zI p2), (2, zI p3), (3, zA p4)] [] σ := by
  unfold f_X0_worn at h
  refine z_aload_n hX 3 rfl rfl dX0_worn_0 (z_iconst hX (v := 0) (by decide) dX0_worn_1 (z_aload_n hX 0 rfl rfl dX0_worn_2 (z_iload_n hX 1 rfl rfl dX0_worn_3 (z_iload_n hX 2 rfl rfl dX0_worn_4 ?_))))
  obtain ⟨a1, e9, k_a1⟩ := z_nn h
  subst e9
  have h := k_a1
  obtain ⟨c2, h⟩ := z_ck h
  refine z_cTI hX (rest := [zI 0, zA p4]) h (fun r9 σ9 e9 => z_runV hX lk_X0_60 (c_X1_worn hX.tr e9) (ci := 0) zc9_0 c2 ⟨Nat.le_of_ble_eq_true rfl, Nat.le_of_ble_eq_true rfl⟩ rfl (Nat.le_of_ble_eq_true rfl) dX0_worn_5 rfl) (fun k9 σ9 h => ?_) (fun x3 σ4 h => ?_)
  · rcases z_ite h with ⟨e9, k_σ4_0⟩ | ⟨-, h⟩
    · subst e9
      have h := k_σ4_0
      refine z_catch hX (k := 0) (nmC := "java/lang/IllegalArgumentException") [⟨0, 10, 13, 24⟩] ⟨0, 10, 17, 13⟩ [] rfl (List.forall_mem_cons.mpr ⟨Or.inr ⟨by decide, "java/lang/IndexOutOfBoundsException", q1381, by simp [zNc, zEx]⟩, fun z hz => nomatch hz⟩) rfl (by decide) q647 (zNw_of q832 rfl) (fun q9 => ?_)
      refine z_astore (L' := [(0, zA (some a1)), (1, zI p2), (2, zI p3), (3, zA p4), (4, zA (some q9))]) hX rfl (by decide) dX0_worn_17 (z_iconst hX (v := 2) (by decide) dX0_worn_19 ?_)
      obtain rfl := Option.some.inj h
      exact z_iret hX dX0_worn_20
    rcases z_ite h with ⟨e9, k_σ4_2⟩ | ⟨-, h⟩
    · subst e9
      have h := k_σ4_2
      refine z_catch hX (k := 2) (nmC := "java/lang/IndexOutOfBoundsException") [] ⟨0, 10, 13, 24⟩ [⟨0, 10, 17, 13⟩] rfl (fun z hz => nomatch hz) rfl (by decide) q1381 (zNw_of q1415 rfl) (fun q9 => ?_)
      refine z_astore (L' := [(0, zA (some a1)), (1, zI p2), (2, zI p3), (3, zA p4), (4, zA (some q9))]) hX rfl (by decide) dX0_worn_13 (z_iconst hX (v := 1) (by decide) dX0_worn_15 ?_)
      obtain rfl := Option.some.inj h
      exact z_iret hX dX0_worn_16
    cases h
  refine z_i2l hX dX0_worn_8 ?_
  obtain ⟨a5, e9, k_a5⟩ := z_nn h
  subst e9
  have h := k_a5
  refine z_last hX h dX0_worn_9 (fun σ6 h => ?_)
  refine z_goto (tgt := 21) hX dX0_worn_10 (by decide) (z_iconst hX (v := 0) (by decide) dX0_worn_21 ?_)
  obtain rfl := Option.some.inj h
  exact z_iret hX dX0_worn_22

theorem c_X0_worn {l : Launch} {D : va_G} {tys : zTy} (hl : l.stackTraces = false) {p1 : Option Nat} {p2 : Int32} {p3 : Int32} {p4 : Option Nat} {σ : zS} {Rt : Int32 × zS} (h : f_X0_worn p1 p2 p3 p4 σ = some Rt) : zM l D tys yX0_worn (wsW_ yX0_worn cX0_worn 5 (Option.some Jvm.ClassFile.FieldType.int) [(0, 10, 13, 24), (0, 10, 17, 13)]) 10 176 [zA p1, zI p2, zI p3, zA p4] σ (.inl (eI Rt.1)) Rt.2 :=
  zM_inW hl rfl (Nat.le_of_ble_eq_true rfl) (fun p e R s m args below meth c hX => z_L rfl (s_X0_worn hX h))
def f_J17_bitCount (p1 : Int32) (σ : zS) : Option (Int32 × zS) :=
  zl (p1 - (((p1.toUInt32 >>> ((1 : Int32).toUInt32 &&& Int32.toUInt32 31)).toInt32) &&& 1431655765)) fun x1 =>
  zl ((x1 &&& 858993459) + (((x1.toUInt32 >>> ((2 : Int32).toUInt32 &&& Int32.toUInt32 31)).toInt32) &&& 858993459)) fun x2 =>
  zl ((x2 + ((x2.toUInt32 >>> ((4 : Int32).toUInt32 &&& Int32.toUInt32 31)).toInt32)) &&& 252645135) fun x3 =>
  zl (x3 + ((x3.toUInt32 >>> ((8 : Int32).toUInt32 &&& Int32.toUInt32 31)).toInt32)) fun x4 =>
  zl (x4 + ((x4.toUInt32 >>> ((16 : Int32).toUInt32 &&& Int32.toUInt32 31)).toInt32)) fun x5 =>
  some (x5 &&& 63, σ)

set_option maxHeartbeats 4000000 in
theorem s_J17_bitCount {X : zX} (hX : zOk X RJ17 cJ17_bitCount 1 1 40 (Option.some Jvm.ClassFile.FieldType.int) "bitCount" []) {p1 : Int32} {σ : zS} {Rt : Int32 × zS} (h : f_J17_bitCount p1 σ = some Rt) : zG X (zQ X (.inl (eI Rt.1)) Rt.2) 1 0 [(0, zI p1)] [] σ := by
  unfold f_J17_bitCount at h
  refine z_iload_n hX 0 rfl rfl dJ17_bitCount_0 (z_iload_n hX 0 rfl rfl dJ17_bitCount_1 (z_iconst hX (v := 1) (by decide) dJ17_bitCount_2 (z_iushr hX dJ17_bitCount_3 (z_ldcw hX (v := 1431655765) q1661 dJ17_bitCount_4 (z_iand hX dJ17_bitCount_7 (z_isub hX dJ17_bitCount_8 ?_))))))
  refine z_nmI h (fun x1 h => ?_)
  refine z_istore_n (L' := [(0, zI x1)]) hX rfl rfl (by decide) dJ17_bitCount_9 (z_iload_n hX 0 rfl rfl dJ17_bitCount_10 (z_ldcw hX (v := 858993459) q1662 dJ17_bitCount_11 (z_iand hX dJ17_bitCount_14 (z_iload_n hX 0 rfl rfl dJ17_bitCount_15 (z_iconst hX (v := 2) (by decide) dJ17_bitCount_16 (z_iushr hX dJ17_bitCount_17 (z_ldcw hX (v := 858993459) q1662 dJ17_bitCount_18 (z_iand hX dJ17_bitCount_21 (z_iadd hX dJ17_bitCount_22 ?_)))))))))
  refine z_nmI h (fun x2 h => ?_)
  refine z_istore_n (L' := [(0, zI x2)]) hX rfl rfl (by decide) dJ17_bitCount_23 (z_iload_n hX 0 rfl rfl dJ17_bitCount_24 (z_iload_n hX 0 rfl rfl dJ17_bitCount_25 (z_iconst hX (v := 4) (by decide) dJ17_bitCount_26 (z_iushr hX dJ17_bitCount_27 (z_iadd hX dJ17_bitCount_28 (z_ldcw hX (v := 252645135) q1663 dJ17_bitCount_29 (z_iand hX dJ17_bitCount_32 ?_)))))))
  refine z_nmI h (fun x3 h => ?_)
  refine z_istore_n (L' := [(0, zI x3)]) hX rfl rfl (by decide) dJ17_bitCount_33 (z_iload_n hX 0 rfl rfl dJ17_bitCount_34 (z_iload_n hX 0 rfl rfl dJ17_bitCount_35 (z_bipush hX (v := 8) (by decide) dJ17_bitCount_36 (z_iushr hX dJ17_bitCount_38 (z_iadd hX dJ17_bitCount_39 ?_)))))
  refine z_nmI h (fun x4 h => ?_)
  refine z_istore_n (L' := [(0, zI x4)]) hX rfl rfl (by decide) dJ17_bitCount_40 (z_iload_n hX 0 rfl rfl dJ17_bitCount_41 (z_iload_n hX 0 rfl rfl dJ17_bitCount_42 (z_bipush hX (v := 16) (by decide) dJ17_bitCount_43 (z_iushr hX dJ17_bitCount_45 (z_iadd hX dJ17_bitCount_46 ?_)))))
  refine z_nmI h (fun x5 h => ?_)
  refine z_istore_n (L' := [(0, zI x5)]) hX rfl rfl (by decide) dJ17_bitCount_47 (z_iload_n hX 0 rfl rfl dJ17_bitCount_48 (z_bipush hX (v := 63) (by decide) dJ17_bitCount_49 (z_iand hX dJ17_bitCount_51 ?_)))
  obtain rfl := Option.some.inj h
  exact z_iret hX dJ17_bitCount_52

theorem c_J17_bitCount {l : Launch} {D : va_G} {tys : zTy} (hl : l.stackTraces = false) {p1 : Int32} {σ : zS} {Rt : Int32 × zS} (h : f_J17_bitCount p1 σ = some Rt) : zM l D tys yJ17_bitCount (ws_ yJ17_bitCount cJ17_bitCount 1 (Option.some Jvm.ClassFile.FieldType.int)) 1 40 [zI p1] σ (.inl (eI Rt.1)) Rt.2 :=
  zM_in hl rfl (Nat.le_of_ble_eq_true rfl) (fun p e R s m args below meth c hX => z_L rfl (s_J17_bitCount hX h))
def f_X1_bestDeal_157 (o : Nat) (rec7 : Int32 → Int32 → Int32 → zS → Option (Int32 × zS)) (v1 : Int32) (v2 : Int32) (v3 : Int32) (v4 : Int32) (σ : zS) : Option (Int32 × zS) :=
  zl (v4 + 1) fun x15 =>
  rec7 v2 v3 x15 σ

set_option maxHeartbeats 4000000 in
theorem s_X1_bestDeal_157 {X : zX} (hX : zOk X RX1 cX1_bestDeal 8 4 104 (Option.some Jvm.ClassFile.FieldType.int) "bestDeal" []) {o : Nat} {Rt : Int32 × zS} {rec7 : Int32 → Int32 → Int32 → zS → Option (Int32 × zS)} {v1 : Int32} {v2 : Int32} {v3 : Int32} {v4 : Int32} (hrec7 : ∀ (v2 : Int32) (v3 : Int32) (v4 : Int32) (σ : zS), rec7 v2 v3 v4 σ = some Rt → zG X (zQ X (.inl (eI Rt.1)) Rt.2) 8 7 [(0, zA (some o)), (1, zI v1), (2, zI v2), (3, zI v3), (4, zI v4)] [] σ) {σ : zS} (h : f_X1_bestDeal_157 o rec7 v1 v2 v3 v4 σ = some Rt) : zG X (zQ X (.inl (eI Rt.1)) Rt.2) 8 157 [(0, zA (some o)), (1, zI v1), (2, zI v2), (3, zI v3), (4, zI v4)] [] σ := by
  unfold f_X1_bestDeal_157 at h
  refine z_iinc hX (j := 4) h rfl (by decide) (by decide) dX1_bestDeal_157 (fun x15 h => z_L (L' := [(0, zA (some o)), (1, zI v1), (2, zI v2), (3, zI v3), (4, zI x15)]) rfl ?_)
  refine z_goto (tgt := 7) hX dX1_bestDeal_160 (by decide) ?_
  exact z_sub [0, 1, 2, 3, 4] rfl (hrec7 _ _ _ _ h)

def f_X1_bestDeal_151 (o : Nat) (rec7 : Int32 → Int32 → Int32 → zS → Option (Int32 × zS)) (v1 : Int32) (v4 : Int32) (v6 : Int32) (σ : zS) : Option (Int32 × zS) :=
  f_X1_bestDeal_157 o rec7 v1 v4 v6 v4 σ

set_option maxHeartbeats 4000000 in
theorem s_X1_bestDeal_151 {X : zX} (hX : zOk X RX1 cX1_bestDeal 8 4 104 (Option.some Jvm.ClassFile.FieldType.int) "bestDeal" []) {o : Nat} {Rt : Int32 × zS} {rec7 : Int32 → Int32 → Int32 → zS → Option (Int32 × zS)} {v1 : Int32} {v4 : Int32} {v6 : Int32} (hrec7 : ∀ (v2 : Int32) (v3 : Int32) (v4 : Int32) (σ : zS), rec7 v2 v3 v4 σ = some Rt → zG X (zQ X (.inl (eI Rt.1)) Rt.2) 8 7 [(0, zA (some o)), (1, zI v1), (2, zI v2), (3, zI v3), (4, zI v4)] [] σ) {σ : zS} (h : f_X1_bestDeal_151 o rec7 v1 v4 v6 σ = some Rt) : zG X (zQ X (.inl (eI Rt.1)) Rt.2) 8 151 [(0, zA (some o)), (1, zI v1), (4, zI v4), (6, zI v6)] [] σ := by
  unfold f_X1_bestDeal_151 at h
  refine z_iload hX 2 rfl dX1_bestDeal_151 (z_istore_n (L' := [(0, zA (some o)), (1, zI v1), (2, zI v4), (4, zI v4), (6, zI v6)]) hX rfl rfl (by decide) dX1_bestDeal_153 (z_iload hX 4 rfl dX1_bestDeal_154 (z_istore_n (L' := [(0, zA (some o)), (1, zI v1), (2, zI v4), (3, zI v6), (4, zI v4), (6, zI v6)]) hX rfl rfl (by decide) dX1_bestDeal_156 ?_)))
  exact z_sub [0, 1, 2, 3, 4] rfl (s_X1_bestDeal_157 (o := o) hX hrec7 h)

def f_X1_bestDeal_107 (o : Nat) (rec7 : Int32 → Int32 → Int32 → zS → Option (Int32 × zS)) (rec33 : Int32 → Int32 → Int32 → zS → Option (Int32 × zS)) (v1 : Int32) (v2 : Int32) (v3 : Int32) (v4 : Int32) (v5 : Int32) (v6 : Int32) (v7 : Int32) (σ : zS) : Option (Int32 × zS) :=
  zl (v7 + 1) fun x40 =>
  rec33 v5 v6 x40 σ

set_option maxHeartbeats 4000000 in
theorem s_X1_bestDeal_107 {X : zX} (hX : zOk X RX1 cX1_bestDeal 8 4 104 (Option.some Jvm.ClassFile.FieldType.int) "bestDeal" []) {o : Nat} {Rt : Int32 × zS} {rec7 : Int32 → Int32 → Int32 → zS → Option (Int32 × zS)} {rec33 : Int32 → Int32 → Int32 → zS → Option (Int32 × zS)} {v1 : Int32} {v2 : Int32} {v3 : Int32} {v4 : Int32} {v5 : Int32} {v6 : Int32} {v7 : Int32} (hrec7 : ∀ (v2 : Int32) (v3 : Int32) (v4 : Int32) (σ : zS), rec7 v2 v3 v4 σ = some Rt → zG X (zQ X (.inl (eI Rt.1)) Rt.2) 8 7 [(0, zA (some o)), (1, zI v1), (2, zI v2), (3, zI v3), (4, zI v4)] [] σ) (hrec33 : ∀ (v5 : Int32) (v6 : Int32) (v7 : Int32) (σ : zS), rec33 v5 v6 v7 σ = some Rt → zG X (zQ X (.inl (eI Rt.1)) Rt.2) 8 33 [(0, zA (some o)), (1, zI v1), (2, zI v2), (3, zI v3), (4, zI v4), (5, zI v5), (6, zI v6), (7, zI v7)] [] σ) {σ : zS} (h : f_X1_bestDeal_107 o rec7 rec33 v1 v2 v3 v4 v5 v6 v7 σ = some Rt) : zG X (zQ X (.inl (eI Rt.1)) Rt.2) 8 107 [(0, zA (some o)), (1, zI v1), (2, zI v2), (3, zI v3), (4, zI v4), (5, zI v5), (6, zI v6), (7, zI v7)] [] σ := by
  unfold f_X1_bestDeal_107 at h
  refine z_iinc hX (j := 7) h rfl (by decide) (by decide) dX1_bestDeal_107 (fun x40 h => z_L (L' := [(0, zA (some o)), (1, zI v1), (2, zI v2), (3, zI v3), (4, zI v4), (5, zI v5), (6, zI v6), (7, zI x40)]) rfl ?_)
  refine z_goto (tgt := 33) hX dX1_bestDeal_110 (by decide) ?_
  exact z_sub [0, 1, 2, 3, 4, 5, 6, 7] rfl (hrec33 _ _ _ _ h)

def f_X1_bestDeal_33_b (o : Nat) (rec7 : Int32 → Int32 → Int32 → zS → Option (Int32 × zS)) (v1 : Int32) (v2 : Int32) (v3 : Int32) (v4 : Int32) (rec33 : Int32 → Int32 → Int32 → zS → Option (Int32 × zS)) (v5 : Int32) (v6 : Int32) (v7 : Int32) (σ : zS) : Option (Int32 × zS) :=
  (gR σ o 0 0).bind fun r8 =>
  r8.bind fun a9 =>
  (gR σ a9 1 10).bind fun r10 =>
  r10.bind fun a11 =>
  zif (zcl σ a11 = 19) <|
  zb2 (f_J2_size a11 σ) fun x13 σ14 =>
  if x13 ≤ v7 then
    if v5 < v1 then
      f_X1_bestDeal_157 o rec7 v1 v2 v3 v4 σ14
    else
      if v2 = (-1) then
        f_X1_bestDeal_151 o rec7 v1 v4 v6 σ14
      else
        if v3 < v6 then
          f_X1_bestDeal_157 o rec7 v1 v2 v3 v4 σ14
        else
          if ¬ v6 = v3 then
            f_X1_bestDeal_151 o rec7 v1 v4 v6 σ14
          else
            zb2 (f_J17_bitCount v4 σ14) fun x16 σ17 =>
            zb2 (f_J17_bitCount v2 σ17) fun x18 σ19 =>
            if x16 < x18 then
              f_X1_bestDeal_151 o rec7 v1 v4 v6 σ19
            else
              f_X1_bestDeal_157 o rec7 v1 v2 v3 v4 σ19
  else
    if ¬ ((v4 >>> (v7 &&& 31)) &&& 1) = 0 then
      (gR σ14 o 0 0).bind fun r20 =>
      r20.bind fun a21 =>
      (gR σ14 a21 1 10).bind fun r22 =>
      r22.bind fun a23 =>
      zif (zcl σ14 a23 = 19) <|
      zb2 (f_J2_get a23 v7 σ14) fun r25 σ26 =>
      zif (zckC σ26 r25 10 = true) <|
      r25.bind fun a27 =>
      (gI σ26 a27 10 0).bind fun x28 =>
      zl (v5 + x28) fun x29 =>
      (gR σ26 o 0 0).bind fun r30 =>
      r30.bind fun a31 =>
      (gR σ26 a31 1 10).bind fun r32 =>
      r32.bind fun a33 =>
      zif (zcl σ26 a33 = 19) <|
      zb2 (f_J2_get a33 v7 σ26) fun r35 σ36 =>
      zif (zckC σ36 r35 10 = true) <|
      r35.bind fun a37 =>
      (gI σ36 a37 10 1).bind fun x38 =>
      zl (v6 + x38) fun x39 =>
      f_X1_bestDeal_107 o rec7 rec33 v1 v2 v3 v4 x29 x39 v7 σ36
    else
      f_X1_bestDeal_107 o rec7 rec33 v1 v2 v3 v4 v5 v6 v7 σ14

def f_X1_bestDeal_33 (o : Nat) (rec7 : Int32 → Int32 → Int32 → zS → Option (Int32 × zS)) (v1 : Int32) (v2 : Int32) (v3 : Int32) (v4 : Int32) : Int32 → Int32 → Int32 → zS → Option (Int32 × zS) := zlp3 (f_X1_bestDeal_33_b o rec7 v1 v2 v3 v4) NN
set_option maxHeartbeats 4000000 in
theorem s_X1_bestDeal_33_b {X : zX} (hX : zOk X RX1 cX1_bestDeal 8 4 104 (Option.some Jvm.ClassFile.FieldType.int) "bestDeal" []) {o : Nat} {Rt : Int32 × zS} {rec7 : Int32 → Int32 → Int32 → zS → Option (Int32 × zS)} {v1 : Int32} {v2 : Int32} {v3 : Int32} {v4 : Int32} (hrec7 : ∀ (v2 : Int32) (v3 : Int32) (v4 : Int32) (σ : zS), rec7 v2 v3 v4 σ = some Rt → zG X (zQ X (.inl (eI Rt.1)) Rt.2) 8 7 [(0, zA (some o)), (1, zI v1), (2, zI v2), (3, zI v3), (4, zI v4)] [] σ) {rec33 : Int32 → Int32 → Int32 → zS → Option (Int32 × zS)} (hrec33 : ∀ (v5 : Int32) (v6 : Int32) (v7 : Int32) (σ : zS), rec33 v5 v6 v7 σ = some Rt → zG X (zQ X (.inl (eI Rt.1)) Rt.2) 8 33 [(0, zA (some o)), (1, zI v1), (2, zI v2), (3, zI v3), (4, zI v4), (5, zI v5), (6, zI v6), (7, zI v7)] [] σ) {v5 : Int32} {v6 : Int32} {v7 : Int32} {σ : zS} (h : f_X1_bestDeal_33_b o rec7 v1 v2 v3 v4 rec33 v5 v6 v7 σ = some Rt) : zG X (zQ X (.inl (eI Rt.1)) Rt.2) 8 33 [(0, zA (some o)), (1, zI v1), (2, zI v2), (3, zI v3), (4, zI v4), (5, zI v5), (6, zI v6), (7, zI v7)] [] σ := by
  unfold f_X1_bestDeal_33_b at h
  refine z_iload hX 7 rfl dX1_bestDeal_33 (z_aload_n hX 0 rfl rfl dX1_bestDeal_35 ?_)
  refine z_getR hX fl_X1_10_0 h dX1_bestDeal_36 (fun r8 h => ?_)
  obtain ⟨a9, e9, k_a9⟩ := z_nn h
  subst e9
  have h := k_a9
  refine z_getR hX fl_X1_101_1 h dX1_bestDeal_39 (fun r10 h => ?_)
  obtain ⟨a11, e9, k_a11⟩ := z_nn h
  subst e9
  have h := k_a11
  obtain ⟨c12, h⟩ := z_ck h
  refine z_cNI hX (rest := [zI v7]) h (fun r9 σ9 e9 => z_runV hX lk_X1_59 (c_J2_size hX.tr e9) (ci := 19) zc9_19 c12 ⟨Nat.le_of_ble_eq_true rfl, Nat.le_of_ble_eq_true rfl⟩ rfl (Nat.le_of_ble_eq_true rfl) dX1_bestDeal_42 rfl) (fun x13 σ14 h => ?_)
  refine z_icmp_ge (tgt := 113) hX h dX1_bestDeal_45 (by decide) (fun h => ?_) (fun h => ?_)
  · refine z_iload hX 5 rfl dX1_bestDeal_113 (z_iload_n hX 1 rfl rfl dX1_bestDeal_115 ?_)
    refine z_icmp_lt (tgt := 157) hX h dX1_bestDeal_116 (by decide) (fun h => ?_) (fun h => ?_)
    · exact z_sub [0, 1, 2, 3, 4] rfl (s_X1_bestDeal_157 (o := o) hX hrec7 h)
    · refine z_iload_n hX 2 rfl rfl dX1_bestDeal_119 (z_iconst hX (v := (-1)) (by decide) dX1_bestDeal_120 ?_)
      refine z_icmp_eq (tgt := 151) hX h dX1_bestDeal_121 (by decide) (fun h => ?_) (fun h => ?_)
      · exact z_sub [0, 1, 4, 6] rfl (s_X1_bestDeal_151 (o := o) hX hrec7 h)
      · refine z_iload hX 6 rfl dX1_bestDeal_124 (z_iload_n hX 3 rfl rfl dX1_bestDeal_126 ?_)
        refine z_icmp_gt (tgt := 157) hX h dX1_bestDeal_127 (by decide) (fun h => ?_) (fun h => ?_)
        · exact z_sub [0, 1, 2, 3, 4] rfl (s_X1_bestDeal_157 (o := o) hX hrec7 h)
        · refine z_iload hX 6 rfl dX1_bestDeal_130 (z_iload_n hX 3 rfl rfl dX1_bestDeal_132 ?_)
          refine z_icmp_ne (tgt := 151) hX h dX1_bestDeal_133 (by decide) (fun h => ?_) (fun h => ?_)
          · exact z_sub [0, 1, 4, 6] rfl (s_X1_bestDeal_151 (o := o) hX hrec7 h)
          · refine z_iload hX 4 rfl dX1_bestDeal_136 ?_
            refine z_cNI hX (rest := []) h (fun r9 σ9 e9 => z_runS hX lk_X1_449 (c_J17_bitCount hX.tr e9) ⟨Nat.le_of_ble_eq_true rfl, Nat.le_of_ble_eq_true rfl⟩ rfl (Nat.le_of_ble_eq_true rfl) dX1_bestDeal_138 rfl) (fun x16 σ17 h => ?_)
            refine z_iload_n hX 2 rfl rfl dX1_bestDeal_141 ?_
            refine z_cNI hX (rest := [zI x16]) h (fun r9 σ9 e9 => z_runS hX lk_X1_449 (c_J17_bitCount hX.tr e9) ⟨Nat.le_of_ble_eq_true rfl, Nat.le_of_ble_eq_true rfl⟩ rfl (Nat.le_of_ble_eq_true rfl) dX1_bestDeal_142 rfl) (fun x18 σ19 h => ?_)
            refine z_icmp_lt (tgt := 151) hX h dX1_bestDeal_145 (by decide) (fun h => ?_) (fun h => ?_)
            · exact z_sub [0, 1, 4, 6] rfl (s_X1_bestDeal_151 (o := o) hX hrec7 h)
            · refine z_goto (tgt := 157) hX dX1_bestDeal_148 (by decide) ?_
              exact z_sub [0, 1, 2, 3, 4] rfl (s_X1_bestDeal_157 (o := o) hX hrec7 h)
  · refine z_iload hX 4 rfl dX1_bestDeal_48 (z_iload hX 7 rfl dX1_bestDeal_50 (z_ishr hX dX1_bestDeal_52 (z_iconst hX (v := 1) (by decide) dX1_bestDeal_53 (z_iand hX dX1_bestDeal_54 ?_))))
    refine z_if_ne (tgt := 61) hX h dX1_bestDeal_55 (by decide) (fun h => ?_) (fun h => ?_)
    · refine z_iload hX 5 rfl dX1_bestDeal_61 (z_aload_n hX 0 rfl rfl dX1_bestDeal_63 ?_)
      refine z_getR hX fl_X1_10_0 h dX1_bestDeal_64 (fun r20 h => ?_)
      obtain ⟨a21, e9, k_a21⟩ := z_nn h
      subst e9
      have h := k_a21
      refine z_getR hX fl_X1_101_1 h dX1_bestDeal_67 (fun r22 h => ?_)
      refine z_iload hX 7 rfl dX1_bestDeal_70 ?_
      obtain ⟨a23, e9, k_a23⟩ := z_nn h
      subst e9
      have h := k_a23
      obtain ⟨c24, h⟩ := z_ck h
      refine z_cNA hX (rest := [zI v5]) h (fun r9 σ9 e9 => z_runV hX lk_X1_313 (c_J2_get hX.tr e9) (ci := 19) zc9_19 c24 ⟨Nat.le_of_ble_eq_true rfl, Nat.le_of_ble_eq_true rfl⟩ rfl (Nat.le_of_ble_eq_true rfl) dX1_bestDeal_72 rfl) (fun r25 σ26 h => ?_)
      refine z_castC hX (ci := 10) rfl q1140 h dX1_bestDeal_75 (fun h => ?_)
      obtain ⟨a27, e9, k_a27⟩ := z_nn h
      subst e9
      have h := k_a27
      refine z_getI hX fl_X1_445_10 h dX1_bestDeal_78 (fun x28 h => ?_)
      refine z_iadd hX dX1_bestDeal_81 ?_
      refine z_nmI h (fun x29 h => ?_)
      refine z_istore (L' := [(0, zA (some o)), (1, zI v1), (2, zI v2), (3, zI v3), (4, zI v4), (5, zI x29), (6, zI v6), (7, zI v7)]) hX rfl (by decide) dX1_bestDeal_82 (z_iload hX 6 rfl dX1_bestDeal_84 (z_aload_n hX 0 rfl rfl dX1_bestDeal_86 ?_))
      refine z_getR hX fl_X1_10_0 h dX1_bestDeal_87 (fun r30 h => ?_)
      obtain ⟨a31, e9, k_a31⟩ := z_nn h
      subst e9
      have h := k_a31
      refine z_getR hX fl_X1_101_1 h dX1_bestDeal_90 (fun r32 h => ?_)
      refine z_iload hX 7 rfl dX1_bestDeal_93 ?_
      obtain ⟨a33, e9, k_a33⟩ := z_nn h
      subst e9
      have h := k_a33
      obtain ⟨c34, h⟩ := z_ck h
      refine z_cNA hX (rest := [zI v6]) h (fun r9 σ9 e9 => z_runV hX lk_X1_313 (c_J2_get hX.tr e9) (ci := 19) zc9_19 c34 ⟨Nat.le_of_ble_eq_true rfl, Nat.le_of_ble_eq_true rfl⟩ rfl (Nat.le_of_ble_eq_true rfl) dX1_bestDeal_95 rfl) (fun r35 σ36 h => ?_)
      refine z_castC hX (ci := 10) rfl q1140 h dX1_bestDeal_98 (fun h => ?_)
      obtain ⟨a37, e9, k_a37⟩ := z_nn h
      subst e9
      have h := k_a37
      refine z_getI hX fl_X1_446_10 h dX1_bestDeal_101 (fun x38 h => ?_)
      refine z_iadd hX dX1_bestDeal_104 ?_
      refine z_nmI h (fun x39 h => ?_)
      refine z_istore (L' := [(0, zA (some o)), (1, zI v1), (2, zI v2), (3, zI v3), (4, zI v4), (5, zI x29), (6, zI x39), (7, zI v7)]) hX rfl (by decide) dX1_bestDeal_105 ?_
      exact z_sub [0, 1, 2, 3, 4, 5, 6, 7] rfl (s_X1_bestDeal_107 (o := o) hX hrec7 hrec33 h)
    · refine z_goto (tgt := 107) hX dX1_bestDeal_58 (by decide) ?_
      exact z_sub [0, 1, 2, 3, 4, 5, 6, 7] rfl (s_X1_bestDeal_107 (o := o) hX hrec7 hrec33 h)

theorem s_X1_bestDeal_33 {X : zX} (hX : zOk X RX1 cX1_bestDeal 8 4 104 (Option.some Jvm.ClassFile.FieldType.int) "bestDeal" []) {o : Nat} {Rt : Int32 × zS} {rec7 : Int32 → Int32 → Int32 → zS → Option (Int32 × zS)} {v1 : Int32} {v2 : Int32} {v3 : Int32} {v4 : Int32} (hrec7 : ∀ (v2 : Int32) (v3 : Int32) (v4 : Int32) (σ : zS), rec7 v2 v3 v4 σ = some Rt → zG X (zQ X (.inl (eI Rt.1)) Rt.2) 8 7 [(0, zA (some o)), (1, zI v1), (2, zI v2), (3, zI v3), (4, zI v4)] [] σ) {v5 : Int32} {v6 : Int32} {v7 : Int32} {σ : zS} (h : f_X1_bestDeal_33 o rec7 v1 v2 v3 v4 v5 v6 v7 σ = some Rt) : zG X (zQ X (.inl (eI Rt.1)) Rt.2) 8 33 [(0, zA (some o)), (1, zI v1), (2, zI v2), (3, zI v3), (4, zI v4), (5, zI v5), (6, zI v6), (7, zI v7)] [] σ :=
  zlp3_ok (P := fun v5 v6 v7 σ => zG X (zQ X (.inl (eI Rt.1)) Rt.2) 8 33 [(0, zA (some o)), (1, zI v1), (2, zI v2), (3, zI v3), (4, zI v4), (5, zI v5), (6, zI v6), (7, zI v7)] [] σ) (fun rec hr v5 v6 v7 σ h => s_X1_bestDeal_33_b (o := o) hX hrec7 hr h) NN v5 v6 v7 σ h
def f_X1_bestDeal_7_b (o : Nat) (v1 : Int32) (rec7 : Int32 → Int32 → Int32 → zS → Option (Int32 × zS)) (v2 : Int32) (v3 : Int32) (v4 : Int32) (σ : zS) : Option (Int32 × zS) :=
  (gR σ o 0 0).bind fun r1 =>
  r1.bind fun a2 =>
  (gR σ a2 1 10).bind fun r3 =>
  r3.bind fun a4 =>
  zif (zcl σ a4 = 19) <|
  zb2 (f_J2_size a4 σ) fun x6 σ7 =>
  if (1 <<< (x6 &&& 31)) ≤ v4 then
    some (v2, σ7)
  else
    f_X1_bestDeal_33 o rec7 v1 v2 v3 v4 0 0 0 σ7

def f_X1_bestDeal_7 (o : Nat) (v1 : Int32) : Int32 → Int32 → Int32 → zS → Option (Int32 × zS) := zlp3 (f_X1_bestDeal_7_b o v1) NN
set_option maxHeartbeats 4000000 in
theorem s_X1_bestDeal_7_b {X : zX} (hX : zOk X RX1 cX1_bestDeal 8 4 104 (Option.some Jvm.ClassFile.FieldType.int) "bestDeal" []) {o : Nat} {Rt : Int32 × zS} {v1 : Int32} {rec7 : Int32 → Int32 → Int32 → zS → Option (Int32 × zS)} (hrec7 : ∀ (v2 : Int32) (v3 : Int32) (v4 : Int32) (σ : zS), rec7 v2 v3 v4 σ = some Rt → zG X (zQ X (.inl (eI Rt.1)) Rt.2) 8 7 [(0, zA (some o)), (1, zI v1), (2, zI v2), (3, zI v3), (4, zI v4)] [] σ) {v2 : Int32} {v3 : Int32} {v4 : Int32} {σ : zS} (h : f_X1_bestDeal_7_b o v1 rec7 v2 v3 v4 σ = some Rt) : zG X (zQ X (.inl (eI Rt.1)) Rt.2) 8 7 [(0, zA (some o)), (1, zI v1), (2, zI v2), (3, zI v3), (4, zI v4)] [] σ := by
  unfold f_X1_bestDeal_7_b at h
  refine z_iload hX 4 rfl dX1_bestDeal_7 (z_iconst hX (v := 1) (by decide) dX1_bestDeal_9 (z_aload_n hX 0 rfl rfl dX1_bestDeal_10 ?_))
  refine z_getR hX fl_X1_10_0 h dX1_bestDeal_11 (fun r1 h => ?_)
  obtain ⟨a2, e9, k_a2⟩ := z_nn h
  subst e9
  have h := k_a2
  refine z_getR hX fl_X1_101_1 h dX1_bestDeal_14 (fun r3 h => ?_)
  obtain ⟨a4, e9, k_a4⟩ := z_nn h
  subst e9
  have h := k_a4
  obtain ⟨c5, h⟩ := z_ck h
  refine z_cNI hX (rest := [zI 1, zI v4]) h (fun r9 σ9 e9 => z_runV hX lk_X1_59 (c_J2_size hX.tr e9) (ci := 19) zc9_19 c5 ⟨Nat.le_of_ble_eq_true rfl, Nat.le_of_ble_eq_true rfl⟩ rfl (Nat.le_of_ble_eq_true rfl) dX1_bestDeal_17 rfl) (fun x6 σ7 h => ?_)
  refine z_ishl hX dX1_bestDeal_20 ?_
  refine z_icmp_ge (tgt := 163) hX h dX1_bestDeal_21 (by decide) (fun h => ?_) (fun h => ?_)
  · refine z_iload_n hX 2 rfl rfl dX1_bestDeal_163 ?_
    obtain rfl := Option.some.inj h
    exact z_iret hX dX1_bestDeal_164
  · refine z_iconst hX (v := 0) (by decide) dX1_bestDeal_24 (z_istore (L' := [(0, zA (some o)), (1, zI v1), (2, zI v2), (3, zI v3), (4, zI v4), (5, zI 0)]) hX rfl (by decide) dX1_bestDeal_25 (z_iconst hX (v := 0) (by decide) dX1_bestDeal_27 (z_istore (L' := [(0, zA (some o)), (1, zI v1), (2, zI v2), (3, zI v3), (4, zI v4), (5, zI 0), (6, zI 0)]) hX rfl (by decide) dX1_bestDeal_28 (z_iconst hX (v := 0) (by decide) dX1_bestDeal_30 (z_istore (L' := [(0, zA (some o)), (1, zI v1), (2, zI v2), (3, zI v3), (4, zI v4), (5, zI 0), (6, zI 0), (7, zI 0)]) hX rfl (by decide) dX1_bestDeal_31 ?_)))))
    exact z_sub [0, 1, 2, 3, 4, 5, 6, 7] rfl (s_X1_bestDeal_33 (o := o) hX hrec7 h)

theorem s_X1_bestDeal_7 {X : zX} (hX : zOk X RX1 cX1_bestDeal 8 4 104 (Option.some Jvm.ClassFile.FieldType.int) "bestDeal" []) {o : Nat} {Rt : Int32 × zS} {v1 : Int32} {v2 : Int32} {v3 : Int32} {v4 : Int32} {σ : zS} (h : f_X1_bestDeal_7 o v1 v2 v3 v4 σ = some Rt) : zG X (zQ X (.inl (eI Rt.1)) Rt.2) 8 7 [(0, zA (some o)), (1, zI v1), (2, zI v2), (3, zI v3), (4, zI v4)] [] σ :=
  zlp3_ok (P := fun v2 v3 v4 σ => zG X (zQ X (.inl (eI Rt.1)) Rt.2) 8 7 [(0, zA (some o)), (1, zI v1), (2, zI v2), (3, zI v3), (4, zI v4)] [] σ) (fun rec hr v2 v3 v4 σ h => s_X1_bestDeal_7_b (o := o) hX hr h) NN v2 v3 v4 σ h
def f_X1_bestDeal (o : Nat) (p1 : Int32) (σ : zS) : Option (Int32 × zS) :=
  f_X1_bestDeal_7 o p1 (-1) 0 0 σ

set_option maxHeartbeats 4000000 in
theorem s_X1_bestDeal {X : zX} (hX : zOk X RX1 cX1_bestDeal 8 4 104 (Option.some Jvm.ClassFile.FieldType.int) "bestDeal" []) {o : Nat} {p1 : Int32} {σ : zS} {Rt : Int32 × zS} (h : f_X1_bestDeal o p1 σ = some Rt) : zG X (zQ X (.inl (eI Rt.1)) Rt.2) 8 0 [(0, zA (some o)), (1, zI p1)] [] σ := by
  unfold f_X1_bestDeal at h
  refine z_iconst hX (v := (-1)) (by decide) dX1_bestDeal_0 (z_istore_n (L' := [(0, zA (some o)), (1, zI p1), (2, zI (-1))]) hX rfl rfl (by decide) dX1_bestDeal_1 (z_iconst hX (v := 0) (by decide) dX1_bestDeal_2 (z_istore_n (L' := [(0, zA (some o)), (1, zI p1), (2, zI (-1)), (3, zI 0)]) hX rfl rfl (by decide) dX1_bestDeal_3 (z_iconst hX (v := 0) (by decide) dX1_bestDeal_4 (z_istore (L' := [(0, zA (some o)), (1, zI p1), (2, zI (-1)), (3, zI 0), (4, zI 0)]) hX rfl (by decide) dX1_bestDeal_5 ?_)))))
  exact z_sub [0, 1, 2, 3, 4] rfl (s_X1_bestDeal_7 (o := o) hX  h)

theorem c_X1_bestDeal {l : Launch} {D : va_G} {tys : zTy} (hl : l.stackTraces = false) {o : Nat} {p1 : Int32} {σ : zS} {Rt : Int32 × zS} (h : f_X1_bestDeal o p1 σ = some Rt) : zM l D tys yX1_bestDeal (ws_ yX1_bestDeal cX1_bestDeal 8 (Option.some Jvm.ClassFile.FieldType.int)) 4 104 [zA (some o), zI p1] σ (.inl (eI Rt.1)) Rt.2 :=
  zM_in hl rfl (Nat.le_of_ble_eq_true rfl) (fun p e R s m args below meth c hX => z_L rfl (s_X1_bestDeal hX h))
def f_X1_priceOf_4_b (o : Nat) (v1 : Int32) (rec4 : Int32 → Int32 → zS → Option (Int32 × zS)) (v2 : Int32) (v3 : Int32) (σ : zS) : Option (Int32 × zS) :=
  (gR σ o 0 0).bind fun r1 =>
  r1.bind fun a2 =>
  (gR σ a2 1 10).bind fun r3 =>
  r3.bind fun a4 =>
  zif (zcl σ a4 = 19) <|
  zb2 (f_J2_size a4 σ) fun x6 σ7 =>
  if x6 ≤ v3 then
    some (v2, σ7)
  else
    (gR σ7 o 0 0).bind fun r8 =>
    r8.bind fun a9 =>
    (gR σ7 a9 1 10).bind fun r10 =>
    r10.bind fun a11 =>
    zif (zcl σ7 a11 = 19) <|
    zb2 (f_J2_get a11 v3 σ7) fun r13 σ14 =>
    zif (zckC σ14 r13 10 = true) <|
    r13.bind fun a15 =>
    (gI σ14 a15 10 1).bind fun x16 =>
    zl (v2 + (((v1 >>> (v3 &&& 31)) &&& 1) * x16)) fun x17 =>
    zl (v3 + 1) fun x18 =>
    rec4 x17 x18 σ14

def f_X1_priceOf_4 (o : Nat) (v1 : Int32) : Int32 → Int32 → zS → Option (Int32 × zS) := zlp2 (f_X1_priceOf_4_b o v1) NN
set_option maxHeartbeats 4000000 in
theorem s_X1_priceOf_4_b {X : zX} (hX : zOk X RX1 cX1_priceOf 4 4 104 (Option.some Jvm.ClassFile.FieldType.int) "priceOf" []) {o : Nat} {Rt : Int32 × zS} {v1 : Int32} {rec4 : Int32 → Int32 → zS → Option (Int32 × zS)} (hrec4 : ∀ (v2 : Int32) (v3 : Int32) (σ : zS), rec4 v2 v3 σ = some Rt → zG X (zQ X (.inl (eI Rt.1)) Rt.2) 4 4 [(0, zA (some o)), (1, zI v1), (2, zI v2), (3, zI v3)] [] σ) {v2 : Int32} {v3 : Int32} {σ : zS} (h : f_X1_priceOf_4_b o v1 rec4 v2 v3 σ = some Rt) : zG X (zQ X (.inl (eI Rt.1)) Rt.2) 4 4 [(0, zA (some o)), (1, zI v1), (2, zI v2), (3, zI v3)] [] σ := by
  unfold f_X1_priceOf_4_b at h
  refine z_iload_n hX 3 rfl rfl dX1_priceOf_4 (z_aload_n hX 0 rfl rfl dX1_priceOf_5 ?_)
  refine z_getR hX fl_X1_10_0 h dX1_priceOf_6 (fun r1 h => ?_)
  obtain ⟨a2, e9, k_a2⟩ := z_nn h
  subst e9
  have h := k_a2
  refine z_getR hX fl_X1_101_1 h dX1_priceOf_9 (fun r3 h => ?_)
  obtain ⟨a4, e9, k_a4⟩ := z_nn h
  subst e9
  have h := k_a4
  obtain ⟨c5, h⟩ := z_ck h
  refine z_cNI hX (rest := [zI v3]) h (fun r9 σ9 e9 => z_runV hX lk_X1_59 (c_J2_size hX.tr e9) (ci := 19) zc9_19 c5 ⟨Nat.le_of_ble_eq_true rfl, Nat.le_of_ble_eq_true rfl⟩ rfl (Nat.le_of_ble_eq_true rfl) dX1_priceOf_12 rfl) (fun x6 σ7 h => ?_)
  refine z_icmp_ge (tgt := 50) hX h dX1_priceOf_15 (by decide) (fun h => ?_) (fun h => ?_)
  · refine z_iload_n hX 2 rfl rfl dX1_priceOf_50 ?_
    obtain rfl := Option.some.inj h
    exact z_iret hX dX1_priceOf_51
  · refine z_iload_n hX 2 rfl rfl dX1_priceOf_18 (z_iload_n hX 1 rfl rfl dX1_priceOf_19 (z_iload_n hX 3 rfl rfl dX1_priceOf_20 (z_ishr hX dX1_priceOf_21 (z_iconst hX (v := 1) (by decide) dX1_priceOf_22 (z_iand hX dX1_priceOf_23 (z_aload_n hX 0 rfl rfl dX1_priceOf_24 ?_))))))
    refine z_getR hX fl_X1_10_0 h dX1_priceOf_25 (fun r8 h => ?_)
    obtain ⟨a9, e9, k_a9⟩ := z_nn h
    subst e9
    have h := k_a9
    refine z_getR hX fl_X1_101_1 h dX1_priceOf_28 (fun r10 h => ?_)
    refine z_iload_n hX 3 rfl rfl dX1_priceOf_31 ?_
    obtain ⟨a11, e9, k_a11⟩ := z_nn h
    subst e9
    have h := k_a11
    obtain ⟨c12, h⟩ := z_ck h
    refine z_cNA hX (rest := [zI ((v1 >>> (v3 &&& 31)) &&& 1), zI v2]) h (fun r9 σ9 e9 => z_runV hX lk_X1_313 (c_J2_get hX.tr e9) (ci := 19) zc9_19 c12 ⟨Nat.le_of_ble_eq_true rfl, Nat.le_of_ble_eq_true rfl⟩ rfl (Nat.le_of_ble_eq_true rfl) dX1_priceOf_32 rfl) (fun r13 σ14 h => ?_)
    refine z_castC hX (ci := 10) rfl q1140 h dX1_priceOf_35 (fun h => ?_)
    obtain ⟨a15, e9, k_a15⟩ := z_nn h
    subst e9
    have h := k_a15
    refine z_getI hX fl_X1_446_10 h dX1_priceOf_38 (fun x16 h => ?_)
    refine z_imul hX dX1_priceOf_41 (z_iadd hX dX1_priceOf_42 ?_)
    refine z_nmI h (fun x17 h => ?_)
    refine z_istore_n (L' := [(0, zA (some o)), (1, zI v1), (2, zI x17), (3, zI v3)]) hX rfl rfl (by decide) dX1_priceOf_43 ?_
    refine z_iinc hX (j := 3) h rfl (by decide) (by decide) dX1_priceOf_44 (fun x18 h => z_L (L' := [(0, zA (some o)), (1, zI v1), (2, zI x17), (3, zI x18)]) rfl ?_)
    refine z_goto (tgt := 4) hX dX1_priceOf_47 (by decide) ?_
    exact z_sub [0, 1, 2, 3] rfl (hrec4 _ _ _ h)

theorem s_X1_priceOf_4 {X : zX} (hX : zOk X RX1 cX1_priceOf 4 4 104 (Option.some Jvm.ClassFile.FieldType.int) "priceOf" []) {o : Nat} {Rt : Int32 × zS} {v1 : Int32} {v2 : Int32} {v3 : Int32} {σ : zS} (h : f_X1_priceOf_4 o v1 v2 v3 σ = some Rt) : zG X (zQ X (.inl (eI Rt.1)) Rt.2) 4 4 [(0, zA (some o)), (1, zI v1), (2, zI v2), (3, zI v3)] [] σ :=
  zlp2_ok (P := fun v2 v3 σ => zG X (zQ X (.inl (eI Rt.1)) Rt.2) 4 4 [(0, zA (some o)), (1, zI v1), (2, zI v2), (3, zI v3)] [] σ) (fun rec hr v2 v3 σ h => s_X1_priceOf_4_b (o := o) hX hr h) NN v2 v3 σ h
def f_X1_priceOf (o : Nat) (p1 : Int32) (σ : zS) : Option (Int32 × zS) :=
  f_X1_priceOf_4 o p1 0 0 σ

set_option maxHeartbeats 4000000 in
theorem s_X1_priceOf {X : zX} (hX : zOk X RX1 cX1_priceOf 4 4 104 (Option.some Jvm.ClassFile.FieldType.int) "priceOf" []) {o : Nat} {p1 : Int32} {σ : zS} {Rt : Int32 × zS} (h : f_X1_priceOf o p1 σ = some Rt) : zG X (zQ X (.inl (eI Rt.1)) Rt.2) 4 0 [(0, zA (some o)), (1, zI p1)] [] σ := by
  unfold f_X1_priceOf at h
  refine z_iconst hX (v := 0) (by decide) dX1_priceOf_0 (z_istore_n (L' := [(0, zA (some o)), (1, zI p1), (2, zI 0)]) hX rfl rfl (by decide) dX1_priceOf_1 (z_iconst hX (v := 0) (by decide) dX1_priceOf_2 (z_istore_n (L' := [(0, zA (some o)), (1, zI p1), (2, zI 0), (3, zI 0)]) hX rfl rfl (by decide) dX1_priceOf_3 ?_)))
  exact z_sub [0, 1, 2, 3] rfl (s_X1_priceOf_4 (o := o) hX  h)

theorem c_X1_priceOf {l : Launch} {D : va_G} {tys : zTy} (hl : l.stackTraces = false) {o : Nat} {p1 : Int32} {σ : zS} {Rt : Int32 × zS} (h : f_X1_priceOf o p1 σ = some Rt) : zM l D tys yX1_priceOf (ws_ yX1_priceOf cX1_priceOf 4 (Option.some Jvm.ClassFile.FieldType.int)) 4 104 [zA (some o), zI p1] σ (.inl (eI Rt.1)) Rt.2 :=
  zM_in hl rfl (Nat.le_of_ble_eq_true rfl) (fun p e R s m args below meth c hX => z_L rfl (s_X1_priceOf hX h))
def f_X1_deal (o : Nat) (p1 : Int32) (p2 : Int32) (σ : zS) : Option ((Int32 ⊕ Nat) × zS) :=
  zif (zcl σ o = 0) <|
  zbt (f_X1_houseAt o p1 σ) (fun k9 σ9 => some (.inr k9, σ9)) fun _ σ3 =>
  (gR σ3 o 0 0).bind fun r4 =>
  r4.bind fun a5 =>
  (gR σ3 a5 1 7).bind fun r6 =>
  r6.bind fun a7 =>
  (lI σ3 a7 0 p1).bind fun x8 =>
  zif (zcl σ3 o = 0) <|
  zb2 (f_X1_bestDeal o x8 σ3) fun x10 σ11 =>
  if x10 = (-1) then
    some (.inl x10, σ11)
  else
    if p2 = 0 then
      zif (zcl σ11 o = 0) <|
      zb2 (f_X1_priceOf o x10 σ11) fun x13 σ14 =>
      some (.inl x13, σ14)
    else
      some (.inl x10, σ11)

set_option maxHeartbeats 4000000 in
theorem s_X1_deal {X : zX} (hX : zOk X RX1 cX1_deal 4 9 152 (Option.some Jvm.ClassFile.FieldType.int) "deal" []) {o : Nat} {p1 : Int32} {p2 : Int32} {σ : zS} {Rt : (Int32 ⊕ Nat) × zS} (h : f_X1_deal o p1 p2 σ = some Rt) : zG X (zQ X (zot eI Rt.1) Rt.2) 4 0 [(0, zA (some o)), (1, zI p1), (2, zI p2)] [] σ := by
  unfold f_X1_deal at h
  refine z_aload_n hX 0 rfl rfl dX1_deal_0 (z_iload_n hX 1 rfl rfl dX1_deal_1 ?_)
  obtain ⟨c1, h⟩ := z_ck h
  refine z_cTU hX (rest := []) h (fun r9 σ9 e9 => z_runV hX lk_X1_363 (c_X1_houseAt hX.tr e9) (ci := 0) zc9_0 c1 ⟨Nat.le_of_ble_eq_true rfl, Nat.le_of_ble_eq_true rfl⟩ rfl (Nat.le_of_ble_eq_true rfl) dX1_deal_2 rfl) (fun k9 σ9 h => z_prop hX h (fun x hx => nomatch hx)) (fun _ σ3 h => ?_)
  refine z_aload_n hX 0 rfl rfl dX1_deal_5 (z_aload_n hX 0 rfl rfl dX1_deal_6 ?_)
  refine z_getR hX fl_X1_10_0 h dX1_deal_7 (fun r4 h => ?_)
  obtain ⟨a5, e9, k_a5⟩ := z_nn h
  subst e9
  have h := k_a5
  refine z_getR hX fl_X1_137_1 h dX1_deal_10 (fun r6 h => ?_)
  refine z_iload_n hX 1 rfl rfl dX1_deal_13 ?_
  obtain ⟨a7, e9, k_a7⟩ := z_nn h
  subst e9
  have h := k_a7
  refine z_iald hX h dX1_deal_14 (fun x8 h => ?_)
  obtain ⟨c9, h⟩ := z_ck h
  refine z_cNI hX (rest := []) h (fun r9 σ9 e9 => z_runV hX lk_X1_454 (c_X1_bestDeal hX.tr e9) (ci := 0) zc9_0 c9 ⟨Nat.le_of_ble_eq_true rfl, Nat.le_of_ble_eq_true rfl⟩ rfl (Nat.le_of_ble_eq_true rfl) dX1_deal_15 rfl) (fun x10 σ11 h => ?_)
  refine z_istore_n (L' := [(0, zA (some o)), (1, zI p1), (2, zI p2), (3, zI x10)]) hX rfl rfl (by decide) dX1_deal_18 (z_iload_n hX 3 rfl rfl dX1_deal_19 (z_iconst hX (v := (-1)) (by decide) dX1_deal_20 ?_))
  refine z_icmp_eq (tgt := 28) hX h dX1_deal_21 (by decide) (fun h => ?_) (fun h => ?_)
  · refine z_iload_n hX 3 rfl rfl dX1_deal_28 (z_goto (tgt := 37) hX dX1_deal_29 (by decide) ?_)
    obtain rfl := Option.some.inj h
    exact z_iret hX dX1_deal_37
  · refine z_iload_n hX 2 rfl rfl dX1_deal_24 ?_
    refine z_if_eq (tgt := 32) hX h dX1_deal_25 (by decide) (fun h => ?_) (fun h => ?_)
    · refine z_aload_n hX 0 rfl rfl dX1_deal_32 (z_iload_n hX 3 rfl rfl dX1_deal_33 ?_)
      obtain ⟨c12, h⟩ := z_ck h
      refine z_cNI hX (rest := []) h (fun r9 σ9 e9 => z_runV hX lk_X1_457 (c_X1_priceOf hX.tr e9) (ci := 0) zc9_0 c12 ⟨Nat.le_of_ble_eq_true rfl, Nat.le_of_ble_eq_true rfl⟩ rfl (Nat.le_of_ble_eq_true rfl) dX1_deal_34 rfl) (fun x13 σ14 h => ?_)
      obtain rfl := Option.some.inj h
      exact z_iret hX dX1_deal_37
    · refine z_iload_n hX 3 rfl rfl dX1_deal_28 (z_goto (tgt := 37) hX dX1_deal_29 (by decide) ?_)
      obtain rfl := Option.some.inj h
      exact z_iret hX dX1_deal_37

theorem c_X1_deal {l : Launch} {D : va_G} {tys : zTy} (hl : l.stackTraces = false) {o : Nat} {p1 : Int32} {p2 : Int32} {σ : zS} {Rt : (Int32 ⊕ Nat) × zS} (h : f_X1_deal o p1 p2 σ = some Rt) : zM l D tys yX1_deal (ws_ yX1_deal cX1_deal 4 (Option.some Jvm.ClassFile.FieldType.int)) 9 152 [zA (some o), zI p1, zI p2] σ (zot eI Rt.1) Rt.2 :=
  zM_in hl rfl (Nat.le_of_ble_eq_true rfl) (fun p e R s m args below meth c hX => z_L rfl (s_X1_deal hX h))
def f_X0_deal (p1 : Option Nat) (p2 : Int32) (p3 : Int32) (p4 : Option Nat) (σ : zS) : Option (Int32 × zS) :=
  p1.bind fun a1 =>
  zif (zcl σ a1 = 0) <|
  zbt (f_X1_deal a1 p2 p3 σ) (fun k9 σ9 =>
    if k9 = 2 then
      some ((1 : Int32), σ9)
    else
    none
  ) fun x3 σ4 =>
  p4.bind fun a5 =>
  (sJ σ4 a5 0 x3.toInt64).bind fun σ6 =>
  some ((0 : Int32), σ6)

set_option maxHeartbeats 4000000 in
theorem s_X0_deal {X : zX} (hX : zOk X RX0 cX0_deal 5 10 175 (Option.some Jvm.ClassFile.FieldType.int) "deal" (tableOf [(0, 10, 13, 24)])) {p1 : Option Nat} {p2 : Int32} {p3 : Int32} {p4 : Option Nat} {σ : zS} {Rt : Int32 × zS} (h : f_X0_deal p1 p2 p3 p4 σ = some Rt) : zG X (zQ X (.inl (eI Rt.1)) Rt.2) 5 0 [(0, zA p1), (1, zI p2), (2, zI p3), (3, zA p4)] [] σ := by
  unfold f_X0_deal at h
  refine z_aload_n hX 3 rfl rfl dX0_deal_0 (z_iconst hX (v := 0) (by decide) dX0_deal_1 (z_aload_n hX 0 rfl rfl dX0_deal_2 (z_iload_n hX 1 rfl rfl dX0_deal_3 (z_iload_n hX 2 rfl rfl dX0_deal_4 ?_))))
  obtain ⟨a1, e9, k_a1⟩ := z_nn h
  subst e9
  have h := k_a1
  obtain ⟨c2, h⟩ := z_ck h
  refine z_cTI hX (rest := [zI 0, zA p4]) h (fun r9 σ9 e9 => z_runV hX lk_X0_63 (c_X1_deal hX.tr e9) (ci := 0) zc9_0 c2 ⟨Nat.le_of_ble_eq_true rfl, Nat.le_of_ble_eq_true rfl⟩ rfl (Nat.le_of_ble_eq_true rfl) dX0_deal_5 rfl) (fun k9 σ9 h => ?_) (fun x3 σ4 h => ?_)
  · rcases z_ite h with ⟨e9, k_σ4_2⟩ | ⟨-, h⟩
    · subst e9
      have h := k_σ4_2
      refine z_catch hX (k := 2) (nmC := "java/lang/IndexOutOfBoundsException") [] ⟨0, 10, 13, 24⟩ [] rfl (fun z hz => nomatch hz) rfl (by decide) q1381 (zNw_of q1415 rfl) (fun q9 => ?_)
      refine z_astore (L' := [(0, zA (some a1)), (1, zI p2), (2, zI p3), (3, zA p4), (4, zA (some q9))]) hX rfl (by decide) dX0_deal_13 (z_iconst hX (v := 1) (by decide) dX0_deal_15 ?_)
      obtain rfl := Option.some.inj h
      exact z_iret hX dX0_deal_16
    cases h
  refine z_i2l hX dX0_deal_8 ?_
  obtain ⟨a5, e9, k_a5⟩ := z_nn h
  subst e9
  have h := k_a5
  refine z_last hX h dX0_deal_9 (fun σ6 h => ?_)
  refine z_goto (tgt := 17) hX dX0_deal_10 (by decide) (z_iconst hX (v := 0) (by decide) dX0_deal_17 ?_)
  obtain rfl := Option.some.inj h
  exact z_iret hX dX0_deal_18

theorem c_X0_deal {l : Launch} {D : va_G} {tys : zTy} (hl : l.stackTraces = false) {p1 : Option Nat} {p2 : Int32} {p3 : Int32} {p4 : Option Nat} {σ : zS} {Rt : Int32 × zS} (h : f_X0_deal p1 p2 p3 p4 σ = some Rt) : zM l D tys yX0_deal (wsW_ yX0_deal cX0_deal 5 (Option.some Jvm.ClassFile.FieldType.int) [(0, 10, 13, 24)]) 10 175 [zA p1, zI p2, zI p3, zA p4] σ (.inl (eI Rt.1)) Rt.2 :=
  zM_inW hl rfl (Nat.le_of_ble_eq_true rfl) (fun p e R s m args below meth c hX => z_L rfl (s_X0_deal hX h))
def f_X5_begins_151_b (o : Nat) (rec131 : Int32 → zS → Option (Unit × zS)) (v3 : Int32) (rec151 : Int32 → zS → Option (Unit × zS)) (v4 : Int32) (σ : zS) : Option (Unit × zS) :=
  (gI σ o 4 4).bind fun x22 =>
  if x22 ≤ v4 then
    zl (v3 + 1) fun x23 =>
    rec131 x23 σ
  else
    (gR σ o 4 1).bind fun r24 =>
    r24.bind fun a25 =>
    (lI σ a25 0 v3).bind fun x26 =>
    (gR σ o 4 0).bind fun r27 =>
    r27.bind fun a28 =>
    (lI σ a28 0 v4).bind fun x29 =>
    (sI σ a25 v3 (x26 + (((v3 >>> (v4 &&& 31)) &&& 1) * x29))).bind fun σ30 =>
    zl (v4 + 1) fun x31 =>
    rec151 x31 σ30

def f_X5_begins_151 (o : Nat) (rec131 : Int32 → zS → Option (Unit × zS)) (v3 : Int32) : Int32 → zS → Option (Unit × zS) := zlp1 (f_X5_begins_151_b o rec131 v3) NN
set_option maxHeartbeats 4000000 in
theorem s_X5_begins_151_b {X : zX} (hX : zOk X RX5 cX5_begins 5 103 2612 (Option.none : Option Jvm.ClassFile.FieldType) "begins" []) {o : Nat} {Rt : Unit × zS} {rec131 : Int32 → zS → Option (Unit × zS)} {v3 : Int32} (hrec131 : ∀ (v3 : Int32) (σ : zS), rec131 v3 σ = some Rt → zG X (zQ X (.inl (eU Rt.1)) Rt.2) 5 131 [(0, zA (some o)), (3, zI v3)] [] σ) {rec151 : Int32 → zS → Option (Unit × zS)} (hrec151 : ∀ (v4 : Int32) (σ : zS), rec151 v4 σ = some Rt → zG X (zQ X (.inl (eU Rt.1)) Rt.2) 5 151 [(0, zA (some o)), (3, zI v3), (4, zI v4)] [] σ) {v4 : Int32} {σ : zS} (h : f_X5_begins_151_b o rec131 v3 rec151 v4 σ = some Rt) : zG X (zQ X (.inl (eU Rt.1)) Rt.2) 5 151 [(0, zA (some o)), (3, zI v3), (4, zI v4)] [] σ := by
  unfold f_X5_begins_151_b at h
  refine z_iload hX 2 rfl dX5_begins_151 (z_aload_n hX 0 rfl rfl dX5_begins_153 ?_)
  refine z_getI hX fl_X5_28_4 h dX5_begins_154 (fun x22 h => ?_)
  refine z_icmp_ge (tgt := 189) hX h dX5_begins_157 (by decide) (fun h => ?_) (fun h => ?_)
  · refine z_iinc hX (j := 1) h rfl (by decide) (by decide) dX5_begins_189 (fun x23 h => z_L (L' := [(0, zA (some o)), (3, zI x23), (4, zI v4)]) rfl ?_)
    refine z_goto (tgt := 131) hX dX5_begins_192 (by decide) ?_
    exact z_sub [0, 1] rfl (hrec131 _ _ h)
  · refine z_aload_n hX 0 rfl rfl dX5_begins_160 ?_
    refine z_getR hX fl_X5_19_4 h dX5_begins_161 (fun r24 h => ?_)
    refine z_iload_n hX 1 rfl rfl dX5_begins_164 (z_dup2 hX rfl rfl dX5_begins_165 ?_)
    obtain ⟨a25, e9, k_a25⟩ := z_nn h
    subst e9
    have h := k_a25
    refine z_iald hX h dX5_begins_166 (fun x26 h => ?_)
    refine z_iload_n hX 1 rfl rfl dX5_begins_167 (z_iload hX 2 rfl dX5_begins_168 (z_ishr hX dX5_begins_170 (z_iconst hX (v := 1) (by decide) dX5_begins_171 (z_iand hX dX5_begins_172 (z_aload_n hX 0 rfl rfl dX5_begins_173 ?_)))))
    refine z_getR hX fl_X5_15_4 h dX5_begins_174 (fun r27 h => ?_)
    refine z_iload hX 2 rfl dX5_begins_177 ?_
    obtain ⟨a28, e9, k_a28⟩ := z_nn h
    subst e9
    have h := k_a28
    refine z_iald hX h dX5_begins_179 (fun x29 h => ?_)
    refine z_imul hX dX5_begins_180 (z_iadd hX dX5_begins_181 ?_)
    refine z_iast hX h dX5_begins_182 (fun σ30 h => ?_)
    refine z_iinc hX (j := 2) h rfl (by decide) (by decide) dX5_begins_183 (fun x31 h => z_L (L' := [(0, zA (some o)), (3, zI v3), (4, zI x31)]) rfl ?_)
    refine z_goto (tgt := 151) hX dX5_begins_186 (by decide) ?_
    exact z_sub [0, 1, 2] rfl (hrec151 _ _ h)

theorem s_X5_begins_151 {X : zX} (hX : zOk X RX5 cX5_begins 5 103 2612 (Option.none : Option Jvm.ClassFile.FieldType) "begins" []) {o : Nat} {Rt : Unit × zS} {rec131 : Int32 → zS → Option (Unit × zS)} {v3 : Int32} (hrec131 : ∀ (v3 : Int32) (σ : zS), rec131 v3 σ = some Rt → zG X (zQ X (.inl (eU Rt.1)) Rt.2) 5 131 [(0, zA (some o)), (3, zI v3)] [] σ) {v4 : Int32} {σ : zS} (h : f_X5_begins_151 o rec131 v3 v4 σ = some Rt) : zG X (zQ X (.inl (eU Rt.1)) Rt.2) 5 151 [(0, zA (some o)), (3, zI v3), (4, zI v4)] [] σ :=
  zlp1_ok (P := fun v4 σ => zG X (zQ X (.inl (eU Rt.1)) Rt.2) 5 151 [(0, zA (some o)), (3, zI v3), (4, zI v4)] [] σ) (fun rec hr v4 σ h => s_X5_begins_151_b (o := o) hX hrec131 hr h) NN v4 σ h
def f_X5_begins_131_b (o : Nat) (rec131 : Int32 → zS → Option (Unit × zS)) (v3 : Int32) (σ : zS) : Option (Unit × zS) :=
  (gI σ o 4 4).bind fun x18 =>
  if (1 <<< (x18 &&& 31)) ≤ v3 then
    some ((), σ)
  else
    (gR σ o 4 1).bind fun r19 =>
    r19.bind fun a20 =>
    (sI σ a20 v3 0).bind fun σ21 =>
    f_X5_begins_151 o rec131 v3 0 σ21

def f_X5_begins_131 (o : Nat) : Int32 → zS → Option (Unit × zS) := zlp1 (f_X5_begins_131_b o) NN
set_option maxHeartbeats 4000000 in
theorem s_X5_begins_131_b {X : zX} (hX : zOk X RX5 cX5_begins 5 103 2612 (Option.none : Option Jvm.ClassFile.FieldType) "begins" []) {o : Nat} {Rt : Unit × zS} {rec131 : Int32 → zS → Option (Unit × zS)} (hrec131 : ∀ (v3 : Int32) (σ : zS), rec131 v3 σ = some Rt → zG X (zQ X (.inl (eU Rt.1)) Rt.2) 5 131 [(0, zA (some o)), (3, zI v3)] [] σ) {v3 : Int32} {σ : zS} (h : f_X5_begins_131_b o rec131 v3 σ = some Rt) : zG X (zQ X (.inl (eU Rt.1)) Rt.2) 5 131 [(0, zA (some o)), (3, zI v3)] [] σ := by
  unfold f_X5_begins_131_b at h
  refine z_iload_n hX 1 rfl rfl dX5_begins_131 (z_iconst hX (v := 1) (by decide) dX5_begins_132 (z_aload_n hX 0 rfl rfl dX5_begins_133 ?_))
  refine z_getI hX fl_X5_28_4 h dX5_begins_134 (fun x18 h => ?_)
  refine z_ishl hX dX5_begins_137 ?_
  refine z_icmp_ge (tgt := 195) hX h dX5_begins_138 (by decide) (fun h => ?_) (fun h => ?_)
  · obtain rfl := Option.some.inj h
    exact z_vret hX dX5_begins_195
  · refine z_aload_n hX 0 rfl rfl dX5_begins_141 ?_
    refine z_getR hX fl_X5_19_4 h dX5_begins_142 (fun r19 h => ?_)
    refine z_iload_n hX 1 rfl rfl dX5_begins_145 (z_iconst hX (v := 0) (by decide) dX5_begins_146 ?_)
    obtain ⟨a20, e9, k_a20⟩ := z_nn h
    subst e9
    have h := k_a20
    refine z_iast hX h dX5_begins_147 (fun σ21 h => ?_)
    refine z_iconst hX (v := 0) (by decide) dX5_begins_148 (z_istore (L' := [(0, zA (some o)), (3, zI v3), (4, zI 0)]) hX rfl (by decide) dX5_begins_149 ?_)
    exact z_sub [0, 1, 2] rfl (s_X5_begins_151 (o := o) hX hrec131 h)

theorem s_X5_begins_131 {X : zX} (hX : zOk X RX5 cX5_begins 5 103 2612 (Option.none : Option Jvm.ClassFile.FieldType) "begins" []) {o : Nat} {Rt : Unit × zS} {v3 : Int32} {σ : zS} (h : f_X5_begins_131 o v3 σ = some Rt) : zG X (zQ X (.inl (eU Rt.1)) Rt.2) 5 131 [(0, zA (some o)), (3, zI v3)] [] σ :=
  zlp1_ok (P := fun v3 σ => zG X (zQ X (.inl (eU Rt.1)) Rt.2) 5 131 [(0, zA (some o)), (3, zI v3)] [] σ) (fun rec hr v3 σ h => s_X5_begins_131_b (o := o) hX hr h) NN v3 σ h
def f_X5_begins_129 (o : Nat) (σ : zS) : Option (Unit × zS) :=
  f_X5_begins_131 o 0 σ

set_option maxHeartbeats 4000000 in
theorem s_X5_begins_129 {X : zX} (hX : zOk X RX5 cX5_begins 5 103 2612 (Option.none : Option Jvm.ClassFile.FieldType) "begins" []) {o : Nat} {Rt : Unit × zS} {σ : zS} (h : f_X5_begins_129 o σ = some Rt) : zG X (zQ X (.inl (eU Rt.1)) Rt.2) 5 129 [(0, zA (some o))] [] σ := by
  unfold f_X5_begins_129 at h
  refine z_iconst hX (v := 0) (by decide) dX5_begins_129 (z_istore_n (L' := [(0, zA (some o)), (3, zI 0)]) hX rfl rfl (by decide) dX5_begins_130 ?_)
  exact z_sub [0, 1] rfl (s_X5_begins_131 (o := o) hX  h)

def f_X5_begins_123 (o : Nat) (rec28 : Int32 → zS → Option (Unit × zS)) (v1 : Int32) (v3 : Int32) (σ : zS) : Option (Unit × zS) :=
  zl (v3 + 1) fun x64 =>
  rec28 x64 σ

set_option maxHeartbeats 4000000 in
theorem s_X5_begins_123 {X : zX} (hX : zOk X RX5 cX5_begins 5 103 2612 (Option.none : Option Jvm.ClassFile.FieldType) "begins" []) {o : Nat} {Rt : Unit × zS} {rec28 : Int32 → zS → Option (Unit × zS)} {v1 : Int32} {v3 : Int32} (hrec28 : ∀ (v3 : Int32) (σ : zS), rec28 v3 σ = some Rt → zG X (zQ X (.inl (eU Rt.1)) Rt.2) 5 28 [(0, zA (some o)), (1, zI v1), (3, zI v3)] [] σ) {σ : zS} (h : f_X5_begins_123 o rec28 v1 v3 σ = some Rt) : zG X (zQ X (.inl (eU Rt.1)) Rt.2) 5 123 [(0, zA (some o)), (1, zI v1), (3, zI v3)] [] σ := by
  unfold f_X5_begins_123 at h
  refine z_iinc hX (j := 2) h rfl (by decide) (by decide) dX5_begins_123 (fun x64 h => z_L (L' := [(0, zA (some o)), (1, zI v1), (3, zI x64)]) rfl ?_)
  refine z_goto (tgt := 28) hX dX5_begins_126 (by decide) ?_
  exact z_sub [0, 1, 2] rfl (hrec28 _ _ h)

def f_X5_begins_28_b (o : Nat) (v1 : Int32) (rec28 : Int32 → zS → Option (Unit × zS)) (v3 : Int32) (σ : zS) : Option (Unit × zS) :=
  (gR σ o 4 8).bind fun r9 =>
  r9.bind fun a10 =>
  (gR σ a10 0 0).bind fun r11 =>
  r11.bind fun a12 =>
  (gR σ a12 1 8).bind fun r13 =>
  r13.bind fun a14 =>
  zif (zcl σ a14 = 19) <|
  zb2 (f_J2_size a14 σ) fun x16 σ17 =>
  if x16 ≤ v3 then
    f_X5_begins_129 o σ17
  else
    (gI σ17 o 4 4).bind fun x32 =>
    if 6 ≤ x32 then
      f_X5_begins_129 o σ17
    else
      (gR σ17 o 4 8).bind fun r33 =>
      r33.bind fun a34 =>
      (gR σ17 a34 0 0).bind fun r35 =>
      r35.bind fun a36 =>
      (gR σ17 a36 1 8).bind fun r37 =>
      r37.bind fun a38 =>
      zif (zcl σ17 a38 = 19) <|
      zb2 (f_J2_get a38 v3 σ17) fun r40 σ41 =>
      zif (zckC σ41 r40 6 = true) <|
      r40.bind fun a42 =>
      (gI σ41 a42 6 3).bind fun x43 =>
      if x43 = v1 then
        (gR σ41 o 4 0).bind fun r44 =>
        (gI σ41 o 4 4).bind fun x45 =>
        (gR σ41 o 4 8).bind fun r46 =>
        (gR σ41 o 4 8).bind fun r47 =>
        r47.bind fun a48 =>
        (gR σ41 a48 0 0).bind fun r49 =>
        r49.bind fun a50 =>
        (gR σ41 a50 1 9).bind fun r51 =>
        r51.bind fun a52 =>
        zif (zcl σ41 a52 = 19) <|
        zb2 (f_J2_size a52 σ41) fun x54 σ55 =>
        r46.bind fun a56 =>
        zif (zcl σ55 a56 = 0) <|
        zb2 (f_X1_counted a56 v3 v1 x54 0 σ55) fun x58 σ59 =>
        r44.bind fun a60 =>
        (sI σ59 a60 x45 x58).bind fun σ61 =>
        (gI σ61 o 4 4).bind fun x62 =>
        (pI σ61 o 4 4 (x62 + 1)).bind fun σ63 =>
        f_X5_begins_123 o rec28 v1 v3 σ63
      else
        f_X5_begins_123 o rec28 v1 v3 σ41

def f_X5_begins_28 (o : Nat) (v1 : Int32) : Int32 → zS → Option (Unit × zS) := zlp1 (f_X5_begins_28_b o v1) NN
set_option maxHeartbeats 4000000 in
theorem s_X5_begins_28_b {X : zX} (hX : zOk X RX5 cX5_begins 5 103 2612 (Option.none : Option Jvm.ClassFile.FieldType) "begins" []) {o : Nat} {Rt : Unit × zS} {v1 : Int32} {rec28 : Int32 → zS → Option (Unit × zS)} (hrec28 : ∀ (v3 : Int32) (σ : zS), rec28 v3 σ = some Rt → zG X (zQ X (.inl (eU Rt.1)) Rt.2) 5 28 [(0, zA (some o)), (1, zI v1), (3, zI v3)] [] σ) {v3 : Int32} {σ : zS} (h : f_X5_begins_28_b o v1 rec28 v3 σ = some Rt) : zG X (zQ X (.inl (eU Rt.1)) Rt.2) 5 28 [(0, zA (some o)), (1, zI v1), (3, zI v3)] [] σ := by
  unfold f_X5_begins_28_b at h
  refine z_iload_n hX 2 rfl rfl dX5_begins_28 (z_aload_n hX 0 rfl rfl dX5_begins_29 ?_)
  refine z_getR hX fl_X5_3_4 h dX5_begins_30 (fun r9 h => ?_)
  obtain ⟨a10, e9, k_a10⟩ := z_nn h
  subst e9
  have h := k_a10
  refine z_getR hX fl_X5_32_0 h dX5_begins_33 (fun r11 h => ?_)
  obtain ⟨a12, e9, k_a12⟩ := z_nn h
  subst e9
  have h := k_a12
  refine z_getR hX fl_X5_47_1 h dX5_begins_36 (fun r13 h => ?_)
  obtain ⟨a14, e9, k_a14⟩ := z_nn h
  subst e9
  have h := k_a14
  obtain ⟨c15, h⟩ := z_ck h
  refine z_cNI hX (rest := [zI v3]) h (fun r9 σ9 e9 => z_runV hX lk_X5_51 (c_J2_size hX.tr e9) (ci := 19) zc9_19 c15 ⟨Nat.le_of_ble_eq_true rfl, Nat.le_of_ble_eq_true rfl⟩ rfl (Nat.le_of_ble_eq_true rfl) dX5_begins_39 rfl) (fun x16 σ17 h => ?_)
  refine z_icmp_ge (tgt := 129) hX h dX5_begins_42 (by decide) (fun h => ?_) (fun h => ?_)
  · exact z_sub [0] rfl (s_X5_begins_129 (o := o) hX  h)
  · refine z_aload_n hX 0 rfl rfl dX5_begins_45 ?_
    refine z_getI hX fl_X5_28_4 h dX5_begins_46 (fun x32 h => ?_)
    refine z_bipush hX (v := 6) (by decide) dX5_begins_49 ?_
    refine z_icmp_ge (tgt := 129) hX h dX5_begins_51 (by decide) (fun h => ?_) (fun h => ?_)
    · exact z_sub [0] rfl (s_X5_begins_129 (o := o) hX  h)
    · refine z_aload_n hX 0 rfl rfl dX5_begins_54 ?_
      refine z_getR hX fl_X5_3_4 h dX5_begins_55 (fun r33 h => ?_)
      obtain ⟨a34, e9, k_a34⟩ := z_nn h
      subst e9
      have h := k_a34
      refine z_getR hX fl_X5_32_0 h dX5_begins_58 (fun r35 h => ?_)
      obtain ⟨a36, e9, k_a36⟩ := z_nn h
      subst e9
      have h := k_a36
      refine z_getR hX fl_X5_47_1 h dX5_begins_61 (fun r37 h => ?_)
      refine z_iload_n hX 2 rfl rfl dX5_begins_64 ?_
      obtain ⟨a38, e9, k_a38⟩ := z_nn h
      subst e9
      have h := k_a38
      obtain ⟨c39, h⟩ := z_ck h
      refine z_cNA hX (rest := []) h (fun r9 σ9 e9 => z_runV hX lk_X5_57 (c_J2_get hX.tr e9) (ci := 19) zc9_19 c39 ⟨Nat.le_of_ble_eq_true rfl, Nat.le_of_ble_eq_true rfl⟩ rfl (Nat.le_of_ble_eq_true rfl) dX5_begins_65 rfl) (fun r40 σ41 h => ?_)
      refine z_castC hX (ci := 6) rfl q1681 h dX5_begins_68 (fun h => ?_)
      obtain ⟨a42, e9, k_a42⟩ := z_nn h
      subst e9
      have h := k_a42
      refine z_getI hX fl_X5_63_6 h dX5_begins_71 (fun x43 h => ?_)
      refine z_iload_n hX 1 rfl rfl dX5_begins_74 ?_
      refine z_icmp_eq (tgt := 81) hX h dX5_begins_75 (by decide) (fun h => ?_) (fun h => ?_)
      · refine z_aload_n hX 0 rfl rfl dX5_begins_81 ?_
        refine z_getR hX fl_X5_15_4 h dX5_begins_82 (fun r44 h => ?_)
        refine z_aload_n hX 0 rfl rfl dX5_begins_85 ?_
        refine z_getI hX fl_X5_28_4 h dX5_begins_86 (fun x45 h => ?_)
        refine z_aload_n hX 0 rfl rfl dX5_begins_89 ?_
        refine z_getR hX fl_X5_3_4 h dX5_begins_90 (fun r46 h => ?_)
        refine z_iload_n hX 2 rfl rfl dX5_begins_93 (z_iload_n hX 1 rfl rfl dX5_begins_94 (z_aload_n hX 0 rfl rfl dX5_begins_95 ?_))
        refine z_getR hX fl_X5_3_4 h dX5_begins_96 (fun r47 h => ?_)
        obtain ⟨a48, e9, k_a48⟩ := z_nn h
        subst e9
        have h := k_a48
        refine z_getR hX fl_X5_32_0 h dX5_begins_99 (fun r49 h => ?_)
        obtain ⟨a50, e9, k_a50⟩ := z_nn h
        subst e9
        have h := k_a50
        refine z_getR hX fl_X5_66_1 h dX5_begins_102 (fun r51 h => ?_)
        obtain ⟨a52, e9, k_a52⟩ := z_nn h
        subst e9
        have h := k_a52
        obtain ⟨c53, h⟩ := z_ck h
        refine z_cNI hX (rest := [zI v1, zI v3, zA r46, zI x45, zA r44]) h (fun r9 σ9 e9 => z_runV hX lk_X5_51 (c_J2_size hX.tr e9) (ci := 19) zc9_19 c53 ⟨Nat.le_of_ble_eq_true rfl, Nat.le_of_ble_eq_true rfl⟩ rfl (Nat.le_of_ble_eq_true rfl) dX5_begins_105 rfl) (fun x54 σ55 h => ?_)
        refine z_iconst hX (v := 0) (by decide) dX5_begins_108 ?_
        obtain ⟨a56, e9, k_a56⟩ := z_nn h
        subst e9
        have h := k_a56
        obtain ⟨c57, h⟩ := z_ck h
        refine z_cNI hX (rest := [zI x45, zA r44]) h (fun r9 σ9 e9 => z_runVN hX lk_X5_69 (c_X1_counted hX.tr e9) (ci := 0) zc9_0 c57 ⟨Nat.le_of_ble_eq_true rfl, Nat.le_of_ble_eq_true rfl⟩ rfl (Nat.le_of_ble_eq_true rfl) dX5_begins_109 rfl) (fun x58 σ59 h => ?_)
        obtain ⟨a60, e9, k_a60⟩ := z_nn h
        subst e9
        have h := k_a60
        refine z_iast hX h dX5_begins_112 (fun σ61 h => ?_)
        refine z_aload_n hX 0 rfl rfl dX5_begins_113 (z_dup hX rfl dX5_begins_114 ?_)
        refine z_getI hX fl_X5_28_4 h dX5_begins_115 (fun x62 h => ?_)
        refine z_iconst hX (v := 1) (by decide) dX5_begins_118 (z_iadd hX dX5_begins_119 ?_)
        refine z_putI hX fp_X5_28_4 (fun h => nomatch h) h dX5_begins_120 (fun σ63 h => ?_)
        exact z_sub [0, 1, 2] rfl (s_X5_begins_123 (o := o) hX hrec28 h)
      · refine z_goto (tgt := 123) hX dX5_begins_78 (by decide) ?_
        exact z_sub [0, 1, 2] rfl (s_X5_begins_123 (o := o) hX hrec28 h)

theorem s_X5_begins_28 {X : zX} (hX : zOk X RX5 cX5_begins 5 103 2612 (Option.none : Option Jvm.ClassFile.FieldType) "begins" []) {o : Nat} {Rt : Unit × zS} {v1 : Int32} {v3 : Int32} {σ : zS} (h : f_X5_begins_28 o v1 v3 σ = some Rt) : zG X (zQ X (.inl (eU Rt.1)) Rt.2) 5 28 [(0, zA (some o)), (1, zI v1), (3, zI v3)] [] σ :=
  zlp1_ok (P := fun v3 σ => zG X (zQ X (.inl (eU Rt.1)) Rt.2) 5 28 [(0, zA (some o)), (1, zI v1), (3, zI v3)] [] σ) (fun rec hr v3 σ h => s_X5_begins_28_b (o := o) hX hr h) NN v3 σ h
def f_X5_begins (o : Nat) (p1 : Int32) (p2 : Int32) (σ : zS) : Option (Unit × zS) :=
  (pI σ o 4 4 0).bind fun σ1 =>
  (gR σ1 o 4 8).bind fun r2 =>
  r2.bind fun a3 =>
  (gR σ1 a3 0 0).bind fun r4 =>
  r4.bind fun a5 =>
  (gI σ1 a5 1 3).bind fun x6 =>
  (pI σ1 o 4 5 (x6 + 1)).bind fun σ7 =>
  (pI σ7 o 4 6 p2).bind fun σ8 =>
  f_X5_begins_28 o p1 0 σ8

set_option maxHeartbeats 4000000 in
theorem s_X5_begins {X : zX} (hX : zOk X RX5 cX5_begins 5 103 2612 (Option.none : Option Jvm.ClassFile.FieldType) "begins" []) {o : Nat} {p1 : Int32} {p2 : Int32} {σ : zS} {Rt : Unit × zS} (h : f_X5_begins o p1 p2 σ = some Rt) : zG X (zQ X (.inl (eU Rt.1)) Rt.2) 5 0 [(0, zA (some o)), (1, zI p1), (2, zI p2)] [] σ := by
  unfold f_X5_begins at h
  refine z_aload_n hX 0 rfl rfl dX5_begins_0 (z_iconst hX (v := 0) (by decide) dX5_begins_1 ?_)
  refine z_putI hX fp_X5_28_4 (fun h => nomatch h) h dX5_begins_2 (fun σ1 h => ?_)
  refine z_aload_n hX 0 rfl rfl dX5_begins_5 (z_aload_n hX 0 rfl rfl dX5_begins_6 ?_)
  refine z_getR hX fl_X5_3_4 h dX5_begins_7 (fun r2 h => ?_)
  obtain ⟨a3, e9, k_a3⟩ := z_nn h
  subst e9
  have h := k_a3
  refine z_getR hX fl_X5_32_0 h dX5_begins_10 (fun r4 h => ?_)
  obtain ⟨a5, e9, k_a5⟩ := z_nn h
  subst e9
  have h := k_a5
  refine z_getI hX fl_X5_36_1 h dX5_begins_13 (fun x6 h => ?_)
  refine z_iconst hX (v := 1) (by decide) dX5_begins_16 (z_iadd hX dX5_begins_17 ?_)
  refine z_putI hX fp_X5_41_4 (fun h => nomatch h) h dX5_begins_18 (fun σ7 h => ?_)
  refine z_aload_n hX 0 rfl rfl dX5_begins_21 (z_iload_n hX 2 rfl rfl dX5_begins_22 ?_)
  refine z_putI hX fp_X5_44_4 (fun h => nomatch h) h dX5_begins_23 (fun σ8 h => ?_)
  refine z_iconst hX (v := 0) (by decide) dX5_begins_26 (z_istore_n (L' := [(0, zA (some o)), (1, zI p1), (2, zI p2), (3, zI 0)]) hX rfl rfl (by decide) dX5_begins_27 ?_)
  exact z_sub [0, 1, 3] rfl (s_X5_begins_28 (o := o) hX  h)

theorem c_X5_begins {l : Launch} {D : va_G} {tys : zTy} (hl : l.stackTraces = false) {o : Nat} {p1 : Int32} {p2 : Int32} {σ : zS} {Rt : Unit × zS} (h : f_X5_begins o p1 p2 σ = some Rt) : zM l D tys yX5_begins (ws_ yX5_begins cX5_begins 5 (Option.none : Option Jvm.ClassFile.FieldType)) 103 2612 [zA (some o), zI p1, zI p2] σ (.inl (eU Rt.1)) Rt.2 :=
  zM_in hl rfl (Nat.le_of_ble_eq_true rfl) (fun p e R s m args below meth c hX => z_L rfl (s_X5_begins hX h))
def f_J7_fill_5_b (v0 : Option Nat) (v1 : Int32) (v3 : Int32) (rec5 : Int32 → zS → Option (Unit × zS)) (v2 : Int32) (σ : zS) : Option (Unit × zS) :=
  if v3 ≤ v2 then
    some ((), σ)
  else
    v0.bind fun a3 =>
    (sI σ a3 v2 v1).bind fun σ4 =>
    zl (v2 + 1) fun x5 =>
    rec5 x5 σ4

def f_J7_fill_5 (v0 : Option Nat) (v1 : Int32) (v3 : Int32) : Int32 → zS → Option (Unit × zS) := zlp1 (f_J7_fill_5_b v0 v1 v3) NN
set_option maxHeartbeats 4000000 in
theorem s_J7_fill_5_b {X : zX} (hX : zOk X RJ7 cJ7_fill 4 1 40 (Option.none : Option Jvm.ClassFile.FieldType) "fill" []) {Rt : Unit × zS} {v0 : Option Nat} {v1 : Int32} {v3 : Int32} {rec5 : Int32 → zS → Option (Unit × zS)} (hrec5 : ∀ (v2 : Int32) (σ : zS), rec5 v2 σ = some Rt → zG X (zQ X (.inl (eU Rt.1)) Rt.2) 4 5 [(0, zA v0), (1, zI v1), (2, zI v2), (3, zI v3)] [] σ) {v2 : Int32} {σ : zS} (h : f_J7_fill_5_b v0 v1 v3 rec5 v2 σ = some Rt) : zG X (zQ X (.inl (eU Rt.1)) Rt.2) 4 5 [(0, zA v0), (1, zI v1), (2, zI v2), (3, zI v3)] [] σ := by
  unfold f_J7_fill_5_b at h
  refine z_iload_n hX 2 rfl rfl dJ7_fill_5 (z_iload_n hX 3 rfl rfl dJ7_fill_6 ?_)
  refine z_icmp_ge (tgt := 20) hX h dJ7_fill_7 (by decide) (fun h => ?_) (fun h => ?_)
  · obtain rfl := Option.some.inj h
    exact z_vret hX dJ7_fill_20
  · refine z_aload_n hX 0 rfl rfl dJ7_fill_10 (z_iload_n hX 2 rfl rfl dJ7_fill_11 (z_iload_n hX 1 rfl rfl dJ7_fill_12 ?_))
    obtain ⟨a3, e9, k_a3⟩ := z_nn h
    subst e9
    have h := k_a3
    refine z_iast hX h dJ7_fill_13 (fun σ4 h => ?_)
    refine z_iinc hX (j := 2) h rfl (by decide) (by decide) dJ7_fill_14 (fun x5 h => z_L (L' := [(0, zA (some a3)), (1, zI v1), (2, zI x5), (3, zI v3)]) rfl ?_)
    refine z_goto (tgt := 5) hX dJ7_fill_17 (by decide) ?_
    exact z_sub [0, 1, 2, 3] rfl (hrec5 _ _ h)

theorem s_J7_fill_5 {X : zX} (hX : zOk X RJ7 cJ7_fill 4 1 40 (Option.none : Option Jvm.ClassFile.FieldType) "fill" []) {Rt : Unit × zS} {v0 : Option Nat} {v1 : Int32} {v3 : Int32} {v2 : Int32} {σ : zS} (h : f_J7_fill_5 v0 v1 v3 v2 σ = some Rt) : zG X (zQ X (.inl (eU Rt.1)) Rt.2) 4 5 [(0, zA v0), (1, zI v1), (2, zI v2), (3, zI v3)] [] σ :=
  zlp1_ok (P := fun v2 σ => zG X (zQ X (.inl (eU Rt.1)) Rt.2) 4 5 [(0, zA v0), (1, zI v1), (2, zI v2), (3, zI v3)] [] σ) (fun rec hr v2 σ h => s_J7_fill_5_b hX hr h) NN v2 σ h
def f_J7_fill (p1 : Option Nat) (p2 : Int32) (σ : zS) : Option (Unit × zS) :=
  p1.bind fun a1 =>
  (zaln σ a1).bind fun x2 =>
  f_J7_fill_5 (some a1) p2 x2 0 σ

set_option maxHeartbeats 4000000 in
theorem s_J7_fill {X : zX} (hX : zOk X RJ7 cJ7_fill 4 1 40 (Option.none : Option Jvm.ClassFile.FieldType) "fill" []) {p1 : Option Nat} {p2 : Int32} {σ : zS} {Rt : Unit × zS} (h : f_J7_fill p1 p2 σ = some Rt) : zG X (zQ X (.inl (eU Rt.1)) Rt.2) 4 0 [(0, zA p1), (1, zI p2)] [] σ := by
  unfold f_J7_fill at h
  refine z_iconst hX (v := 0) (by decide) dJ7_fill_0 (z_istore_n (L' := [(0, zA p1), (1, zI p2), (2, zI 0)]) hX rfl rfl (by decide) dJ7_fill_1 (z_aload_n hX 0 rfl rfl dJ7_fill_2 ?_))
  obtain ⟨a1, e9, k_a1⟩ := z_nn h
  subst e9
  have h := k_a1
  refine z_alen hX h dJ7_fill_3 (fun x2 h => ?_)
  refine z_istore_n (L' := [(0, zA (some a1)), (1, zI p2), (2, zI 0), (3, zI x2)]) hX rfl rfl (by decide) dJ7_fill_4 ?_
  exact z_sub [0, 1, 2, 3] rfl (s_J7_fill_5 hX  h)

theorem c_J7_fill {l : Launch} {D : va_G} {tys : zTy} (hl : l.stackTraces = false) {p1 : Option Nat} {p2 : Int32} {σ : zS} {Rt : Unit × zS} (h : f_J7_fill p1 p2 σ = some Rt) : zM l D tys yJ7_fill (ws_ yJ7_fill cJ7_fill 4 (Option.none : Option Jvm.ClassFile.FieldType)) 1 40 [zA p1, zI p2] σ (.inl (eU Rt.1)) Rt.2 :=
  zM_in hl rfl (Nat.le_of_ble_eq_true rfl) (fun p e R s m args below meth c hX => z_L rfl (s_J7_fill hX h))
def f_X5_states_4_b (o : Nat) (rec4 : Int32 → Int32 → zS → Option (Int32 × zS)) (v1 : Int32) (v2 : Int32) (σ : zS) : Option (Int32 × zS) :=
  (gI σ o 4 4).bind fun x1 =>
  if x1 ≤ v2 then
    some (v1, σ)
  else
    (gI σ o 4 5).bind fun x2 =>
    zl (v1 * x2) fun x3 =>
    zl (v2 + 1) fun x4 =>
    rec4 x3 x4 σ

def f_X5_states_4 (o : Nat) : Int32 → Int32 → zS → Option (Int32 × zS) := zlp2 (f_X5_states_4_b o) NN
set_option maxHeartbeats 4000000 in
theorem s_X5_states_4_b {X : zX} (hX : zOk X RX5 cX5_states 3 1 40 (Option.some Jvm.ClassFile.FieldType.int) "states" []) {o : Nat} {Rt : Int32 × zS} {rec4 : Int32 → Int32 → zS → Option (Int32 × zS)} (hrec4 : ∀ (v1 : Int32) (v2 : Int32) (σ : zS), rec4 v1 v2 σ = some Rt → zG X (zQ X (.inl (eI Rt.1)) Rt.2) 3 4 [(0, zA (some o)), (1, zI v1), (2, zI v2)] [] σ) {v1 : Int32} {v2 : Int32} {σ : zS} (h : f_X5_states_4_b o rec4 v1 v2 σ = some Rt) : zG X (zQ X (.inl (eI Rt.1)) Rt.2) 3 4 [(0, zA (some o)), (1, zI v1), (2, zI v2)] [] σ := by
  unfold f_X5_states_4_b at h
  refine z_iload_n hX 2 rfl rfl dX5_states_4 (z_aload_n hX 0 rfl rfl dX5_states_5 ?_)
  refine z_getI hX fl_X5_28_4 h dX5_states_6 (fun x1 h => ?_)
  refine z_icmp_ge (tgt := 25) hX h dX5_states_9 (by decide) (fun h => ?_) (fun h => ?_)
  · refine z_iload_n hX 1 rfl rfl dX5_states_25 ?_
    obtain rfl := Option.some.inj h
    exact z_iret hX dX5_states_26
  · refine z_iload_n hX 1 rfl rfl dX5_states_12 (z_aload_n hX 0 rfl rfl dX5_states_13 ?_)
    refine z_getI hX fl_X5_41_4 h dX5_states_14 (fun x2 h => ?_)
    refine z_imul hX dX5_states_17 ?_
    refine z_nmI h (fun x3 h => ?_)
    refine z_istore_n (L' := [(0, zA (some o)), (1, zI x3), (2, zI v2)]) hX rfl rfl (by decide) dX5_states_18 ?_
    refine z_iinc hX (j := 2) h rfl (by decide) (by decide) dX5_states_19 (fun x4 h => z_L (L' := [(0, zA (some o)), (1, zI x3), (2, zI x4)]) rfl ?_)
    refine z_goto (tgt := 4) hX dX5_states_22 (by decide) ?_
    exact z_sub [0, 1, 2] rfl (hrec4 _ _ _ h)

theorem s_X5_states_4 {X : zX} (hX : zOk X RX5 cX5_states 3 1 40 (Option.some Jvm.ClassFile.FieldType.int) "states" []) {o : Nat} {Rt : Int32 × zS} {v1 : Int32} {v2 : Int32} {σ : zS} (h : f_X5_states_4 o v1 v2 σ = some Rt) : zG X (zQ X (.inl (eI Rt.1)) Rt.2) 3 4 [(0, zA (some o)), (1, zI v1), (2, zI v2)] [] σ :=
  zlp2_ok (P := fun v1 v2 σ => zG X (zQ X (.inl (eI Rt.1)) Rt.2) 3 4 [(0, zA (some o)), (1, zI v1), (2, zI v2)] [] σ) (fun rec hr v1 v2 σ h => s_X5_states_4_b (o := o) hX hr h) NN v1 v2 σ h
def f_X5_states (o : Nat) (σ : zS) : Option (Int32 × zS) :=
  f_X5_states_4 o 1 0 σ

set_option maxHeartbeats 4000000 in
theorem s_X5_states {X : zX} (hX : zOk X RX5 cX5_states 3 1 40 (Option.some Jvm.ClassFile.FieldType.int) "states" []) {o : Nat} {σ : zS} {Rt : Int32 × zS} (h : f_X5_states o σ = some Rt) : zG X (zQ X (.inl (eI Rt.1)) Rt.2) 3 0 [(0, zA (some o))] [] σ := by
  unfold f_X5_states at h
  refine z_iconst hX (v := 1) (by decide) dX5_states_0 (z_istore_n (L' := [(0, zA (some o)), (1, zI 1)]) hX rfl rfl (by decide) dX5_states_1 (z_iconst hX (v := 0) (by decide) dX5_states_2 (z_istore_n (L' := [(0, zA (some o)), (1, zI 1), (2, zI 0)]) hX rfl rfl (by decide) dX5_states_3 ?_)))
  exact z_sub [0, 1, 2] rfl (s_X5_states_4 (o := o) hX  h)

theorem c_X5_states {l : Launch} {D : va_G} {tys : zTy} (hl : l.stackTraces = false) {o : Nat} {σ : zS} {Rt : Int32 × zS} (h : f_X5_states o σ = some Rt) : zM l D tys yX5_states (ws_ yX5_states cX5_states 3 (Option.some Jvm.ClassFile.FieldType.int)) 1 40 [zA (some o)] σ (.inl (eI Rt.1)) Rt.2 :=
  zM_in hl rfl (Nat.le_of_ble_eq_true rfl) (fun p e R s m args below meth c hX => z_L rfl (s_X5_states hX h))
def f_X5_rested_34 (o : Nat) (rec7 : Int32 → Int32 → Int32 → zS → Option (Int32 × zS)) (v3 : Int32) (v4 : Int32) (t0 : Int32) (t1 : Int32) (σ : zS) : Option (Int32 × zS) :=
  zl (t0 ||| t1) fun x4 =>
  (gI σ o 4 5).bind fun x5 =>
  (zdiv v3 x5).bind fun x6 =>
  zl (v4 + 1) fun x7 =>
  rec7 x4 x6 x7 σ

set_option maxHeartbeats 4000000 in
theorem s_X5_rested_34 {X : zX} (hX : zOk X RX5 cX5_rested 5 1 40 (Option.some Jvm.ClassFile.FieldType.int) "rested" []) {o : Nat} {Rt : Int32 × zS} {rec7 : Int32 → Int32 → Int32 → zS → Option (Int32 × zS)} {v3 : Int32} {v4 : Int32} (hrec7 : ∀ (v2 : Int32) (v3 : Int32) (v4 : Int32) (σ : zS), rec7 v2 v3 v4 σ = some Rt → zG X (zQ X (.inl (eI Rt.1)) Rt.2) 5 7 [(0, zA (some o)), (2, zI v2), (3, zI v3), (4, zI v4)] [] σ) {t0 : Int32} {t1 : Int32} {σ : zS} (h : f_X5_rested_34 o rec7 v3 v4 t0 t1 σ = some Rt) : zG X (zQ X (.inl (eI Rt.1)) Rt.2) 5 34 [(0, zA (some o)), (3, zI v3), (4, zI v4)] [zI t1, zI t0] σ := by
  unfold f_X5_rested_34 at h
  refine z_ior hX dX5_rested_34 ?_
  refine z_nmI h (fun x4 h => ?_)
  refine z_istore_n (L' := [(0, zA (some o)), (2, zI x4), (3, zI v3), (4, zI v4)]) hX rfl rfl (by decide) dX5_rested_35 (z_iload_n hX 2 rfl rfl dX5_rested_36 (z_aload_n hX 0 rfl rfl dX5_rested_37 ?_))
  refine z_getI hX fl_X5_41_4 h dX5_rested_38 (fun x5 h => ?_)
  refine z_idiv hX h dX5_rested_41 (fun x6 h => ?_)
  refine z_istore_n (L' := [(0, zA (some o)), (2, zI x4), (3, zI x6), (4, zI v4)]) hX rfl rfl (by decide) dX5_rested_42 ?_
  refine z_iinc hX (j := 3) h rfl (by decide) (by decide) dX5_rested_43 (fun x7 h => z_L (L' := [(0, zA (some o)), (2, zI x4), (3, zI x6), (4, zI x7)]) rfl ?_)
  refine z_goto (tgt := 7) hX dX5_rested_46 (by decide) ?_
  exact z_sub [0, 1, 2, 3] rfl (hrec7 _ _ _ _ h)

def f_X5_rested_7_b (o : Nat) (rec7 : Int32 → Int32 → Int32 → zS → Option (Int32 × zS)) (v2 : Int32) (v3 : Int32) (v4 : Int32) (σ : zS) : Option (Int32 × zS) :=
  (gI σ o 4 4).bind fun x1 =>
  if x1 ≤ v4 then
    some (v2, σ)
  else
    (gI σ o 4 5).bind fun x2 =>
    (zrem v3 x2).bind fun x3 =>
    if ¬ x3 = 0 then
      f_X5_rested_34 o rec7 v3 v4 v2 0 σ
    else
      f_X5_rested_34 o rec7 v3 v4 v2 (1 <<< (v4 &&& 31)) σ

def f_X5_rested_7 (o : Nat) : Int32 → Int32 → Int32 → zS → Option (Int32 × zS) := zlp3 (f_X5_rested_7_b o) NN
set_option maxHeartbeats 4000000 in
theorem s_X5_rested_7_b {X : zX} (hX : zOk X RX5 cX5_rested 5 1 40 (Option.some Jvm.ClassFile.FieldType.int) "rested" []) {o : Nat} {Rt : Int32 × zS} {rec7 : Int32 → Int32 → Int32 → zS → Option (Int32 × zS)} (hrec7 : ∀ (v2 : Int32) (v3 : Int32) (v4 : Int32) (σ : zS), rec7 v2 v3 v4 σ = some Rt → zG X (zQ X (.inl (eI Rt.1)) Rt.2) 5 7 [(0, zA (some o)), (2, zI v2), (3, zI v3), (4, zI v4)] [] σ) {v2 : Int32} {v3 : Int32} {v4 : Int32} {σ : zS} (h : f_X5_rested_7_b o rec7 v2 v3 v4 σ = some Rt) : zG X (zQ X (.inl (eI Rt.1)) Rt.2) 5 7 [(0, zA (some o)), (2, zI v2), (3, zI v3), (4, zI v4)] [] σ := by
  unfold f_X5_rested_7_b at h
  refine z_iload hX 3 rfl dX5_rested_7 (z_aload_n hX 0 rfl rfl dX5_rested_9 ?_)
  refine z_getI hX fl_X5_28_4 h dX5_rested_10 (fun x1 h => ?_)
  refine z_icmp_ge (tgt := 49) hX h dX5_rested_13 (by decide) (fun h => ?_) (fun h => ?_)
  · refine z_iload_n hX 1 rfl rfl dX5_rested_49 ?_
    obtain rfl := Option.some.inj h
    exact z_iret hX dX5_rested_50
  · refine z_iload_n hX 1 rfl rfl dX5_rested_16 (z_iload_n hX 2 rfl rfl dX5_rested_17 (z_aload_n hX 0 rfl rfl dX5_rested_18 ?_))
    refine z_getI hX fl_X5_41_4 h dX5_rested_19 (fun x2 h => ?_)
    refine z_irem hX h dX5_rested_22 (fun x3 h => ?_)
    refine z_if_ne (tgt := 33) hX h dX5_rested_23 (by decide) (fun h => ?_) (fun h => ?_)
    · refine z_iconst hX (v := 0) (by decide) dX5_rested_33 ?_
      exact z_sub [0, 2, 3] rfl (s_X5_rested_34 (o := o) hX hrec7 h)
    · refine z_iconst hX (v := 1) (by decide) dX5_rested_26 (z_iload hX 3 rfl dX5_rested_27 (z_ishl hX dX5_rested_29 (z_goto (tgt := 34) hX dX5_rested_30 (by decide) ?_)))
      exact z_sub [0, 2, 3] rfl (s_X5_rested_34 (o := o) hX hrec7 h)

theorem s_X5_rested_7 {X : zX} (hX : zOk X RX5 cX5_rested 5 1 40 (Option.some Jvm.ClassFile.FieldType.int) "rested" []) {o : Nat} {Rt : Int32 × zS} {v2 : Int32} {v3 : Int32} {v4 : Int32} {σ : zS} (h : f_X5_rested_7 o v2 v3 v4 σ = some Rt) : zG X (zQ X (.inl (eI Rt.1)) Rt.2) 5 7 [(0, zA (some o)), (2, zI v2), (3, zI v3), (4, zI v4)] [] σ :=
  zlp3_ok (P := fun v2 v3 v4 σ => zG X (zQ X (.inl (eI Rt.1)) Rt.2) 5 7 [(0, zA (some o)), (2, zI v2), (3, zI v3), (4, zI v4)] [] σ) (fun rec hr v2 v3 v4 σ h => s_X5_rested_7_b (o := o) hX hr h) NN v2 v3 v4 σ h
def f_X5_rested (o : Nat) (p1 : Int32) (σ : zS) : Option (Int32 × zS) :=
  f_X5_rested_7 o 0 p1 0 σ

set_option maxHeartbeats 4000000 in
theorem s_X5_rested {X : zX} (hX : zOk X RX5 cX5_rested 5 1 40 (Option.some Jvm.ClassFile.FieldType.int) "rested" []) {o : Nat} {p1 : Int32} {σ : zS} {Rt : Int32 × zS} (h : f_X5_rested o p1 σ = some Rt) : zG X (zQ X (.inl (eI Rt.1)) Rt.2) 5 0 [(0, zA (some o)), (1, zI p1)] [] σ := by
  unfold f_X5_rested at h
  refine z_iconst hX (v := 0) (by decide) dX5_rested_0 (z_istore_n (L' := [(0, zA (some o)), (1, zI p1), (2, zI 0)]) hX rfl rfl (by decide) dX5_rested_1 (z_iload_n hX 1 rfl rfl dX5_rested_2 (z_istore_n (L' := [(0, zA (some o)), (1, zI p1), (2, zI 0), (3, zI p1)]) hX rfl rfl (by decide) dX5_rested_3 (z_iconst hX (v := 0) (by decide) dX5_rested_4 (z_istore (L' := [(0, zA (some o)), (1, zI p1), (2, zI 0), (3, zI p1), (4, zI 0)]) hX rfl (by decide) dX5_rested_5 ?_)))))
  exact z_sub [0, 2, 3, 4] rfl (s_X5_rested_7 (o := o) hX  h)

theorem c_X5_rested {l : Launch} {D : va_G} {tys : zTy} (hl : l.stackTraces = false) {o : Nat} {p1 : Int32} {σ : zS} {Rt : Int32 × zS} (h : f_X5_rested o p1 σ = some Rt) : zM l D tys yX5_rested (ws_ yX5_rested cX5_rested 5 (Option.some Jvm.ClassFile.FieldType.int)) 1 40 [zA (some o), zI p1] σ (.inl (eI Rt.1)) Rt.2 :=
  zM_in hl rfl (Nat.le_of_ble_eq_true rfl) (fun p e R s m args below meth c hX => z_L rfl (s_X5_rested hX h))
def f_X5_behind_55 (o : Nat) (rec11 : Int32 → Int32 → Int32 → Int32 → zS → Option (Int32 × zS)) (v2 : Int32) (v4 : Int32) (v5 : Int32) (v6 : Int32) (t0 : Int32) (t1 : Int32) (t2 : Int32) (σ : zS) : Option (Int32 × zS) :=
  zl (t0 + (t1 * t2)) fun x4 =>
  (gI σ o 4 5).bind fun x5 =>
  (zdiv v5 x5).bind fun x6 =>
  (gI σ o 4 5).bind fun x7 =>
  zl (v4 * x7) fun x8 =>
  zl (v6 + 1) fun x9 =>
  rec11 x4 x8 x6 x9 σ

set_option maxHeartbeats 4000000 in
theorem s_X5_behind_55 {X : zX} (hX : zOk X RX5 cX5_behind 7 1 40 (Option.some Jvm.ClassFile.FieldType.int) "behind" []) {o : Nat} {Rt : Int32 × zS} {rec11 : Int32 → Int32 → Int32 → Int32 → zS → Option (Int32 × zS)} {v2 : Int32} {v4 : Int32} {v5 : Int32} {v6 : Int32} (hrec11 : ∀ (v3 : Int32) (v4 : Int32) (v5 : Int32) (v6 : Int32) (σ : zS), rec11 v3 v4 v5 v6 σ = some Rt → zG X (zQ X (.inl (eI Rt.1)) Rt.2) 7 11 [(0, zA (some o)), (2, zI v2), (3, zI v3), (4, zI v4), (5, zI v5), (6, zI v6)] [] σ) {t0 : Int32} {t1 : Int32} {t2 : Int32} {σ : zS} (h : f_X5_behind_55 o rec11 v2 v4 v5 v6 t0 t1 t2 σ = some Rt) : zG X (zQ X (.inl (eI Rt.1)) Rt.2) 7 55 [(0, zA (some o)), (2, zI v2), (4, zI v4), (5, zI v5), (6, zI v6)] [zI t2, zI t1, zI t0] σ := by
  unfold f_X5_behind_55 at h
  refine z_imul hX dX5_behind_55 (z_iadd hX dX5_behind_56 ?_)
  refine z_nmI h (fun x4 h => ?_)
  refine z_istore_n (L' := [(0, zA (some o)), (2, zI v2), (3, zI x4), (4, zI v4), (5, zI v5), (6, zI v6)]) hX rfl rfl (by decide) dX5_behind_57 (z_iload hX 4 rfl dX5_behind_58 (z_aload_n hX 0 rfl rfl dX5_behind_60 ?_))
  refine z_getI hX fl_X5_41_4 h dX5_behind_61 (fun x5 h => ?_)
  refine z_idiv hX h dX5_behind_64 (fun x6 h => ?_)
  refine z_istore (L' := [(0, zA (some o)), (2, zI v2), (3, zI x4), (4, zI v4), (5, zI x6), (6, zI v6)]) hX rfl (by decide) dX5_behind_65 (z_iload hX 3 rfl dX5_behind_67 (z_aload_n hX 0 rfl rfl dX5_behind_69 ?_))
  refine z_getI hX fl_X5_41_4 h dX5_behind_70 (fun x7 h => ?_)
  refine z_imul hX dX5_behind_73 ?_
  refine z_nmI h (fun x8 h => ?_)
  refine z_istore (L' := [(0, zA (some o)), (2, zI v2), (3, zI x4), (4, zI x8), (5, zI x6), (6, zI v6)]) hX rfl (by decide) dX5_behind_74 ?_
  refine z_iinc hX (j := 5) h rfl (by decide) (by decide) dX5_behind_76 (fun x9 h => z_L (L' := [(0, zA (some o)), (2, zI v2), (3, zI x4), (4, zI x8), (5, zI x6), (6, zI x9)]) rfl ?_)
  refine z_goto (tgt := 11) hX dX5_behind_79 (by decide) ?_
  exact z_sub [0, 1, 2, 3, 4, 5] rfl (hrec11 _ _ _ _ _ h)

def f_X5_behind_11_b (o : Nat) (v2 : Int32) (rec11 : Int32 → Int32 → Int32 → Int32 → zS → Option (Int32 × zS)) (v3 : Int32) (v4 : Int32) (v5 : Int32) (v6 : Int32) (σ : zS) : Option (Int32 × zS) :=
  (gI σ o 4 4).bind fun x1 =>
  if x1 ≤ v6 then
    some (v3, σ)
  else
    if ¬ ((v2 >>> (v6 &&& 31)) &&& 1) = 1 then
      (gI σ o 4 5).bind fun x2 =>
      (zrem v5 x2).bind fun x3 =>
      f_X5_behind_55 o rec11 v2 v4 v5 v6 v3 v4 (zmax 0 (x3 - 1)) σ
    else
      (gI σ o 4 5).bind fun x10 =>
      f_X5_behind_55 o rec11 v2 v4 v5 v6 v3 v4 (x10 - 1) σ

def f_X5_behind_11 (o : Nat) (v2 : Int32) : Int32 → Int32 → Int32 → Int32 → zS → Option (Int32 × zS) := zlp4 (f_X5_behind_11_b o v2) NN
set_option maxHeartbeats 4000000 in
theorem s_X5_behind_11_b {X : zX} (hX : zOk X RX5 cX5_behind 7 1 40 (Option.some Jvm.ClassFile.FieldType.int) "behind" []) {o : Nat} {Rt : Int32 × zS} {v2 : Int32} {rec11 : Int32 → Int32 → Int32 → Int32 → zS → Option (Int32 × zS)} (hrec11 : ∀ (v3 : Int32) (v4 : Int32) (v5 : Int32) (v6 : Int32) (σ : zS), rec11 v3 v4 v5 v6 σ = some Rt → zG X (zQ X (.inl (eI Rt.1)) Rt.2) 7 11 [(0, zA (some o)), (2, zI v2), (3, zI v3), (4, zI v4), (5, zI v5), (6, zI v6)] [] σ) {v3 : Int32} {v4 : Int32} {v5 : Int32} {v6 : Int32} {σ : zS} (h : f_X5_behind_11_b o v2 rec11 v3 v4 v5 v6 σ = some Rt) : zG X (zQ X (.inl (eI Rt.1)) Rt.2) 7 11 [(0, zA (some o)), (2, zI v2), (3, zI v3), (4, zI v4), (5, zI v5), (6, zI v6)] [] σ := by
  unfold f_X5_behind_11_b at h
  refine z_iload hX 5 rfl dX5_behind_11 (z_aload_n hX 0 rfl rfl dX5_behind_13 ?_)
  refine z_getI hX fl_X5_28_4 h dX5_behind_14 (fun x1 h => ?_)
  refine z_icmp_ge (tgt := 82) hX h dX5_behind_17 (by decide) (fun h => ?_) (fun h => ?_)
  · refine z_iload_n hX 2 rfl rfl dX5_behind_82 ?_
    obtain rfl := Option.some.inj h
    exact z_iret hX dX5_behind_83
  · refine z_iload_n hX 2 rfl rfl dX5_behind_20 (z_iload hX 3 rfl dX5_behind_21 (z_iload_n hX 1 rfl rfl dX5_behind_23 (z_iload hX 5 rfl dX5_behind_24 (z_ishr hX dX5_behind_26 (z_iconst hX (v := 1) (by decide) dX5_behind_27 (z_iand hX dX5_behind_28 (z_iconst hX (v := 1) (by decide) dX5_behind_29 ?_)))))))
    refine z_icmp_ne (tgt := 42) hX h dX5_behind_30 (by decide) (fun h => ?_) (fun h => ?_)
    · refine z_iconst hX (v := 0) (by decide) dX5_behind_42 (z_iload hX 4 rfl dX5_behind_43 (z_aload_n hX 0 rfl rfl dX5_behind_45 ?_))
      refine z_getI hX fl_X5_41_4 h dX5_behind_46 (fun x2 h => ?_)
      refine z_irem hX h dX5_behind_49 (fun x3 h => ?_)
      refine z_iconst hX (v := 1) (by decide) dX5_behind_50 (z_isub hX dX5_behind_51 (z_mmax hX q1707 (Nat.le_of_ble_eq_true rfl) (Nat.le_of_ble_eq_true rfl) (Nat.le_of_ble_eq_true rfl) dX5_behind_52 ?_))
      exact z_sub [0, 1, 3, 4, 5] rfl (s_X5_behind_55 (o := o) hX hrec11 h)
    · refine z_aload_n hX 0 rfl rfl dX5_behind_33 ?_
      refine z_getI hX fl_X5_41_4 h dX5_behind_34 (fun x10 h => ?_)
      refine z_iconst hX (v := 1) (by decide) dX5_behind_37 (z_isub hX dX5_behind_38 (z_goto (tgt := 55) hX dX5_behind_39 (by decide) ?_))
      exact z_sub [0, 1, 3, 4, 5] rfl (s_X5_behind_55 (o := o) hX hrec11 h)

theorem s_X5_behind_11 {X : zX} (hX : zOk X RX5 cX5_behind 7 1 40 (Option.some Jvm.ClassFile.FieldType.int) "behind" []) {o : Nat} {Rt : Int32 × zS} {v2 : Int32} {v3 : Int32} {v4 : Int32} {v5 : Int32} {v6 : Int32} {σ : zS} (h : f_X5_behind_11 o v2 v3 v4 v5 v6 σ = some Rt) : zG X (zQ X (.inl (eI Rt.1)) Rt.2) 7 11 [(0, zA (some o)), (2, zI v2), (3, zI v3), (4, zI v4), (5, zI v5), (6, zI v6)] [] σ :=
  zlp4_ok (P := fun v3 v4 v5 v6 σ => zG X (zQ X (.inl (eI Rt.1)) Rt.2) 7 11 [(0, zA (some o)), (2, zI v2), (3, zI v3), (4, zI v4), (5, zI v5), (6, zI v6)] [] σ) (fun rec hr v3 v4 v5 v6 σ h => s_X5_behind_11_b (o := o) hX hr h) NN v3 v4 v5 v6 σ h
def f_X5_behind (o : Nat) (p1 : Int32) (p2 : Int32) (σ : zS) : Option (Int32 × zS) :=
  f_X5_behind_11 o p2 0 1 p1 0 σ

set_option maxHeartbeats 4000000 in
theorem s_X5_behind {X : zX} (hX : zOk X RX5 cX5_behind 7 1 40 (Option.some Jvm.ClassFile.FieldType.int) "behind" []) {o : Nat} {p1 : Int32} {p2 : Int32} {σ : zS} {Rt : Int32 × zS} (h : f_X5_behind o p1 p2 σ = some Rt) : zG X (zQ X (.inl (eI Rt.1)) Rt.2) 7 0 [(0, zA (some o)), (1, zI p1), (2, zI p2)] [] σ := by
  unfold f_X5_behind at h
  refine z_iconst hX (v := 0) (by decide) dX5_behind_0 (z_istore_n (L' := [(0, zA (some o)), (1, zI p1), (2, zI p2), (3, zI 0)]) hX rfl rfl (by decide) dX5_behind_1 (z_iconst hX (v := 1) (by decide) dX5_behind_2 (z_istore (L' := [(0, zA (some o)), (1, zI p1), (2, zI p2), (3, zI 0), (4, zI 1)]) hX rfl (by decide) dX5_behind_3 (z_iload_n hX 1 rfl rfl dX5_behind_5 (z_istore (L' := [(0, zA (some o)), (1, zI p1), (2, zI p2), (3, zI 0), (4, zI 1), (5, zI p1)]) hX rfl (by decide) dX5_behind_6 (z_iconst hX (v := 0) (by decide) dX5_behind_8 (z_istore (L' := [(0, zA (some o)), (1, zI p1), (2, zI p2), (3, zI 0), (4, zI 1), (5, zI p1), (6, zI 0)]) hX rfl (by decide) dX5_behind_9 ?_)))))))
  exact z_sub [0, 2, 3, 4, 5, 6] rfl (s_X5_behind_11 (o := o) hX  h)

theorem c_X5_behind {l : Launch} {D : va_G} {tys : zTy} (hl : l.stackTraces = false) {o : Nat} {p1 : Int32} {p2 : Int32} {σ : zS} {Rt : Int32 × zS} (h : f_X5_behind o p1 p2 σ = some Rt) : zM l D tys yX5_behind (ws_ yX5_behind cX5_behind 7 (Option.some Jvm.ClassFile.FieldType.int)) 1 40 [zA (some o), zI p1, zI p2] σ (.inl (eI Rt.1)) Rt.2 :=
  zM_in hl rfl (Nat.le_of_ble_eq_true rfl) (fun p e R s m args below meth c hX => z_L rfl (s_X5_behind hX h))
def f_X5_most_48 (o : Nat) (rec11 : Int32 → Int32 → zS → Option (Int32 × zS)) (v1 : Int32) (v2 : Int32) (v3 : Int32) (v4 : Int32) (σ : zS) : Option (Int32 × zS) :=
  if ¬ v4 = 0 then
    zl ((v4 - 1) &&& v2) fun x7 =>
    rec11 v3 x7 σ
  else
    some (v3, σ)

set_option maxHeartbeats 4000000 in
theorem s_X5_most_48 {X : zX} (hX : zOk X RX5 cX5_most 5 2 66 (Option.some Jvm.ClassFile.FieldType.int) "most" []) {o : Nat} {Rt : Int32 × zS} {rec11 : Int32 → Int32 → zS → Option (Int32 × zS)} {v1 : Int32} {v2 : Int32} {v3 : Int32} {v4 : Int32} (hrec11 : ∀ (v3 : Int32) (v4 : Int32) (σ : zS), rec11 v3 v4 σ = some Rt → zG X (zQ X (.inl (eI Rt.1)) Rt.2) 5 11 [(0, zA (some o)), (1, zI v1), (2, zI v2), (3, zI v3), (4, zI v4)] [] σ) {σ : zS} (h : f_X5_most_48 o rec11 v1 v2 v3 v4 σ = some Rt) : zG X (zQ X (.inl (eI Rt.1)) Rt.2) 5 48 [(0, zA (some o)), (1, zI v1), (2, zI v2), (3, zI v3), (4, zI v4)] [] σ := by
  unfold f_X5_most_48 at h
  refine z_iload hX 4 rfl dX5_most_48 ?_
  refine z_if_ne (tgt := 55) hX h dX5_most_50 (by decide) (fun h => ?_) (fun h => ?_)
  · refine z_iload hX 4 rfl dX5_most_55 (z_iconst hX (v := 1) (by decide) dX5_most_57 (z_isub hX dX5_most_58 (z_iload_n hX 2 rfl rfl dX5_most_59 (z_iand hX dX5_most_60 ?_))))
    refine z_nmI h (fun x7 h => ?_)
    refine z_istore (L' := [(0, zA (some o)), (1, zI v1), (2, zI v2), (3, zI v3), (4, zI x7)]) hX rfl (by decide) dX5_most_61 (z_goto (tgt := 11) hX dX5_most_63 (by decide) ?_)
    exact z_sub [0, 1, 2, 3, 4] rfl (hrec11 _ _ _ h)
  · refine z_iload_n hX 3 rfl rfl dX5_most_53 ?_
    obtain rfl := Option.some.inj h
    exact z_iret hX dX5_most_54

def f_X5_most_11_b (o : Nat) (v1 : Int32) (v2 : Int32) (rec11 : Int32 → Int32 → zS → Option (Int32 × zS)) (v3 : Int32) (v4 : Int32) (σ : zS) : Option (Int32 × zS) :=
  zb2 (f_J17_bitCount v4 σ) fun x4 σ5 =>
  (gI σ5 o 4 6).bind fun x6 =>
  if x6 < x4 then
    f_X5_most_48 o rec11 v1 v2 v3 v4 σ5
  else
    (gR σ5 o 4 1).bind fun r8 =>
    r8.bind fun a9 =>
    (lI σ5 a9 0 v4).bind fun x10 =>
    (gR σ5 o 4 3).bind fun r11 =>
    zif (zcl σ5 o = 4) <|
    zb2 (f_X5_behind o v1 v4 σ5) fun x13 σ14 =>
    r11.bind fun a15 =>
    (lI σ14 a15 0 x13).bind fun x16 =>
    zl (zmax v3 (x10 + x16)) fun x17 =>
    f_X5_most_48 o rec11 v1 v2 x17 v4 σ14

def f_X5_most_11 (o : Nat) (v1 : Int32) (v2 : Int32) : Int32 → Int32 → zS → Option (Int32 × zS) := zlp2 (f_X5_most_11_b o v1 v2) NN
set_option maxHeartbeats 4000000 in
theorem s_X5_most_11_b {X : zX} (hX : zOk X RX5 cX5_most 5 2 66 (Option.some Jvm.ClassFile.FieldType.int) "most" []) {o : Nat} {Rt : Int32 × zS} {v1 : Int32} {v2 : Int32} {rec11 : Int32 → Int32 → zS → Option (Int32 × zS)} (hrec11 : ∀ (v3 : Int32) (v4 : Int32) (σ : zS), rec11 v3 v4 σ = some Rt → zG X (zQ X (.inl (eI Rt.1)) Rt.2) 5 11 [(0, zA (some o)), (1, zI v1), (2, zI v2), (3, zI v3), (4, zI v4)] [] σ) {v3 : Int32} {v4 : Int32} {σ : zS} (h : f_X5_most_11_b o v1 v2 rec11 v3 v4 σ = some Rt) : zG X (zQ X (.inl (eI Rt.1)) Rt.2) 5 11 [(0, zA (some o)), (1, zI v1), (2, zI v2), (3, zI v3), (4, zI v4)] [] σ := by
  unfold f_X5_most_11_b at h
  refine z_iload hX 4 rfl dX5_most_11 ?_
  refine z_cNI hX (rest := []) h (fun r9 σ9 e9 => z_runS hX lk_X5_98 (c_J17_bitCount hX.tr e9) ⟨Nat.le_of_ble_eq_true rfl, Nat.le_of_ble_eq_true rfl⟩ rfl (Nat.le_of_ble_eq_true rfl) dX5_most_13 rfl) (fun x4 σ5 h => ?_)
  refine z_aload_n hX 0 rfl rfl dX5_most_16 ?_
  refine z_getI hX fl_X5_44_4 h dX5_most_17 (fun x6 h => ?_)
  refine z_icmp_gt (tgt := 48) hX h dX5_most_20 (by decide) (fun h => ?_) (fun h => ?_)
  · exact z_sub [0, 1, 2, 3, 4] rfl (s_X5_most_48 (o := o) hX hrec11 h)
  · refine z_iload_n hX 3 rfl rfl dX5_most_23 (z_aload_n hX 0 rfl rfl dX5_most_24 ?_)
    refine z_getR hX fl_X5_19_4 h dX5_most_25 (fun r8 h => ?_)
    refine z_iload hX 4 rfl dX5_most_28 ?_
    obtain ⟨a9, e9, k_a9⟩ := z_nn h
    subst e9
    have h := k_a9
    refine z_iald hX h dX5_most_30 (fun x10 h => ?_)
    refine z_aload_n hX 0 rfl rfl dX5_most_31 ?_
    refine z_getR hX fl_X5_25_4 h dX5_most_32 (fun r11 h => ?_)
    refine z_aload_n hX 0 rfl rfl dX5_most_35 (z_iload_n hX 1 rfl rfl dX5_most_36 (z_iload hX 4 rfl dX5_most_37 ?_))
    obtain ⟨c12, h⟩ := z_ck h
    refine z_cNI hX (rest := [zA r11, zI x10, zI v3]) h (fun r9 σ9 e9 => z_runV hX lk_X5_103 (c_X5_behind hX.tr e9) (ci := 4) zc9_4 c12 ⟨Nat.le_of_ble_eq_true rfl, Nat.le_of_ble_eq_true rfl⟩ rfl (Nat.le_of_ble_eq_true rfl) dX5_most_39 rfl) (fun x13 σ14 h => ?_)
    obtain ⟨a15, e9, k_a15⟩ := z_nn h
    subst e9
    have h := k_a15
    refine z_iald hX h dX5_most_42 (fun x16 h => ?_)
    refine z_iadd hX dX5_most_43 (z_mmax hX q1707 (Nat.le_of_ble_eq_true rfl) (Nat.le_of_ble_eq_true rfl) (Nat.le_of_ble_eq_true rfl) dX5_most_44 ?_)
    refine z_nmI h (fun x17 h => ?_)
    refine z_istore_n (L' := [(0, zA (some o)), (1, zI v1), (2, zI v2), (3, zI x17), (4, zI v4)]) hX rfl rfl (by decide) dX5_most_47 ?_
    exact z_sub [0, 1, 2, 3, 4] rfl (s_X5_most_48 (o := o) hX hrec11 h)

theorem s_X5_most_11 {X : zX} (hX : zOk X RX5 cX5_most 5 2 66 (Option.some Jvm.ClassFile.FieldType.int) "most" []) {o : Nat} {Rt : Int32 × zS} {v1 : Int32} {v2 : Int32} {v3 : Int32} {v4 : Int32} {σ : zS} (h : f_X5_most_11 o v1 v2 v3 v4 σ = some Rt) : zG X (zQ X (.inl (eI Rt.1)) Rt.2) 5 11 [(0, zA (some o)), (1, zI v1), (2, zI v2), (3, zI v3), (4, zI v4)] [] σ :=
  zlp2_ok (P := fun v3 v4 σ => zG X (zQ X (.inl (eI Rt.1)) Rt.2) 5 11 [(0, zA (some o)), (1, zI v1), (2, zI v2), (3, zI v3), (4, zI v4)] [] σ) (fun rec hr v3 v4 σ h => s_X5_most_11_b (o := o) hX hr h) NN v3 v4 σ h
def f_X5_most (o : Nat) (p1 : Int32) (σ : zS) : Option (Int32 × zS) :=
  zif (zcl σ o = 4) <|
  zb2 (f_X5_rested o p1 σ) fun x2 σ3 =>
  f_X5_most_11 o p1 x2 0 x2 σ3

set_option maxHeartbeats 4000000 in
theorem s_X5_most {X : zX} (hX : zOk X RX5 cX5_most 5 2 66 (Option.some Jvm.ClassFile.FieldType.int) "most" []) {o : Nat} {p1 : Int32} {σ : zS} {Rt : Int32 × zS} (h : f_X5_most o p1 σ = some Rt) : zG X (zQ X (.inl (eI Rt.1)) Rt.2) 5 0 [(0, zA (some o)), (1, zI p1)] [] σ := by
  unfold f_X5_most at h
  refine z_aload_n hX 0 rfl rfl dX5_most_0 (z_iload_n hX 1 rfl rfl dX5_most_1 ?_)
  obtain ⟨c1, h⟩ := z_ck h
  refine z_cNI hX (rest := []) h (fun r9 σ9 e9 => z_runV hX lk_X5_95 (c_X5_rested hX.tr e9) (ci := 4) zc9_4 c1 ⟨Nat.le_of_ble_eq_true rfl, Nat.le_of_ble_eq_true rfl⟩ rfl (Nat.le_of_ble_eq_true rfl) dX5_most_2 rfl) (fun x2 σ3 h => ?_)
  refine z_istore_n (L' := [(0, zA (some o)), (1, zI p1), (2, zI x2)]) hX rfl rfl (by decide) dX5_most_5 (z_iconst hX (v := 0) (by decide) dX5_most_6 (z_istore_n (L' := [(0, zA (some o)), (1, zI p1), (2, zI x2), (3, zI 0)]) hX rfl rfl (by decide) dX5_most_7 (z_iload_n hX 2 rfl rfl dX5_most_8 (z_istore (L' := [(0, zA (some o)), (1, zI p1), (2, zI x2), (3, zI 0), (4, zI x2)]) hX rfl (by decide) dX5_most_9 ?_))))
  exact z_sub [0, 1, 2, 3, 4] rfl (s_X5_most_11 (o := o) hX  h)

theorem c_X5_most {l : Launch} {D : va_G} {tys : zTy} (hl : l.stackTraces = false) {o : Nat} {p1 : Int32} {σ : zS} {Rt : Int32 × zS} (h : f_X5_most o p1 σ = some Rt) : zM l D tys yX5_most (ws_ yX5_most cX5_most 5 (Option.some Jvm.ClassFile.FieldType.int)) 2 66 [zA (some o), zI p1] σ (.inl (eI Rt.1)) Rt.2 :=
  zM_in hl rfl (Nat.le_of_ble_eq_true rfl) (fun p e R s m args below meth c hX => z_L rfl (s_X5_most hX h))
def f_X5_fewest_48_b (o : Nat) (rec19 : zS → Option (Int32 × zS)) (v1 : Int32) (rec48 : Int32 → zS → Option (Int32 × zS)) (v3 : Int32) (σ : zS) : Option (Int32 × zS) :=
  zif (zcl σ o = 4) <|
  zb2 (f_X5_states o σ) fun x11 σ12 =>
  if x11 ≤ v3 then
    (gR σ12 o 4 2).bind fun r13 =>
    r13.bind fun a14 =>
    (lI σ12 a14 0 0).bind fun x15 =>
    if x15 < v1 then
      (gI σ12 o 4 7).bind fun x16 =>
      (pI σ12 o 4 7 (x16 + 1)).bind fun σ17 =>
      rec19 σ17
    else
      (gI σ12 o 4 7).bind fun x18 =>
      some (x18, σ12)
  else
    (gR σ12 o 4 2).bind fun r19 =>
    zif (zcl σ12 o = 4) <|
    zb2 (f_X5_most o v3 σ12) fun x21 σ22 =>
    r19.bind fun a23 =>
    (sI σ22 a23 v3 x21).bind fun σ24 =>
    zl (v3 + 1) fun x25 =>
    rec48 x25 σ24

def f_X5_fewest_48 (o : Nat) (rec19 : zS → Option (Int32 × zS)) (v1 : Int32) : Int32 → zS → Option (Int32 × zS) := zlp1 (f_X5_fewest_48_b o rec19 v1) NN
set_option maxHeartbeats 4000000 in
theorem s_X5_fewest_48_b {X : zX} (hX : zOk X RX5 cX5_fewest 4 3 90 (Option.some Jvm.ClassFile.FieldType.int) "fewest" []) {o : Nat} {Rt : Int32 × zS} {rec19 : zS → Option (Int32 × zS)} {v1 : Int32} (hrec19 : ∀ (σ : zS), rec19 σ = some Rt → zG X (zQ X (.inl (eI Rt.1)) Rt.2) 4 19 [(0, zA (some o)), (1, zI v1)] [] σ) {rec48 : Int32 → zS → Option (Int32 × zS)} (hrec48 : ∀ (v3 : Int32) (σ : zS), rec48 v3 σ = some Rt → zG X (zQ X (.inl (eI Rt.1)) Rt.2) 4 48 [(0, zA (some o)), (1, zI v1), (3, zI v3)] [] σ) {v3 : Int32} {σ : zS} (h : f_X5_fewest_48_b o rec19 v1 rec48 v3 σ = some Rt) : zG X (zQ X (.inl (eI Rt.1)) Rt.2) 4 48 [(0, zA (some o)), (1, zI v1), (3, zI v3)] [] σ := by
  unfold f_X5_fewest_48_b at h
  refine z_iload_n hX 2 rfl rfl dX5_fewest_48 (z_aload_n hX 0 rfl rfl dX5_fewest_49 ?_)
  obtain ⟨c10, h⟩ := z_ck h
  refine z_cNI hX (rest := [zI v3]) h (fun r9 σ9 e9 => z_runV hX lk_X5_88 (c_X5_states hX.tr e9) (ci := 4) zc9_4 c10 ⟨Nat.le_of_ble_eq_true rfl, Nat.le_of_ble_eq_true rfl⟩ rfl (Nat.le_of_ble_eq_true rfl) dX5_fewest_50 rfl) (fun x11 σ12 h => ?_)
  refine z_icmp_ge (tgt := 73) hX h dX5_fewest_53 (by decide) (fun h => ?_) (fun h => ?_)
  · refine z_aload_n hX 0 rfl rfl dX5_fewest_73 ?_
    refine z_getR hX fl_X5_22_4 h dX5_fewest_74 (fun r13 h => ?_)
    refine z_iconst hX (v := 0) (by decide) dX5_fewest_77 ?_
    obtain ⟨a14, e9, k_a14⟩ := z_nn h
    subst e9
    have h := k_a14
    refine z_iald hX h dX5_fewest_78 (fun x15 h => ?_)
    refine z_iload_n hX 1 rfl rfl dX5_fewest_79 ?_
    refine z_icmp_lt (tgt := 88) hX h dX5_fewest_80 (by decide) (fun h => ?_) (fun h => ?_)
    · refine z_aload_n hX 0 rfl rfl dX5_fewest_88 (z_dup hX rfl dX5_fewest_89 ?_)
      refine z_getI hX fl_X5_85_4 h dX5_fewest_90 (fun x16 h => ?_)
      refine z_iconst hX (v := 1) (by decide) dX5_fewest_93 (z_iadd hX dX5_fewest_94 ?_)
      refine z_putI hX fp_X5_85_4 (fun h => nomatch h) h dX5_fewest_95 (fun σ17 h => ?_)
      refine z_goto (tgt := 19) hX dX5_fewest_98 (by decide) ?_
      exact z_sub [0, 1] rfl (hrec19  _ h)
    · refine z_aload_n hX 0 rfl rfl dX5_fewest_83 ?_
      refine z_getI hX fl_X5_85_4 h dX5_fewest_84 (fun x18 h => ?_)
      obtain rfl := Option.some.inj h
      exact z_iret hX dX5_fewest_87
  · refine z_aload_n hX 0 rfl rfl dX5_fewest_56 ?_
    refine z_getR hX fl_X5_22_4 h dX5_fewest_57 (fun r19 h => ?_)
    refine z_iload_n hX 2 rfl rfl dX5_fewest_60 (z_aload_n hX 0 rfl rfl dX5_fewest_61 (z_iload_n hX 2 rfl rfl dX5_fewest_62 ?_))
    obtain ⟨c20, h⟩ := z_ck h
    refine z_cNI hX (rest := [zI v3, zA r19]) h (fun r9 σ9 e9 => z_runV hX lk_X5_91 (c_X5_most hX.tr e9) (ci := 4) zc9_4 c20 ⟨Nat.le_of_ble_eq_true rfl, Nat.le_of_ble_eq_true rfl⟩ rfl (Nat.le_of_ble_eq_true rfl) dX5_fewest_63 rfl) (fun x21 σ22 h => ?_)
    obtain ⟨a23, e9, k_a23⟩ := z_nn h
    subst e9
    have h := k_a23
    refine z_iast hX h dX5_fewest_66 (fun σ24 h => ?_)
    refine z_iinc hX (j := 2) h rfl (by decide) (by decide) dX5_fewest_67 (fun x25 h => z_L (L' := [(0, zA (some o)), (1, zI v1), (3, zI x25)]) rfl ?_)
    refine z_goto (tgt := 48) hX dX5_fewest_70 (by decide) ?_
    exact z_sub [0, 1, 2] rfl (hrec48 _ _ h)

theorem s_X5_fewest_48 {X : zX} (hX : zOk X RX5 cX5_fewest 4 3 90 (Option.some Jvm.ClassFile.FieldType.int) "fewest" []) {o : Nat} {Rt : Int32 × zS} {rec19 : zS → Option (Int32 × zS)} {v1 : Int32} (hrec19 : ∀ (σ : zS), rec19 σ = some Rt → zG X (zQ X (.inl (eI Rt.1)) Rt.2) 4 19 [(0, zA (some o)), (1, zI v1)] [] σ) {v3 : Int32} {σ : zS} (h : f_X5_fewest_48 o rec19 v1 v3 σ = some Rt) : zG X (zQ X (.inl (eI Rt.1)) Rt.2) 4 48 [(0, zA (some o)), (1, zI v1), (3, zI v3)] [] σ :=
  zlp1_ok (P := fun v3 σ => zG X (zQ X (.inl (eI Rt.1)) Rt.2) 4 48 [(0, zA (some o)), (1, zI v1), (3, zI v3)] [] σ) (fun rec hr v3 σ h => s_X5_fewest_48_b (o := o) hX hrec19 hr h) NN v3 σ h
def f_X5_fewest_19_b (o : Nat) (v1 : Int32) (rec19 : zS → Option (Int32 × zS)) (σ : zS) : Option (Int32 × zS) :=
  (gI σ o 4 7).bind fun x5 =>
  if 60 < x5 then
    some (((-1) : Int32), σ)
  else
    (gR σ o 4 3).bind fun r6 =>
    (gR σ o 4 2).bind fun r7 =>
    (pR σ o 4 3 r7).bind fun σ8 =>
    (pR σ8 o 4 2 r6).bind fun σ9 =>
    f_X5_fewest_48 o rec19 v1 0 σ9

def f_X5_fewest_19 (o : Nat) (v1 : Int32) : zS → Option (Int32 × zS) := zlp0 (f_X5_fewest_19_b o v1) NN
set_option maxHeartbeats 4000000 in
theorem s_X5_fewest_19_b {X : zX} (hX : zOk X RX5 cX5_fewest 4 3 90 (Option.some Jvm.ClassFile.FieldType.int) "fewest" []) {o : Nat} {Rt : Int32 × zS} {v1 : Int32} {rec19 : zS → Option (Int32 × zS)} (hrec19 : ∀ (σ : zS), rec19 σ = some Rt → zG X (zQ X (.inl (eI Rt.1)) Rt.2) 4 19 [(0, zA (some o)), (1, zI v1)] [] σ) {σ : zS} (h : f_X5_fewest_19_b o v1 rec19 σ = some Rt) : zG X (zQ X (.inl (eI Rt.1)) Rt.2) 4 19 [(0, zA (some o)), (1, zI v1)] [] σ := by
  unfold f_X5_fewest_19_b at h
  refine z_aload_n hX 0 rfl rfl dX5_fewest_19 ?_
  refine z_getI hX fl_X5_85_4 h dX5_fewest_20 (fun x5 h => ?_)
  refine z_bipush hX (v := 60) (by decide) dX5_fewest_23 ?_
  refine z_icmp_gt (tgt := 101) hX h dX5_fewest_25 (by decide) (fun h => ?_) (fun h => ?_)
  · refine z_iconst hX (v := (-1)) (by decide) dX5_fewest_101 ?_
    obtain rfl := Option.some.inj h
    exact z_iret hX dX5_fewest_102
  · refine z_aload_n hX 0 rfl rfl dX5_fewest_28 ?_
    refine z_getR hX fl_X5_25_4 h dX5_fewest_29 (fun r6 h => ?_)
    refine z_astore_n (L' := [(0, zA (some o)), (1, zI v1), (2, zA r6)]) hX rfl rfl (by decide) dX5_fewest_32 (z_aload_n hX 0 rfl rfl dX5_fewest_33 (z_aload_n hX 0 rfl rfl dX5_fewest_34 ?_))
    refine z_getR hX fl_X5_22_4 h dX5_fewest_35 (fun r7 h => ?_)
    refine z_putR hX fp_X5_25_4 (Or.inr ⟨_, rfl⟩) (fun h => nomatch h) h dX5_fewest_38 (fun σ8 h => ?_)
    refine z_aload_n hX 0 rfl rfl dX5_fewest_41 (z_aload_n hX 2 rfl rfl dX5_fewest_42 ?_)
    refine z_putR hX fp_X5_22_4 (Or.inr ⟨_, rfl⟩) (fun h => nomatch h) h dX5_fewest_43 (fun σ9 h => ?_)
    refine z_iconst hX (v := 0) (by decide) dX5_fewest_46 (z_istore_n (L' := [(0, zA (some o)), (1, zI v1), (2, zA r6), (3, zI 0)]) hX rfl rfl (by decide) dX5_fewest_47 ?_)
    exact z_sub [0, 1, 3] rfl (s_X5_fewest_48 (o := o) hX hrec19 h)

theorem s_X5_fewest_19 {X : zX} (hX : zOk X RX5 cX5_fewest 4 3 90 (Option.some Jvm.ClassFile.FieldType.int) "fewest" []) {o : Nat} {Rt : Int32 × zS} {v1 : Int32} {σ : zS} (h : f_X5_fewest_19 o v1 σ = some Rt) : zG X (zQ X (.inl (eI Rt.1)) Rt.2) 4 19 [(0, zA (some o)), (1, zI v1)] [] σ :=
  zlp0_ok (P := fun σ => zG X (zQ X (.inl (eI Rt.1)) Rt.2) 4 19 [(0, zA (some o)), (1, zI v1)] [] σ) (fun rec hr σ h => s_X5_fewest_19_b (o := o) hX hr h) NN σ h
def f_X5_fewest (o : Nat) (p1 : Int32) (σ : zS) : Option (Int32 × zS) :=
  (gR σ o 4 2).bind fun r1 =>
  zb2 (f_J7_fill r1 0 σ) fun _ σ3 =>
  if ¬ p1 = 0 then
    (pI σ3 o 4 7 1).bind fun σ4 =>
    f_X5_fewest_19 o p1 σ4
  else
    some ((0 : Int32), σ3)

set_option maxHeartbeats 4000000 in
theorem s_X5_fewest {X : zX} (hX : zOk X RX5 cX5_fewest 4 3 90 (Option.some Jvm.ClassFile.FieldType.int) "fewest" []) {o : Nat} {p1 : Int32} {σ : zS} {Rt : Int32 × zS} (h : f_X5_fewest o p1 σ = some Rt) : zG X (zQ X (.inl (eI Rt.1)) Rt.2) 4 0 [(0, zA (some o)), (1, zI p1)] [] σ := by
  unfold f_X5_fewest at h
  refine z_aload_n hX 0 rfl rfl dX5_fewest_0 ?_
  refine z_getR hX fl_X5_22_4 h dX5_fewest_1 (fun r1 h => ?_)
  refine z_iconst hX (v := 0) (by decide) dX5_fewest_4 ?_
  refine z_cNU hX (rest := []) h (fun r9 σ9 e9 => z_runS hX lk_X5_79 (c_J7_fill hX.tr e9) ⟨Nat.le_of_ble_eq_true rfl, Nat.le_of_ble_eq_true rfl⟩ rfl (Nat.le_of_ble_eq_true rfl) dX5_fewest_5 rfl) (fun _ σ3 h => ?_)
  refine z_iload_n hX 1 rfl rfl dX5_fewest_8 ?_
  refine z_if_ne (tgt := 14) hX h dX5_fewest_9 (by decide) (fun h => ?_) (fun h => ?_)
  · refine z_aload_n hX 0 rfl rfl dX5_fewest_14 (z_iconst hX (v := 1) (by decide) dX5_fewest_15 ?_)
    refine z_putI hX fp_X5_85_4 (fun h => nomatch h) h dX5_fewest_16 (fun σ4 h => ?_)
    exact z_sub [0, 1] rfl (s_X5_fewest_19 (o := o) hX  h)
  · refine z_iconst hX (v := 0) (by decide) dX5_fewest_12 ?_
    obtain rfl := Option.some.inj h
    exact z_iret hX dX5_fewest_13

theorem c_X5_fewest {l : Launch} {D : va_G} {tys : zTy} (hl : l.stackTraces = false) {o : Nat} {p1 : Int32} {σ : zS} {Rt : Int32 × zS} (h : f_X5_fewest o p1 σ = some Rt) : zM l D tys yX5_fewest (ws_ yX5_fewest cX5_fewest 4 (Option.some Jvm.ClassFile.FieldType.int)) 3 90 [zA (some o), zI p1] σ (.inl (eI Rt.1)) Rt.2 :=
  zM_in hl rfl (Nat.le_of_ble_eq_true rfl) (fun p e R s m args below meth c hX => z_L rfl (s_X5_fewest hX h))
def f_X5_first_35 (o : Nat) (rec2 : Int32 → zS → Option (Int32 × zS)) (v1 : Int32) (v2 : Int32) (σ : zS) : Option (Int32 × zS) :=
  zl (v2 + 1) fun x4 =>
  rec2 x4 σ

set_option maxHeartbeats 4000000 in
theorem s_X5_first_35 {X : zX} (hX : zOk X RX5 cX5_first 3 2 66 (Option.some Jvm.ClassFile.FieldType.int) "first" []) {o : Nat} {Rt : Int32 × zS} {rec2 : Int32 → zS → Option (Int32 × zS)} {v1 : Int32} {v2 : Int32} (hrec2 : ∀ (v2 : Int32) (σ : zS), rec2 v2 σ = some Rt → zG X (zQ X (.inl (eI Rt.1)) Rt.2) 3 2 [(0, zA (some o)), (1, zI v1), (2, zI v2)] [] σ) {σ : zS} (h : f_X5_first_35 o rec2 v1 v2 σ = some Rt) : zG X (zQ X (.inl (eI Rt.1)) Rt.2) 3 35 [(0, zA (some o)), (1, zI v1), (2, zI v2)] [] σ := by
  unfold f_X5_first_35 at h
  refine z_iinc hX (j := 2) h rfl (by decide) (by decide) dX5_first_35 (fun x4 h => z_L (L' := [(0, zA (some o)), (1, zI v1), (2, zI x4)]) rfl ?_)
  refine z_goto (tgt := 2) hX dX5_first_38 (by decide) ?_
  exact z_sub [0, 1, 2] rfl (hrec2 _ _ h)

def f_X5_first_2_b (o : Nat) (v1 : Int32) (rec2 : Int32 → zS → Option (Int32 × zS)) (v2 : Int32) (σ : zS) : Option (Int32 × zS) :=
  zb2 (f_J17_bitCount v2 σ) fun x1 σ2 =>
  (gI σ2 o 4 6).bind fun x3 =>
  if x3 < x1 then
    f_X5_first_35 o rec2 v1 v2 σ2
  else
    (gR σ2 o 4 1).bind fun r5 =>
    r5.bind fun a6 =>
    (lI σ2 a6 0 v2).bind fun x7 =>
    (gR σ2 o 4 3).bind fun r8 =>
    zif (zcl σ2 o = 4) <|
    zb2 (f_X5_behind o 0 v2 σ2) fun x10 σ11 =>
    r8.bind fun a12 =>
    (lI σ11 a12 0 x10).bind fun x13 =>
    if v1 ≤ (x7 + x13) then
      some (v2, σ11)
    else
      f_X5_first_35 o rec2 v1 v2 σ11

def f_X5_first_2 (o : Nat) (v1 : Int32) : Int32 → zS → Option (Int32 × zS) := zlp1 (f_X5_first_2_b o v1) NN
set_option maxHeartbeats 4000000 in
theorem s_X5_first_2_b {X : zX} (hX : zOk X RX5 cX5_first 3 2 66 (Option.some Jvm.ClassFile.FieldType.int) "first" []) {o : Nat} {Rt : Int32 × zS} {v1 : Int32} {rec2 : Int32 → zS → Option (Int32 × zS)} (hrec2 : ∀ (v2 : Int32) (σ : zS), rec2 v2 σ = some Rt → zG X (zQ X (.inl (eI Rt.1)) Rt.2) 3 2 [(0, zA (some o)), (1, zI v1), (2, zI v2)] [] σ) {v2 : Int32} {σ : zS} (h : f_X5_first_2_b o v1 rec2 v2 σ = some Rt) : zG X (zQ X (.inl (eI Rt.1)) Rt.2) 3 2 [(0, zA (some o)), (1, zI v1), (2, zI v2)] [] σ := by
  unfold f_X5_first_2_b at h
  refine z_iload_n hX 2 rfl rfl dX5_first_2 ?_
  refine z_cNI hX (rest := []) h (fun r9 σ9 e9 => z_runS hX lk_X5_98 (c_J17_bitCount hX.tr e9) ⟨Nat.le_of_ble_eq_true rfl, Nat.le_of_ble_eq_true rfl⟩ rfl (Nat.le_of_ble_eq_true rfl) dX5_first_3 rfl) (fun x1 σ2 h => ?_)
  refine z_aload_n hX 0 rfl rfl dX5_first_6 ?_
  refine z_getI hX fl_X5_44_4 h dX5_first_7 (fun x3 h => ?_)
  refine z_icmp_gt (tgt := 35) hX h dX5_first_10 (by decide) (fun h => ?_) (fun h => ?_)
  · exact z_sub [0, 1, 2] rfl (s_X5_first_35 (o := o) hX hrec2 h)
  · refine z_aload_n hX 0 rfl rfl dX5_first_13 ?_
    refine z_getR hX fl_X5_19_4 h dX5_first_14 (fun r5 h => ?_)
    refine z_iload_n hX 2 rfl rfl dX5_first_17 ?_
    obtain ⟨a6, e9, k_a6⟩ := z_nn h
    subst e9
    have h := k_a6
    refine z_iald hX h dX5_first_18 (fun x7 h => ?_)
    refine z_aload_n hX 0 rfl rfl dX5_first_19 ?_
    refine z_getR hX fl_X5_25_4 h dX5_first_20 (fun r8 h => ?_)
    refine z_aload_n hX 0 rfl rfl dX5_first_23 (z_iconst hX (v := 0) (by decide) dX5_first_24 (z_iload_n hX 2 rfl rfl dX5_first_25 ?_))
    obtain ⟨c9, h⟩ := z_ck h
    refine z_cNI hX (rest := [zA r8, zI x7]) h (fun r9 σ9 e9 => z_runV hX lk_X5_103 (c_X5_behind hX.tr e9) (ci := 4) zc9_4 c9 ⟨Nat.le_of_ble_eq_true rfl, Nat.le_of_ble_eq_true rfl⟩ rfl (Nat.le_of_ble_eq_true rfl) dX5_first_26 rfl) (fun x10 σ11 h => ?_)
    obtain ⟨a12, e9, k_a12⟩ := z_nn h
    subst e9
    have h := k_a12
    refine z_iald hX h dX5_first_29 (fun x13 h => ?_)
    refine z_iadd hX dX5_first_30 (z_iload_n hX 1 rfl rfl dX5_first_31 ?_)
    refine z_icmp_ge (tgt := 41) hX h dX5_first_32 (by decide) (fun h => ?_) (fun h => ?_)
    · refine z_iload_n hX 2 rfl rfl dX5_first_41 ?_
      obtain rfl := Option.some.inj h
      exact z_iret hX dX5_first_42
    · exact z_sub [0, 1, 2] rfl (s_X5_first_35 (o := o) hX hrec2 h)

theorem s_X5_first_2 {X : zX} (hX : zOk X RX5 cX5_first 3 2 66 (Option.some Jvm.ClassFile.FieldType.int) "first" []) {o : Nat} {Rt : Int32 × zS} {v1 : Int32} {v2 : Int32} {σ : zS} (h : f_X5_first_2 o v1 v2 σ = some Rt) : zG X (zQ X (.inl (eI Rt.1)) Rt.2) 3 2 [(0, zA (some o)), (1, zI v1), (2, zI v2)] [] σ :=
  zlp1_ok (P := fun v2 σ => zG X (zQ X (.inl (eI Rt.1)) Rt.2) 3 2 [(0, zA (some o)), (1, zI v1), (2, zI v2)] [] σ) (fun rec hr v2 σ h => s_X5_first_2_b (o := o) hX hr h) NN v2 σ h
def f_X5_first (o : Nat) (p1 : Int32) (σ : zS) : Option (Int32 × zS) :=
  f_X5_first_2 o p1 0 σ

set_option maxHeartbeats 4000000 in
theorem s_X5_first {X : zX} (hX : zOk X RX5 cX5_first 3 2 66 (Option.some Jvm.ClassFile.FieldType.int) "first" []) {o : Nat} {p1 : Int32} {σ : zS} {Rt : Int32 × zS} (h : f_X5_first o p1 σ = some Rt) : zG X (zQ X (.inl (eI Rt.1)) Rt.2) 3 0 [(0, zA (some o)), (1, zI p1)] [] σ := by
  unfold f_X5_first at h
  refine z_iconst hX (v := 0) (by decide) dX5_first_0 (z_istore_n (L' := [(0, zA (some o)), (1, zI p1), (2, zI 0)]) hX rfl rfl (by decide) dX5_first_1 ?_)
  exact z_sub [0, 1, 2] rfl (s_X5_first_2 (o := o) hX  h)

theorem c_X5_first {l : Launch} {D : va_G} {tys : zTy} (hl : l.stackTraces = false) {o : Nat} {p1 : Int32} {σ : zS} {Rt : Int32 × zS} (h : f_X5_first o p1 σ = some Rt) : zM l D tys yX5_first (ws_ yX5_first cX5_first 3 (Option.some Jvm.ClassFile.FieldType.int)) 2 66 [zA (some o), zI p1] σ (.inl (eI Rt.1)) Rt.2 :=
  zM_in hl rfl (Nat.le_of_ble_eq_true rfl) (fun p e R s m args below meth c hX => z_L rfl (s_X5_first hX h))
def f_X1_plan (o : Nat) (p1 : Int32) (p2 : Int32) (p3 : Int32) (σ : zS) : Option ((Int32 ⊕ Nat) × zS) :=
  zif (zcl σ o = 0) <|
  zbt (f_X1_houseAt o p1 σ) (fun k9 σ9 => some (.inr k9, σ9)) fun _ σ3 =>
  zb2 (f_X1_in p2 1 6 σ3) fun x4 σ5 =>
  zbt (f_X1_demand x4 σ5) (fun k9 σ9 => some (.inr k9, σ9)) fun _ σ7 =>
  (gR σ7 o 0 4).bind fun r8 =>
  r8.bind fun a9 =>
  zif (zcl σ7 a9 = 4) <|
  zb2 (f_X5_begins a9 p1 p2 σ7) fun _ σ12 =>
  (gR σ12 o 0 4).bind fun r13 =>
  (gR σ12 o 0 0).bind fun r14 =>
  r14.bind fun a15 =>
  (gR σ12 a15 1 7).bind fun r16 =>
  r16.bind fun a17 =>
  (lI σ12 a17 0 p1).bind fun x18 =>
  r13.bind fun a19 =>
  zif (zcl σ12 a19 = 4) <|
  zb2 (f_X5_fewest a19 x18 σ12) fun x21 σ22 =>
  if p3 = 0 then
    some (.inl x21, σ22)
  else
    if ¬ x21 = (-1) then
      if ¬ x21 = 0 then
        (gR σ22 o 0 4).bind fun r23 =>
        (gR σ22 o 0 0).bind fun r24 =>
        r24.bind fun a25 =>
        (gR σ22 a25 1 7).bind fun r26 =>
        r26.bind fun a27 =>
        (lI σ22 a27 0 p1).bind fun x28 =>
        r23.bind fun a29 =>
        zif (zcl σ22 a29 = 4) <|
        zb2 (f_X5_first a29 x28 σ22) fun x31 σ32 =>
        some (.inl x31, σ32)
      else
        some (.inl (0 : Int32), σ22)
    else
      some (.inl x21, σ22)

set_option maxHeartbeats 4000000 in
theorem s_X1_plan {X : zX} (hX : zOk X RX1 cX1_plan 5 104 2636 (Option.some Jvm.ClassFile.FieldType.int) "plan" []) {o : Nat} {p1 : Int32} {p2 : Int32} {p3 : Int32} {σ : zS} {Rt : (Int32 ⊕ Nat) × zS} (h : f_X1_plan o p1 p2 p3 σ = some Rt) : zG X (zQ X (zot eI Rt.1) Rt.2) 5 0 [(0, zA (some o)), (1, zI p1), (2, zI p2), (3, zI p3)] [] σ := by
  unfold f_X1_plan at h
  refine z_aload_n hX 0 rfl rfl dX1_plan_0 (z_iload_n hX 1 rfl rfl dX1_plan_1 ?_)
  obtain ⟨c1, h⟩ := z_ck h
  refine z_cTU hX (rest := []) h (fun r9 σ9 e9 => z_runV hX lk_X1_363 (c_X1_houseAt hX.tr e9) (ci := 0) zc9_0 c1 ⟨Nat.le_of_ble_eq_true rfl, Nat.le_of_ble_eq_true rfl⟩ rfl (Nat.le_of_ble_eq_true rfl) dX1_plan_2 rfl) (fun k9 σ9 h => z_prop hX h (fun x hx => nomatch hx)) (fun _ σ3 h => ?_)
  refine z_iload_n hX 2 rfl rfl dX1_plan_5 (z_iconst hX (v := 1) (by decide) dX1_plan_6 (z_bipush hX (v := 6) (by decide) dX1_plan_7 ?_))
  refine z_cNI hX (rest := []) h (fun r9 σ9 e9 => z_runS hX lk_X1_347 (c_X1_in hX.tr e9) ⟨Nat.le_of_ble_eq_true rfl, Nat.le_of_ble_eq_true rfl⟩ rfl (Nat.le_of_ble_eq_true rfl) dX1_plan_9 rfl) (fun x4 σ5 h => ?_)
  refine z_cTU hX (rest := []) h (fun r9 σ9 e9 => z_runS hX lk_X1_403 (c_X1_demand hX.tr e9) ⟨Nat.le_of_ble_eq_true rfl, Nat.le_of_ble_eq_true rfl⟩ rfl (Nat.le_of_ble_eq_true rfl) dX1_plan_12 rfl) (fun k9 σ9 h => z_prop hX h (fun x hx => nomatch hx)) (fun _ σ7 h => ?_)
  refine z_aload_n hX 0 rfl rfl dX1_plan_15 ?_
  refine z_getR hX fl_X1_35_0 h dX1_plan_16 (fun r8 h => ?_)
  refine z_iload_n hX 1 rfl rfl dX1_plan_19 (z_iload_n hX 2 rfl rfl dX1_plan_20 ?_)
  obtain ⟨a9, e9, k_a9⟩ := z_nn h
  subst e9
  have h := k_a9
  obtain ⟨c10, h⟩ := z_ck h
  refine z_cNU hX (rest := []) h (fun r9 σ9 e9 => z_runV hX lk_X1_460 (c_X5_begins hX.tr e9) (ci := 4) zc9_4 c10 ⟨Nat.le_of_ble_eq_true rfl, Nat.le_of_ble_eq_true rfl⟩ rfl (Nat.le_of_ble_eq_true rfl) dX1_plan_21 rfl) (fun _ σ12 h => ?_)
  refine z_aload_n hX 0 rfl rfl dX1_plan_24 ?_
  refine z_getR hX fl_X1_35_0 h dX1_plan_25 (fun r13 h => ?_)
  refine z_aload_n hX 0 rfl rfl dX1_plan_28 ?_
  refine z_getR hX fl_X1_10_0 h dX1_plan_29 (fun r14 h => ?_)
  obtain ⟨a15, e9, k_a15⟩ := z_nn h
  subst e9
  have h := k_a15
  refine z_getR hX fl_X1_137_1 h dX1_plan_32 (fun r16 h => ?_)
  refine z_iload_n hX 1 rfl rfl dX1_plan_35 ?_
  obtain ⟨a17, e9, k_a17⟩ := z_nn h
  subst e9
  have h := k_a17
  refine z_iald hX h dX1_plan_36 (fun x18 h => ?_)
  obtain ⟨a19, e9, k_a19⟩ := z_nn h
  subst e9
  have h := k_a19
  obtain ⟨c20, h⟩ := z_ck h
  refine z_cNI hX (rest := []) h (fun r9 σ9 e9 => z_runV hX lk_X1_462 (c_X5_fewest hX.tr e9) (ci := 4) zc9_4 c20 ⟨Nat.le_of_ble_eq_true rfl, Nat.le_of_ble_eq_true rfl⟩ rfl (Nat.le_of_ble_eq_true rfl) dX1_plan_37 rfl) (fun x21 σ22 h => ?_)
  refine z_istore (L' := [(0, zA (some o)), (1, zI p1), (2, zI p2), (3, zI p3), (4, zI x21)]) hX rfl (by decide) dX1_plan_40 (z_iload_n hX 3 rfl rfl dX1_plan_42 ?_)
  refine z_if_eq (tgt := 52) hX h dX1_plan_43 (by decide) (fun h => ?_) (fun h => ?_)
  · refine z_iload hX 4 rfl dX1_plan_52 (z_goto (tgt := 82) hX dX1_plan_54 (by decide) ?_)
    obtain rfl := Option.some.inj h
    exact z_iret hX dX1_plan_82
  · refine z_iload hX 4 rfl dX1_plan_46 (z_iconst hX (v := (-1)) (by decide) dX1_plan_48 ?_)
    refine z_icmp_ne (tgt := 57) hX h dX1_plan_49 (by decide) (fun h => ?_) (fun h => ?_)
    · refine z_iload hX 4 rfl dX1_plan_57 ?_
      refine z_if_ne (tgt := 66) hX h dX1_plan_59 (by decide) (fun h => ?_) (fun h => ?_)
      · refine z_aload_n hX 0 rfl rfl dX1_plan_66 ?_
        refine z_getR hX fl_X1_35_0 h dX1_plan_67 (fun r23 h => ?_)
        refine z_aload_n hX 0 rfl rfl dX1_plan_70 ?_
        refine z_getR hX fl_X1_10_0 h dX1_plan_71 (fun r24 h => ?_)
        obtain ⟨a25, e9, k_a25⟩ := z_nn h
        subst e9
        have h := k_a25
        refine z_getR hX fl_X1_137_1 h dX1_plan_74 (fun r26 h => ?_)
        refine z_iload_n hX 1 rfl rfl dX1_plan_77 ?_
        obtain ⟨a27, e9, k_a27⟩ := z_nn h
        subst e9
        have h := k_a27
        refine z_iald hX h dX1_plan_78 (fun x28 h => ?_)
        obtain ⟨a29, e9, k_a29⟩ := z_nn h
        subst e9
        have h := k_a29
        obtain ⟨c30, h⟩ := z_ck h
        refine z_cNI hX (rest := []) h (fun r9 σ9 e9 => z_runV hX lk_X1_465 (c_X5_first hX.tr e9) (ci := 4) zc9_4 c30 ⟨Nat.le_of_ble_eq_true rfl, Nat.le_of_ble_eq_true rfl⟩ rfl (Nat.le_of_ble_eq_true rfl) dX1_plan_79 rfl) (fun x31 σ32 h => ?_)
        obtain rfl := Option.some.inj h
        exact z_iret hX dX1_plan_82
      · refine z_iconst hX (v := 0) (by decide) dX1_plan_62 (z_goto (tgt := 82) hX dX1_plan_63 (by decide) ?_)
        obtain rfl := Option.some.inj h
        exact z_iret hX dX1_plan_82
    · refine z_iload hX 4 rfl dX1_plan_52 (z_goto (tgt := 82) hX dX1_plan_54 (by decide) ?_)
      obtain rfl := Option.some.inj h
      exact z_iret hX dX1_plan_82

theorem c_X1_plan {l : Launch} {D : va_G} {tys : zTy} (hl : l.stackTraces = false) {o : Nat} {p1 : Int32} {p2 : Int32} {p3 : Int32} {σ : zS} {Rt : (Int32 ⊕ Nat) × zS} (h : f_X1_plan o p1 p2 p3 σ = some Rt) : zM l D tys yX1_plan (ws_ yX1_plan cX1_plan 5 (Option.some Jvm.ClassFile.FieldType.int)) 104 2636 [zA (some o), zI p1, zI p2, zI p3] σ (zot eI Rt.1) Rt.2 :=
  zM_in hl rfl (Nat.le_of_ble_eq_true rfl) (fun p e R s m args below meth c hX => z_L rfl (s_X1_plan hX h))
def f_X0_plan (p1 : Option Nat) (p2 : Int32) (p3 : Int32) (p4 : Int32) (p5 : Option Nat) (σ : zS) : Option (Int32 × zS) :=
  p1.bind fun a1 =>
  zif (zcl σ a1 = 0) <|
  zbt (f_X1_plan a1 p2 p3 p4 σ) (fun k9 σ9 =>
    if k9 = 0 then
      some ((2 : Int32), σ9)
    else
    if k9 = 2 then
      some ((1 : Int32), σ9)
    else
    none
  ) fun x3 σ4 =>
  p5.bind fun a5 =>
  (sJ σ4 a5 0 x3.toInt64).bind fun σ6 =>
  some ((0 : Int32), σ6)

set_option maxHeartbeats 4000000 in
theorem s_X0_plan {X : zX} (hX : zOk X RX0 cX0_plan 6 105 2660 (Option.some Jvm.ClassFile.FieldType.int) "plan" (tableOf [(0, 12, 15, 24), (0, 12, 19, 13)])) {p1 : Option Nat} {p2 : Int32} {p3 : Int32} {p4 : Int32} {p5 : Option Nat} {σ : zS} {Rt : Int32 × zS} (h : f_X0_plan p1 p2 p3 p4 p5 σ = some Rt) : zG X (zQ X (.inl (eI Rt.1)) Rt.2) 6 0 [(0, zA p1), (1, zI p2), (2, zI p3), (3, zI p4), (4, zA p5)] [] σ := by
  unfold f_X0_plan at h
  refine z_aload hX 4 rfl dX0_plan_0 (z_iconst hX (v := 0) (by decide) dX0_plan_2 (z_aload_n hX 0 rfl rfl dX0_plan_3 (z_iload_n hX 1 rfl rfl dX0_plan_4 (z_iload_n hX 2 rfl rfl dX0_plan_5 (z_iload_n hX 3 rfl rfl dX0_plan_6 ?_)))))
  obtain ⟨a1, e9, k_a1⟩ := z_nn h
  subst e9
  have h := k_a1
  obtain ⟨c2, h⟩ := z_ck h
  refine z_cTI hX (rest := [zI 0, zA p5]) h (fun r9 σ9 e9 => z_runV hX lk_X0_67 (c_X1_plan hX.tr e9) (ci := 0) zc9_0 c2 ⟨Nat.le_of_ble_eq_true rfl, Nat.le_of_ble_eq_true rfl⟩ rfl (Nat.le_of_ble_eq_true rfl) dX0_plan_7 rfl) (fun k9 σ9 h => ?_) (fun x3 σ4 h => ?_)
  · rcases z_ite h with ⟨e9, k_σ4_0⟩ | ⟨-, h⟩
    · subst e9
      have h := k_σ4_0
      refine z_catch hX (k := 0) (nmC := "java/lang/IllegalArgumentException") [⟨0, 12, 15, 24⟩] ⟨0, 12, 19, 13⟩ [] rfl (List.forall_mem_cons.mpr ⟨Or.inr ⟨by decide, "java/lang/IndexOutOfBoundsException", q1381, by simp [zNc, zEx]⟩, fun z hz => nomatch hz⟩) rfl (by decide) q647 (zNw_of q832 rfl) (fun q9 => ?_)
      refine z_astore (L' := [(0, zA (some a1)), (1, zI p2), (2, zI p3), (3, zI p4), (4, zA p5), (5, zA (some q9))]) hX rfl (by decide) dX0_plan_19 (z_iconst hX (v := 2) (by decide) dX0_plan_21 ?_)
      obtain rfl := Option.some.inj h
      exact z_iret hX dX0_plan_22
    rcases z_ite h with ⟨e9, k_σ4_2⟩ | ⟨-, h⟩
    · subst e9
      have h := k_σ4_2
      refine z_catch hX (k := 2) (nmC := "java/lang/IndexOutOfBoundsException") [] ⟨0, 12, 15, 24⟩ [⟨0, 12, 19, 13⟩] rfl (fun z hz => nomatch hz) rfl (by decide) q1381 (zNw_of q1415 rfl) (fun q9 => ?_)
      refine z_astore (L' := [(0, zA (some a1)), (1, zI p2), (2, zI p3), (3, zI p4), (4, zA p5), (5, zA (some q9))]) hX rfl (by decide) dX0_plan_15 (z_iconst hX (v := 1) (by decide) dX0_plan_17 ?_)
      obtain rfl := Option.some.inj h
      exact z_iret hX dX0_plan_18
    cases h
  refine z_i2l hX dX0_plan_10 ?_
  obtain ⟨a5, e9, k_a5⟩ := z_nn h
  subst e9
  have h := k_a5
  refine z_last hX h dX0_plan_11 (fun σ6 h => ?_)
  refine z_goto (tgt := 23) hX dX0_plan_12 (by decide) (z_iconst hX (v := 0) (by decide) dX0_plan_23 ?_)
  obtain rfl := Option.some.inj h
  exact z_iret hX dX0_plan_24

theorem c_X0_plan {l : Launch} {D : va_G} {tys : zTy} (hl : l.stackTraces = false) {p1 : Option Nat} {p2 : Int32} {p3 : Int32} {p4 : Int32} {p5 : Option Nat} {σ : zS} {Rt : Int32 × zS} (h : f_X0_plan p1 p2 p3 p4 p5 σ = some Rt) : zM l D tys yX0_plan (wsW_ yX0_plan cX0_plan 6 (Option.some Jvm.ClassFile.FieldType.int) [(0, 12, 15, 24), (0, 12, 19, 13)]) 105 2660 [zA p1, zI p2, zI p3, zI p4, zA p5] σ (.inl (eI Rt.1)) Rt.2 :=
  zM_inW hl rfl (Nat.le_of_ble_eq_true rfl) (fun p e R s m args below meth c hX => z_L rfl (s_X0_plan hX h))
def f_X2_burnt_38 (o : Nat) (rec4 : Int32 → Int32 → zS → Option (Int32 × zS)) (v2 : Int32) (t0 : Int32) (t1 : Int32) (σ : zS) : Option (Int32 × zS) :=
  zl (t0 + t1) fun x13 =>
  zl (v2 + 1) fun x14 =>
  rec4 x13 x14 σ

set_option maxHeartbeats 4000000 in
theorem s_X2_burnt_38 {X : zX} (hX : zOk X RX2 cX2_burnt 3 4 104 (Option.some Jvm.ClassFile.FieldType.int) "burnt" []) {o : Nat} {Rt : Int32 × zS} {rec4 : Int32 → Int32 → zS → Option (Int32 × zS)} {v2 : Int32} (hrec4 : ∀ (v1 : Int32) (v2 : Int32) (σ : zS), rec4 v1 v2 σ = some Rt → zG X (zQ X (.inl (eI Rt.1)) Rt.2) 3 4 [(0, zA (some o)), (1, zI v1), (2, zI v2)] [] σ) {t0 : Int32} {t1 : Int32} {σ : zS} (h : f_X2_burnt_38 o rec4 v2 t0 t1 σ = some Rt) : zG X (zQ X (.inl (eI Rt.1)) Rt.2) 3 38 [(0, zA (some o)), (2, zI v2)] [zI t1, zI t0] σ := by
  unfold f_X2_burnt_38 at h
  refine z_iadd hX dX2_burnt_38 ?_
  refine z_nmI h (fun x13 h => ?_)
  refine z_istore_n (L' := [(0, zA (some o)), (1, zI x13), (2, zI v2)]) hX rfl rfl (by decide) dX2_burnt_39 ?_
  refine z_iinc hX (j := 2) h rfl (by decide) (by decide) dX2_burnt_40 (fun x14 h => z_L (L' := [(0, zA (some o)), (1, zI x13), (2, zI x14)]) rfl ?_)
  refine z_goto (tgt := 4) hX dX2_burnt_43 (by decide) ?_
  exact z_sub [0, 1, 2] rfl (hrec4 _ _ _ h)

def f_X2_burnt_4_b (o : Nat) (rec4 : Int32 → Int32 → zS → Option (Int32 × zS)) (v1 : Int32) (v2 : Int32) (σ : zS) : Option (Int32 × zS) :=
  (gR σ o 1 11).bind fun r1 =>
  r1.bind fun a2 =>
  zif (zcl σ a2 = 19) <|
  zb2 (f_J2_size a2 σ) fun x4 σ5 =>
  if x4 ≤ v2 then
    some (v1, σ5)
  else
    (gR σ5 o 1 11).bind fun r6 =>
    r6.bind fun a7 =>
    zif (zcl σ5 a7 = 19) <|
    zb2 (f_J2_get a7 v2 σ5) fun r9 σ10 =>
    zif (zckC σ10 r9 8 = true) <|
    r9.bind fun a11 =>
    (gI σ10 a11 8 7).bind fun x12 =>
    if x12 = 0 then
      f_X2_burnt_38 o rec4 v2 v1 0 σ10
    else
      f_X2_burnt_38 o rec4 v2 v1 1 σ10

def f_X2_burnt_4 (o : Nat) : Int32 → Int32 → zS → Option (Int32 × zS) := zlp2 (f_X2_burnt_4_b o) NN
set_option maxHeartbeats 4000000 in
theorem s_X2_burnt_4_b {X : zX} (hX : zOk X RX2 cX2_burnt 3 4 104 (Option.some Jvm.ClassFile.FieldType.int) "burnt" []) {o : Nat} {Rt : Int32 × zS} {rec4 : Int32 → Int32 → zS → Option (Int32 × zS)} (hrec4 : ∀ (v1 : Int32) (v2 : Int32) (σ : zS), rec4 v1 v2 σ = some Rt → zG X (zQ X (.inl (eI Rt.1)) Rt.2) 3 4 [(0, zA (some o)), (1, zI v1), (2, zI v2)] [] σ) {v1 : Int32} {v2 : Int32} {σ : zS} (h : f_X2_burnt_4_b o rec4 v1 v2 σ = some Rt) : zG X (zQ X (.inl (eI Rt.1)) Rt.2) 3 4 [(0, zA (some o)), (1, zI v1), (2, zI v2)] [] σ := by
  unfold f_X2_burnt_4_b at h
  refine z_iload_n hX 2 rfl rfl dX2_burnt_4 (z_aload_n hX 0 rfl rfl dX2_burnt_5 ?_)
  refine z_getR hX fl_X2_35_1 h dX2_burnt_6 (fun r1 h => ?_)
  obtain ⟨a2, e9, k_a2⟩ := z_nn h
  subst e9
  have h := k_a2
  obtain ⟨c3, h⟩ := z_ck h
  refine z_cNI hX (rest := [zI v2]) h (fun r9 σ9 e9 => z_runV hX lk_X2_64 (c_J2_size hX.tr e9) (ci := 19) zc9_19 c3 ⟨Nat.le_of_ble_eq_true rfl, Nat.le_of_ble_eq_true rfl⟩ rfl (Nat.le_of_ble_eq_true rfl) dX2_burnt_9 rfl) (fun x4 σ5 h => ?_)
  refine z_icmp_ge (tgt := 46) hX h dX2_burnt_12 (by decide) (fun h => ?_) (fun h => ?_)
  · refine z_iload_n hX 1 rfl rfl dX2_burnt_46 ?_
    obtain rfl := Option.some.inj h
    exact z_iret hX dX2_burnt_47
  · refine z_iload_n hX 1 rfl rfl dX2_burnt_15 (z_aload_n hX 0 rfl rfl dX2_burnt_16 ?_)
    refine z_getR hX fl_X2_35_1 h dX2_burnt_17 (fun r6 h => ?_)
    refine z_iload_n hX 2 rfl rfl dX2_burnt_20 ?_
    obtain ⟨a7, e9, k_a7⟩ := z_nn h
    subst e9
    have h := k_a7
    obtain ⟨c8, h⟩ := z_ck h
    refine z_cNA hX (rest := [zI v1]) h (fun r9 σ9 e9 => z_runV hX lk_X2_68 (c_J2_get hX.tr e9) (ci := 19) zc9_19 c8 ⟨Nat.le_of_ble_eq_true rfl, Nat.le_of_ble_eq_true rfl⟩ rfl (Nat.le_of_ble_eq_true rfl) dX2_burnt_21 rfl) (fun r9 σ10 h => ?_)
    refine z_castC hX (ci := 8) rfl q412 h dX2_burnt_24 (fun h => ?_)
    obtain ⟨a11, e9, k_a11⟩ := z_nn h
    subst e9
    have h := k_a11
    refine z_getI hX fl_X2_99_8 h dX2_burnt_27 (fun x12 h => ?_)
    refine z_if_eq (tgt := 37) hX h dX2_burnt_30 (by decide) (fun h => ?_) (fun h => ?_)
    · refine z_iconst hX (v := 0) (by decide) dX2_burnt_37 ?_
      exact z_sub [0, 2] rfl (s_X2_burnt_38 (o := o) hX hrec4 h)
    · refine z_iconst hX (v := 1) (by decide) dX2_burnt_33 (z_goto (tgt := 38) hX dX2_burnt_34 (by decide) ?_)
      exact z_sub [0, 2] rfl (s_X2_burnt_38 (o := o) hX hrec4 h)

theorem s_X2_burnt_4 {X : zX} (hX : zOk X RX2 cX2_burnt 3 4 104 (Option.some Jvm.ClassFile.FieldType.int) "burnt" []) {o : Nat} {Rt : Int32 × zS} {v1 : Int32} {v2 : Int32} {σ : zS} (h : f_X2_burnt_4 o v1 v2 σ = some Rt) : zG X (zQ X (.inl (eI Rt.1)) Rt.2) 3 4 [(0, zA (some o)), (1, zI v1), (2, zI v2)] [] σ :=
  zlp2_ok (P := fun v1 v2 σ => zG X (zQ X (.inl (eI Rt.1)) Rt.2) 3 4 [(0, zA (some o)), (1, zI v1), (2, zI v2)] [] σ) (fun rec hr v1 v2 σ h => s_X2_burnt_4_b (o := o) hX hr h) NN v1 v2 σ h
def f_X2_burnt (o : Nat) (σ : zS) : Option (Int32 × zS) :=
  f_X2_burnt_4 o 0 0 σ

set_option maxHeartbeats 4000000 in
theorem s_X2_burnt {X : zX} (hX : zOk X RX2 cX2_burnt 3 4 104 (Option.some Jvm.ClassFile.FieldType.int) "burnt" []) {o : Nat} {σ : zS} {Rt : Int32 × zS} (h : f_X2_burnt o σ = some Rt) : zG X (zQ X (.inl (eI Rt.1)) Rt.2) 3 0 [(0, zA (some o))] [] σ := by
  unfold f_X2_burnt at h
  refine z_iconst hX (v := 0) (by decide) dX2_burnt_0 (z_istore_n (L' := [(0, zA (some o)), (1, zI 0)]) hX rfl rfl (by decide) dX2_burnt_1 (z_iconst hX (v := 0) (by decide) dX2_burnt_2 (z_istore_n (L' := [(0, zA (some o)), (1, zI 0), (2, zI 0)]) hX rfl rfl (by decide) dX2_burnt_3 ?_)))
  exact z_sub [0, 1, 2] rfl (s_X2_burnt_4 (o := o) hX  h)

theorem c_X2_burnt {l : Launch} {D : va_G} {tys : zTy} (hl : l.stackTraces = false) {o : Nat} {σ : zS} {Rt : Int32 × zS} (h : f_X2_burnt o σ = some Rt) : zM l D tys yX2_burnt (ws_ yX2_burnt cX2_burnt 3 (Option.some Jvm.ClassFile.FieldType.int)) 4 104 [zA (some o)] σ (.inl (eI Rt.1)) Rt.2 :=
  zM_in hl rfl (Nat.le_of_ble_eq_true rfl) (fun p e R s m args below meth c hX => z_L rfl (s_X2_burnt hX h))
def f_X1_burn_110_b (o : Nat) (v2 : Int32) (v3 : Int32) (rec110 : Int32 → zS → Option ((Int32 ⊕ Nat) × zS)) (v4 : Int32) (σ : zS) : Option ((Int32 ⊕ Nat) × zS) :=
  if v2 < v4 then
    some (.inl v3, σ)
  else
    (gR σ o 0 0).bind fun r28 =>
    r28.bind fun a29 =>
    (gR σ a29 1 11).bind fun r30 =>
    r30.bind fun a31 =>
    zif (zcl σ a31 = 19) <|
    zb2 (f_J2_get a31 v4 σ) fun r33 σ34 =>
    zif (zckC σ34 r33 8 = true) <|
    r33.bind fun a35 =>
    (pZ σ34 a35 8 7 1).bind fun σ36 =>
    zl (v4 + 1) fun x37 =>
    rec110 x37 σ36

def f_X1_burn_110 (o : Nat) (v2 : Int32) (v3 : Int32) : Int32 → zS → Option ((Int32 ⊕ Nat) × zS) := zlp1 (f_X1_burn_110_b o v2 v3) NN
set_option maxHeartbeats 4000000 in
theorem s_X1_burn_110_b {X : zX} (hX : zOk X RX1 cX1_burn 5 8 131 (Option.some Jvm.ClassFile.FieldType.int) "burn" []) {o : Nat} {Rt : (Int32 ⊕ Nat) × zS} {v2 : Int32} {v3 : Int32} {rec110 : Int32 → zS → Option ((Int32 ⊕ Nat) × zS)} (hrec110 : ∀ (v4 : Int32) (σ : zS), rec110 v4 σ = some Rt → zG X (zQ X (zot eI Rt.1) Rt.2) 5 110 [(0, zA (some o)), (2, zI v2), (3, zI v3), (4, zI v4)] [] σ) {v4 : Int32} {σ : zS} (h : f_X1_burn_110_b o v2 v3 rec110 v4 σ = some Rt) : zG X (zQ X (zot eI Rt.1) Rt.2) 5 110 [(0, zA (some o)), (2, zI v2), (3, zI v3), (4, zI v4)] [] σ := by
  unfold f_X1_burn_110_b at h
  refine z_iload hX 3 rfl dX1_burn_110 (z_iload_n hX 1 rfl rfl dX1_burn_112 ?_)
  refine z_icmp_gt (tgt := 141) hX h dX1_burn_113 (by decide) (fun h => ?_) (fun h => ?_)
  · refine z_iload_n hX 2 rfl rfl dX1_burn_141 ?_
    obtain rfl := Option.some.inj h
    exact z_iret hX dX1_burn_142
  · refine z_aload_n hX 0 rfl rfl dX1_burn_116 ?_
    refine z_getR hX fl_X1_10_0 h dX1_burn_117 (fun r28 h => ?_)
    obtain ⟨a29, e9, k_a29⟩ := z_nn h
    subst e9
    have h := k_a29
    refine z_getR hX fl_X1_374_1 h dX1_burn_120 (fun r30 h => ?_)
    refine z_iload hX 3 rfl dX1_burn_123 ?_
    obtain ⟨a31, e9, k_a31⟩ := z_nn h
    subst e9
    have h := k_a31
    obtain ⟨c32, h⟩ := z_ck h
    refine z_cNA hX (rest := []) h (fun r9 σ9 e9 => z_runV hX lk_X1_313 (c_J2_get hX.tr e9) (ci := 19) zc9_19 c32 ⟨Nat.le_of_ble_eq_true rfl, Nat.le_of_ble_eq_true rfl⟩ rfl (Nat.le_of_ble_eq_true rfl) dX1_burn_125 rfl) (fun r33 σ34 h => ?_)
    refine z_castC hX (ci := 8) rfl q385 h dX1_burn_128 (fun h => ?_)
    refine z_iconst hX (v := 1) (by decide) dX1_burn_131 ?_
    obtain ⟨a35, e9, k_a35⟩ := z_nn h
    subst e9
    have h := k_a35
    refine z_putZ hX fp_X1_396_8 (fun h => nomatch h) h dX1_burn_132 (fun σ36 h => ?_)
    refine z_iinc hX (j := 3) h rfl (by decide) (by decide) dX1_burn_135 (fun x37 h => z_L (L' := [(0, zA (some o)), (2, zI v2), (3, zI v3), (4, zI x37)]) rfl ?_)
    refine z_goto (tgt := 110) hX dX1_burn_138 (by decide) ?_
    exact z_sub [0, 1, 2, 3] rfl (hrec110 _ _ h)

theorem s_X1_burn_110 {X : zX} (hX : zOk X RX1 cX1_burn 5 8 131 (Option.some Jvm.ClassFile.FieldType.int) "burn" []) {o : Nat} {Rt : (Int32 ⊕ Nat) × zS} {v2 : Int32} {v3 : Int32} {v4 : Int32} {σ : zS} (h : f_X1_burn_110 o v2 v3 v4 σ = some Rt) : zG X (zQ X (zot eI Rt.1) Rt.2) 5 110 [(0, zA (some o)), (2, zI v2), (3, zI v3), (4, zI v4)] [] σ :=
  zlp1_ok (P := fun v4 σ => zG X (zQ X (zot eI Rt.1) Rt.2) 5 110 [(0, zA (some o)), (2, zI v2), (3, zI v3), (4, zI v4)] [] σ) (fun rec hr v4 σ h => s_X1_burn_110_b (o := o) hX hr h) NN v4 σ h
def f_X1_burn_104 (o : Nat) (v1 : Int32) (v2 : Int32) (v3 : Int32) (t0 : Int32) (σ : zS) : Option ((Int32 ⊕ Nat) × zS) :=
  zbt (f_X1_can t0 σ) (fun k9 σ9 => some (.inr k9, σ9)) fun _ σ27 =>
  f_X1_burn_110 o v2 v3 v1 σ27

set_option maxHeartbeats 4000000 in
theorem s_X1_burn_104 {X : zX} (hX : zOk X RX1 cX1_burn 5 8 131 (Option.some Jvm.ClassFile.FieldType.int) "burn" []) {o : Nat} {Rt : (Int32 ⊕ Nat) × zS} {v1 : Int32} {v2 : Int32} {v3 : Int32} {t0 : Int32} {σ : zS} (h : f_X1_burn_104 o v1 v2 v3 t0 σ = some Rt) : zG X (zQ X (zot eI Rt.1) Rt.2) 5 104 [(0, zA (some o)), (1, zI v1), (2, zI v2), (3, zI v3)] [zI t0] σ := by
  unfold f_X1_burn_104 at h
  refine z_cTU hX (rest := []) h (fun r9 σ9 e9 => z_runS hX lk_X1_418 (c_X1_can hX.tr e9) ⟨Nat.le_of_ble_eq_true rfl, Nat.le_of_ble_eq_true rfl⟩ rfl (Nat.le_of_ble_eq_true rfl) dX1_burn_104 rfl) (fun k9 σ9 h => z_prop hX h (fun x hx => nomatch hx)) (fun _ σ27 h => ?_)
  refine z_iload_n hX 1 rfl rfl dX1_burn_107 (z_istore (L' := [(0, zA (some o)), (1, zI v1), (2, zI v2), (3, zI v3), (4, zI v1)]) hX rfl (by decide) dX1_burn_108 ?_)
  exact z_sub [0, 2, 3, 4] rfl (s_X1_burn_110 (o := o) hX  h)

def f_X1_burn_85 (o : Nat) (rec52 : Int32 → Int32 → zS → Option ((Int32 ⊕ Nat) × zS)) (v1 : Int32) (v2 : Int32) (v4 : Int32) (t0 : Int32) (t1 : Int32) (σ : zS) : Option ((Int32 ⊕ Nat) × zS) :=
  zl (t0 + t1) fun x47 =>
  zl (v4 + 1) fun x48 =>
  rec52 x47 x48 σ

set_option maxHeartbeats 4000000 in
theorem s_X1_burn_85 {X : zX} (hX : zOk X RX1 cX1_burn 5 8 131 (Option.some Jvm.ClassFile.FieldType.int) "burn" []) {o : Nat} {Rt : (Int32 ⊕ Nat) × zS} {rec52 : Int32 → Int32 → zS → Option ((Int32 ⊕ Nat) × zS)} {v1 : Int32} {v2 : Int32} {v4 : Int32} (hrec52 : ∀ (v3 : Int32) (v4 : Int32) (σ : zS), rec52 v3 v4 σ = some Rt → zG X (zQ X (zot eI Rt.1) Rt.2) 5 52 [(0, zA (some o)), (1, zI v1), (2, zI v2), (3, zI v3), (4, zI v4)] [] σ) {t0 : Int32} {t1 : Int32} {σ : zS} (h : f_X1_burn_85 o rec52 v1 v2 v4 t0 t1 σ = some Rt) : zG X (zQ X (zot eI Rt.1) Rt.2) 5 85 [(0, zA (some o)), (1, zI v1), (2, zI v2), (4, zI v4)] [zI t1, zI t0] σ := by
  unfold f_X1_burn_85 at h
  refine z_iadd hX dX1_burn_85 ?_
  refine z_nmI h (fun x47 h => ?_)
  refine z_istore_n (L' := [(0, zA (some o)), (1, zI v1), (2, zI v2), (3, zI x47), (4, zI v4)]) hX rfl rfl (by decide) dX1_burn_86 ?_
  refine z_iinc hX (j := 4) h rfl (by decide) (by decide) dX1_burn_87 (fun x48 h => z_L (L' := [(0, zA (some o)), (1, zI v1), (2, zI v2), (3, zI x47), (4, zI x48)]) rfl ?_)
  refine z_goto (tgt := 52) hX dX1_burn_90 (by decide) ?_
  exact z_sub [0, 1, 2, 3, 4] rfl (hrec52 _ _ _ h)

def f_X1_burn_52_b (o : Nat) (v1 : Int32) (v2 : Int32) (rec52 : Int32 → Int32 → zS → Option ((Int32 ⊕ Nat) × zS)) (v3 : Int32) (v4 : Int32) (σ : zS) : Option ((Int32 ⊕ Nat) × zS) :=
  if v2 < v4 then
    if 16 < v3 then
      f_X1_burn_104 o v1 v2 v3 0 σ
    else
      f_X1_burn_104 o v1 v2 v3 1 σ
  else
    (gR σ o 0 0).bind fun r38 =>
    r38.bind fun a39 =>
    (gR σ a39 1 11).bind fun r40 =>
    r40.bind fun a41 =>
    zif (zcl σ a41 = 19) <|
    zb2 (f_J2_get a41 v4 σ) fun r43 σ44 =>
    zif (zckC σ44 r43 8 = true) <|
    r43.bind fun a45 =>
    (gI σ44 a45 8 7).bind fun x46 =>
    if x46 = 0 then
      f_X1_burn_85 o rec52 v1 v2 v4 v3 1 σ44
    else
      f_X1_burn_85 o rec52 v1 v2 v4 v3 0 σ44

def f_X1_burn_52 (o : Nat) (v1 : Int32) (v2 : Int32) : Int32 → Int32 → zS → Option ((Int32 ⊕ Nat) × zS) := zlp2 (f_X1_burn_52_b o v1 v2) NN
set_option maxHeartbeats 4000000 in
theorem s_X1_burn_52_b {X : zX} (hX : zOk X RX1 cX1_burn 5 8 131 (Option.some Jvm.ClassFile.FieldType.int) "burn" []) {o : Nat} {Rt : (Int32 ⊕ Nat) × zS} {v1 : Int32} {v2 : Int32} {rec52 : Int32 → Int32 → zS → Option ((Int32 ⊕ Nat) × zS)} (hrec52 : ∀ (v3 : Int32) (v4 : Int32) (σ : zS), rec52 v3 v4 σ = some Rt → zG X (zQ X (zot eI Rt.1) Rt.2) 5 52 [(0, zA (some o)), (1, zI v1), (2, zI v2), (3, zI v3), (4, zI v4)] [] σ) {v3 : Int32} {v4 : Int32} {σ : zS} (h : f_X1_burn_52_b o v1 v2 rec52 v3 v4 σ = some Rt) : zG X (zQ X (zot eI Rt.1) Rt.2) 5 52 [(0, zA (some o)), (1, zI v1), (2, zI v2), (3, zI v3), (4, zI v4)] [] σ := by
  unfold f_X1_burn_52_b at h
  refine z_iload hX 4 rfl dX1_burn_52 (z_iload_n hX 2 rfl rfl dX1_burn_54 ?_)
  refine z_icmp_gt (tgt := 93) hX h dX1_burn_55 (by decide) (fun h => ?_) (fun h => ?_)
  · refine z_iload_n hX 3 rfl rfl dX1_burn_93 (z_bipush hX (v := 16) (by decide) dX1_burn_94 ?_)
    refine z_icmp_gt (tgt := 103) hX h dX1_burn_96 (by decide) (fun h => ?_) (fun h => ?_)
    · refine z_iconst hX (v := 0) (by decide) dX1_burn_103 ?_
      exact z_sub [0, 1, 2, 3] rfl (s_X1_burn_104 (o := o) hX  h)
    · refine z_iconst hX (v := 1) (by decide) dX1_burn_99 (z_goto (tgt := 104) hX dX1_burn_100 (by decide) ?_)
      exact z_sub [0, 1, 2, 3] rfl (s_X1_burn_104 (o := o) hX  h)
  · refine z_iload_n hX 3 rfl rfl dX1_burn_58 (z_aload_n hX 0 rfl rfl dX1_burn_59 ?_)
    refine z_getR hX fl_X1_10_0 h dX1_burn_60 (fun r38 h => ?_)
    obtain ⟨a39, e9, k_a39⟩ := z_nn h
    subst e9
    have h := k_a39
    refine z_getR hX fl_X1_374_1 h dX1_burn_63 (fun r40 h => ?_)
    refine z_iload hX 4 rfl dX1_burn_66 ?_
    obtain ⟨a41, e9, k_a41⟩ := z_nn h
    subst e9
    have h := k_a41
    obtain ⟨c42, h⟩ := z_ck h
    refine z_cNA hX (rest := [zI v3]) h (fun r9 σ9 e9 => z_runV hX lk_X1_313 (c_J2_get hX.tr e9) (ci := 19) zc9_19 c42 ⟨Nat.le_of_ble_eq_true rfl, Nat.le_of_ble_eq_true rfl⟩ rfl (Nat.le_of_ble_eq_true rfl) dX1_burn_68 rfl) (fun r43 σ44 h => ?_)
    refine z_castC hX (ci := 8) rfl q385 h dX1_burn_71 (fun h => ?_)
    obtain ⟨a45, e9, k_a45⟩ := z_nn h
    subst e9
    have h := k_a45
    refine z_getI hX fl_X1_396_8 h dX1_burn_74 (fun x46 h => ?_)
    refine z_if_eq (tgt := 84) hX h dX1_burn_77 (by decide) (fun h => ?_) (fun h => ?_)
    · refine z_iconst hX (v := 1) (by decide) dX1_burn_84 ?_
      exact z_sub [0, 1, 2, 4] rfl (s_X1_burn_85 (o := o) hX hrec52 h)
    · refine z_iconst hX (v := 0) (by decide) dX1_burn_80 (z_goto (tgt := 85) hX dX1_burn_81 (by decide) ?_)
      exact z_sub [0, 1, 2, 4] rfl (s_X1_burn_85 (o := o) hX hrec52 h)

theorem s_X1_burn_52 {X : zX} (hX : zOk X RX1 cX1_burn 5 8 131 (Option.some Jvm.ClassFile.FieldType.int) "burn" []) {o : Nat} {Rt : (Int32 ⊕ Nat) × zS} {v1 : Int32} {v2 : Int32} {v3 : Int32} {v4 : Int32} {σ : zS} (h : f_X1_burn_52 o v1 v2 v3 v4 σ = some Rt) : zG X (zQ X (zot eI Rt.1) Rt.2) 5 52 [(0, zA (some o)), (1, zI v1), (2, zI v2), (3, zI v3), (4, zI v4)] [] σ :=
  zlp2_ok (P := fun v3 v4 σ => zG X (zQ X (zot eI Rt.1) Rt.2) 5 52 [(0, zA (some o)), (1, zI v1), (2, zI v2), (3, zI v3), (4, zI v4)] [] σ) (fun rec hr v3 v4 σ h => s_X1_burn_52_b (o := o) hX hr h) NN v3 v4 σ h
def f_X1_burn_38 (o : Nat) (v1 : Int32) (v2 : Int32) (t0 : Int32) (σ : zS) : Option ((Int32 ⊕ Nat) × zS) :=
  zbt (f_X1_demand t0 σ) (fun k9 σ9 => some (.inr k9, σ9)) fun _ σ20 =>
  (gR σ20 o 0 0).bind fun r21 =>
  r21.bind fun a22 =>
  zif (zcl σ20 a22 = 1) <|
  zb2 (f_X2_burnt a22 σ20) fun x24 σ25 =>
  f_X1_burn_52 o v1 v2 x24 v1 σ25

set_option maxHeartbeats 4000000 in
theorem s_X1_burn_38 {X : zX} (hX : zOk X RX1 cX1_burn 5 8 131 (Option.some Jvm.ClassFile.FieldType.int) "burn" []) {o : Nat} {Rt : (Int32 ⊕ Nat) × zS} {v1 : Int32} {v2 : Int32} {t0 : Int32} {σ : zS} (h : f_X1_burn_38 o v1 v2 t0 σ = some Rt) : zG X (zQ X (zot eI Rt.1) Rt.2) 5 38 [(0, zA (some o)), (1, zI v1), (2, zI v2)] [zI t0] σ := by
  unfold f_X1_burn_38 at h
  refine z_cTU hX (rest := []) h (fun r9 σ9 e9 => z_runS hX lk_X1_403 (c_X1_demand hX.tr e9) ⟨Nat.le_of_ble_eq_true rfl, Nat.le_of_ble_eq_true rfl⟩ rfl (Nat.le_of_ble_eq_true rfl) dX1_burn_38 rfl) (fun k9 σ9 h => z_prop hX h (fun x hx => nomatch hx)) (fun _ σ20 h => ?_)
  refine z_aload_n hX 0 rfl rfl dX1_burn_41 ?_
  refine z_getR hX fl_X1_10_0 h dX1_burn_42 (fun r21 h => ?_)
  obtain ⟨a22, e9, k_a22⟩ := z_nn h
  subst e9
  have h := k_a22
  obtain ⟨c23, h⟩ := z_ck h
  refine z_cNI hX (rest := []) h (fun r9 σ9 e9 => z_runV hX lk_X1_468 (c_X2_burnt hX.tr e9) (ci := 1) zc9_1 c23 ⟨Nat.le_of_ble_eq_true rfl, Nat.le_of_ble_eq_true rfl⟩ rfl (Nat.le_of_ble_eq_true rfl) dX1_burn_45 rfl) (fun x24 σ25 h => ?_)
  refine z_istore_n (L' := [(0, zA (some o)), (1, zI v1), (2, zI v2), (3, zI x24)]) hX rfl rfl (by decide) dX1_burn_48 (z_iload_n hX 1 rfl rfl dX1_burn_49 (z_istore (L' := [(0, zA (some o)), (1, zI v1), (2, zI v2), (3, zI x24), (4, zI v1)]) hX rfl (by decide) dX1_burn_50 ?_))
  exact z_sub [0, 1, 2, 3, 4] rfl (s_X1_burn_52 (o := o) hX  h)

def f_X1_burn (o : Nat) (p1 : Int32) (p2 : Int32) (σ : zS) : Option ((Int32 ⊕ Nat) × zS) :=
  (gR σ o 0 0).bind fun r1 =>
  r1.bind fun a2 =>
  (gR σ a2 1 11).bind fun r3 =>
  r3.bind fun a4 =>
  zif (zcl σ a4 = 19) <|
  zb2 (f_J2_size a4 σ) fun x6 σ7 =>
  zbt (f_X1_there p1 x6 σ7) (fun k9 σ9 => some (.inr k9, σ9)) fun _ σ9 =>
  (gR σ9 o 0 0).bind fun r10 =>
  r10.bind fun a11 =>
  (gR σ9 a11 1 11).bind fun r12 =>
  r12.bind fun a13 =>
  zif (zcl σ9 a13 = 19) <|
  zb2 (f_J2_size a13 σ9) fun x15 σ16 =>
  zbt (f_X1_there p2 x15 σ16) (fun k9 σ9 => some (.inr k9, σ9)) fun _ σ18 =>
  if p2 < p1 then
    f_X1_burn_38 o p1 p2 0 σ18
  else
    f_X1_burn_38 o p1 p2 1 σ18

set_option maxHeartbeats 4000000 in
theorem s_X1_burn {X : zX} (hX : zOk X RX1 cX1_burn 5 8 131 (Option.some Jvm.ClassFile.FieldType.int) "burn" []) {o : Nat} {p1 : Int32} {p2 : Int32} {σ : zS} {Rt : (Int32 ⊕ Nat) × zS} (h : f_X1_burn o p1 p2 σ = some Rt) : zG X (zQ X (zot eI Rt.1) Rt.2) 5 0 [(0, zA (some o)), (1, zI p1), (2, zI p2)] [] σ := by
  unfold f_X1_burn at h
  refine z_iload_n hX 1 rfl rfl dX1_burn_0 (z_aload_n hX 0 rfl rfl dX1_burn_1 ?_)
  refine z_getR hX fl_X1_10_0 h dX1_burn_2 (fun r1 h => ?_)
  obtain ⟨a2, e9, k_a2⟩ := z_nn h
  subst e9
  have h := k_a2
  refine z_getR hX fl_X1_374_1 h dX1_burn_5 (fun r3 h => ?_)
  obtain ⟨a4, e9, k_a4⟩ := z_nn h
  subst e9
  have h := k_a4
  obtain ⟨c5, h⟩ := z_ck h
  refine z_cNI hX (rest := [zI p1]) h (fun r9 σ9 e9 => z_runV hX lk_X1_59 (c_J2_size hX.tr e9) (ci := 19) zc9_19 c5 ⟨Nat.le_of_ble_eq_true rfl, Nat.le_of_ble_eq_true rfl⟩ rfl (Nat.le_of_ble_eq_true rfl) dX1_burn_8 rfl) (fun x6 σ7 h => ?_)
  refine z_cTU hX (rest := []) h (fun r9 σ9 e9 => z_runS hX lk_X1_360 (c_X1_there hX.tr e9) ⟨Nat.le_of_ble_eq_true rfl, Nat.le_of_ble_eq_true rfl⟩ rfl (Nat.le_of_ble_eq_true rfl) dX1_burn_11 rfl) (fun k9 σ9 h => z_prop hX h (fun x hx => nomatch hx)) (fun _ σ9 h => ?_)
  refine z_iload_n hX 2 rfl rfl dX1_burn_14 (z_aload_n hX 0 rfl rfl dX1_burn_15 ?_)
  refine z_getR hX fl_X1_10_0 h dX1_burn_16 (fun r10 h => ?_)
  obtain ⟨a11, e9, k_a11⟩ := z_nn h
  subst e9
  have h := k_a11
  refine z_getR hX fl_X1_374_1 h dX1_burn_19 (fun r12 h => ?_)
  obtain ⟨a13, e9, k_a13⟩ := z_nn h
  subst e9
  have h := k_a13
  obtain ⟨c14, h⟩ := z_ck h
  refine z_cNI hX (rest := [zI p2]) h (fun r9 σ9 e9 => z_runV hX lk_X1_59 (c_J2_size hX.tr e9) (ci := 19) zc9_19 c14 ⟨Nat.le_of_ble_eq_true rfl, Nat.le_of_ble_eq_true rfl⟩ rfl (Nat.le_of_ble_eq_true rfl) dX1_burn_22 rfl) (fun x15 σ16 h => ?_)
  refine z_cTU hX (rest := []) h (fun r9 σ9 e9 => z_runS hX lk_X1_360 (c_X1_there hX.tr e9) ⟨Nat.le_of_ble_eq_true rfl, Nat.le_of_ble_eq_true rfl⟩ rfl (Nat.le_of_ble_eq_true rfl) dX1_burn_25 rfl) (fun k9 σ9 h => z_prop hX h (fun x hx => nomatch hx)) (fun _ σ18 h => ?_)
  refine z_iload_n hX 1 rfl rfl dX1_burn_28 (z_iload_n hX 2 rfl rfl dX1_burn_29 ?_)
  refine z_icmp_gt (tgt := 37) hX h dX1_burn_30 (by decide) (fun h => ?_) (fun h => ?_)
  · refine z_iconst hX (v := 0) (by decide) dX1_burn_37 ?_
    exact z_sub [0, 1, 2] rfl (s_X1_burn_38 (o := o) hX  h)
  · refine z_iconst hX (v := 1) (by decide) dX1_burn_33 (z_goto (tgt := 38) hX dX1_burn_34 (by decide) ?_)
    exact z_sub [0, 1, 2] rfl (s_X1_burn_38 (o := o) hX  h)

theorem c_X1_burn {l : Launch} {D : va_G} {tys : zTy} (hl : l.stackTraces = false) {o : Nat} {p1 : Int32} {p2 : Int32} {σ : zS} {Rt : (Int32 ⊕ Nat) × zS} (h : f_X1_burn o p1 p2 σ = some Rt) : zM l D tys yX1_burn (ws_ yX1_burn cX1_burn 5 (Option.some Jvm.ClassFile.FieldType.int)) 8 131 [zA (some o), zI p1, zI p2] σ (zot eI Rt.1) Rt.2 :=
  zM_in hl rfl (Nat.le_of_ble_eq_true rfl) (fun p e R s m args below meth c hX => z_L rfl (s_X1_burn hX h))
def f_X0_burn (p1 : Option Nat) (p2 : Int32) (p3 : Int32) (p4 : Option Nat) (σ : zS) : Option (Int32 × zS) :=
  p1.bind fun a1 =>
  zif (zcl σ a1 = 0) <|
  zbt (f_X1_burn a1 p2 p3 σ) (fun k9 σ9 =>
    if k9 = 0 then
      some ((2 : Int32), σ9)
    else
    if k9 = 2 then
      some ((1 : Int32), σ9)
    else
    if k9 = 4 then
      some ((3 : Int32), σ9)
    else
    none
  ) fun x3 σ4 =>
  p4.bind fun a5 =>
  (sJ σ4 a5 0 x3.toInt64).bind fun σ6 =>
  some ((0 : Int32), σ6)

set_option maxHeartbeats 4000000 in
theorem s_X0_burn {X : zX} (hX : zOk X RX0 cX0_burn 5 9 155 (Option.some Jvm.ClassFile.FieldType.int) "burn" (tableOf [(0, 10, 13, 24), (0, 10, 17, 13), (0, 10, 21, 44)])) {p1 : Option Nat} {p2 : Int32} {p3 : Int32} {p4 : Option Nat} {σ : zS} {Rt : Int32 × zS} (h : f_X0_burn p1 p2 p3 p4 σ = some Rt) : zG X (zQ X (.inl (eI Rt.1)) Rt.2) 5 0 [(0, zA p1), (1, zI p2), (2, zI p3), (3, zA p4)] [] σ := by
  unfold f_X0_burn at h
  refine z_aload_n hX 3 rfl rfl dX0_burn_0 (z_iconst hX (v := 0) (by decide) dX0_burn_1 (z_aload_n hX 0 rfl rfl dX0_burn_2 (z_iload_n hX 1 rfl rfl dX0_burn_3 (z_iload_n hX 2 rfl rfl dX0_burn_4 ?_))))
  obtain ⟨a1, e9, k_a1⟩ := z_nn h
  subst e9
  have h := k_a1
  obtain ⟨c2, h⟩ := z_ck h
  refine z_cTI hX (rest := [zI 0, zA p4]) h (fun r9 σ9 e9 => z_runV hX lk_X0_71 (c_X1_burn hX.tr e9) (ci := 0) zc9_0 c2 ⟨Nat.le_of_ble_eq_true rfl, Nat.le_of_ble_eq_true rfl⟩ rfl (Nat.le_of_ble_eq_true rfl) dX0_burn_5 rfl) (fun k9 σ9 h => ?_) (fun x3 σ4 h => ?_)
  · rcases z_ite h with ⟨e9, k_σ4_0⟩ | ⟨-, h⟩
    · subst e9
      have h := k_σ4_0
      refine z_catch hX (k := 0) (nmC := "java/lang/IllegalArgumentException") [⟨0, 10, 13, 24⟩] ⟨0, 10, 17, 13⟩ [⟨0, 10, 21, 44⟩] rfl (List.forall_mem_cons.mpr ⟨Or.inr ⟨by decide, "java/lang/IndexOutOfBoundsException", q1381, by simp [zNc, zEx]⟩, fun z hz => nomatch hz⟩) rfl (by decide) q647 (zNw_of q832 rfl) (fun q9 => ?_)
      refine z_astore (L' := [(0, zA (some a1)), (1, zI p2), (2, zI p3), (3, zA p4), (4, zA (some q9))]) hX rfl (by decide) dX0_burn_17 (z_iconst hX (v := 2) (by decide) dX0_burn_19 ?_)
      obtain rfl := Option.some.inj h
      exact z_iret hX dX0_burn_20
    rcases z_ite h with ⟨e9, k_σ4_2⟩ | ⟨-, h⟩
    · subst e9
      have h := k_σ4_2
      refine z_catch hX (k := 2) (nmC := "java/lang/IndexOutOfBoundsException") [] ⟨0, 10, 13, 24⟩ [⟨0, 10, 17, 13⟩, ⟨0, 10, 21, 44⟩] rfl (fun z hz => nomatch hz) rfl (by decide) q1381 (zNw_of q1415 rfl) (fun q9 => ?_)
      refine z_astore (L' := [(0, zA (some a1)), (1, zI p2), (2, zI p3), (3, zA p4), (4, zA (some q9))]) hX rfl (by decide) dX0_burn_13 (z_iconst hX (v := 1) (by decide) dX0_burn_15 ?_)
      obtain rfl := Option.some.inj h
      exact z_iret hX dX0_burn_16
    rcases z_ite h with ⟨e9, k_σ4_4⟩ | ⟨-, h⟩
    · subst e9
      have h := k_σ4_4
      refine z_catch hX (k := 4) (nmC := "java/lang/IllegalStateException") [⟨0, 10, 13, 24⟩, ⟨0, 10, 17, 13⟩] ⟨0, 10, 21, 44⟩ [] rfl (List.forall_mem_cons.mpr ⟨Or.inr ⟨by decide, "java/lang/IndexOutOfBoundsException", q1381, by simp [zNc, zEx]⟩, List.forall_mem_cons.mpr ⟨Or.inr ⟨by decide, "java/lang/IllegalArgumentException", q647, by simp [zNc, zEx]⟩, fun z hz => nomatch hz⟩⟩) rfl (by decide) q1574 (zNw_of q1588 rfl) (fun q9 => ?_)
      refine z_astore (L' := [(0, zA (some a1)), (1, zI p2), (2, zI p3), (3, zA p4), (4, zA (some q9))]) hX rfl (by decide) dX0_burn_21 (z_iconst hX (v := 3) (by decide) dX0_burn_23 ?_)
      obtain rfl := Option.some.inj h
      exact z_iret hX dX0_burn_24
    cases h
  refine z_i2l hX dX0_burn_8 ?_
  obtain ⟨a5, e9, k_a5⟩ := z_nn h
  subst e9
  have h := k_a5
  refine z_last hX h dX0_burn_9 (fun σ6 h => ?_)
  refine z_goto (tgt := 25) hX dX0_burn_10 (by decide) (z_iconst hX (v := 0) (by decide) dX0_burn_25 ?_)
  obtain rfl := Option.some.inj h
  exact z_iret hX dX0_burn_26

theorem c_X0_burn {l : Launch} {D : va_G} {tys : zTy} (hl : l.stackTraces = false) {p1 : Option Nat} {p2 : Int32} {p3 : Int32} {p4 : Option Nat} {σ : zS} {Rt : Int32 × zS} (h : f_X0_burn p1 p2 p3 p4 σ = some Rt) : zM l D tys yX0_burn (wsW_ yX0_burn cX0_burn 5 (Option.some Jvm.ClassFile.FieldType.int) [(0, 10, 13, 24), (0, 10, 17, 13), (0, 10, 21, 44)]) 9 155 [zA p1, zI p2, zI p3, zA p4] σ (.inl (eI Rt.1)) Rt.2 :=
  zM_inW hl rfl (Nat.le_of_ble_eq_true rfl) (fun p e R s m args below meth c hX => z_L rfl (s_X0_burn hX h))
def f_X1_sifts_110 (o : Nat) (rec7 : Int32 → zS → Option (Unit × zS)) (v1 : Int32) (σ : zS) : Option (Unit × zS) :=
  zl (v1 + 1) fun x26 =>
  rec7 x26 σ

set_option maxHeartbeats 4000000 in
theorem s_X1_sifts_110 {X : zX} (hX : zOk X RX1 cX1_sifts 4 4 104 (Option.none : Option Jvm.ClassFile.FieldType) "sifts" []) {o : Nat} {Rt : Unit × zS} {rec7 : Int32 → zS → Option (Unit × zS)} {v1 : Int32} (hrec7 : ∀ (v1 : Int32) (σ : zS), rec7 v1 σ = some Rt → zG X (zQ X (.inl (eU Rt.1)) Rt.2) 4 7 [(0, zA (some o)), (1, zI v1)] [] σ) {σ : zS} (h : f_X1_sifts_110 o rec7 v1 σ = some Rt) : zG X (zQ X (.inl (eU Rt.1)) Rt.2) 4 110 [(0, zA (some o)), (1, zI v1)] [] σ := by
  unfold f_X1_sifts_110 at h
  refine z_iinc hX (j := 1) h rfl (by decide) (by decide) dX1_sifts_110 (fun x26 h => z_L (L' := [(0, zA (some o)), (1, zI x26)]) rfl ?_)
  refine z_goto (tgt := 7) hX dX1_sifts_113 (by decide) ?_
  exact z_sub [0, 1] rfl (hrec7 _ _ h)

def f_X1_sifts_90 (o : Nat) (rec7 : Int32 → zS → Option (Unit × zS)) (v1 : Int32) (v2 : Option Nat) (v3 : Int32) (σ : zS) : Option (Unit × zS) :=
  (gR σ o 0 5).bind fun r19 =>
  v2.bind fun a20 =>
  (gI σ a20 8 5).bind fun x21 =>
  r19.bind fun a22 =>
  (sI σ a22 v3 x21).bind fun σ23 =>
  (gI σ23 o 0 6).bind fun x24 =>
  (pI σ23 o 0 6 (x24 + 1)).bind fun σ25 =>
  f_X1_sifts_110 o rec7 v1 σ25

set_option maxHeartbeats 4000000 in
theorem s_X1_sifts_90 {X : zX} (hX : zOk X RX1 cX1_sifts 4 4 104 (Option.none : Option Jvm.ClassFile.FieldType) "sifts" []) {o : Nat} {Rt : Unit × zS} {rec7 : Int32 → zS → Option (Unit × zS)} {v1 : Int32} {v2 : Option Nat} {v3 : Int32} (hrec7 : ∀ (v1 : Int32) (σ : zS), rec7 v1 σ = some Rt → zG X (zQ X (.inl (eU Rt.1)) Rt.2) 4 7 [(0, zA (some o)), (1, zI v1)] [] σ) {σ : zS} (h : f_X1_sifts_90 o rec7 v1 v2 v3 σ = some Rt) : zG X (zQ X (.inl (eU Rt.1)) Rt.2) 4 90 [(0, zA (some o)), (1, zI v1), (2, zA v2), (3, zI v3)] [] σ := by
  unfold f_X1_sifts_90 at h
  refine z_aload_n hX 0 rfl rfl dX1_sifts_90 ?_
  refine z_getR hX fl_X1_39_0 h dX1_sifts_91 (fun r19 h => ?_)
  refine z_iload_n hX 3 rfl rfl dX1_sifts_94 (z_aload_n hX 2 rfl rfl dX1_sifts_95 ?_)
  obtain ⟨a20, e9, k_a20⟩ := z_nn h
  subst e9
  have h := k_a20
  refine z_getI hX fl_X1_393_8 h dX1_sifts_96 (fun x21 h => ?_)
  obtain ⟨a22, e9, k_a22⟩ := z_nn h
  subst e9
  have h := k_a22
  refine z_iast hX h dX1_sifts_99 (fun σ23 h => ?_)
  refine z_aload_n hX 0 rfl rfl dX1_sifts_100 (z_dup hX rfl dX1_sifts_101 ?_)
  refine z_getI hX fl_X1_470_0 h dX1_sifts_102 (fun x24 h => ?_)
  refine z_iconst hX (v := 1) (by decide) dX1_sifts_105 (z_iadd hX dX1_sifts_106 ?_)
  refine z_putI hX fp_X1_470_0 (fun h => nomatch h) h dX1_sifts_107 (fun σ25 h => ?_)
  exact z_sub [0, 1] rfl (s_X1_sifts_110 (o := o) hX hrec7 h)

def f_X1_sifts_51_b (o : Nat) (rec7 : Int32 → zS → Option (Unit × zS)) (v1 : Int32) (v2 : Option Nat) (rec51 : Int32 → zS → Option (Unit × zS)) (v3 : Int32) (σ : zS) : Option (Unit × zS) :=
  if v3 ≤ 0 then
    f_X1_sifts_90 o rec7 v1 v2 v3 σ
  else
    (gR σ o 0 5).bind fun r27 =>
    r27.bind fun a28 =>
    (lI σ a28 0 (v3 - 1)).bind fun x29 =>
    v2.bind fun a30 =>
    (gI σ a30 8 5).bind fun x31 =>
    if x29 ≤ x31 then
      f_X1_sifts_90 o rec7 v1 (some a30) v3 σ
    else
      (gR σ o 0 5).bind fun r32 =>
      (gR σ o 0 5).bind fun r33 =>
      r33.bind fun a34 =>
      (lI σ a34 0 (v3 - 1)).bind fun x35 =>
      r32.bind fun a36 =>
      (sI σ a36 v3 x35).bind fun σ37 =>
      zl (v3 + (-1)) fun x38 =>
      rec51 x38 σ37

def f_X1_sifts_51 (o : Nat) (rec7 : Int32 → zS → Option (Unit × zS)) (v1 : Int32) (v2 : Option Nat) : Int32 → zS → Option (Unit × zS) := zlp1 (f_X1_sifts_51_b o rec7 v1 v2) NN
set_option maxHeartbeats 4000000 in
theorem s_X1_sifts_51_b {X : zX} (hX : zOk X RX1 cX1_sifts 4 4 104 (Option.none : Option Jvm.ClassFile.FieldType) "sifts" []) {o : Nat} {Rt : Unit × zS} {rec7 : Int32 → zS → Option (Unit × zS)} {v1 : Int32} {v2 : Option Nat} (hrec7 : ∀ (v1 : Int32) (σ : zS), rec7 v1 σ = some Rt → zG X (zQ X (.inl (eU Rt.1)) Rt.2) 4 7 [(0, zA (some o)), (1, zI v1)] [] σ) {rec51 : Int32 → zS → Option (Unit × zS)} (hrec51 : ∀ (v3 : Int32) (σ : zS), rec51 v3 σ = some Rt → zG X (zQ X (.inl (eU Rt.1)) Rt.2) 4 51 [(0, zA (some o)), (1, zI v1), (2, zA v2), (3, zI v3)] [] σ) {v3 : Int32} {σ : zS} (h : f_X1_sifts_51_b o rec7 v1 v2 rec51 v3 σ = some Rt) : zG X (zQ X (.inl (eU Rt.1)) Rt.2) 4 51 [(0, zA (some o)), (1, zI v1), (2, zA v2), (3, zI v3)] [] σ := by
  unfold f_X1_sifts_51_b at h
  refine z_iload_n hX 3 rfl rfl dX1_sifts_51 ?_
  refine z_if_le (tgt := 90) hX h dX1_sifts_52 (by decide) (fun h => ?_) (fun h => ?_)
  · exact z_sub [0, 1, 2, 3] rfl (s_X1_sifts_90 (o := o) hX hrec7 h)
  · refine z_aload_n hX 0 rfl rfl dX1_sifts_55 ?_
    refine z_getR hX fl_X1_39_0 h dX1_sifts_56 (fun r27 h => ?_)
    refine z_iload_n hX 3 rfl rfl dX1_sifts_59 (z_iconst hX (v := 1) (by decide) dX1_sifts_60 (z_isub hX dX1_sifts_61 ?_))
    obtain ⟨a28, e9, k_a28⟩ := z_nn h
    subst e9
    have h := k_a28
    refine z_iald hX h dX1_sifts_62 (fun x29 h => ?_)
    refine z_aload_n hX 2 rfl rfl dX1_sifts_63 ?_
    obtain ⟨a30, e9, k_a30⟩ := z_nn h
    subst e9
    have h := k_a30
    refine z_getI hX fl_X1_393_8 h dX1_sifts_64 (fun x31 h => ?_)
    refine z_icmp_le (tgt := 90) hX h dX1_sifts_67 (by decide) (fun h => ?_) (fun h => ?_)
    · exact z_sub [0, 1, 2, 3] rfl (s_X1_sifts_90 (o := o) hX hrec7 h)
    · refine z_aload_n hX 0 rfl rfl dX1_sifts_70 ?_
      refine z_getR hX fl_X1_39_0 h dX1_sifts_71 (fun r32 h => ?_)
      refine z_iload_n hX 3 rfl rfl dX1_sifts_74 (z_aload_n hX 0 rfl rfl dX1_sifts_75 ?_)
      refine z_getR hX fl_X1_39_0 h dX1_sifts_76 (fun r33 h => ?_)
      refine z_iload_n hX 3 rfl rfl dX1_sifts_79 (z_iconst hX (v := 1) (by decide) dX1_sifts_80 (z_isub hX dX1_sifts_81 ?_))
      obtain ⟨a34, e9, k_a34⟩ := z_nn h
      subst e9
      have h := k_a34
      refine z_iald hX h dX1_sifts_82 (fun x35 h => ?_)
      obtain ⟨a36, e9, k_a36⟩ := z_nn h
      subst e9
      have h := k_a36
      refine z_iast hX h dX1_sifts_83 (fun σ37 h => ?_)
      refine z_iinc hX (j := 3) h rfl (by decide) (by decide) dX1_sifts_84 (fun x38 h => z_L (L' := [(0, zA (some o)), (1, zI v1), (2, zA (some a30)), (3, zI x38)]) rfl ?_)
      refine z_goto (tgt := 51) hX dX1_sifts_87 (by decide) ?_
      exact z_sub [0, 1, 2, 3] rfl (hrec51 _ _ h)

theorem s_X1_sifts_51 {X : zX} (hX : zOk X RX1 cX1_sifts 4 4 104 (Option.none : Option Jvm.ClassFile.FieldType) "sifts" []) {o : Nat} {Rt : Unit × zS} {rec7 : Int32 → zS → Option (Unit × zS)} {v1 : Int32} {v2 : Option Nat} (hrec7 : ∀ (v1 : Int32) (σ : zS), rec7 v1 σ = some Rt → zG X (zQ X (.inl (eU Rt.1)) Rt.2) 4 7 [(0, zA (some o)), (1, zI v1)] [] σ) {v3 : Int32} {σ : zS} (h : f_X1_sifts_51 o rec7 v1 v2 v3 σ = some Rt) : zG X (zQ X (.inl (eU Rt.1)) Rt.2) 4 51 [(0, zA (some o)), (1, zI v1), (2, zA v2), (3, zI v3)] [] σ :=
  zlp1_ok (P := fun v3 σ => zG X (zQ X (.inl (eU Rt.1)) Rt.2) 4 51 [(0, zA (some o)), (1, zI v1), (2, zA v2), (3, zI v3)] [] σ) (fun rec hr v3 σ h => s_X1_sifts_51_b (o := o) hX hrec7 hr h) NN v3 σ h
def f_X1_sifts_7_b (o : Nat) (rec7 : Int32 → zS → Option (Unit × zS)) (v1 : Int32) (σ : zS) : Option (Unit × zS) :=
  (gR σ o 0 0).bind fun r2 =>
  r2.bind fun a3 =>
  (gR σ a3 1 11).bind fun r4 =>
  r4.bind fun a5 =>
  zif (zcl σ a5 = 19) <|
  zb2 (f_J2_size a5 σ) fun x7 σ8 =>
  if x7 ≤ v1 then
    some ((), σ8)
  else
    (gR σ8 o 0 0).bind fun r9 =>
    r9.bind fun a10 =>
    (gR σ8 a10 1 11).bind fun r11 =>
    r11.bind fun a12 =>
    zif (zcl σ8 a12 = 19) <|
    zb2 (f_J2_get a12 v1 σ8) fun r14 σ15 =>
    zif (zckC σ15 r14 8 = true) <|
    r14.bind fun a16 =>
    (gI σ15 a16 8 7).bind fun x17 =>
    if ¬ x17 = 0 then
      (gI σ15 o 0 6).bind fun x18 =>
      f_X1_sifts_51 o rec7 v1 (some a16) x18 σ15
    else
      f_X1_sifts_110 o rec7 v1 σ15

def f_X1_sifts_7 (o : Nat) : Int32 → zS → Option (Unit × zS) := zlp1 (f_X1_sifts_7_b o) NN
set_option maxHeartbeats 4000000 in
theorem s_X1_sifts_7_b {X : zX} (hX : zOk X RX1 cX1_sifts 4 4 104 (Option.none : Option Jvm.ClassFile.FieldType) "sifts" []) {o : Nat} {Rt : Unit × zS} {rec7 : Int32 → zS → Option (Unit × zS)} (hrec7 : ∀ (v1 : Int32) (σ : zS), rec7 v1 σ = some Rt → zG X (zQ X (.inl (eU Rt.1)) Rt.2) 4 7 [(0, zA (some o)), (1, zI v1)] [] σ) {v1 : Int32} {σ : zS} (h : f_X1_sifts_7_b o rec7 v1 σ = some Rt) : zG X (zQ X (.inl (eU Rt.1)) Rt.2) 4 7 [(0, zA (some o)), (1, zI v1)] [] σ := by
  unfold f_X1_sifts_7_b at h
  refine z_iload_n hX 1 rfl rfl dX1_sifts_7 (z_aload_n hX 0 rfl rfl dX1_sifts_8 ?_)
  refine z_getR hX fl_X1_10_0 h dX1_sifts_9 (fun r2 h => ?_)
  obtain ⟨a3, e9, k_a3⟩ := z_nn h
  subst e9
  have h := k_a3
  refine z_getR hX fl_X1_374_1 h dX1_sifts_12 (fun r4 h => ?_)
  obtain ⟨a5, e9, k_a5⟩ := z_nn h
  subst e9
  have h := k_a5
  obtain ⟨c6, h⟩ := z_ck h
  refine z_cNI hX (rest := [zI v1]) h (fun r9 σ9 e9 => z_runV hX lk_X1_59 (c_J2_size hX.tr e9) (ci := 19) zc9_19 c6 ⟨Nat.le_of_ble_eq_true rfl, Nat.le_of_ble_eq_true rfl⟩ rfl (Nat.le_of_ble_eq_true rfl) dX1_sifts_15 rfl) (fun x7 σ8 h => ?_)
  refine z_icmp_ge (tgt := 116) hX h dX1_sifts_18 (by decide) (fun h => ?_) (fun h => ?_)
  · obtain rfl := Option.some.inj h
    exact z_vret hX dX1_sifts_116
  · refine z_aload_n hX 0 rfl rfl dX1_sifts_21 ?_
    refine z_getR hX fl_X1_10_0 h dX1_sifts_22 (fun r9 h => ?_)
    obtain ⟨a10, e9, k_a10⟩ := z_nn h
    subst e9
    have h := k_a10
    refine z_getR hX fl_X1_374_1 h dX1_sifts_25 (fun r11 h => ?_)
    refine z_iload_n hX 1 rfl rfl dX1_sifts_28 ?_
    obtain ⟨a12, e9, k_a12⟩ := z_nn h
    subst e9
    have h := k_a12
    obtain ⟨c13, h⟩ := z_ck h
    refine z_cNA hX (rest := []) h (fun r9 σ9 e9 => z_runV hX lk_X1_313 (c_J2_get hX.tr e9) (ci := 19) zc9_19 c13 ⟨Nat.le_of_ble_eq_true rfl, Nat.le_of_ble_eq_true rfl⟩ rfl (Nat.le_of_ble_eq_true rfl) dX1_sifts_29 rfl) (fun r14 σ15 h => ?_)
    refine z_castC hX (ci := 8) rfl q385 h dX1_sifts_32 (fun h => ?_)
    refine z_astore_n (L' := [(0, zA (some o)), (1, zI v1), (2, zA r14)]) hX rfl rfl (by decide) dX1_sifts_35 (z_aload_n hX 2 rfl rfl dX1_sifts_36 ?_)
    obtain ⟨a16, e9, k_a16⟩ := z_nn h
    subst e9
    have h := k_a16
    refine z_getI hX fl_X1_396_8 h dX1_sifts_37 (fun x17 h => ?_)
    refine z_if_ne (tgt := 46) hX h dX1_sifts_40 (by decide) (fun h => ?_) (fun h => ?_)
    · refine z_aload_n hX 0 rfl rfl dX1_sifts_46 ?_
      refine z_getI hX fl_X1_470_0 h dX1_sifts_47 (fun x18 h => ?_)
      refine z_istore_n (L' := [(0, zA (some o)), (1, zI v1), (2, zA (some a16)), (3, zI x18)]) hX rfl rfl (by decide) dX1_sifts_50 ?_
      exact z_sub [0, 1, 2, 3] rfl (s_X1_sifts_51 (o := o) hX hrec7 h)
    · refine z_goto (tgt := 110) hX dX1_sifts_43 (by decide) ?_
      exact z_sub [0, 1] rfl (s_X1_sifts_110 (o := o) hX hrec7 h)

theorem s_X1_sifts_7 {X : zX} (hX : zOk X RX1 cX1_sifts 4 4 104 (Option.none : Option Jvm.ClassFile.FieldType) "sifts" []) {o : Nat} {Rt : Unit × zS} {v1 : Int32} {σ : zS} (h : f_X1_sifts_7 o v1 σ = some Rt) : zG X (zQ X (.inl (eU Rt.1)) Rt.2) 4 7 [(0, zA (some o)), (1, zI v1)] [] σ :=
  zlp1_ok (P := fun v1 σ => zG X (zQ X (.inl (eU Rt.1)) Rt.2) 4 7 [(0, zA (some o)), (1, zI v1)] [] σ) (fun rec hr v1 σ h => s_X1_sifts_7_b (o := o) hX hr h) NN v1 σ h
def f_X1_sifts (o : Nat) (σ : zS) : Option (Unit × zS) :=
  (pI σ o 0 6 0).bind fun σ1 =>
  f_X1_sifts_7 o 0 σ1

set_option maxHeartbeats 4000000 in
theorem s_X1_sifts {X : zX} (hX : zOk X RX1 cX1_sifts 4 4 104 (Option.none : Option Jvm.ClassFile.FieldType) "sifts" []) {o : Nat} {σ : zS} {Rt : Unit × zS} (h : f_X1_sifts o σ = some Rt) : zG X (zQ X (.inl (eU Rt.1)) Rt.2) 4 0 [(0, zA (some o))] [] σ := by
  unfold f_X1_sifts at h
  refine z_aload_n hX 0 rfl rfl dX1_sifts_0 (z_iconst hX (v := 0) (by decide) dX1_sifts_1 ?_)
  refine z_putI hX fp_X1_470_0 (fun h => nomatch h) h dX1_sifts_2 (fun σ1 h => ?_)
  refine z_iconst hX (v := 0) (by decide) dX1_sifts_5 (z_istore_n (L' := [(0, zA (some o)), (1, zI 0)]) hX rfl rfl (by decide) dX1_sifts_6 ?_)
  exact z_sub [0, 1] rfl (s_X1_sifts_7 (o := o) hX  h)

theorem c_X1_sifts {l : Launch} {D : va_G} {tys : zTy} (hl : l.stackTraces = false) {o : Nat} {σ : zS} {Rt : Unit × zS} (h : f_X1_sifts o σ = some Rt) : zM l D tys yX1_sifts (ws_ yX1_sifts cX1_sifts 4 (Option.none : Option Jvm.ClassFile.FieldType)) 4 104 [zA (some o)] σ (.inl (eU Rt.1)) Rt.2 :=
  zM_in hl rfl (Nat.le_of_ble_eq_true rfl) (fun p e R s m args below meth c hX => z_L rfl (s_X1_sifts hX h))
def f_X1_known_61 (o : Nat) (rec4 : Int32 → Int32 → zS → Option (Int32 × zS)) (v1 : Int32) (v3 : Int32) (t0 : Int32) (t1 : Int32) (σ : zS) : Option (Int32 × zS) :=
  zl (t0 + t1) fun x17 =>
  zl (v3 + 1) fun x18 =>
  rec4 x17 x18 σ

set_option maxHeartbeats 4000000 in
theorem s_X1_known_61 {X : zX} (hX : zOk X RX1 cX1_known 5 4 104 (Option.some Jvm.ClassFile.FieldType.int) "known" []) {o : Nat} {Rt : Int32 × zS} {rec4 : Int32 → Int32 → zS → Option (Int32 × zS)} {v1 : Int32} {v3 : Int32} (hrec4 : ∀ (v2 : Int32) (v3 : Int32) (σ : zS), rec4 v2 v3 σ = some Rt → zG X (zQ X (.inl (eI Rt.1)) Rt.2) 5 4 [(0, zA (some o)), (1, zI v1), (2, zI v2), (3, zI v3)] [] σ) {t0 : Int32} {t1 : Int32} {σ : zS} (h : f_X1_known_61 o rec4 v1 v3 t0 t1 σ = some Rt) : zG X (zQ X (.inl (eI Rt.1)) Rt.2) 5 61 [(0, zA (some o)), (1, zI v1), (3, zI v3)] [zI t1, zI t0] σ := by
  unfold f_X1_known_61 at h
  refine z_iadd hX dX1_known_61 ?_
  refine z_nmI h (fun x17 h => ?_)
  refine z_istore_n (L' := [(0, zA (some o)), (1, zI v1), (2, zI x17), (3, zI v3)]) hX rfl rfl (by decide) dX1_known_62 ?_
  refine z_iinc hX (j := 3) h rfl (by decide) (by decide) dX1_known_63 (fun x18 h => z_L (L' := [(0, zA (some o)), (1, zI v1), (2, zI x17), (3, zI x18)]) rfl ?_)
  refine z_goto (tgt := 4) hX dX1_known_66 (by decide) ?_
  exact z_sub [0, 1, 2, 3] rfl (hrec4 _ _ _ h)

def f_X1_known_60 (o : Nat) (rec4 : Int32 → Int32 → zS → Option (Int32 × zS)) (v1 : Int32) (v3 : Int32) (t0 : Int32) (σ : zS) : Option (Int32 × zS) :=
  f_X1_known_61 o rec4 v1 v3 t0 0 σ

set_option maxHeartbeats 4000000 in
theorem s_X1_known_60 {X : zX} (hX : zOk X RX1 cX1_known 5 4 104 (Option.some Jvm.ClassFile.FieldType.int) "known" []) {o : Nat} {Rt : Int32 × zS} {rec4 : Int32 → Int32 → zS → Option (Int32 × zS)} {v1 : Int32} {v3 : Int32} (hrec4 : ∀ (v2 : Int32) (v3 : Int32) (σ : zS), rec4 v2 v3 σ = some Rt → zG X (zQ X (.inl (eI Rt.1)) Rt.2) 5 4 [(0, zA (some o)), (1, zI v1), (2, zI v2), (3, zI v3)] [] σ) {t0 : Int32} {σ : zS} (h : f_X1_known_60 o rec4 v1 v3 t0 σ = some Rt) : zG X (zQ X (.inl (eI Rt.1)) Rt.2) 5 60 [(0, zA (some o)), (1, zI v1), (3, zI v3)] [zI t0] σ := by
  unfold f_X1_known_60 at h
  refine z_iconst hX (v := 0) (by decide) dX1_known_60 ?_
  exact z_sub [0, 1, 2] rfl (s_X1_known_61 (o := o) hX hrec4 h)

def f_X1_known_4_b (o : Nat) (v1 : Int32) (rec4 : Int32 → Int32 → zS → Option (Int32 × zS)) (v2 : Int32) (v3 : Int32) (σ : zS) : Option (Int32 × zS) :=
  (gR σ o 0 0).bind fun r1 =>
  r1.bind fun a2 =>
  (gR σ a2 1 11).bind fun r3 =>
  r3.bind fun a4 =>
  zif (zcl σ a4 = 19) <|
  zb2 (f_J2_size a4 σ) fun x6 σ7 =>
  if x6 ≤ v3 then
    some (v2, σ7)
  else
    (gR σ7 o 0 0).bind fun r8 =>
    r8.bind fun a9 =>
    (gR σ7 a9 1 11).bind fun r10 =>
    r10.bind fun a11 =>
    zif (zcl σ7 a11 = 19) <|
    zb2 (f_J2_get a11 v3 σ7) fun r13 σ14 =>
    zif (zckC σ14 r13 8 = true) <|
    r13.bind fun a15 =>
    (gI σ14 a15 8 3).bind fun x16 =>
    if ¬ x16 = v1 then
      f_X1_known_60 o rec4 v1 v3 v2 σ14
    else
      (gI σ14 a15 8 7).bind fun x19 =>
      if ¬ x19 = 0 then
        f_X1_known_60 o rec4 v1 v3 v2 σ14
      else
        (gI σ14 a15 8 5).bind fun x20 =>
        f_X1_known_61 o rec4 v1 v3 v2 x20 σ14

def f_X1_known_4 (o : Nat) (v1 : Int32) : Int32 → Int32 → zS → Option (Int32 × zS) := zlp2 (f_X1_known_4_b o v1) NN
set_option maxHeartbeats 4000000 in
theorem s_X1_known_4_b {X : zX} (hX : zOk X RX1 cX1_known 5 4 104 (Option.some Jvm.ClassFile.FieldType.int) "known" []) {o : Nat} {Rt : Int32 × zS} {v1 : Int32} {rec4 : Int32 → Int32 → zS → Option (Int32 × zS)} (hrec4 : ∀ (v2 : Int32) (v3 : Int32) (σ : zS), rec4 v2 v3 σ = some Rt → zG X (zQ X (.inl (eI Rt.1)) Rt.2) 5 4 [(0, zA (some o)), (1, zI v1), (2, zI v2), (3, zI v3)] [] σ) {v2 : Int32} {v3 : Int32} {σ : zS} (h : f_X1_known_4_b o v1 rec4 v2 v3 σ = some Rt) : zG X (zQ X (.inl (eI Rt.1)) Rt.2) 5 4 [(0, zA (some o)), (1, zI v1), (2, zI v2), (3, zI v3)] [] σ := by
  unfold f_X1_known_4_b at h
  refine z_iload_n hX 3 rfl rfl dX1_known_4 (z_aload_n hX 0 rfl rfl dX1_known_5 ?_)
  refine z_getR hX fl_X1_10_0 h dX1_known_6 (fun r1 h => ?_)
  obtain ⟨a2, e9, k_a2⟩ := z_nn h
  subst e9
  have h := k_a2
  refine z_getR hX fl_X1_374_1 h dX1_known_9 (fun r3 h => ?_)
  obtain ⟨a4, e9, k_a4⟩ := z_nn h
  subst e9
  have h := k_a4
  obtain ⟨c5, h⟩ := z_ck h
  refine z_cNI hX (rest := [zI v3]) h (fun r9 σ9 e9 => z_runV hX lk_X1_59 (c_J2_size hX.tr e9) (ci := 19) zc9_19 c5 ⟨Nat.le_of_ble_eq_true rfl, Nat.le_of_ble_eq_true rfl⟩ rfl (Nat.le_of_ble_eq_true rfl) dX1_known_12 rfl) (fun x6 σ7 h => ?_)
  refine z_icmp_ge (tgt := 69) hX h dX1_known_15 (by decide) (fun h => ?_) (fun h => ?_)
  · refine z_iload_n hX 2 rfl rfl dX1_known_69 ?_
    obtain rfl := Option.some.inj h
    exact z_iret hX dX1_known_70
  · refine z_aload_n hX 0 rfl rfl dX1_known_18 ?_
    refine z_getR hX fl_X1_10_0 h dX1_known_19 (fun r8 h => ?_)
    obtain ⟨a9, e9, k_a9⟩ := z_nn h
    subst e9
    have h := k_a9
    refine z_getR hX fl_X1_374_1 h dX1_known_22 (fun r10 h => ?_)
    refine z_iload_n hX 3 rfl rfl dX1_known_25 ?_
    obtain ⟨a11, e9, k_a11⟩ := z_nn h
    subst e9
    have h := k_a11
    obtain ⟨c12, h⟩ := z_ck h
    refine z_cNA hX (rest := []) h (fun r9 σ9 e9 => z_runV hX lk_X1_313 (c_J2_get hX.tr e9) (ci := 19) zc9_19 c12 ⟨Nat.le_of_ble_eq_true rfl, Nat.le_of_ble_eq_true rfl⟩ rfl (Nat.le_of_ble_eq_true rfl) dX1_known_26 rfl) (fun r13 σ14 h => ?_)
    refine z_castC hX (ci := 8) rfl q385 h dX1_known_29 (fun h => ?_)
    refine z_astore (L' := [(0, zA (some o)), (1, zI v1), (2, zI v2), (3, zI v3), (4, zA r13)]) hX rfl (by decide) dX1_known_32 (z_iload_n hX 2 rfl rfl dX1_known_34 (z_aload hX 4 rfl dX1_known_35 ?_))
    obtain ⟨a15, e9, k_a15⟩ := z_nn h
    subst e9
    have h := k_a15
    refine z_getI hX fl_X1_399_8 h dX1_known_37 (fun x16 h => ?_)
    refine z_iload_n hX 1 rfl rfl dX1_known_40 ?_
    refine z_icmp_ne (tgt := 60) hX h dX1_known_41 (by decide) (fun h => ?_) (fun h => ?_)
    · exact z_sub [0, 1, 3] rfl (s_X1_known_60 (o := o) hX hrec4 h)
    · refine z_aload hX 4 rfl dX1_known_44 ?_
      refine z_getI hX fl_X1_396_8 h dX1_known_46 (fun x19 h => ?_)
      refine z_if_ne (tgt := 60) hX h dX1_known_49 (by decide) (fun h => ?_) (fun h => ?_)
      · exact z_sub [0, 1, 3] rfl (s_X1_known_60 (o := o) hX hrec4 h)
      · refine z_aload hX 4 rfl dX1_known_52 ?_
        refine z_getI hX fl_X1_393_8 h dX1_known_54 (fun x20 h => ?_)
        refine z_goto (tgt := 61) hX dX1_known_57 (by decide) ?_
        exact z_sub [0, 1, 3] rfl (s_X1_known_61 (o := o) hX hrec4 h)

theorem s_X1_known_4 {X : zX} (hX : zOk X RX1 cX1_known 5 4 104 (Option.some Jvm.ClassFile.FieldType.int) "known" []) {o : Nat} {Rt : Int32 × zS} {v1 : Int32} {v2 : Int32} {v3 : Int32} {σ : zS} (h : f_X1_known_4 o v1 v2 v3 σ = some Rt) : zG X (zQ X (.inl (eI Rt.1)) Rt.2) 5 4 [(0, zA (some o)), (1, zI v1), (2, zI v2), (3, zI v3)] [] σ :=
  zlp2_ok (P := fun v2 v3 σ => zG X (zQ X (.inl (eI Rt.1)) Rt.2) 5 4 [(0, zA (some o)), (1, zI v1), (2, zI v2), (3, zI v3)] [] σ) (fun rec hr v2 v3 σ h => s_X1_known_4_b (o := o) hX hr h) NN v2 v3 σ h
def f_X1_known (o : Nat) (p1 : Int32) (σ : zS) : Option (Int32 × zS) :=
  f_X1_known_4 o p1 0 0 σ

set_option maxHeartbeats 4000000 in
theorem s_X1_known {X : zX} (hX : zOk X RX1 cX1_known 5 4 104 (Option.some Jvm.ClassFile.FieldType.int) "known" []) {o : Nat} {p1 : Int32} {σ : zS} {Rt : Int32 × zS} (h : f_X1_known o p1 σ = some Rt) : zG X (zQ X (.inl (eI Rt.1)) Rt.2) 5 0 [(0, zA (some o)), (1, zI p1)] [] σ := by
  unfold f_X1_known at h
  refine z_iconst hX (v := 0) (by decide) dX1_known_0 (z_istore_n (L' := [(0, zA (some o)), (1, zI p1), (2, zI 0)]) hX rfl rfl (by decide) dX1_known_1 (z_iconst hX (v := 0) (by decide) dX1_known_2 (z_istore_n (L' := [(0, zA (some o)), (1, zI p1), (2, zI 0), (3, zI 0)]) hX rfl rfl (by decide) dX1_known_3 ?_)))
  exact z_sub [0, 1, 2, 3] rfl (s_X1_known_4 (o := o) hX  h)

theorem c_X1_known {l : Launch} {D : va_G} {tys : zTy} (hl : l.stackTraces = false) {o : Nat} {p1 : Int32} {σ : zS} {Rt : Int32 × zS} (h : f_X1_known o p1 σ = some Rt) : zM l D tys yX1_known (ws_ yX1_known cX1_known 5 (Option.some Jvm.ClassFile.FieldType.int)) 4 104 [zA (some o), zI p1] σ (.inl (eI Rt.1)) Rt.2 :=
  zM_in hl rfl (Nat.le_of_ble_eq_true rfl) (fun p e R s m args below meth c hX => z_L rfl (s_X1_known hX h))
def f_X1_lost_65 (o : Nat) (rec4 : Int32 → Int32 → zS → Option (Int32 × zS)) (v1 : Int32) (v3 : Int32) (t0 : Int32) (t1 : Int32) (σ : zS) : Option (Int32 × zS) :=
  zl (t0 + t1) fun x17 =>
  zl (v3 + 1) fun x18 =>
  rec4 x17 x18 σ

set_option maxHeartbeats 4000000 in
theorem s_X1_lost_65 {X : zX} (hX : zOk X RX1 cX1_lost 4 4 104 (Option.some Jvm.ClassFile.FieldType.int) "lost" []) {o : Nat} {Rt : Int32 × zS} {rec4 : Int32 → Int32 → zS → Option (Int32 × zS)} {v1 : Int32} {v3 : Int32} (hrec4 : ∀ (v2 : Int32) (v3 : Int32) (σ : zS), rec4 v2 v3 σ = some Rt → zG X (zQ X (.inl (eI Rt.1)) Rt.2) 4 4 [(0, zA (some o)), (1, zI v1), (2, zI v2), (3, zI v3)] [] σ) {t0 : Int32} {t1 : Int32} {σ : zS} (h : f_X1_lost_65 o rec4 v1 v3 t0 t1 σ = some Rt) : zG X (zQ X (.inl (eI Rt.1)) Rt.2) 4 65 [(0, zA (some o)), (1, zI v1), (3, zI v3)] [zI t1, zI t0] σ := by
  unfold f_X1_lost_65 at h
  refine z_iadd hX dX1_lost_65 ?_
  refine z_nmI h (fun x17 h => ?_)
  refine z_istore_n (L' := [(0, zA (some o)), (1, zI v1), (2, zI x17), (3, zI v3)]) hX rfl rfl (by decide) dX1_lost_66 ?_
  refine z_iinc hX (j := 3) h rfl (by decide) (by decide) dX1_lost_67 (fun x18 h => z_L (L' := [(0, zA (some o)), (1, zI v1), (2, zI x17), (3, zI x18)]) rfl ?_)
  refine z_goto (tgt := 4) hX dX1_lost_70 (by decide) ?_
  exact z_sub [0, 1, 2, 3] rfl (hrec4 _ _ _ h)

def f_X1_lost_64 (o : Nat) (rec4 : Int32 → Int32 → zS → Option (Int32 × zS)) (v1 : Int32) (v3 : Int32) (t0 : Int32) (σ : zS) : Option (Int32 × zS) :=
  f_X1_lost_65 o rec4 v1 v3 t0 0 σ

set_option maxHeartbeats 4000000 in
theorem s_X1_lost_64 {X : zX} (hX : zOk X RX1 cX1_lost 4 4 104 (Option.some Jvm.ClassFile.FieldType.int) "lost" []) {o : Nat} {Rt : Int32 × zS} {rec4 : Int32 → Int32 → zS → Option (Int32 × zS)} {v1 : Int32} {v3 : Int32} (hrec4 : ∀ (v2 : Int32) (v3 : Int32) (σ : zS), rec4 v2 v3 σ = some Rt → zG X (zQ X (.inl (eI Rt.1)) Rt.2) 4 4 [(0, zA (some o)), (1, zI v1), (2, zI v2), (3, zI v3)] [] σ) {t0 : Int32} {σ : zS} (h : f_X1_lost_64 o rec4 v1 v3 t0 σ = some Rt) : zG X (zQ X (.inl (eI Rt.1)) Rt.2) 4 64 [(0, zA (some o)), (1, zI v1), (3, zI v3)] [zI t0] σ := by
  unfold f_X1_lost_64 at h
  refine z_iconst hX (v := 0) (by decide) dX1_lost_64 ?_
  exact z_sub [0, 1, 2] rfl (s_X1_lost_65 (o := o) hX hrec4 h)

def f_X1_lost_4_b (o : Nat) (v1 : Int32) (rec4 : Int32 → Int32 → zS → Option (Int32 × zS)) (v2 : Int32) (v3 : Int32) (σ : zS) : Option (Int32 × zS) :=
  (gR σ o 0 0).bind fun r1 =>
  r1.bind fun a2 =>
  (gR σ a2 1 11).bind fun r3 =>
  r3.bind fun a4 =>
  zif (zcl σ a4 = 19) <|
  zb2 (f_J2_size a4 σ) fun x6 σ7 =>
  if x6 ≤ v3 then
    some (v2, σ7)
  else
    (gR σ7 o 0 0).bind fun r8 =>
    r8.bind fun a9 =>
    (gR σ7 a9 1 11).bind fun r10 =>
    r10.bind fun a11 =>
    zif (zcl σ7 a11 = 19) <|
    zb2 (f_J2_get a11 v3 σ7) fun r13 σ14 =>
    zif (zckC σ14 r13 8 = true) <|
    r13.bind fun a15 =>
    (gI σ14 a15 8 3).bind fun x16 =>
    if ¬ x16 = v1 then
      f_X1_lost_64 o rec4 v1 v3 v2 σ14
    else
      (gR σ14 o 0 0).bind fun r19 =>
      r19.bind fun a20 =>
      (gR σ14 a20 1 11).bind fun r21 =>
      r21.bind fun a22 =>
      zif (zcl σ14 a22 = 19) <|
      zb2 (f_J2_get a22 v3 σ14) fun r24 σ25 =>
      zif (zckC σ25 r24 8 = true) <|
      r24.bind fun a26 =>
      (gI σ25 a26 8 7).bind fun x27 =>
      if x27 = 0 then
        f_X1_lost_64 o rec4 v1 v3 v2 σ25
      else
        f_X1_lost_65 o rec4 v1 v3 v2 1 σ25

def f_X1_lost_4 (o : Nat) (v1 : Int32) : Int32 → Int32 → zS → Option (Int32 × zS) := zlp2 (f_X1_lost_4_b o v1) NN
set_option maxHeartbeats 4000000 in
theorem s_X1_lost_4_b {X : zX} (hX : zOk X RX1 cX1_lost 4 4 104 (Option.some Jvm.ClassFile.FieldType.int) "lost" []) {o : Nat} {Rt : Int32 × zS} {v1 : Int32} {rec4 : Int32 → Int32 → zS → Option (Int32 × zS)} (hrec4 : ∀ (v2 : Int32) (v3 : Int32) (σ : zS), rec4 v2 v3 σ = some Rt → zG X (zQ X (.inl (eI Rt.1)) Rt.2) 4 4 [(0, zA (some o)), (1, zI v1), (2, zI v2), (3, zI v3)] [] σ) {v2 : Int32} {v3 : Int32} {σ : zS} (h : f_X1_lost_4_b o v1 rec4 v2 v3 σ = some Rt) : zG X (zQ X (.inl (eI Rt.1)) Rt.2) 4 4 [(0, zA (some o)), (1, zI v1), (2, zI v2), (3, zI v3)] [] σ := by
  unfold f_X1_lost_4_b at h
  refine z_iload_n hX 3 rfl rfl dX1_lost_4 (z_aload_n hX 0 rfl rfl dX1_lost_5 ?_)
  refine z_getR hX fl_X1_10_0 h dX1_lost_6 (fun r1 h => ?_)
  obtain ⟨a2, e9, k_a2⟩ := z_nn h
  subst e9
  have h := k_a2
  refine z_getR hX fl_X1_374_1 h dX1_lost_9 (fun r3 h => ?_)
  obtain ⟨a4, e9, k_a4⟩ := z_nn h
  subst e9
  have h := k_a4
  obtain ⟨c5, h⟩ := z_ck h
  refine z_cNI hX (rest := [zI v3]) h (fun r9 σ9 e9 => z_runV hX lk_X1_59 (c_J2_size hX.tr e9) (ci := 19) zc9_19 c5 ⟨Nat.le_of_ble_eq_true rfl, Nat.le_of_ble_eq_true rfl⟩ rfl (Nat.le_of_ble_eq_true rfl) dX1_lost_12 rfl) (fun x6 σ7 h => ?_)
  refine z_icmp_ge (tgt := 73) hX h dX1_lost_15 (by decide) (fun h => ?_) (fun h => ?_)
  · refine z_iload_n hX 2 rfl rfl dX1_lost_73 ?_
    obtain rfl := Option.some.inj h
    exact z_iret hX dX1_lost_74
  · refine z_iload_n hX 2 rfl rfl dX1_lost_18 (z_aload_n hX 0 rfl rfl dX1_lost_19 ?_)
    refine z_getR hX fl_X1_10_0 h dX1_lost_20 (fun r8 h => ?_)
    obtain ⟨a9, e9, k_a9⟩ := z_nn h
    subst e9
    have h := k_a9
    refine z_getR hX fl_X1_374_1 h dX1_lost_23 (fun r10 h => ?_)
    refine z_iload_n hX 3 rfl rfl dX1_lost_26 ?_
    obtain ⟨a11, e9, k_a11⟩ := z_nn h
    subst e9
    have h := k_a11
    obtain ⟨c12, h⟩ := z_ck h
    refine z_cNA hX (rest := [zI v2]) h (fun r9 σ9 e9 => z_runV hX lk_X1_313 (c_J2_get hX.tr e9) (ci := 19) zc9_19 c12 ⟨Nat.le_of_ble_eq_true rfl, Nat.le_of_ble_eq_true rfl⟩ rfl (Nat.le_of_ble_eq_true rfl) dX1_lost_27 rfl) (fun r13 σ14 h => ?_)
    refine z_castC hX (ci := 8) rfl q385 h dX1_lost_30 (fun h => ?_)
    obtain ⟨a15, e9, k_a15⟩ := z_nn h
    subst e9
    have h := k_a15
    refine z_getI hX fl_X1_399_8 h dX1_lost_33 (fun x16 h => ?_)
    refine z_iload_n hX 1 rfl rfl dX1_lost_36 ?_
    refine z_icmp_ne (tgt := 64) hX h dX1_lost_37 (by decide) (fun h => ?_) (fun h => ?_)
    · exact z_sub [0, 1, 3] rfl (s_X1_lost_64 (o := o) hX hrec4 h)
    · refine z_aload_n hX 0 rfl rfl dX1_lost_40 ?_
      refine z_getR hX fl_X1_10_0 h dX1_lost_41 (fun r19 h => ?_)
      obtain ⟨a20, e9, k_a20⟩ := z_nn h
      subst e9
      have h := k_a20
      refine z_getR hX fl_X1_374_1 h dX1_lost_44 (fun r21 h => ?_)
      refine z_iload_n hX 3 rfl rfl dX1_lost_47 ?_
      obtain ⟨a22, e9, k_a22⟩ := z_nn h
      subst e9
      have h := k_a22
      obtain ⟨c23, h⟩ := z_ck h
      refine z_cNA hX (rest := [zI v2]) h (fun r9 σ9 e9 => z_runV hX lk_X1_313 (c_J2_get hX.tr e9) (ci := 19) zc9_19 c23 ⟨Nat.le_of_ble_eq_true rfl, Nat.le_of_ble_eq_true rfl⟩ rfl (Nat.le_of_ble_eq_true rfl) dX1_lost_48 rfl) (fun r24 σ25 h => ?_)
      refine z_castC hX (ci := 8) rfl q385 h dX1_lost_51 (fun h => ?_)
      obtain ⟨a26, e9, k_a26⟩ := z_nn h
      subst e9
      have h := k_a26
      refine z_getI hX fl_X1_396_8 h dX1_lost_54 (fun x27 h => ?_)
      refine z_if_eq (tgt := 64) hX h dX1_lost_57 (by decide) (fun h => ?_) (fun h => ?_)
      · exact z_sub [0, 1, 3] rfl (s_X1_lost_64 (o := o) hX hrec4 h)
      · refine z_iconst hX (v := 1) (by decide) dX1_lost_60 (z_goto (tgt := 65) hX dX1_lost_61 (by decide) ?_)
        exact z_sub [0, 1, 3] rfl (s_X1_lost_65 (o := o) hX hrec4 h)

theorem s_X1_lost_4 {X : zX} (hX : zOk X RX1 cX1_lost 4 4 104 (Option.some Jvm.ClassFile.FieldType.int) "lost" []) {o : Nat} {Rt : Int32 × zS} {v1 : Int32} {v2 : Int32} {v3 : Int32} {σ : zS} (h : f_X1_lost_4 o v1 v2 v3 σ = some Rt) : zG X (zQ X (.inl (eI Rt.1)) Rt.2) 4 4 [(0, zA (some o)), (1, zI v1), (2, zI v2), (3, zI v3)] [] σ :=
  zlp2_ok (P := fun v2 v3 σ => zG X (zQ X (.inl (eI Rt.1)) Rt.2) 4 4 [(0, zA (some o)), (1, zI v1), (2, zI v2), (3, zI v3)] [] σ) (fun rec hr v2 v3 σ h => s_X1_lost_4_b (o := o) hX hr h) NN v2 v3 σ h
def f_X1_lost (o : Nat) (p1 : Int32) (σ : zS) : Option (Int32 × zS) :=
  f_X1_lost_4 o p1 0 0 σ

set_option maxHeartbeats 4000000 in
theorem s_X1_lost {X : zX} (hX : zOk X RX1 cX1_lost 4 4 104 (Option.some Jvm.ClassFile.FieldType.int) "lost" []) {o : Nat} {p1 : Int32} {σ : zS} {Rt : Int32 × zS} (h : f_X1_lost o p1 σ = some Rt) : zG X (zQ X (.inl (eI Rt.1)) Rt.2) 4 0 [(0, zA (some o)), (1, zI p1)] [] σ := by
  unfold f_X1_lost at h
  refine z_iconst hX (v := 0) (by decide) dX1_lost_0 (z_istore_n (L' := [(0, zA (some o)), (1, zI p1), (2, zI 0)]) hX rfl rfl (by decide) dX1_lost_1 (z_iconst hX (v := 0) (by decide) dX1_lost_2 (z_istore_n (L' := [(0, zA (some o)), (1, zI p1), (2, zI 0), (3, zI 0)]) hX rfl rfl (by decide) dX1_lost_3 ?_)))
  exact z_sub [0, 1, 2, 3] rfl (s_X1_lost_4 (o := o) hX  h)

theorem c_X1_lost {l : Launch} {D : va_G} {tys : zTy} (hl : l.stackTraces = false) {o : Nat} {p1 : Int32} {σ : zS} {Rt : Int32 × zS} (h : f_X1_lost o p1 σ = some Rt) : zM l D tys yX1_lost (ws_ yX1_lost cX1_lost 4 (Option.some Jvm.ClassFile.FieldType.int)) 4 104 [zA (some o), zI p1] σ (.inl (eI Rt.1)) Rt.2 :=
  zM_in hl rfl (Nat.le_of_ble_eq_true rfl) (fun p e R s m args below meth c hX => z_L rfl (s_X1_lost hX h))
def f_X1_span_51 (o : Nat) (rec18 : Int32 → Int32 → zS → Option ((Int32 ⊕ Nat) × zS)) (v1 : Int32) (v2 : Int32) (v4 : Int32) (t0 : Int32) (t1 : Option Nat) (t2 : Int32) (σ : zS) : Option ((Int32 ⊕ Nat) × zS) :=
  t1.bind fun a14 =>
  (lI σ a14 0 t2).bind fun x15 =>
  zl (t0 + x15) fun x16 =>
  zl (v4 + 1) fun x17 =>
  rec18 x16 x17 σ

set_option maxHeartbeats 4000000 in
theorem s_X1_span_51 {X : zX} (hX : zOk X RX1 cX1_span 5 9 152 (Option.some Jvm.ClassFile.FieldType.int) "span" []) {o : Nat} {Rt : (Int32 ⊕ Nat) × zS} {rec18 : Int32 → Int32 → zS → Option ((Int32 ⊕ Nat) × zS)} {v1 : Int32} {v2 : Int32} {v4 : Int32} (hrec18 : ∀ (v3 : Int32) (v4 : Int32) (σ : zS), rec18 v3 v4 σ = some Rt → zG X (zQ X (zot eI Rt.1) Rt.2) 5 18 [(0, zA (some o)), (1, zI v1), (2, zI v2), (3, zI v3), (4, zI v4)] [] σ) {t0 : Int32} {t1 : Option Nat} {t2 : Int32} {σ : zS} (h : f_X1_span_51 o rec18 v1 v2 v4 t0 t1 t2 σ = some Rt) : zG X (zQ X (zot eI Rt.1) Rt.2) 5 51 [(0, zA (some o)), (1, zI v1), (2, zI v2), (4, zI v4)] [zI t2, zA t1, zI t0] σ := by
  unfold f_X1_span_51 at h
  obtain ⟨a14, e9, k_a14⟩ := z_nn h
  subst e9
  have h := k_a14
  refine z_iald hX h dX1_span_51 (fun x15 h => ?_)
  refine z_iadd hX dX1_span_52 ?_
  refine z_nmI h (fun x16 h => ?_)
  refine z_istore_n (L' := [(0, zA (some o)), (1, zI v1), (2, zI v2), (3, zI x16), (4, zI v4)]) hX rfl rfl (by decide) dX1_span_53 ?_
  refine z_iinc hX (j := 4) h rfl (by decide) (by decide) dX1_span_54 (fun x17 h => z_L (L' := [(0, zA (some o)), (1, zI v1), (2, zI v2), (3, zI x16), (4, zI x17)]) rfl ?_)
  refine z_goto (tgt := 18) hX dX1_span_57 (by decide) ?_
  exact z_sub [0, 1, 2, 3, 4] rfl (hrec18 _ _ _ h)

def f_X1_span_18_b (o : Nat) (v1 : Int32) (v2 : Int32) (rec18 : Int32 → Int32 → zS → Option ((Int32 ⊕ Nat) × zS)) (v3 : Int32) (v4 : Int32) (σ : zS) : Option ((Int32 ⊕ Nat) × zS) :=
  zif (zcl σ o = 0) <|
  zb2 (f_X1_lost o v1 σ) fun x11 σ12 =>
  if x11 ≤ v4 then
    some (.inl v3, σ12)
  else
    (gR σ12 o 0 5).bind fun r13 =>
    if v2 = 0 then
      f_X1_span_51 o rec18 v1 v2 v4 v3 r13 v4 σ12
    else
      (gI σ12 o 0 6).bind fun x18 =>
      f_X1_span_51 o rec18 v1 v2 v4 v3 r13 ((x18 - 1) - v4) σ12

def f_X1_span_18 (o : Nat) (v1 : Int32) (v2 : Int32) : Int32 → Int32 → zS → Option ((Int32 ⊕ Nat) × zS) := zlp2 (f_X1_span_18_b o v1 v2) NN
set_option maxHeartbeats 4000000 in
theorem s_X1_span_18_b {X : zX} (hX : zOk X RX1 cX1_span 5 9 152 (Option.some Jvm.ClassFile.FieldType.int) "span" []) {o : Nat} {Rt : (Int32 ⊕ Nat) × zS} {v1 : Int32} {v2 : Int32} {rec18 : Int32 → Int32 → zS → Option ((Int32 ⊕ Nat) × zS)} (hrec18 : ∀ (v3 : Int32) (v4 : Int32) (σ : zS), rec18 v3 v4 σ = some Rt → zG X (zQ X (zot eI Rt.1) Rt.2) 5 18 [(0, zA (some o)), (1, zI v1), (2, zI v2), (3, zI v3), (4, zI v4)] [] σ) {v3 : Int32} {v4 : Int32} {σ : zS} (h : f_X1_span_18_b o v1 v2 rec18 v3 v4 σ = some Rt) : zG X (zQ X (zot eI Rt.1) Rt.2) 5 18 [(0, zA (some o)), (1, zI v1), (2, zI v2), (3, zI v3), (4, zI v4)] [] σ := by
  unfold f_X1_span_18_b at h
  refine z_iload hX 4 rfl dX1_span_18 (z_aload_n hX 0 rfl rfl dX1_span_20 (z_iload_n hX 1 rfl rfl dX1_span_21 ?_))
  obtain ⟨c10, h⟩ := z_ck h
  refine z_cNI hX (rest := [zI v4]) h (fun r9 σ9 e9 => z_runV hX lk_X1_479 (c_X1_lost hX.tr e9) (ci := 0) zc9_0 c10 ⟨Nat.le_of_ble_eq_true rfl, Nat.le_of_ble_eq_true rfl⟩ rfl (Nat.le_of_ble_eq_true rfl) dX1_span_22 rfl) (fun x11 σ12 h => ?_)
  refine z_icmp_ge (tgt := 60) hX h dX1_span_25 (by decide) (fun h => ?_) (fun h => ?_)
  · refine z_iload_n hX 3 rfl rfl dX1_span_60 ?_
    obtain rfl := Option.some.inj h
    exact z_iret hX dX1_span_61
  · refine z_iload_n hX 3 rfl rfl dX1_span_28 (z_aload_n hX 0 rfl rfl dX1_span_29 ?_)
    refine z_getR hX fl_X1_39_0 h dX1_span_30 (fun r13 h => ?_)
    refine z_iload_n hX 2 rfl rfl dX1_span_33 ?_
    refine z_if_eq (tgt := 49) hX h dX1_span_34 (by decide) (fun h => ?_) (fun h => ?_)
    · refine z_iload hX 4 rfl dX1_span_49 ?_
      exact z_sub [0, 1, 2, 4] rfl (s_X1_span_51 (o := o) hX hrec18 h)
    · refine z_aload_n hX 0 rfl rfl dX1_span_37 ?_
      refine z_getI hX fl_X1_470_0 h dX1_span_38 (fun x18 h => ?_)
      refine z_iconst hX (v := 1) (by decide) dX1_span_41 (z_isub hX dX1_span_42 (z_iload hX 4 rfl dX1_span_43 (z_isub hX dX1_span_45 (z_goto (tgt := 51) hX dX1_span_46 (by decide) ?_))))
      exact z_sub [0, 1, 2, 4] rfl (s_X1_span_51 (o := o) hX hrec18 h)

theorem s_X1_span_18 {X : zX} (hX : zOk X RX1 cX1_span 5 9 152 (Option.some Jvm.ClassFile.FieldType.int) "span" []) {o : Nat} {Rt : (Int32 ⊕ Nat) × zS} {v1 : Int32} {v2 : Int32} {v3 : Int32} {v4 : Int32} {σ : zS} (h : f_X1_span_18 o v1 v2 v3 v4 σ = some Rt) : zG X (zQ X (zot eI Rt.1) Rt.2) 5 18 [(0, zA (some o)), (1, zI v1), (2, zI v2), (3, zI v3), (4, zI v4)] [] σ :=
  zlp2_ok (P := fun v3 v4 σ => zG X (zQ X (zot eI Rt.1) Rt.2) 5 18 [(0, zA (some o)), (1, zI v1), (2, zI v2), (3, zI v3), (4, zI v4)] [] σ) (fun rec hr v3 v4 σ h => s_X1_span_18_b (o := o) hX hr h) NN v3 v4 σ h
def f_X1_span (o : Nat) (p1 : Int32) (p2 : Int32) (σ : zS) : Option ((Int32 ⊕ Nat) × zS) :=
  zif (zcl σ o = 0) <|
  zbt (f_X1_houseAt o p1 σ) (fun k9 σ9 => some (.inr k9, σ9)) fun _ σ3 =>
  zif (zcl σ3 o = 0) <|
  zb2 (f_X1_sifts o σ3) fun _ σ6 =>
  zif (zcl σ6 o = 0) <|
  zb2 (f_X1_known o p1 σ6) fun x8 σ9 =>
  f_X1_span_18 o p1 p2 x8 0 σ9

set_option maxHeartbeats 4000000 in
theorem s_X1_span {X : zX} (hX : zOk X RX1 cX1_span 5 9 152 (Option.some Jvm.ClassFile.FieldType.int) "span" []) {o : Nat} {p1 : Int32} {p2 : Int32} {σ : zS} {Rt : (Int32 ⊕ Nat) × zS} (h : f_X1_span o p1 p2 σ = some Rt) : zG X (zQ X (zot eI Rt.1) Rt.2) 5 0 [(0, zA (some o)), (1, zI p1), (2, zI p2)] [] σ := by
  unfold f_X1_span at h
  refine z_aload_n hX 0 rfl rfl dX1_span_0 (z_iload_n hX 1 rfl rfl dX1_span_1 ?_)
  obtain ⟨c1, h⟩ := z_ck h
  refine z_cTU hX (rest := []) h (fun r9 σ9 e9 => z_runV hX lk_X1_363 (c_X1_houseAt hX.tr e9) (ci := 0) zc9_0 c1 ⟨Nat.le_of_ble_eq_true rfl, Nat.le_of_ble_eq_true rfl⟩ rfl (Nat.le_of_ble_eq_true rfl) dX1_span_2 rfl) (fun k9 σ9 h => z_prop hX h (fun x hx => nomatch hx)) (fun _ σ3 h => ?_)
  refine z_aload_n hX 0 rfl rfl dX1_span_5 ?_
  obtain ⟨c4, h⟩ := z_ck h
  refine z_cNU hX (rest := []) h (fun r9 σ9 e9 => z_runV hX lk_X1_473 (c_X1_sifts hX.tr e9) (ci := 0) zc9_0 c4 ⟨Nat.le_of_ble_eq_true rfl, Nat.le_of_ble_eq_true rfl⟩ rfl (Nat.le_of_ble_eq_true rfl) dX1_span_6 rfl) (fun _ σ6 h => ?_)
  refine z_aload_n hX 0 rfl rfl dX1_span_9 (z_iload_n hX 1 rfl rfl dX1_span_10 ?_)
  obtain ⟨c7, h⟩ := z_ck h
  refine z_cNI hX (rest := []) h (fun r9 σ9 e9 => z_runV hX lk_X1_476 (c_X1_known hX.tr e9) (ci := 0) zc9_0 c7 ⟨Nat.le_of_ble_eq_true rfl, Nat.le_of_ble_eq_true rfl⟩ rfl (Nat.le_of_ble_eq_true rfl) dX1_span_11 rfl) (fun x8 σ9 h => ?_)
  refine z_istore_n (L' := [(0, zA (some o)), (1, zI p1), (2, zI p2), (3, zI x8)]) hX rfl rfl (by decide) dX1_span_14 (z_iconst hX (v := 0) (by decide) dX1_span_15 (z_istore (L' := [(0, zA (some o)), (1, zI p1), (2, zI p2), (3, zI x8), (4, zI 0)]) hX rfl (by decide) dX1_span_16 ?_))
  exact z_sub [0, 1, 2, 3, 4] rfl (s_X1_span_18 (o := o) hX  h)

theorem c_X1_span {l : Launch} {D : va_G} {tys : zTy} (hl : l.stackTraces = false) {o : Nat} {p1 : Int32} {p2 : Int32} {σ : zS} {Rt : (Int32 ⊕ Nat) × zS} (h : f_X1_span o p1 p2 σ = some Rt) : zM l D tys yX1_span (ws_ yX1_span cX1_span 5 (Option.some Jvm.ClassFile.FieldType.int)) 9 152 [zA (some o), zI p1, zI p2] σ (zot eI Rt.1) Rt.2 :=
  zM_in hl rfl (Nat.le_of_ble_eq_true rfl) (fun p e R s m args below meth c hX => z_L rfl (s_X1_span hX h))
def f_X0_span (p1 : Option Nat) (p2 : Int32) (p3 : Int32) (p4 : Option Nat) (σ : zS) : Option (Int32 × zS) :=
  p1.bind fun a1 =>
  zif (zcl σ a1 = 0) <|
  zbt (f_X1_span a1 p2 p3 σ) (fun k9 σ9 =>
    if k9 = 2 then
      some ((1 : Int32), σ9)
    else
    none
  ) fun x3 σ4 =>
  p4.bind fun a5 =>
  (sJ σ4 a5 0 x3.toInt64).bind fun σ6 =>
  some ((0 : Int32), σ6)

set_option maxHeartbeats 4000000 in
theorem s_X0_span {X : zX} (hX : zOk X RX0 cX0_span 5 10 176 (Option.some Jvm.ClassFile.FieldType.int) "span" (tableOf [(0, 10, 13, 24)])) {p1 : Option Nat} {p2 : Int32} {p3 : Int32} {p4 : Option Nat} {σ : zS} {Rt : Int32 × zS} (h : f_X0_span p1 p2 p3 p4 σ = some Rt) : zG X (zQ X (.inl (eI Rt.1)) Rt.2) 5 0 [(0, zA p1), (1, zI p2), (2, zI p3), (3, zA p4)] [] σ := by
  unfold f_X0_span at h
  refine z_aload_n hX 3 rfl rfl dX0_span_0 (z_iconst hX (v := 0) (by decide) dX0_span_1 (z_aload_n hX 0 rfl rfl dX0_span_2 (z_iload_n hX 1 rfl rfl dX0_span_3 (z_iload_n hX 2 rfl rfl dX0_span_4 ?_))))
  obtain ⟨a1, e9, k_a1⟩ := z_nn h
  subst e9
  have h := k_a1
  obtain ⟨c2, h⟩ := z_ck h
  refine z_cTI hX (rest := [zI 0, zA p4]) h (fun r9 σ9 e9 => z_runV hX lk_X0_74 (c_X1_span hX.tr e9) (ci := 0) zc9_0 c2 ⟨Nat.le_of_ble_eq_true rfl, Nat.le_of_ble_eq_true rfl⟩ rfl (Nat.le_of_ble_eq_true rfl) dX0_span_5 rfl) (fun k9 σ9 h => ?_) (fun x3 σ4 h => ?_)
  · rcases z_ite h with ⟨e9, k_σ4_2⟩ | ⟨-, h⟩
    · subst e9
      have h := k_σ4_2
      refine z_catch hX (k := 2) (nmC := "java/lang/IndexOutOfBoundsException") [] ⟨0, 10, 13, 24⟩ [] rfl (fun z hz => nomatch hz) rfl (by decide) q1381 (zNw_of q1415 rfl) (fun q9 => ?_)
      refine z_astore (L' := [(0, zA (some a1)), (1, zI p2), (2, zI p3), (3, zA p4), (4, zA (some q9))]) hX rfl (by decide) dX0_span_13 (z_iconst hX (v := 1) (by decide) dX0_span_15 ?_)
      obtain rfl := Option.some.inj h
      exact z_iret hX dX0_span_16
    cases h
  refine z_i2l hX dX0_span_8 ?_
  obtain ⟨a5, e9, k_a5⟩ := z_nn h
  subst e9
  have h := k_a5
  refine z_last hX h dX0_span_9 (fun σ6 h => ?_)
  refine z_goto (tgt := 17) hX dX0_span_10 (by decide) (z_iconst hX (v := 0) (by decide) dX0_span_17 ?_)
  obtain rfl := Option.some.inj h
  exact z_iret hX dX0_span_18

theorem c_X0_span {l : Launch} {D : va_G} {tys : zTy} (hl : l.stackTraces = false) {p1 : Option Nat} {p2 : Int32} {p3 : Int32} {p4 : Option Nat} {σ : zS} {Rt : Int32 × zS} (h : f_X0_span p1 p2 p3 p4 σ = some Rt) : zM l D tys yX0_span (wsW_ yX0_span cX0_span 5 (Option.some Jvm.ClassFile.FieldType.int) [(0, 10, 13, 24)]) 10 176 [zA p1, zI p2, zI p3, zA p4] σ (.inl (eI Rt.1)) Rt.2 :=
  zM_inW hl rfl (Nat.le_of_ble_eq_true rfl) (fun p e R s m args below meth c hX => z_L rfl (s_X0_span hX h))
def f_X1_proof_140 (o : Nat) (rec35 : Int32 → Int32 → Int32 → zS → Option ((Int32 ⊕ Nat) × zS)) (v3 : Int32) (v4 : Int64) (v6 : Int32) (v7 : Int32) (v8 : Int32) (σ : zS) : Option ((Int32 ⊕ Nat) × zS) :=
  zl (v8 + 1) fun x18 =>
  rec35 v6 v7 x18 σ

set_option maxHeartbeats 4000000 in
theorem s_X1_proof_140 {X : zX} (hX : zOk X RX1 cX1_proof 12 9 152 (Option.some Jvm.ClassFile.FieldType.int) "proof" []) {o : Nat} {Rt : (Int32 ⊕ Nat) × zS} {rec35 : Int32 → Int32 → Int32 → zS → Option ((Int32 ⊕ Nat) × zS)} {v3 : Int32} {v4 : Int64} {v6 : Int32} {v7 : Int32} {v8 : Int32} (hrec35 : ∀ (v6 : Int32) (v7 : Int32) (v8 : Int32) (σ : zS), rec35 v6 v7 v8 σ = some Rt → zG X (zQ X (zot eI Rt.1) Rt.2) 12 35 [(0, zA (some o)), (3, zI v3), (4, zJ v4), (6, zI v6), (7, zI v7), (8, zI v8)] [] σ) {σ : zS} (h : f_X1_proof_140 o rec35 v3 v4 v6 v7 v8 σ = some Rt) : zG X (zQ X (zot eI Rt.1) Rt.2) 12 140 [(0, zA (some o)), (3, zI v3), (4, zJ v4), (6, zI v6), (7, zI v7), (8, zI v8)] [] σ := by
  unfold f_X1_proof_140 at h
  refine z_iinc hX (j := 5) h rfl (by decide) (by decide) dX1_proof_140 (fun x18 h => z_L (L' := [(0, zA (some o)), (3, zI v3), (4, zJ v4), (6, zI v6), (7, zI v7), (8, zI x18)]) rfl ?_)
  refine z_goto (tgt := 35) hX dX1_proof_143 (by decide) ?_
  exact z_sub [0, 1, 2, 3, 4, 5] rfl (hrec35 _ _ _ _ h)

def f_X1_proof_138 (o : Nat) (rec35 : Int32 → Int32 → Int32 → zS → Option ((Int32 ⊕ Nat) × zS)) (v3 : Int32) (v4 : Int64) (v6 : Int32) (v8 : Int32) (t0 : Int32) (σ : zS) : Option ((Int32 ⊕ Nat) × zS) :=
  f_X1_proof_140 o rec35 v3 v4 v6 t0 v8 σ

set_option maxHeartbeats 4000000 in
theorem s_X1_proof_138 {X : zX} (hX : zOk X RX1 cX1_proof 12 9 152 (Option.some Jvm.ClassFile.FieldType.int) "proof" []) {o : Nat} {Rt : (Int32 ⊕ Nat) × zS} {rec35 : Int32 → Int32 → Int32 → zS → Option ((Int32 ⊕ Nat) × zS)} {v3 : Int32} {v4 : Int64} {v6 : Int32} {v8 : Int32} (hrec35 : ∀ (v6 : Int32) (v7 : Int32) (v8 : Int32) (σ : zS), rec35 v6 v7 v8 σ = some Rt → zG X (zQ X (zot eI Rt.1) Rt.2) 12 35 [(0, zA (some o)), (3, zI v3), (4, zJ v4), (6, zI v6), (7, zI v7), (8, zI v8)] [] σ) {t0 : Int32} {σ : zS} (h : f_X1_proof_138 o rec35 v3 v4 v6 v8 t0 σ = some Rt) : zG X (zQ X (zot eI Rt.1) Rt.2) 12 138 [(0, zA (some o)), (3, zI v3), (4, zJ v4), (6, zI v6), (8, zI v8)] [zI t0] σ := by
  unfold f_X1_proof_138 at h
  refine z_istore (L' := [(0, zA (some o)), (3, zI v3), (4, zJ v4), (6, zI v6), (7, zI t0), (8, zI v8)]) hX rfl (by decide) dX1_proof_138 ?_
  exact z_sub [0, 1, 2, 3, 4, 5] rfl (s_X1_proof_140 (o := o) hX hrec35 h)

def f_X1_proof_137 (o : Nat) (rec35 : Int32 → Int32 → Int32 → zS → Option ((Int32 ⊕ Nat) × zS)) (v3 : Int32) (v4 : Int64) (v6 : Int32) (v8 : Int32) (σ : zS) : Option ((Int32 ⊕ Nat) × zS) :=
  f_X1_proof_138 o rec35 v3 v4 v6 v8 0 σ

set_option maxHeartbeats 4000000 in
theorem s_X1_proof_137 {X : zX} (hX : zOk X RX1 cX1_proof 12 9 152 (Option.some Jvm.ClassFile.FieldType.int) "proof" []) {o : Nat} {Rt : (Int32 ⊕ Nat) × zS} {rec35 : Int32 → Int32 → Int32 → zS → Option ((Int32 ⊕ Nat) × zS)} {v3 : Int32} {v4 : Int64} {v6 : Int32} {v8 : Int32} (hrec35 : ∀ (v6 : Int32) (v7 : Int32) (v8 : Int32) (σ : zS), rec35 v6 v7 v8 σ = some Rt → zG X (zQ X (zot eI Rt.1) Rt.2) 12 35 [(0, zA (some o)), (3, zI v3), (4, zJ v4), (6, zI v6), (7, zI v7), (8, zI v8)] [] σ) {σ : zS} (h : f_X1_proof_137 o rec35 v3 v4 v6 v8 σ = some Rt) : zG X (zQ X (zot eI Rt.1) Rt.2) 12 137 [(0, zA (some o)), (3, zI v3), (4, zJ v4), (6, zI v6), (8, zI v8)] [] σ := by
  unfold f_X1_proof_137 at h
  refine z_iconst hX (v := 0) (by decide) dX1_proof_137 ?_
  exact z_sub [0, 1, 2, 3, 4] rfl (s_X1_proof_138 (o := o) hX hrec35 h)

def f_X1_proof_118 (o : Nat) (rec35 : Int32 → Int32 → Int32 → zS → Option ((Int32 ⊕ Nat) × zS)) (v3 : Int32) (v4 : Int64) (v7 : Int32) (v8 : Int32) (v9 : Int64) (t0 : Int32) (σ : zS) : Option ((Int32 ⊕ Nat) × zS) :=
  if v7 = 0 then
    f_X1_proof_137 o rec35 v3 v4 t0 v8 σ
  else
    if ¬ (lg_cmp v9 v4) = 0 then
      f_X1_proof_137 o rec35 v3 v4 t0 v8 σ
    else
      f_X1_proof_138 o rec35 v3 v4 t0 v8 1 σ

set_option maxHeartbeats 4000000 in
theorem s_X1_proof_118 {X : zX} (hX : zOk X RX1 cX1_proof 12 9 152 (Option.some Jvm.ClassFile.FieldType.int) "proof" []) {o : Nat} {Rt : (Int32 ⊕ Nat) × zS} {rec35 : Int32 → Int32 → Int32 → zS → Option ((Int32 ⊕ Nat) × zS)} {v3 : Int32} {v4 : Int64} {v7 : Int32} {v8 : Int32} {v9 : Int64} (hrec35 : ∀ (v6 : Int32) (v7 : Int32) (v8 : Int32) (σ : zS), rec35 v6 v7 v8 σ = some Rt → zG X (zQ X (zot eI Rt.1) Rt.2) 12 35 [(0, zA (some o)), (3, zI v3), (4, zJ v4), (6, zI v6), (7, zI v7), (8, zI v8)] [] σ) {t0 : Int32} {σ : zS} (h : f_X1_proof_118 o rec35 v3 v4 v7 v8 v9 t0 σ = some Rt) : zG X (zQ X (zot eI Rt.1) Rt.2) 12 118 [(0, zA (some o)), (3, zI v3), (4, zJ v4), (7, zI v7), (8, zI v8), (9, zJ v9)] [zI t0] σ := by
  unfold f_X1_proof_118 at h
  refine z_istore (L' := [(0, zA (some o)), (3, zI v3), (4, zJ v4), (6, zI t0), (7, zI v7), (8, zI v8), (9, zJ v9)]) hX rfl (by decide) dX1_proof_118 (z_iload hX 4 rfl dX1_proof_120 ?_)
  refine z_if_eq (tgt := 137) hX h dX1_proof_122 (by decide) (fun h => ?_) (fun h => ?_)
  · exact z_sub [0, 1, 2, 3, 5] rfl (s_X1_proof_137 (o := o) hX hrec35 h)
  · refine z_lload hX 6 rfl dX1_proof_125 (z_lload hX 2 rfl dX1_proof_127 (z_lcmp hX dX1_proof_129 ?_))
    refine z_if_ne (tgt := 137) hX h dX1_proof_130 (by decide) (fun h => ?_) (fun h => ?_)
    · exact z_sub [0, 1, 2, 3, 5] rfl (s_X1_proof_137 (o := o) hX hrec35 h)
    · refine z_iconst hX (v := 1) (by decide) dX1_proof_133 (z_goto (tgt := 138) hX dX1_proof_134 (by decide) ?_)
      exact z_sub [0, 1, 2, 3, 5] rfl (s_X1_proof_138 (o := o) hX hrec35 h)

def f_X1_proof_113 (o : Nat) (rec35 : Int32 → Int32 → Int32 → zS → Option ((Int32 ⊕ Nat) × zS)) (v3 : Int32) (v4 : Int64) (v7 : Int32) (v8 : Int32) (v9 : Int64) (σ : zS) : Option ((Int32 ⊕ Nat) × zS) :=
  f_X1_proof_118 o rec35 v3 v4 v7 v8 v9 1 σ

set_option maxHeartbeats 4000000 in
theorem s_X1_proof_113 {X : zX} (hX : zOk X RX1 cX1_proof 12 9 152 (Option.some Jvm.ClassFile.FieldType.int) "proof" []) {o : Nat} {Rt : (Int32 ⊕ Nat) × zS} {rec35 : Int32 → Int32 → Int32 → zS → Option ((Int32 ⊕ Nat) × zS)} {v3 : Int32} {v4 : Int64} {v7 : Int32} {v8 : Int32} {v9 : Int64} (hrec35 : ∀ (v6 : Int32) (v7 : Int32) (v8 : Int32) (σ : zS), rec35 v6 v7 v8 σ = some Rt → zG X (zQ X (zot eI Rt.1) Rt.2) 12 35 [(0, zA (some o)), (3, zI v3), (4, zJ v4), (6, zI v6), (7, zI v7), (8, zI v8)] [] σ) {σ : zS} (h : f_X1_proof_113 o rec35 v3 v4 v7 v8 v9 σ = some Rt) : zG X (zQ X (zot eI Rt.1) Rt.2) 12 113 [(0, zA (some o)), (3, zI v3), (4, zJ v4), (7, zI v7), (8, zI v8), (9, zJ v9)] [] σ := by
  unfold f_X1_proof_113 at h
  refine z_iconst hX (v := 1) (by decide) dX1_proof_113 (z_goto (tgt := 118) hX dX1_proof_114 (by decide) ?_)
  exact z_sub [0, 1, 2, 3, 4, 5] rfl (s_X1_proof_118 (o := o) hX hrec35 h)

def f_X1_proof_64_b (o : Nat) (rec35 : Int32 → Int32 → Int32 → zS → Option ((Int32 ⊕ Nat) × zS)) (v3 : Int32) (v4 : Int64) (v6 : Int32) (v7 : Int32) (v8 : Int32) (rec64 : Int64 → Int32 → zS → Option ((Int32 ⊕ Nat) × zS)) (v9 : Int64) (v11 : Int32) (σ : zS) : Option ((Int32 ⊕ Nat) × zS) :=
  (gI σ o 0 6).bind fun x17 =>
  if x17 ≤ v11 then
    if ¬ v6 = 0 then
      f_X1_proof_113 o rec35 v3 v4 v7 v8 v9 σ
    else
      if ¬ (lg_cmp v9 v4) = 0 then
        f_X1_proof_118 o rec35 v3 v4 v7 v8 v9 0 σ
      else
        f_X1_proof_113 o rec35 v3 v4 v7 v8 v9 σ
  else
    (gR σ o 0 5).bind fun r19 =>
    r19.bind fun a20 =>
    (lI σ a20 0 v11).bind fun x21 =>
    zl (v9 + ((((v8 >>> (v11 &&& 31)) &&& 1) * x21).toInt64)) fun x22 =>
    zl (v11 + 1) fun x23 =>
    rec64 x22 x23 σ

def f_X1_proof_64 (o : Nat) (rec35 : Int32 → Int32 → Int32 → zS → Option ((Int32 ⊕ Nat) × zS)) (v3 : Int32) (v4 : Int64) (v6 : Int32) (v7 : Int32) (v8 : Int32) : Int64 → Int32 → zS → Option ((Int32 ⊕ Nat) × zS) := zlp2 (f_X1_proof_64_b o rec35 v3 v4 v6 v7 v8) NN
set_option maxHeartbeats 4000000 in
theorem s_X1_proof_64_b {X : zX} (hX : zOk X RX1 cX1_proof 12 9 152 (Option.some Jvm.ClassFile.FieldType.int) "proof" []) {o : Nat} {Rt : (Int32 ⊕ Nat) × zS} {rec35 : Int32 → Int32 → Int32 → zS → Option ((Int32 ⊕ Nat) × zS)} {v3 : Int32} {v4 : Int64} {v6 : Int32} {v7 : Int32} {v8 : Int32} (hrec35 : ∀ (v6 : Int32) (v7 : Int32) (v8 : Int32) (σ : zS), rec35 v6 v7 v8 σ = some Rt → zG X (zQ X (zot eI Rt.1) Rt.2) 12 35 [(0, zA (some o)), (3, zI v3), (4, zJ v4), (6, zI v6), (7, zI v7), (8, zI v8)] [] σ) {rec64 : Int64 → Int32 → zS → Option ((Int32 ⊕ Nat) × zS)} (hrec64 : ∀ (v9 : Int64) (v11 : Int32) (σ : zS), rec64 v9 v11 σ = some Rt → zG X (zQ X (zot eI Rt.1) Rt.2) 12 64 [(0, zA (some o)), (3, zI v3), (4, zJ v4), (6, zI v6), (7, zI v7), (8, zI v8), (9, zJ v9), (11, zI v11)] [] σ) {v9 : Int64} {v11 : Int32} {σ : zS} (h : f_X1_proof_64_b o rec35 v3 v4 v6 v7 v8 rec64 v9 v11 σ = some Rt) : zG X (zQ X (zot eI Rt.1) Rt.2) 12 64 [(0, zA (some o)), (3, zI v3), (4, zJ v4), (6, zI v6), (7, zI v7), (8, zI v8), (9, zJ v9), (11, zI v11)] [] σ := by
  unfold f_X1_proof_64_b at h
  refine z_iload hX 7 rfl dX1_proof_64 (z_aload_n hX 0 rfl rfl dX1_proof_66 ?_)
  refine z_getI hX fl_X1_470_0 h dX1_proof_67 (fun x17 h => ?_)
  refine z_icmp_ge (tgt := 100) hX h dX1_proof_70 (by decide) (fun h => ?_) (fun h => ?_)
  · refine z_iload hX 3 rfl dX1_proof_100 ?_
    refine z_if_ne (tgt := 113) hX h dX1_proof_102 (by decide) (fun h => ?_) (fun h => ?_)
    · exact z_sub [0, 1, 2, 4, 5, 6] rfl (s_X1_proof_113 (o := o) hX hrec35 h)
    · refine z_lload hX 6 rfl dX1_proof_105 (z_lload hX 2 rfl dX1_proof_107 (z_lcmp hX dX1_proof_109 ?_))
      refine z_if_ne (tgt := 117) hX h dX1_proof_110 (by decide) (fun h => ?_) (fun h => ?_)
      · refine z_iconst hX (v := 0) (by decide) dX1_proof_117 ?_
        exact z_sub [0, 1, 2, 4, 5, 6] rfl (s_X1_proof_118 (o := o) hX hrec35 h)
      · exact z_sub [0, 1, 2, 4, 5, 6] rfl (s_X1_proof_113 (o := o) hX hrec35 h)
  · refine z_lload hX 6 rfl dX1_proof_73 (z_iload hX 5 rfl dX1_proof_75 (z_iload hX 7 rfl dX1_proof_77 (z_ishr hX dX1_proof_79 (z_iconst hX (v := 1) (by decide) dX1_proof_80 (z_iand hX dX1_proof_81 (z_aload_n hX 0 rfl rfl dX1_proof_82 ?_))))))
    refine z_getR hX fl_X1_39_0 h dX1_proof_83 (fun r19 h => ?_)
    refine z_iload hX 7 rfl dX1_proof_86 ?_
    obtain ⟨a20, e9, k_a20⟩ := z_nn h
    subst e9
    have h := k_a20
    refine z_iald hX h dX1_proof_88 (fun x21 h => ?_)
    refine z_imul hX dX1_proof_89 (z_i2l hX dX1_proof_90 (z_ladd hX dX1_proof_91 ?_))
    refine z_nmJ h (fun x22 h => ?_)
    refine z_lstore (L' := [(0, zA (some o)), (3, zI v3), (4, zJ v4), (6, zI v6), (7, zI v7), (8, zI v8), (9, zJ x22), (11, zI v11)]) hX rfl (by decide) dX1_proof_92 ?_
    refine z_iinc hX (j := 7) h rfl (by decide) (by decide) dX1_proof_94 (fun x23 h => z_L (L' := [(0, zA (some o)), (3, zI v3), (4, zJ v4), (6, zI v6), (7, zI v7), (8, zI v8), (9, zJ x22), (11, zI x23)]) rfl ?_)
    refine z_goto (tgt := 64) hX dX1_proof_97 (by decide) ?_
    exact z_sub [0, 1, 2, 3, 4, 5, 6, 7] rfl (hrec64 _ _ _ h)

theorem s_X1_proof_64 {X : zX} (hX : zOk X RX1 cX1_proof 12 9 152 (Option.some Jvm.ClassFile.FieldType.int) "proof" []) {o : Nat} {Rt : (Int32 ⊕ Nat) × zS} {rec35 : Int32 → Int32 → Int32 → zS → Option ((Int32 ⊕ Nat) × zS)} {v3 : Int32} {v4 : Int64} {v6 : Int32} {v7 : Int32} {v8 : Int32} (hrec35 : ∀ (v6 : Int32) (v7 : Int32) (v8 : Int32) (σ : zS), rec35 v6 v7 v8 σ = some Rt → zG X (zQ X (zot eI Rt.1) Rt.2) 12 35 [(0, zA (some o)), (3, zI v3), (4, zJ v4), (6, zI v6), (7, zI v7), (8, zI v8)] [] σ) {v9 : Int64} {v11 : Int32} {σ : zS} (h : f_X1_proof_64 o rec35 v3 v4 v6 v7 v8 v9 v11 σ = some Rt) : zG X (zQ X (zot eI Rt.1) Rt.2) 12 64 [(0, zA (some o)), (3, zI v3), (4, zJ v4), (6, zI v6), (7, zI v7), (8, zI v8), (9, zJ v9), (11, zI v11)] [] σ :=
  zlp2_ok (P := fun v9 v11 σ => zG X (zQ X (zot eI Rt.1) Rt.2) 12 64 [(0, zA (some o)), (3, zI v3), (4, zJ v4), (6, zI v6), (7, zI v7), (8, zI v8), (9, zJ v9), (11, zI v11)] [] σ) (fun rec hr v9 v11 σ h => s_X1_proof_64_b (o := o) hX hrec35 hr h) NN v9 v11 σ h
def f_X1_proof_35_b (o : Nat) (v3 : Int32) (v4 : Int64) (rec35 : Int32 → Int32 → Int32 → zS → Option ((Int32 ⊕ Nat) × zS)) (v6 : Int32) (v7 : Int32) (v8 : Int32) (σ : zS) : Option ((Int32 ⊕ Nat) × zS) :=
  (gI σ o 0 6).bind fun x14 =>
  if (1 <<< (x14 &&& 31)) ≤ v8 then
    if v7 = 0 then
      if v6 = 0 then
        some (.inl (0 : Int32), σ)
      else
        some (.inl (1 : Int32), σ)
    else
      some (.inl (2 : Int32), σ)
  else
    zb2 (f_J17_bitCount v8 σ) fun x15 σ16 =>
    if x15 = v3 then
      f_X1_proof_64 o rec35 v3 v4 v6 v7 v8 0 0 σ16
    else
      f_X1_proof_140 o rec35 v3 v4 v6 v7 v8 σ16

def f_X1_proof_35 (o : Nat) (v3 : Int32) (v4 : Int64) : Int32 → Int32 → Int32 → zS → Option ((Int32 ⊕ Nat) × zS) := zlp3 (f_X1_proof_35_b o v3 v4) NN
set_option maxHeartbeats 4000000 in
theorem s_X1_proof_35_b {X : zX} (hX : zOk X RX1 cX1_proof 12 9 152 (Option.some Jvm.ClassFile.FieldType.int) "proof" []) {o : Nat} {Rt : (Int32 ⊕ Nat) × zS} {v3 : Int32} {v4 : Int64} {rec35 : Int32 → Int32 → Int32 → zS → Option ((Int32 ⊕ Nat) × zS)} (hrec35 : ∀ (v6 : Int32) (v7 : Int32) (v8 : Int32) (σ : zS), rec35 v6 v7 v8 σ = some Rt → zG X (zQ X (zot eI Rt.1) Rt.2) 12 35 [(0, zA (some o)), (3, zI v3), (4, zJ v4), (6, zI v6), (7, zI v7), (8, zI v8)] [] σ) {v6 : Int32} {v7 : Int32} {v8 : Int32} {σ : zS} (h : f_X1_proof_35_b o v3 v4 rec35 v6 v7 v8 σ = some Rt) : zG X (zQ X (zot eI Rt.1) Rt.2) 12 35 [(0, zA (some o)), (3, zI v3), (4, zJ v4), (6, zI v6), (7, zI v7), (8, zI v8)] [] σ := by
  unfold f_X1_proof_35_b at h
  refine z_iload hX 5 rfl dX1_proof_35 (z_iconst hX (v := 1) (by decide) dX1_proof_37 (z_aload_n hX 0 rfl rfl dX1_proof_38 ?_))
  refine z_getI hX fl_X1_470_0 h dX1_proof_39 (fun x14 h => ?_)
  refine z_ishl hX dX1_proof_42 ?_
  refine z_icmp_ge (tgt := 146) hX h dX1_proof_43 (by decide) (fun h => ?_) (fun h => ?_)
  · refine z_iload hX 4 rfl dX1_proof_146 ?_
    refine z_if_eq (tgt := 155) hX h dX1_proof_148 (by decide) (fun h => ?_) (fun h => ?_)
    · refine z_iload hX 3 rfl dX1_proof_155 ?_
      refine z_if_eq (tgt := 164) hX h dX1_proof_157 (by decide) (fun h => ?_) (fun h => ?_)
      · refine z_iconst hX (v := 0) (by decide) dX1_proof_164 ?_
        obtain rfl := Option.some.inj h
        exact z_iret hX dX1_proof_165
      · refine z_iconst hX (v := 1) (by decide) dX1_proof_160 (z_goto (tgt := 165) hX dX1_proof_161 (by decide) ?_)
        obtain rfl := Option.some.inj h
        exact z_iret hX dX1_proof_165
    · refine z_iconst hX (v := 2) (by decide) dX1_proof_151 (z_goto (tgt := 165) hX dX1_proof_152 (by decide) ?_)
      obtain rfl := Option.some.inj h
      exact z_iret hX dX1_proof_165
  · refine z_iload hX 5 rfl dX1_proof_46 ?_
    refine z_cNI hX (rest := []) h (fun r9 σ9 e9 => z_runS hX lk_X1_449 (c_J17_bitCount hX.tr e9) ⟨Nat.le_of_ble_eq_true rfl, Nat.le_of_ble_eq_true rfl⟩ rfl (Nat.le_of_ble_eq_true rfl) dX1_proof_48 rfl) (fun x15 σ16 h => ?_)
    refine z_iload_n hX 1 rfl rfl dX1_proof_51 ?_
    refine z_icmp_eq (tgt := 58) hX h dX1_proof_52 (by decide) (fun h => ?_) (fun h => ?_)
    · refine z_lconst hX (v := 0) (by decide) dX1_proof_58 (z_lstore (L' := [(0, zA (some o)), (3, zI v3), (4, zJ v4), (6, zI v6), (7, zI v7), (8, zI v8), (9, zJ 0)]) hX rfl (by decide) dX1_proof_59 (z_iconst hX (v := 0) (by decide) dX1_proof_61 (z_istore (L' := [(0, zA (some o)), (3, zI v3), (4, zJ v4), (6, zI v6), (7, zI v7), (8, zI v8), (9, zJ 0), (11, zI 0)]) hX rfl (by decide) dX1_proof_62 ?_)))
      exact z_sub [0, 1, 2, 3, 4, 5, 6, 7] rfl (s_X1_proof_64 (o := o) hX hrec35 h)
    · refine z_goto (tgt := 140) hX dX1_proof_55 (by decide) ?_
      exact z_sub [0, 1, 2, 3, 4, 5] rfl (s_X1_proof_140 (o := o) hX hrec35 h)

theorem s_X1_proof_35 {X : zX} (hX : zOk X RX1 cX1_proof 12 9 152 (Option.some Jvm.ClassFile.FieldType.int) "proof" []) {o : Nat} {Rt : (Int32 ⊕ Nat) × zS} {v3 : Int32} {v4 : Int64} {v6 : Int32} {v7 : Int32} {v8 : Int32} {σ : zS} (h : f_X1_proof_35 o v3 v4 v6 v7 v8 σ = some Rt) : zG X (zQ X (zot eI Rt.1) Rt.2) 12 35 [(0, zA (some o)), (3, zI v3), (4, zJ v4), (6, zI v6), (7, zI v7), (8, zI v8)] [] σ :=
  zlp3_ok (P := fun v6 v7 v8 σ => zG X (zQ X (zot eI Rt.1) Rt.2) 12 35 [(0, zA (some o)), (3, zI v3), (4, zJ v4), (6, zI v6), (7, zI v7), (8, zI v8)] [] σ) (fun rec hr v6 v7 v8 σ h => s_X1_proof_35_b (o := o) hX hr h) NN v6 v7 v8 σ h
def f_X1_proof (o : Nat) (p1 : Int32) (p2 : Int32) (σ : zS) : Option ((Int32 ⊕ Nat) × zS) :=
  zif (zcl σ o = 0) <|
  zbt (f_X1_houseAt o p1 σ) (fun k9 σ9 => some (.inr k9, σ9)) fun _ σ3 =>
  zif (zcl σ3 o = 0) <|
  zb2 (f_X1_sifts o σ3) fun _ σ6 =>
  zif (zcl σ6 o = 0) <|
  zb2 (f_X1_lost o p1 σ6) fun x8 σ9 =>
  zif (zcl σ9 o = 0) <|
  zb2 (f_X1_known o p1 σ9) fun x11 σ12 =>
  zl (p2.toInt64 - x11.toInt64) fun x13 =>
  f_X1_proof_35 o x8 x13 0 1 0 σ12

set_option maxHeartbeats 4000000 in
theorem s_X1_proof {X : zX} (hX : zOk X RX1 cX1_proof 12 9 152 (Option.some Jvm.ClassFile.FieldType.int) "proof" []) {o : Nat} {p1 : Int32} {p2 : Int32} {σ : zS} {Rt : (Int32 ⊕ Nat) × zS} (h : f_X1_proof o p1 p2 σ = some Rt) : zG X (zQ X (zot eI Rt.1) Rt.2) 12 0 [(0, zA (some o)), (1, zI p1), (2, zI p2)] [] σ := by
  unfold f_X1_proof at h
  refine z_aload_n hX 0 rfl rfl dX1_proof_0 (z_iload_n hX 1 rfl rfl dX1_proof_1 ?_)
  obtain ⟨c1, h⟩ := z_ck h
  refine z_cTU hX (rest := []) h (fun r9 σ9 e9 => z_runV hX lk_X1_363 (c_X1_houseAt hX.tr e9) (ci := 0) zc9_0 c1 ⟨Nat.le_of_ble_eq_true rfl, Nat.le_of_ble_eq_true rfl⟩ rfl (Nat.le_of_ble_eq_true rfl) dX1_proof_2 rfl) (fun k9 σ9 h => z_prop hX h (fun x hx => nomatch hx)) (fun _ σ3 h => ?_)
  refine z_aload_n hX 0 rfl rfl dX1_proof_5 ?_
  obtain ⟨c4, h⟩ := z_ck h
  refine z_cNU hX (rest := []) h (fun r9 σ9 e9 => z_runV hX lk_X1_473 (c_X1_sifts hX.tr e9) (ci := 0) zc9_0 c4 ⟨Nat.le_of_ble_eq_true rfl, Nat.le_of_ble_eq_true rfl⟩ rfl (Nat.le_of_ble_eq_true rfl) dX1_proof_6 rfl) (fun _ σ6 h => ?_)
  refine z_aload_n hX 0 rfl rfl dX1_proof_9 (z_iload_n hX 1 rfl rfl dX1_proof_10 ?_)
  obtain ⟨c7, h⟩ := z_ck h
  refine z_cNI hX (rest := []) h (fun r9 σ9 e9 => z_runV hX lk_X1_479 (c_X1_lost hX.tr e9) (ci := 0) zc9_0 c7 ⟨Nat.le_of_ble_eq_true rfl, Nat.le_of_ble_eq_true rfl⟩ rfl (Nat.le_of_ble_eq_true rfl) dX1_proof_11 rfl) (fun x8 σ9 h => ?_)
  refine z_istore_n (L' := [(0, zA (some o)), (1, zI p1), (2, zI p2), (3, zI x8)]) hX rfl rfl (by decide) dX1_proof_14 (z_iload_n hX 2 rfl rfl dX1_proof_15 (z_i2l hX dX1_proof_16 (z_aload_n hX 0 rfl rfl dX1_proof_17 (z_iload_n hX 1 rfl rfl dX1_proof_18 ?_))))
  obtain ⟨c10, h⟩ := z_ck h
  refine z_cNI hX (rest := [zJ p2.toInt64]) h (fun r9 σ9 e9 => z_runV hX lk_X1_476 (c_X1_known hX.tr e9) (ci := 0) zc9_0 c10 ⟨Nat.le_of_ble_eq_true rfl, Nat.le_of_ble_eq_true rfl⟩ rfl (Nat.le_of_ble_eq_true rfl) dX1_proof_19 rfl) (fun x11 σ12 h => ?_)
  refine z_i2l hX dX1_proof_22 (z_lsub hX dX1_proof_23 ?_)
  refine z_nmJ h (fun x13 h => ?_)
  refine z_lstore (L' := [(0, zA (some o)), (1, zI p1), (2, zI p2), (3, zI x8), (4, zJ x13)]) hX rfl (by decide) dX1_proof_24 (z_iconst hX (v := 0) (by decide) dX1_proof_26 (z_istore (L' := [(0, zA (some o)), (1, zI p1), (2, zI p2), (3, zI x8), (4, zJ x13), (6, zI 0)]) hX rfl (by decide) dX1_proof_27 (z_iconst hX (v := 1) (by decide) dX1_proof_29 (z_istore (L' := [(0, zA (some o)), (1, zI p1), (2, zI p2), (3, zI x8), (4, zJ x13), (6, zI 0), (7, zI 1)]) hX rfl (by decide) dX1_proof_30 (z_iconst hX (v := 0) (by decide) dX1_proof_32 (z_istore (L' := [(0, zA (some o)), (1, zI p1), (2, zI p2), (3, zI x8), (4, zJ x13), (6, zI 0), (7, zI 1), (8, zI 0)]) hX rfl (by decide) dX1_proof_33 ?_))))))
  exact z_sub [0, 3, 4, 5, 6, 7] rfl (s_X1_proof_35 (o := o) hX  h)

theorem c_X1_proof {l : Launch} {D : va_G} {tys : zTy} (hl : l.stackTraces = false) {o : Nat} {p1 : Int32} {p2 : Int32} {σ : zS} {Rt : (Int32 ⊕ Nat) × zS} (h : f_X1_proof o p1 p2 σ = some Rt) : zM l D tys yX1_proof (ws_ yX1_proof cX1_proof 12 (Option.some Jvm.ClassFile.FieldType.int)) 9 152 [zA (some o), zI p1, zI p2] σ (zot eI Rt.1) Rt.2 :=
  zM_in hl rfl (Nat.le_of_ble_eq_true rfl) (fun p e R s m args below meth c hX => z_L rfl (s_X1_proof hX h))
def f_X0_proof (p1 : Option Nat) (p2 : Int32) (p3 : Int32) (p4 : Option Nat) (σ : zS) : Option (Int32 × zS) :=
  p1.bind fun a1 =>
  zif (zcl σ a1 = 0) <|
  zbt (f_X1_proof a1 p2 p3 σ) (fun k9 σ9 =>
    if k9 = 2 then
      some ((1 : Int32), σ9)
    else
    none
  ) fun x3 σ4 =>
  p4.bind fun a5 =>
  (sJ σ4 a5 0 x3.toInt64).bind fun σ6 =>
  some ((0 : Int32), σ6)

set_option maxHeartbeats 4000000 in
theorem s_X0_proof {X : zX} (hX : zOk X RX0 cX0_proof 5 10 183 (Option.some Jvm.ClassFile.FieldType.int) "proof" (tableOf [(0, 10, 13, 24)])) {p1 : Option Nat} {p2 : Int32} {p3 : Int32} {p4 : Option Nat} {σ : zS} {Rt : Int32 × zS} (h : f_X0_proof p1 p2 p3 p4 σ = some Rt) : zG X (zQ X (.inl (eI Rt.1)) Rt.2) 5 0 [(0, zA p1), (1, zI p2), (2, zI p3), (3, zA p4)] [] σ := by
  unfold f_X0_proof at h
  refine z_aload_n hX 3 rfl rfl dX0_proof_0 (z_iconst hX (v := 0) (by decide) dX0_proof_1 (z_aload_n hX 0 rfl rfl dX0_proof_2 (z_iload_n hX 1 rfl rfl dX0_proof_3 (z_iload_n hX 2 rfl rfl dX0_proof_4 ?_))))
  obtain ⟨a1, e9, k_a1⟩ := z_nn h
  subst e9
  have h := k_a1
  obtain ⟨c2, h⟩ := z_ck h
  refine z_cTI hX (rest := [zI 0, zA p4]) h (fun r9 σ9 e9 => z_runV hX lk_X0_77 (c_X1_proof hX.tr e9) (ci := 0) zc9_0 c2 ⟨Nat.le_of_ble_eq_true rfl, Nat.le_of_ble_eq_true rfl⟩ rfl (Nat.le_of_ble_eq_true rfl) dX0_proof_5 rfl) (fun k9 σ9 h => ?_) (fun x3 σ4 h => ?_)
  · rcases z_ite h with ⟨e9, k_σ4_2⟩ | ⟨-, h⟩
    · subst e9
      have h := k_σ4_2
      refine z_catch hX (k := 2) (nmC := "java/lang/IndexOutOfBoundsException") [] ⟨0, 10, 13, 24⟩ [] rfl (fun z hz => nomatch hz) rfl (by decide) q1381 (zNw_of q1415 rfl) (fun q9 => ?_)
      refine z_astore (L' := [(0, zA (some a1)), (1, zI p2), (2, zI p3), (3, zA p4), (4, zA (some q9))]) hX rfl (by decide) dX0_proof_13 (z_iconst hX (v := 1) (by decide) dX0_proof_15 ?_)
      obtain rfl := Option.some.inj h
      exact z_iret hX dX0_proof_16
    cases h
  refine z_i2l hX dX0_proof_8 ?_
  obtain ⟨a5, e9, k_a5⟩ := z_nn h
  subst e9
  have h := k_a5
  refine z_last hX h dX0_proof_9 (fun σ6 h => ?_)
  refine z_goto (tgt := 17) hX dX0_proof_10 (by decide) (z_iconst hX (v := 0) (by decide) dX0_proof_17 ?_)
  obtain rfl := Option.some.inj h
  exact z_iret hX dX0_proof_18

theorem c_X0_proof {l : Launch} {D : va_G} {tys : zTy} (hl : l.stackTraces = false) {p1 : Option Nat} {p2 : Int32} {p3 : Int32} {p4 : Option Nat} {σ : zS} {Rt : Int32 × zS} (h : f_X0_proof p1 p2 p3 p4 σ = some Rt) : zM l D tys yX0_proof (wsW_ yX0_proof cX0_proof 5 (Option.some Jvm.ClassFile.FieldType.int) [(0, 10, 13, 24)]) 10 183 [zA p1, zI p2, zI p3, zA p4] σ (.inl (eI Rt.1)) Rt.2 :=
  zM_inW hl rfl (Nat.le_of_ble_eq_true rfl) (fun p e R s m args below meth c hX => z_L rfl (s_X0_proof hX h))
def f_J2_isEmpty (o : Nat) (σ : zS) : Option (Int32 × zS) :=
  (gI σ o 19 2).bind fun x1 =>
  if ¬ x1 = 0 then
    some ((0 : Int32), σ)
  else
    some ((1 : Int32), σ)

set_option maxHeartbeats 4000000 in
theorem s_J2_isEmpty {X : zX} (hX : zOk X RJ2 cJ2_isEmpty 1 1 40 (Option.some Jvm.ClassFile.FieldType.boolean) "isEmpty" []) {o : Nat} {σ : zS} {Rt : Int32 × zS} (h : f_J2_isEmpty o σ = some Rt) : zG X (zQ X (.inl (eI Rt.1)) Rt.2) 1 0 [(0, zA (some o))] [] σ := by
  unfold f_J2_isEmpty at h
  refine z_aload_n hX 0 rfl rfl dJ2_isEmpty_0 ?_
  refine z_getI hX fl_J2_48_19 h dJ2_isEmpty_1 (fun x1 h => ?_)
  refine z_if_ne (tgt := 11) hX h dJ2_isEmpty_4 (by decide) (fun h => ?_) (fun h => ?_)
  · refine z_iconst hX (v := 0) (by decide) dJ2_isEmpty_11 ?_
    obtain rfl := Option.some.inj h
    exact z_zretT (r := 0) hX (by decide) dJ2_isEmpty_12
  · refine z_iconst hX (v := 1) (by decide) dJ2_isEmpty_7 (z_goto (tgt := 12) hX dJ2_isEmpty_8 (by decide) ?_)
    obtain rfl := Option.some.inj h
    exact z_zretT (r := 1) hX (by decide) dJ2_isEmpty_12

theorem c_J2_isEmpty {l : Launch} {D : va_G} {tys : zTy} (hl : l.stackTraces = false) {o : Nat} {σ : zS} {Rt : Int32 × zS} (h : f_J2_isEmpty o σ = some Rt) : zM l D tys yJ2_isEmpty (ws_ yJ2_isEmpty cJ2_isEmpty 1 (Option.some Jvm.ClassFile.FieldType.boolean)) 1 40 [zA (some o)] σ (.inl (eI Rt.1)) Rt.2 :=
  zM_in hl rfl (Nat.le_of_ble_eq_true rfl) (fun p e R s m args below meth c hX => z_L rfl (s_J2_isEmpty hX h))
def f_X1_draw (o : Nat) (p1 : Int32) (σ : zS) : Option (Int32 × zS) :=
  (gR σ o 0 0).bind fun r1 =>
  (gR σ o 0 0).bind fun r2 =>
  r2.bind fun a3 =>
  (gI σ a3 1 5).bind fun x4 =>
  r1.bind fun a5 =>
  (pI σ a5 1 5 ((x4 * 1103515245) + 12345)).bind fun σ6 =>
  (gR σ6 o 0 0).bind fun r7 =>
  r7.bind fun a8 =>
  (gI σ6 a8 1 5).bind fun x9 =>
  (zrem ((x9 >>> (16 &&& 31)) &&& 32767) p1).bind fun x10 =>
  some (x10, σ6)

set_option maxHeartbeats 4000000 in
theorem s_X1_draw {X : zX} (hX : zOk X RX1 cX1_draw 2 1 40 (Option.some Jvm.ClassFile.FieldType.int) "draw" []) {o : Nat} {p1 : Int32} {σ : zS} {Rt : Int32 × zS} (h : f_X1_draw o p1 σ = some Rt) : zG X (zQ X (.inl (eI Rt.1)) Rt.2) 2 0 [(0, zA (some o)), (1, zI p1)] [] σ := by
  unfold f_X1_draw at h
  refine z_aload_n hX 0 rfl rfl dX1_draw_0 ?_
  refine z_getR hX fl_X1_10_0 h dX1_draw_1 (fun r1 h => ?_)
  refine z_aload_n hX 0 rfl rfl dX1_draw_4 ?_
  refine z_getR hX fl_X1_10_0 h dX1_draw_5 (fun r2 h => ?_)
  obtain ⟨a3, e9, k_a3⟩ := z_nn h
  subst e9
  have h := k_a3
  refine z_getI hX fl_X1_482_1 h dX1_draw_8 (fun x4 h => ?_)
  refine z_ldcw hX (v := 1103515245) q1756 dX1_draw_11 (z_imul hX dX1_draw_14 (z_sipush hX (v := 12345) (by decide) dX1_draw_15 (z_iadd hX dX1_draw_18 ?_)))
  obtain ⟨a5, e9, k_a5⟩ := z_nn h
  subst e9
  have h := k_a5
  refine z_putI hX fp_X1_482_1 (fun h => nomatch h) h dX1_draw_19 (fun σ6 h => ?_)
  refine z_aload_n hX 0 rfl rfl dX1_draw_22 ?_
  refine z_getR hX fl_X1_10_0 h dX1_draw_23 (fun r7 h => ?_)
  obtain ⟨a8, e9, k_a8⟩ := z_nn h
  subst e9
  have h := k_a8
  refine z_getI hX fl_X1_482_1 h dX1_draw_26 (fun x9 h => ?_)
  refine z_bipush hX (v := 16) (by decide) dX1_draw_29 (z_ishr hX dX1_draw_31 (z_sipush hX (v := 32767) (by decide) dX1_draw_32 (z_iand hX dX1_draw_35 (z_iload_n hX 1 rfl rfl dX1_draw_36 ?_))))
  refine z_irem hX h dX1_draw_37 (fun x10 h => ?_)
  obtain rfl := Option.some.inj h
  exact z_iret hX dX1_draw_38

theorem c_X1_draw {l : Launch} {D : va_G} {tys : zTy} (hl : l.stackTraces = false) {o : Nat} {p1 : Int32} {σ : zS} {Rt : Int32 × zS} (h : f_X1_draw o p1 σ = some Rt) : zM l D tys yX1_draw (ws_ yX1_draw cX1_draw 2 (Option.some Jvm.ClassFile.FieldType.int)) 1 40 [zA (some o), zI p1] σ (.inl (eI Rt.1)) Rt.2 :=
  zM_in hl rfl (Nat.le_of_ble_eq_true rfl) (fun p e R s m args below meth c hX => z_L rfl (s_X1_draw hX h))
def f_X1_live_168 (o : Nat) (rec26 : Int32 → zS → Option ((Int32 ⊕ Nat) × zS)) (v1 : Int32) (v2 : Option Nat) (v3 : Int32) (v4 : Int32) (σ : zS) : Option ((Int32 ⊕ Nat) × zS) :=
  v2.bind fun a24 =>
  (gI σ a24 1 4).bind fun x25 =>
  (pI σ a24 1 4 (x25 + 1)).bind fun σ26 =>
  zl (v4 + 1) fun x27 =>
  rec26 x27 σ26

set_option maxHeartbeats 4000000 in
theorem s_X1_live_168 {X : zX} (hX : zOk X RX1 cX1_live 9 103 2612 (Option.some Jvm.ClassFile.FieldType.int) "live" []) {o : Nat} {Rt : (Int32 ⊕ Nat) × zS} {rec26 : Int32 → zS → Option ((Int32 ⊕ Nat) × zS)} {v1 : Int32} {v2 : Option Nat} {v3 : Int32} {v4 : Int32} (hrec26 : ∀ (v4 : Int32) (σ : zS), rec26 v4 σ = some Rt → zG X (zQ X (zot eI Rt.1) Rt.2) 9 26 [(0, zA (some o)), (1, zI v1), (2, zA v2), (3, zI v3), (4, zI v4)] [] σ) {σ : zS} (h : f_X1_live_168 o rec26 v1 v2 v3 v4 σ = some Rt) : zG X (zQ X (zot eI Rt.1) Rt.2) 9 168 [(0, zA (some o)), (1, zI v1), (2, zA v2), (3, zI v3), (4, zI v4)] [] σ := by
  unfold f_X1_live_168 at h
  refine z_aload_n hX 2 rfl rfl dX1_live_168 (z_dup hX rfl dX1_live_169 ?_)
  obtain ⟨a24, e9, k_a24⟩ := z_nn h
  subst e9
  have h := k_a24
  refine z_getI hX fl_X1_331_1 h dX1_live_170 (fun x25 h => ?_)
  refine z_iconst hX (v := 1) (by decide) dX1_live_173 (z_iadd hX dX1_live_174 ?_)
  refine z_putI hX fp_X1_331_1 (fun h => nomatch h) h dX1_live_175 (fun σ26 h => ?_)
  refine z_iinc hX (j := 4) h rfl (by decide) (by decide) dX1_live_178 (fun x27 h => z_L (L' := [(0, zA (some o)), (1, zI v1), (2, zA (some a24)), (3, zI v3), (4, zI x27)]) rfl ?_)
  refine z_goto (tgt := 26) hX dX1_live_181 (by decide) ?_
  exact z_sub [0, 1, 2, 3, 4] rfl (hrec26 _ _ h)

def f_X1_live_162 (o : Nat) (rec26 : Int32 → zS → Option ((Int32 ⊕ Nat) × zS)) (rec35 : Int32 → zS → Option ((Int32 ⊕ Nat) × zS)) (v1 : Int32) (v2 : Option Nat) (v3 : Int32) (v4 : Int32) (v5 : Int32) (σ : zS) : Option ((Int32 ⊕ Nat) × zS) :=
  zl (v5 + 1) fun x59 =>
  rec35 x59 σ

set_option maxHeartbeats 4000000 in
theorem s_X1_live_162 {X : zX} (hX : zOk X RX1 cX1_live 9 103 2612 (Option.some Jvm.ClassFile.FieldType.int) "live" []) {o : Nat} {Rt : (Int32 ⊕ Nat) × zS} {rec26 : Int32 → zS → Option ((Int32 ⊕ Nat) × zS)} {rec35 : Int32 → zS → Option ((Int32 ⊕ Nat) × zS)} {v1 : Int32} {v2 : Option Nat} {v3 : Int32} {v4 : Int32} {v5 : Int32} (hrec26 : ∀ (v4 : Int32) (σ : zS), rec26 v4 σ = some Rt → zG X (zQ X (zot eI Rt.1) Rt.2) 9 26 [(0, zA (some o)), (1, zI v1), (2, zA v2), (3, zI v3), (4, zI v4)] [] σ) (hrec35 : ∀ (v5 : Int32) (σ : zS), rec35 v5 σ = some Rt → zG X (zQ X (zot eI Rt.1) Rt.2) 9 35 [(0, zA (some o)), (1, zI v1), (2, zA v2), (3, zI v3), (4, zI v4), (5, zI v5)] [] σ) {σ : zS} (h : f_X1_live_162 o rec26 rec35 v1 v2 v3 v4 v5 σ = some Rt) : zG X (zQ X (zot eI Rt.1) Rt.2) 9 162 [(0, zA (some o)), (1, zI v1), (2, zA v2), (3, zI v3), (4, zI v4), (5, zI v5)] [] σ := by
  unfold f_X1_live_162 at h
  refine z_iinc hX (j := 5) h rfl (by decide) (by decide) dX1_live_162 (fun x59 h => z_L (L' := [(0, zA (some o)), (1, zI v1), (2, zA v2), (3, zI v3), (4, zI v4), (5, zI x59)]) rfl ?_)
  refine z_goto (tgt := 35) hX dX1_live_165 (by decide) ?_
  exact z_sub [0, 1, 2, 3, 4, 5] rfl (hrec35 _ _ h)

def f_X1_live_116 (o : Nat) (rec26 : Int32 → zS → Option ((Int32 ⊕ Nat) × zS)) (rec35 : Int32 → zS → Option ((Int32 ⊕ Nat) × zS)) (v1 : Int32) (v2 : Option Nat) (v3 : Int32) (v4 : Int32) (v5 : Int32) (v6 : Option Nat) (v7 : Int32) (t0 : Int32) (σ : zS) : Option ((Int32 ⊕ Nat) × zS) :=
  v2.bind fun a55 =>
  zif (zcl σ a55 = 1) <|
  zb2 (f_X2_may a55 v5 v7 t0 σ) fun x57 σ58 =>
  if x57 = 0 then
    f_X1_live_162 o rec26 rec35 v1 (some a55) v3 v4 v5 σ58
  else
    v6.bind fun a60 =>
    (gI σ58 a60 6 3).bind fun x61 =>
    (gI σ58 a60 6 3).bind fun x62 =>
    zif (zcl σ58 o = 0) <|
    zb2 (f_X1_counted o v5 x62 v7 t0 σ58) fun x64 σ65 =>
    zif (zcl σ65 a55 = 1) <|
    zb2 (f_X2_walks a55 v5 x61 v7 t0 x64 σ65) fun x67 σ68 =>
    f_X1_live_162 o rec26 rec35 v1 (some a55) v3 v4 v5 σ68

set_option maxHeartbeats 4000000 in
theorem s_X1_live_116 {X : zX} (hX : zOk X RX1 cX1_live 9 103 2612 (Option.some Jvm.ClassFile.FieldType.int) "live" []) {o : Nat} {Rt : (Int32 ⊕ Nat) × zS} {rec26 : Int32 → zS → Option ((Int32 ⊕ Nat) × zS)} {rec35 : Int32 → zS → Option ((Int32 ⊕ Nat) × zS)} {v1 : Int32} {v2 : Option Nat} {v3 : Int32} {v4 : Int32} {v5 : Int32} {v6 : Option Nat} {v7 : Int32} (hrec26 : ∀ (v4 : Int32) (σ : zS), rec26 v4 σ = some Rt → zG X (zQ X (zot eI Rt.1) Rt.2) 9 26 [(0, zA (some o)), (1, zI v1), (2, zA v2), (3, zI v3), (4, zI v4)] [] σ) (hrec35 : ∀ (v5 : Int32) (σ : zS), rec35 v5 σ = some Rt → zG X (zQ X (zot eI Rt.1) Rt.2) 9 35 [(0, zA (some o)), (1, zI v1), (2, zA v2), (3, zI v3), (4, zI v4), (5, zI v5)] [] σ) {t0 : Int32} {σ : zS} (h : f_X1_live_116 o rec26 rec35 v1 v2 v3 v4 v5 v6 v7 t0 σ = some Rt) : zG X (zQ X (zot eI Rt.1) Rt.2) 9 116 [(0, zA (some o)), (1, zI v1), (2, zA v2), (3, zI v3), (4, zI v4), (5, zI v5), (6, zA v6), (7, zI v7)] [zI t0] σ := by
  unfold f_X1_live_116 at h
  refine z_istore (L' := [(0, zA (some o)), (1, zI v1), (2, zA v2), (3, zI v3), (4, zI v4), (5, zI v5), (6, zA v6), (7, zI v7), (8, zI t0)]) hX rfl (by decide) dX1_live_116 (z_aload_n hX 2 rfl rfl dX1_live_118 (z_iload hX 5 rfl dX1_live_119 (z_iload hX 7 rfl dX1_live_121 (z_iload hX 8 rfl dX1_live_123 ?_))))
  obtain ⟨a55, e9, k_a55⟩ := z_nn h
  subst e9
  have h := k_a55
  obtain ⟨c56, h⟩ := z_ck h
  refine z_cNI hX (rest := []) h (fun r9 σ9 e9 => z_runV hX lk_X1_414 (c_X2_may hX.tr e9) (ci := 1) zc9_1 c56 ⟨Nat.le_of_ble_eq_true rfl, Nat.le_of_ble_eq_true rfl⟩ rfl (Nat.le_of_ble_eq_true rfl) dX1_live_125 rfl) (fun x57 σ58 h => ?_)
  refine z_if_eq (tgt := 162) hX h dX1_live_128 (by decide) (fun h => ?_) (fun h => ?_)
  · exact z_sub [0, 1, 2, 3, 4, 5] rfl (s_X1_live_162 (o := o) hX hrec26 hrec35 h)
  · refine z_aload_n hX 2 rfl rfl dX1_live_131 (z_iload hX 5 rfl dX1_live_132 (z_aload hX 6 rfl dX1_live_134 ?_))
    obtain ⟨a60, e9, k_a60⟩ := z_nn h
    subst e9
    have h := k_a60
    refine z_getI hX fl_X1_339_6 h dX1_live_136 (fun x61 h => ?_)
    refine z_iload hX 7 rfl dX1_live_139 (z_iload hX 8 rfl dX1_live_141 (z_aload_n hX 0 rfl rfl dX1_live_143 (z_iload hX 5 rfl dX1_live_144 (z_aload hX 6 rfl dX1_live_146 ?_))))
    refine z_getI hX fl_X1_339_6 h dX1_live_148 (fun x62 h => ?_)
    refine z_iload hX 7 rfl dX1_live_151 (z_iload hX 8 rfl dX1_live_153 ?_)
    obtain ⟨c63, h⟩ := z_ck h
    refine z_cNI hX (rest := [zI t0, zI v7, zI x61, zI v5, zA (some a55)]) h (fun r9 σ9 e9 => z_runV hX lk_X1_410 (c_X1_counted hX.tr e9) (ci := 0) zc9_0 c63 ⟨Nat.le_of_ble_eq_true rfl, Nat.le_of_ble_eq_true rfl⟩ rfl (Nat.le_of_ble_eq_true rfl) dX1_live_155 rfl) (fun x64 σ65 h => ?_)
    obtain ⟨c66, h⟩ := z_ck h
    refine z_cNI hX (rest := []) h (fun r9 σ9 e9 => z_runV hX lk_X1_421 (c_X2_walks hX.tr e9) (ci := 1) zc9_1 c66 ⟨Nat.le_of_ble_eq_true rfl, Nat.le_of_ble_eq_true rfl⟩ rfl (Nat.le_of_ble_eq_true rfl) dX1_live_158 rfl) (fun x67 σ68 h => ?_)
    refine z_pop hX rfl dX1_live_161 ?_
    exact z_sub [0, 1, 2, 3, 4, 5] rfl (s_X1_live_162 (o := o) hX hrec26 hrec35 h)

def f_X1_live_35_b (o : Nat) (rec26 : Int32 → zS → Option ((Int32 ⊕ Nat) × zS)) (v1 : Int32) (v2 : Option Nat) (v3 : Int32) (v4 : Int32) (rec35 : Int32 → zS → Option ((Int32 ⊕ Nat) × zS)) (v5 : Int32) (σ : zS) : Option ((Int32 ⊕ Nat) × zS) :=
  v2.bind fun a18 =>
  (gR σ a18 1 8).bind fun r19 =>
  r19.bind fun a20 =>
  zif (zcl σ a20 = 19) <|
  zb2 (f_J2_size a20 σ) fun x22 σ23 =>
  if x22 ≤ v5 then
    f_X1_live_168 o rec26 v1 (some a18) v3 v4 σ23
  else
    (gR σ23 a18 1 9).bind fun r28 =>
    r28.bind fun a29 =>
    zif (zcl σ23 a29 = 19) <|
    zb2 (f_J2_isEmpty a29 σ23) fun x31 σ32 =>
    if ¬ x31 = 0 then
      f_X1_live_168 o rec26 v1 (some a18) v3 v4 σ32
    else
      (gR σ32 a18 1 8).bind fun r33 =>
      r33.bind fun a34 =>
      zif (zcl σ32 a34 = 19) <|
      zb2 (f_J2_get a34 v5 σ32) fun r36 σ37 =>
      zif (zckC σ37 r36 6 = true) <|
      zif (zcl σ37 o = 0) <|
      zb2 (f_X1_draw o 100 σ37) fun x39 σ40 =>
      r36.bind fun a41 =>
      (gI σ40 a41 6 2).bind fun x42 =>
      if x39 < x42 then
        (gR σ40 a18 1 9).bind fun r43 =>
        r43.bind fun a44 =>
        zif (zcl σ40 a44 = 19) <|
        zb2 (f_J2_size a44 σ40) fun x46 σ47 =>
        zif (zcl σ47 o = 0) <|
        zb2 (f_X1_draw o x46 σ47) fun x49 σ50 =>
        zl (x49 + 1) fun x51 =>
        zif (zcl σ50 o = 0) <|
        zb2 (f_X1_draw o 4 σ50) fun x53 σ54 =>
        if ¬ x53 = 0 then
          f_X1_live_116 o rec26 rec35 v1 (some a18) v3 v4 v5 (some a41) x51 0 σ54
        else
          f_X1_live_116 o rec26 rec35 v1 (some a18) v3 v4 v5 (some a41) x51 1 σ54
      else
        f_X1_live_162 o rec26 rec35 v1 (some a18) v3 v4 v5 σ40

def f_X1_live_35 (o : Nat) (rec26 : Int32 → zS → Option ((Int32 ⊕ Nat) × zS)) (v1 : Int32) (v2 : Option Nat) (v3 : Int32) (v4 : Int32) : Int32 → zS → Option ((Int32 ⊕ Nat) × zS) := zlp1 (f_X1_live_35_b o rec26 v1 v2 v3 v4) NN
set_option maxHeartbeats 4000000 in
theorem s_X1_live_35_b {X : zX} (hX : zOk X RX1 cX1_live 9 103 2612 (Option.some Jvm.ClassFile.FieldType.int) "live" []) {o : Nat} {Rt : (Int32 ⊕ Nat) × zS} {rec26 : Int32 → zS → Option ((Int32 ⊕ Nat) × zS)} {v1 : Int32} {v2 : Option Nat} {v3 : Int32} {v4 : Int32} (hrec26 : ∀ (v4 : Int32) (σ : zS), rec26 v4 σ = some Rt → zG X (zQ X (zot eI Rt.1) Rt.2) 9 26 [(0, zA (some o)), (1, zI v1), (2, zA v2), (3, zI v3), (4, zI v4)] [] σ) {rec35 : Int32 → zS → Option ((Int32 ⊕ Nat) × zS)} (hrec35 : ∀ (v5 : Int32) (σ : zS), rec35 v5 σ = some Rt → zG X (zQ X (zot eI Rt.1) Rt.2) 9 35 [(0, zA (some o)), (1, zI v1), (2, zA v2), (3, zI v3), (4, zI v4), (5, zI v5)] [] σ) {v5 : Int32} {σ : zS} (h : f_X1_live_35_b o rec26 v1 v2 v3 v4 rec35 v5 σ = some Rt) : zG X (zQ X (zot eI Rt.1) Rt.2) 9 35 [(0, zA (some o)), (1, zI v1), (2, zA v2), (3, zI v3), (4, zI v4), (5, zI v5)] [] σ := by
  unfold f_X1_live_35_b at h
  refine z_iload hX 5 rfl dX1_live_35 (z_aload_n hX 2 rfl rfl dX1_live_37 ?_)
  obtain ⟨a18, e9, k_a18⟩ := z_nn h
  subst e9
  have h := k_a18
  refine z_getR hX fl_X1_55_1 h dX1_live_38 (fun r19 h => ?_)
  obtain ⟨a20, e9, k_a20⟩ := z_nn h
  subst e9
  have h := k_a20
  obtain ⟨c21, h⟩ := z_ck h
  refine z_cNI hX (rest := [zI v5]) h (fun r9 σ9 e9 => z_runV hX lk_X1_59 (c_J2_size hX.tr e9) (ci := 19) zc9_19 c21 ⟨Nat.le_of_ble_eq_true rfl, Nat.le_of_ble_eq_true rfl⟩ rfl (Nat.le_of_ble_eq_true rfl) dX1_live_41 rfl) (fun x22 σ23 h => ?_)
  refine z_icmp_ge (tgt := 168) hX h dX1_live_44 (by decide) (fun h => ?_) (fun h => ?_)
  · exact z_sub [0, 1, 2, 3, 4] rfl (s_X1_live_168 (o := o) hX hrec26 h)
  · refine z_aload_n hX 2 rfl rfl dX1_live_47 ?_
    refine z_getR hX fl_X1_144_1 h dX1_live_48 (fun r28 h => ?_)
    obtain ⟨a29, e9, k_a29⟩ := z_nn h
    subst e9
    have h := k_a29
    obtain ⟨c30, h⟩ := z_ck h
    refine z_cNI hX (rest := []) h (fun r9 σ9 e9 => z_runV hX lk_X1_486 (c_J2_isEmpty hX.tr e9) (ci := 19) zc9_19 c30 ⟨Nat.le_of_ble_eq_true rfl, Nat.le_of_ble_eq_true rfl⟩ rfl (Nat.le_of_ble_eq_true rfl) dX1_live_51 rfl) (fun x31 σ32 h => ?_)
    refine z_if_ne (tgt := 168) hX h dX1_live_54 (by decide) (fun h => ?_) (fun h => ?_)
    · exact z_sub [0, 1, 2, 3, 4] rfl (s_X1_live_168 (o := o) hX hrec26 h)
    · refine z_aload_n hX 2 rfl rfl dX1_live_57 ?_
      refine z_getR hX fl_X1_55_1 h dX1_live_58 (fun r33 h => ?_)
      refine z_iload hX 5 rfl dX1_live_61 ?_
      obtain ⟨a34, e9, k_a34⟩ := z_nn h
      subst e9
      have h := k_a34
      obtain ⟨c35, h⟩ := z_ck h
      refine z_cNA hX (rest := []) h (fun r9 σ9 e9 => z_runV hX lk_X1_313 (c_J2_get hX.tr e9) (ci := 19) zc9_19 c35 ⟨Nat.le_of_ble_eq_true rfl, Nat.le_of_ble_eq_true rfl⟩ rfl (Nat.le_of_ble_eq_true rfl) dX1_live_63 rfl) (fun r36 σ37 h => ?_)
      refine z_castC hX (ci := 6) rfl q1124 h dX1_live_66 (fun h => ?_)
      refine z_astore (L' := [(0, zA (some o)), (1, zI v1), (2, zA (some a18)), (3, zI v3), (4, zI v4), (5, zI v5), (6, zA r36)]) hX rfl (by decide) dX1_live_69 (z_aload_n hX 0 rfl rfl dX1_live_71 (z_bipush hX (v := 100) (by decide) dX1_live_72 ?_))
      obtain ⟨c38, h⟩ := z_ck h
      refine z_cNI hX (rest := []) h (fun r9 σ9 e9 => z_runV hX lk_X1_489 (c_X1_draw hX.tr e9) (ci := 0) zc9_0 c38 ⟨Nat.le_of_ble_eq_true rfl, Nat.le_of_ble_eq_true rfl⟩ rfl (Nat.le_of_ble_eq_true rfl) dX1_live_74 rfl) (fun x39 σ40 h => ?_)
      refine z_aload hX 6 rfl dX1_live_77 ?_
      obtain ⟨a41, e9, k_a41⟩ := z_nn h
      subst e9
      have h := k_a41
      refine z_getI hX fl_X1_372_6 h dX1_live_79 (fun x42 h => ?_)
      refine z_icmp_lt (tgt := 88) hX h dX1_live_82 (by decide) (fun h => ?_) (fun h => ?_)
      · refine z_aload_n hX 0 rfl rfl dX1_live_88 (z_aload_n hX 2 rfl rfl dX1_live_89 ?_)
        refine z_getR hX fl_X1_144_1 h dX1_live_90 (fun r43 h => ?_)
        obtain ⟨a44, e9, k_a44⟩ := z_nn h
        subst e9
        have h := k_a44
        obtain ⟨c45, h⟩ := z_ck h
        refine z_cNI hX (rest := [zA (some o)]) h (fun r9 σ9 e9 => z_runV hX lk_X1_59 (c_J2_size hX.tr e9) (ci := 19) zc9_19 c45 ⟨Nat.le_of_ble_eq_true rfl, Nat.le_of_ble_eq_true rfl⟩ rfl (Nat.le_of_ble_eq_true rfl) dX1_live_93 rfl) (fun x46 σ47 h => ?_)
        obtain ⟨c48, h⟩ := z_ck h
        refine z_cNI hX (rest := []) h (fun r9 σ9 e9 => z_runV hX lk_X1_489 (c_X1_draw hX.tr e9) (ci := 0) zc9_0 c48 ⟨Nat.le_of_ble_eq_true rfl, Nat.le_of_ble_eq_true rfl⟩ rfl (Nat.le_of_ble_eq_true rfl) dX1_live_96 rfl) (fun x49 σ50 h => ?_)
        refine z_iconst hX (v := 1) (by decide) dX1_live_99 (z_iadd hX dX1_live_100 ?_)
        refine z_nmI h (fun x51 h => ?_)
        refine z_istore (L' := [(0, zA (some o)), (1, zI v1), (2, zA (some a18)), (3, zI v3), (4, zI v4), (5, zI v5), (6, zA (some a41)), (7, zI x51)]) hX rfl (by decide) dX1_live_101 (z_aload_n hX 0 rfl rfl dX1_live_103 (z_iconst hX (v := 4) (by decide) dX1_live_104 ?_))
        obtain ⟨c52, h⟩ := z_ck h
        refine z_cNI hX (rest := []) h (fun r9 σ9 e9 => z_runV hX lk_X1_489 (c_X1_draw hX.tr e9) (ci := 0) zc9_0 c52 ⟨Nat.le_of_ble_eq_true rfl, Nat.le_of_ble_eq_true rfl⟩ rfl (Nat.le_of_ble_eq_true rfl) dX1_live_105 rfl) (fun x53 σ54 h => ?_)
        refine z_if_ne (tgt := 115) hX h dX1_live_108 (by decide) (fun h => ?_) (fun h => ?_)
        · refine z_iconst hX (v := 0) (by decide) dX1_live_115 ?_
          exact z_sub [0, 1, 2, 3, 4, 5, 6, 7] rfl (s_X1_live_116 (o := o) hX hrec26 hrec35 h)
        · refine z_iconst hX (v := 1) (by decide) dX1_live_111 (z_goto (tgt := 116) hX dX1_live_112 (by decide) ?_)
          exact z_sub [0, 1, 2, 3, 4, 5, 6, 7] rfl (s_X1_live_116 (o := o) hX hrec26 hrec35 h)
      · refine z_goto (tgt := 162) hX dX1_live_85 (by decide) ?_
        exact z_sub [0, 1, 2, 3, 4, 5] rfl (s_X1_live_162 (o := o) hX hrec26 hrec35 h)

theorem s_X1_live_35 {X : zX} (hX : zOk X RX1 cX1_live 9 103 2612 (Option.some Jvm.ClassFile.FieldType.int) "live" []) {o : Nat} {Rt : (Int32 ⊕ Nat) × zS} {rec26 : Int32 → zS → Option ((Int32 ⊕ Nat) × zS)} {v1 : Int32} {v2 : Option Nat} {v3 : Int32} {v4 : Int32} (hrec26 : ∀ (v4 : Int32) (σ : zS), rec26 v4 σ = some Rt → zG X (zQ X (zot eI Rt.1) Rt.2) 9 26 [(0, zA (some o)), (1, zI v1), (2, zA v2), (3, zI v3), (4, zI v4)] [] σ) {v5 : Int32} {σ : zS} (h : f_X1_live_35 o rec26 v1 v2 v3 v4 v5 σ = some Rt) : zG X (zQ X (zot eI Rt.1) Rt.2) 9 35 [(0, zA (some o)), (1, zI v1), (2, zA v2), (3, zI v3), (4, zI v4), (5, zI v5)] [] σ :=
  zlp1_ok (P := fun v5 σ => zG X (zQ X (zot eI Rt.1) Rt.2) 9 35 [(0, zA (some o)), (1, zI v1), (2, zA v2), (3, zI v3), (4, zI v4), (5, zI v5)] [] σ) (fun rec hr v5 σ h => s_X1_live_35_b (o := o) hX hrec26 hr h) NN v5 σ h
def f_X1_live_26_b (o : Nat) (v1 : Int32) (v2 : Option Nat) (v3 : Int32) (rec26 : Int32 → zS → Option ((Int32 ⊕ Nat) × zS)) (v4 : Int32) (σ : zS) : Option ((Int32 ⊕ Nat) × zS) :=
  if v1 ≤ v4 then
    v2.bind fun a12 =>
    (gR σ a12 1 11).bind fun r13 =>
    r13.bind fun a14 =>
    zif (zcl σ a14 = 19) <|
    zb2 (f_J2_size a14 σ) fun x16 σ17 =>
    some (.inl (x16 - v3), σ17)
  else
    f_X1_live_35 o rec26 v1 v2 v3 v4 0 σ

def f_X1_live_26 (o : Nat) (v1 : Int32) (v2 : Option Nat) (v3 : Int32) : Int32 → zS → Option ((Int32 ⊕ Nat) × zS) := zlp1 (f_X1_live_26_b o v1 v2 v3) NN
set_option maxHeartbeats 4000000 in
theorem s_X1_live_26_b {X : zX} (hX : zOk X RX1 cX1_live 9 103 2612 (Option.some Jvm.ClassFile.FieldType.int) "live" []) {o : Nat} {Rt : (Int32 ⊕ Nat) × zS} {v1 : Int32} {v2 : Option Nat} {v3 : Int32} {rec26 : Int32 → zS → Option ((Int32 ⊕ Nat) × zS)} (hrec26 : ∀ (v4 : Int32) (σ : zS), rec26 v4 σ = some Rt → zG X (zQ X (zot eI Rt.1) Rt.2) 9 26 [(0, zA (some o)), (1, zI v1), (2, zA v2), (3, zI v3), (4, zI v4)] [] σ) {v4 : Int32} {σ : zS} (h : f_X1_live_26_b o v1 v2 v3 rec26 v4 σ = some Rt) : zG X (zQ X (zot eI Rt.1) Rt.2) 9 26 [(0, zA (some o)), (1, zI v1), (2, zA v2), (3, zI v3), (4, zI v4)] [] σ := by
  unfold f_X1_live_26_b at h
  refine z_iload hX 4 rfl dX1_live_26 (z_iload_n hX 1 rfl rfl dX1_live_28 ?_)
  refine z_icmp_ge (tgt := 184) hX h dX1_live_29 (by decide) (fun h => ?_) (fun h => ?_)
  · refine z_aload_n hX 2 rfl rfl dX1_live_184 ?_
    obtain ⟨a12, e9, k_a12⟩ := z_nn h
    subst e9
    have h := k_a12
    refine z_getR hX fl_X1_374_1 h dX1_live_185 (fun r13 h => ?_)
    obtain ⟨a14, e9, k_a14⟩ := z_nn h
    subst e9
    have h := k_a14
    obtain ⟨c15, h⟩ := z_ck h
    refine z_cNI hX (rest := []) h (fun r9 σ9 e9 => z_runV hX lk_X1_59 (c_J2_size hX.tr e9) (ci := 19) zc9_19 c15 ⟨Nat.le_of_ble_eq_true rfl, Nat.le_of_ble_eq_true rfl⟩ rfl (Nat.le_of_ble_eq_true rfl) dX1_live_188 rfl) (fun x16 σ17 h => ?_)
    refine z_iload_n hX 3 rfl rfl dX1_live_191 (z_isub hX dX1_live_192 ?_)
    obtain rfl := Option.some.inj h
    exact z_iret hX dX1_live_193
  · refine z_iconst hX (v := 0) (by decide) dX1_live_32 (z_istore (L' := [(0, zA (some o)), (1, zI v1), (2, zA v2), (3, zI v3), (4, zI v4), (5, zI 0)]) hX rfl (by decide) dX1_live_33 ?_)
    exact z_sub [0, 1, 2, 3, 4, 5] rfl (s_X1_live_35 (o := o) hX hrec26 h)

theorem s_X1_live_26 {X : zX} (hX : zOk X RX1 cX1_live 9 103 2612 (Option.some Jvm.ClassFile.FieldType.int) "live" []) {o : Nat} {Rt : (Int32 ⊕ Nat) × zS} {v1 : Int32} {v2 : Option Nat} {v3 : Int32} {v4 : Int32} {σ : zS} (h : f_X1_live_26 o v1 v2 v3 v4 σ = some Rt) : zG X (zQ X (zot eI Rt.1) Rt.2) 9 26 [(0, zA (some o)), (1, zI v1), (2, zA v2), (3, zI v3), (4, zI v4)] [] σ :=
  zlp1_ok (P := fun v4 σ => zG X (zQ X (zot eI Rt.1) Rt.2) 9 26 [(0, zA (some o)), (1, zI v1), (2, zA v2), (3, zI v3), (4, zI v4)] [] σ) (fun rec hr v4 σ h => s_X1_live_26_b (o := o) hX hr h) NN v4 σ h
def f_X1_live (o : Nat) (p1 : Int32) (σ : zS) : Option ((Int32 ⊕ Nat) × zS) :=
  zb2 (f_X1_in p1 1 99 σ) fun x1 σ2 =>
  zbt (f_X1_demand x1 σ2) (fun k9 σ9 => some (.inr k9, σ9)) fun _ σ4 =>
  (gR σ4 o 0 0).bind fun r5 =>
  r5.bind fun a6 =>
  (gR σ4 a6 1 11).bind fun r7 =>
  r7.bind fun a8 =>
  zif (zcl σ4 a8 = 19) <|
  zb2 (f_J2_size a8 σ4) fun x10 σ11 =>
  f_X1_live_26 o p1 (some a6) x10 0 σ11

set_option maxHeartbeats 4000000 in
theorem s_X1_live {X : zX} (hX : zOk X RX1 cX1_live 9 103 2612 (Option.some Jvm.ClassFile.FieldType.int) "live" []) {o : Nat} {p1 : Int32} {σ : zS} {Rt : (Int32 ⊕ Nat) × zS} (h : f_X1_live o p1 σ = some Rt) : zG X (zQ X (zot eI Rt.1) Rt.2) 9 0 [(0, zA (some o)), (1, zI p1)] [] σ := by
  unfold f_X1_live at h
  refine z_iload_n hX 1 rfl rfl dX1_live_0 (z_iconst hX (v := 1) (by decide) dX1_live_1 (z_bipush hX (v := 99) (by decide) dX1_live_2 ?_))
  refine z_cNI hX (rest := []) h (fun r9 σ9 e9 => z_runS hX lk_X1_347 (c_X1_in hX.tr e9) ⟨Nat.le_of_ble_eq_true rfl, Nat.le_of_ble_eq_true rfl⟩ rfl (Nat.le_of_ble_eq_true rfl) dX1_live_4 rfl) (fun x1 σ2 h => ?_)
  refine z_cTU hX (rest := []) h (fun r9 σ9 e9 => z_runS hX lk_X1_403 (c_X1_demand hX.tr e9) ⟨Nat.le_of_ble_eq_true rfl, Nat.le_of_ble_eq_true rfl⟩ rfl (Nat.le_of_ble_eq_true rfl) dX1_live_7 rfl) (fun k9 σ9 h => z_prop hX h (fun x hx => nomatch hx)) (fun _ σ4 h => ?_)
  refine z_aload_n hX 0 rfl rfl dX1_live_10 ?_
  refine z_getR hX fl_X1_10_0 h dX1_live_11 (fun r5 h => ?_)
  refine z_astore_n (L' := [(0, zA (some o)), (1, zI p1), (2, zA r5)]) hX rfl rfl (by decide) dX1_live_14 (z_aload_n hX 2 rfl rfl dX1_live_15 ?_)
  obtain ⟨a6, e9, k_a6⟩ := z_nn h
  subst e9
  have h := k_a6
  refine z_getR hX fl_X1_374_1 h dX1_live_16 (fun r7 h => ?_)
  obtain ⟨a8, e9, k_a8⟩ := z_nn h
  subst e9
  have h := k_a8
  obtain ⟨c9, h⟩ := z_ck h
  refine z_cNI hX (rest := []) h (fun r9 σ9 e9 => z_runV hX lk_X1_59 (c_J2_size hX.tr e9) (ci := 19) zc9_19 c9 ⟨Nat.le_of_ble_eq_true rfl, Nat.le_of_ble_eq_true rfl⟩ rfl (Nat.le_of_ble_eq_true rfl) dX1_live_19 rfl) (fun x10 σ11 h => ?_)
  refine z_istore_n (L' := [(0, zA (some o)), (1, zI p1), (2, zA (some a6)), (3, zI x10)]) hX rfl rfl (by decide) dX1_live_22 (z_iconst hX (v := 0) (by decide) dX1_live_23 (z_istore (L' := [(0, zA (some o)), (1, zI p1), (2, zA (some a6)), (3, zI x10), (4, zI 0)]) hX rfl (by decide) dX1_live_24 ?_))
  exact z_sub [0, 1, 2, 3, 4] rfl (s_X1_live_26 (o := o) hX  h)

theorem c_X1_live {l : Launch} {D : va_G} {tys : zTy} (hl : l.stackTraces = false) {o : Nat} {p1 : Int32} {σ : zS} {Rt : (Int32 ⊕ Nat) × zS} (h : f_X1_live o p1 σ = some Rt) : zM l D tys yX1_live (ws_ yX1_live cX1_live 9 (Option.some Jvm.ClassFile.FieldType.int)) 103 2612 [zA (some o), zI p1] σ (zot eI Rt.1) Rt.2 :=
  zM_in hl rfl (Nat.le_of_ble_eq_true rfl) (fun p e R s m args below meth c hX => z_L rfl (s_X1_live hX h))
def f_X0_live (p1 : Option Nat) (p2 : Int32) (p3 : Option Nat) (σ : zS) : Option (Int32 × zS) :=
  p1.bind fun a1 =>
  zif (zcl σ a1 = 0) <|
  zbt (f_X1_live a1 p2 σ) (fun k9 σ9 =>
    if k9 = 0 then
      some ((1 : Int32), σ9)
    else
    none
  ) fun x3 σ4 =>
  p3.bind fun a5 =>
  (sJ σ4 a5 0 x3.toInt64).bind fun σ6 =>
  some ((0 : Int32), σ6)

set_option maxHeartbeats 4000000 in
theorem s_X0_live {X : zX} (hX : zOk X RX0 cX0_live 4 104 2640 (Option.some Jvm.ClassFile.FieldType.int) "live" (tableOf [(0, 9, 12, 13)])) {p1 : Option Nat} {p2 : Int32} {p3 : Option Nat} {σ : zS} {Rt : Int32 × zS} (h : f_X0_live p1 p2 p3 σ = some Rt) : zG X (zQ X (.inl (eI Rt.1)) Rt.2) 4 0 [(0, zA p1), (1, zI p2), (2, zA p3)] [] σ := by
  unfold f_X0_live at h
  refine z_aload_n hX 2 rfl rfl dX0_live_0 (z_iconst hX (v := 0) (by decide) dX0_live_1 (z_aload_n hX 0 rfl rfl dX0_live_2 (z_iload_n hX 1 rfl rfl dX0_live_3 ?_)))
  obtain ⟨a1, e9, k_a1⟩ := z_nn h
  subst e9
  have h := k_a1
  obtain ⟨c2, h⟩ := z_ck h
  refine z_cTI hX (rest := [zI 0, zA p3]) h (fun r9 σ9 e9 => z_runV hX lk_X0_80 (c_X1_live hX.tr e9) (ci := 0) zc9_0 c2 ⟨Nat.le_of_ble_eq_true rfl, Nat.le_of_ble_eq_true rfl⟩ rfl (Nat.le_of_ble_eq_true rfl) dX0_live_4 rfl) (fun k9 σ9 h => ?_) (fun x3 σ4 h => ?_)
  · rcases z_ite h with ⟨e9, k_σ4_0⟩ | ⟨-, h⟩
    · subst e9
      have h := k_σ4_0
      refine z_catch hX (k := 0) (nmC := "java/lang/IllegalArgumentException") [] ⟨0, 9, 12, 13⟩ [] rfl (fun z hz => nomatch hz) rfl (by decide) q647 (zNw_of q832 rfl) (fun q9 => ?_)
      refine z_astore_n (L' := [(0, zA (some a1)), (1, zI p2), (2, zA p3), (3, zA (some q9))]) hX rfl rfl (by decide) dX0_live_12 (z_iconst hX (v := 1) (by decide) dX0_live_13 ?_)
      obtain rfl := Option.some.inj h
      exact z_iret hX dX0_live_14
    cases h
  refine z_i2l hX dX0_live_7 ?_
  obtain ⟨a5, e9, k_a5⟩ := z_nn h
  subst e9
  have h := k_a5
  refine z_last hX h dX0_live_8 (fun σ6 h => ?_)
  refine z_goto (tgt := 15) hX dX0_live_9 (by decide) (z_iconst hX (v := 0) (by decide) dX0_live_15 ?_)
  obtain rfl := Option.some.inj h
  exact z_iret hX dX0_live_16

theorem c_X0_live {l : Launch} {D : va_G} {tys : zTy} (hl : l.stackTraces = false) {p1 : Option Nat} {p2 : Int32} {p3 : Option Nat} {σ : zS} {Rt : Int32 × zS} (h : f_X0_live p1 p2 p3 σ = some Rt) : zM l D tys yX0_live (wsW_ yX0_live cX0_live 4 (Option.some Jvm.ClassFile.FieldType.int) [(0, 9, 12, 13)]) 104 2640 [zA p1, zI p2, zA p3] σ (.inl (eI Rt.1)) Rt.2 :=
  zM_inW hl rfl (Nat.le_of_ble_eq_true rfl) (fun p e R s m args below meth c hX => z_L rfl (s_X0_live hX h))
def f_X6_init (o : Nat) (σ : zS) : Option (Unit × zS) :=
  zb2 (znewI σ 942) fun a1 σ2 =>
  (pR σ2 o 5 1 (some a1)).bind fun σ3 =>
  zb2 (znewI σ3 942) fun a4 σ5 =>
  (pR σ5 o 5 2 (some a4)).bind fun σ6 =>
  zb2 (znewI σ6 542) fun a7 σ8 =>
  (pR σ8 o 5 4 (some a7)).bind fun σ9 =>
  zb2 (znewI σ9 400) fun a10 σ11 =>
  (pR σ11 o 5 5 (some a10)).bind fun σ12 =>
  (pI σ12 o 5 10 (-1)).bind fun σ13 =>
  zb2 (znewI σ13 4) fun a14 σ15 =>
  (pR σ15 o 5 12 (some a14)).bind fun σ16 =>
  zb2 (znewI σ16 6) fun a17 σ18 =>
  (pR σ18 o 5 17 (some a17)).bind fun σ19 =>
  zb2 (znewI σ19 4096) fun a20 σ21 =>
  (pR σ21 o 5 19 (some a20)).bind fun σ22 =>
  zb2 (znewI σ22 4096) fun a23 σ24 =>
  (pR σ24 o 5 20 (some a23)).bind fun σ25 =>
  zb2 (znewI σ25 60) fun a26 σ27 =>
  (pR σ27 o 5 21 (some a26)).bind fun σ28 =>
  (gR σ28 o 5 1).bind fun r29 =>
  r29.bind fun a30 =>
  (sI σ28 a30 6 100).bind fun σ31 =>
  (gR σ31 o 5 1).bind fun r32 =>
  r32.bind fun a33 =>
  (sI σ31 a33 9 1).bind fun σ34 =>
  (gR σ34 o 5 1).bind fun r35 =>
  r35.bind fun a36 =>
  (sI σ34 a36 10 (-1)).bind fun σ37 =>
  some ((), σ37)

set_option maxHeartbeats 4000000 in
theorem s_X6_init {X : zX} (hX : zOk X RX6 cX6_init 1 1 40 (Option.none : Option Jvm.ClassFile.FieldType) "<init>" []) {o : Nat} {σ : zS} {Rt : Unit × zS} (h : f_X6_init o σ = some Rt) : zG X (zQ X (.inl (eU Rt.1)) Rt.2) 1 0 [(0, zA (some o))] [] σ := by
  unfold f_X6_init at h
  refine z_aload_n hX 0 rfl rfl dX6_init_0 (z_objInit hX q1762 (Nat.le_of_ble_eq_true rfl) (Nat.le_of_ble_eq_true rfl) (Nat.le_of_ble_eq_true rfl) dX6_init_1 (z_aload_n hX 0 rfl rfl dX6_init_4 (z_sipush hX (v := 942) (by decide) dX6_init_5 ?_)))
  refine z_newI hX h dX6_init_8 (fun a1 σ2 h => ?_)
  refine z_putR hX fp_X6_7_5 (Or.inr ⟨_, rfl⟩) (fun _ => rfl) h dX6_init_10 (fun σ3 h => ?_)
  refine z_aload_n hX 0 rfl rfl dX6_init_13 (z_sipush hX (v := 942) (by decide) dX6_init_14 ?_)
  refine z_newI hX h dX6_init_17 (fun a4 σ5 h => ?_)
  refine z_putR hX fp_X6_13_5 (Or.inr ⟨_, rfl⟩) (fun _ => rfl) h dX6_init_19 (fun σ6 h => ?_)
  refine z_aload_n hX 0 rfl rfl dX6_init_22 (z_sipush hX (v := 542) (by decide) dX6_init_23 ?_)
  refine z_newI hX h dX6_init_26 (fun a7 σ8 h => ?_)
  refine z_putR hX fp_X6_16_5 (Or.inr ⟨_, rfl⟩) (fun _ => rfl) h dX6_init_28 (fun σ9 h => ?_)
  refine z_aload_n hX 0 rfl rfl dX6_init_31 (z_sipush hX (v := 400) (by decide) dX6_init_32 ?_)
  refine z_newI hX h dX6_init_35 (fun a10 σ11 h => ?_)
  refine z_putR hX fp_X6_19_5 (Or.inr ⟨_, rfl⟩) (fun _ => rfl) h dX6_init_37 (fun σ12 h => ?_)
  refine z_aload_n hX 0 rfl rfl dX6_init_40 (z_iconst hX (v := (-1)) (by decide) dX6_init_41 ?_)
  refine z_putI hX fp_X6_22_5 (fun h => nomatch h) h dX6_init_42 (fun σ13 h => ?_)
  refine z_aload_n hX 0 rfl rfl dX6_init_45 (z_iconst hX (v := 4) (by decide) dX6_init_46 ?_)
  refine z_newI hX h dX6_init_47 (fun a14 σ15 h => ?_)
  refine z_putR hX fp_X6_26_5 (Or.inr ⟨_, rfl⟩) (fun _ => rfl) h dX6_init_49 (fun σ16 h => ?_)
  refine z_aload_n hX 0 rfl rfl dX6_init_52 (z_bipush hX (v := 6) (by decide) dX6_init_53 ?_)
  refine z_newI hX h dX6_init_55 (fun a17 σ18 h => ?_)
  refine z_putR hX fp_X6_29_5 (Or.inr ⟨_, rfl⟩) (fun _ => rfl) h dX6_init_57 (fun σ19 h => ?_)
  refine z_aload_n hX 0 rfl rfl dX6_init_60 (z_sipush hX (v := 4096) (by decide) dX6_init_61 ?_)
  refine z_newI hX h dX6_init_64 (fun a20 σ21 h => ?_)
  refine z_putR hX fp_X6_32_5 (Or.inr ⟨_, rfl⟩) (fun _ => rfl) h dX6_init_66 (fun σ22 h => ?_)
  refine z_aload_n hX 0 rfl rfl dX6_init_69 (z_sipush hX (v := 4096) (by decide) dX6_init_70 ?_)
  refine z_newI hX h dX6_init_73 (fun a23 σ24 h => ?_)
  refine z_putR hX fp_X6_35_5 (Or.inr ⟨_, rfl⟩) (fun _ => rfl) h dX6_init_75 (fun σ25 h => ?_)
  refine z_aload_n hX 0 rfl rfl dX6_init_78 (z_bipush hX (v := 60) (by decide) dX6_init_79 ?_)
  refine z_newI hX h dX6_init_81 (fun a26 σ27 h => ?_)
  refine z_putR hX fp_X6_38_5 (Or.inr ⟨_, rfl⟩) (fun _ => rfl) h dX6_init_83 (fun σ28 h => ?_)
  refine z_aload_n hX 0 rfl rfl dX6_init_86 ?_
  refine z_getR hX fl_X6_7_5 h dX6_init_87 (fun r29 h => ?_)
  refine z_bipush hX (v := 6) (by decide) dX6_init_90 (z_bipush hX (v := 100) (by decide) dX6_init_92 ?_)
  obtain ⟨a30, e9, k_a30⟩ := z_nn h
  subst e9
  have h := k_a30
  refine z_iast hX h dX6_init_94 (fun σ31 h => ?_)
  refine z_aload_n hX 0 rfl rfl dX6_init_95 ?_
  refine z_getR hX fl_X6_7_5 h dX6_init_96 (fun r32 h => ?_)
  refine z_bipush hX (v := 9) (by decide) dX6_init_99 (z_iconst hX (v := 1) (by decide) dX6_init_101 ?_)
  obtain ⟨a33, e9, k_a33⟩ := z_nn h
  subst e9
  have h := k_a33
  refine z_iast hX h dX6_init_102 (fun σ34 h => ?_)
  refine z_aload_n hX 0 rfl rfl dX6_init_103 ?_
  refine z_getR hX fl_X6_7_5 h dX6_init_104 (fun r35 h => ?_)
  refine z_bipush hX (v := 10) (by decide) dX6_init_107 (z_iconst hX (v := (-1)) (by decide) dX6_init_109 ?_)
  obtain ⟨a36, e9, k_a36⟩ := z_nn h
  subst e9
  have h := k_a36
  refine z_iast hX h dX6_init_110 (fun σ37 h => ?_)
  obtain rfl := Option.some.inj h
  exact z_vret hX dX6_init_111

theorem c_X6_init {l : Launch} {D : va_G} {tys : zTy} (hl : l.stackTraces = false) {o : Nat} {σ : zS} {Rt : Unit × zS} (h : f_X6_init o σ = some Rt) : zM l D tys yX6_init (ws_ yX6_init cX6_init 1 (Option.none : Option Jvm.ClassFile.FieldType)) 1 40 [zA (some o)] σ (.inl (eU Rt.1)) Rt.2 :=
  zM_in hl rfl (Nat.le_of_ble_eq_true rfl) (fun p e R s m args below meth c hX => z_L rfl (s_X6_init hX h))
def f_J10_coder (o : Nat) (σ : zS) : Option (Int32 × zS) :=
  if (1 : Int32) = 0 then
    some ((1 : Int32), σ)
  else
    (gI σ o 21 1).bind fun x1 =>
    zby x1 (some (x1, σ))

set_option maxHeartbeats 4000000 in
theorem s_J10_coder {X : zX} (hX : zOk X RJ10 cJ10_coder 1 1 40 (Option.some Jvm.ClassFile.FieldType.byte) "coder" []) {o : Nat} {σ : zS} {Rt : Int32 × zS} (h : f_J10_coder o σ = some Rt) : zG X (zQ X (.inl (eI Rt.1)) Rt.2) 1 0 [(0, zA (some o))] [] σ := by
  unfold f_J10_coder at h
  refine z_getsI hX (C := "java/lang/String") (n := "COMPACT_STRINGS") (dsc := "Z") (v := 1) (by simp [zStI]) q934 dJ10_coder_0 ?_
  refine z_if_eq (tgt := 13) hX h dJ10_coder_3 (by decide) (fun h => ?_) (fun h => ?_)
  · refine z_iconst hX (v := 1) (by decide) dJ10_coder_13 ?_
    obtain rfl := Option.some.inj h
    exact z_zretT (r := 1) hX (by decide) dJ10_coder_14
  · refine z_aload_n hX 0 rfl rfl dJ10_coder_6 ?_
    refine z_getI hX fl_J10_15_21 h dJ10_coder_7 (fun x1 h => ?_)
    refine z_goto (tgt := 14) hX dJ10_coder_10 (by decide) ?_
    obtain ⟨n9, h⟩ := zby_inv h
    obtain rfl := Option.some.inj h
    exact z_zretT hX n9 dJ10_coder_14

theorem c_J10_coder {l : Launch} {D : va_G} {tys : zTy} (hl : l.stackTraces = false) {o : Nat} {σ : zS} {Rt : Int32 × zS} (h : f_J10_coder o σ = some Rt) : zM l D tys yJ10_coder (ws_ yJ10_coder cJ10_coder 1 (Option.some Jvm.ClassFile.FieldType.byte)) 1 40 [zA (some o)] σ (.inl (eI Rt.1)) Rt.2 :=
  zM_in hl rfl (Nat.le_of_ble_eq_true rfl) (fun p e R s m args below meth c hX => z_L rfl (s_J10_coder hX h))
def f_J10_length (o : Nat) (σ : zS) : Option (Int32 × zS) :=
  (gR σ o 21 0).bind fun r1 =>
  r1.bind fun a2 =>
  (zaln σ a2).bind fun x3 =>
  zif (zcl σ o = 21) <|
  zb2 (f_J10_coder o σ) fun x5 σ6 =>
  some (x3 >>> (x5 &&& 31), σ6)

set_option maxHeartbeats 4000000 in
theorem s_J10_length {X : zX} (hX : zOk X RJ10 cJ10_length 1 2 60 (Option.some Jvm.ClassFile.FieldType.int) "length" []) {o : Nat} {σ : zS} {Rt : Int32 × zS} (h : f_J10_length o σ = some Rt) : zG X (zQ X (.inl (eI Rt.1)) Rt.2) 1 0 [(0, zA (some o))] [] σ := by
  unfold f_J10_length at h
  refine z_aload_n hX 0 rfl rfl dJ10_length_0 ?_
  refine z_getR hX fl_J10_9_21 h dJ10_length_1 (fun r1 h => ?_)
  obtain ⟨a2, e9, k_a2⟩ := z_nn h
  subst e9
  have h := k_a2
  refine z_alen hX h dJ10_length_4 (fun x3 h => ?_)
  refine z_aload_n hX 0 rfl rfl dJ10_length_5 ?_
  obtain ⟨c4, h⟩ := z_ck h
  refine z_cNI hX (rest := [zI x3]) h (fun r9 σ9 e9 => z_runV hX lk_J10_335 (c_J10_coder hX.tr e9) (ci := 21) zc9_21 c4 ⟨Nat.le_of_ble_eq_true rfl, Nat.le_of_ble_eq_true rfl⟩ rfl (Nat.le_of_ble_eq_true rfl) dJ10_length_6 rfl) (fun x5 σ6 h => ?_)
  refine z_ishr hX dJ10_length_9 ?_
  obtain rfl := Option.some.inj h
  exact z_iret hX dJ10_length_10

theorem c_J10_length {l : Launch} {D : va_G} {tys : zTy} (hl : l.stackTraces = false) {o : Nat} {σ : zS} {Rt : Int32 × zS} (h : f_J10_length o σ = some Rt) : zM l D tys yJ10_length (ws_ yJ10_length cJ10_length 1 (Option.some Jvm.ClassFile.FieldType.int)) 2 60 [zA (some o)] σ (.inl (eI Rt.1)) Rt.2 :=
  zM_in hl rfl (Nat.le_of_ble_eq_true rfl) (fun p e R s m args below meth c hX => z_L rfl (s_J10_length hX h))
def f_J10_checkIndex (p1 : Int32) (p2 : Int32) (σ : zS) : Option (Unit × zS) :=
  zl (zk σ 4) fun r1 =>
  zb2 (f_J4_checkIndex p1 p2 r1 σ) fun x2 σ3 =>
  some ((), σ3)

set_option maxHeartbeats 4000000 in
theorem s_J10_checkIndex {X : zX} (hX : zOk X RJ10 cJ10_checkIndex 2 2 62 (Option.none : Option Jvm.ClassFile.FieldType) "checkIndex" []) {p1 : Int32} {p2 : Int32} {σ : zS} {Rt : Unit × zS} (h : f_J10_checkIndex p1 p2 σ = some Rt) : zG X (zQ X (.inl (eU Rt.1)) Rt.2) 2 0 [(0, zI p1), (1, zI p2)] [] σ := by
  unfold f_J10_checkIndex at h
  refine z_iload_n hX 0 rfl rfl dJ10_checkIndex_0 (z_iload_n hX 1 rfl rfl dJ10_checkIndex_1 ?_)
  refine z_gets hX (k := 4) (C := "jdk/internal/util/Preconditions") (n := "SIOOBE_FORMATTER") (dsc := "Ljava/util/function/BiFunction;") (by simp [zSt]) q770 h dJ10_checkIndex_2 (fun r1 _ h => ?_)
  refine z_cNI hX (rest := []) h (fun r9 σ9 e9 => z_runS hX lk_J10_1059 (c_J4_checkIndex hX.tr e9) ⟨Nat.le_of_ble_eq_true rfl, Nat.le_of_ble_eq_true rfl⟩ rfl (Nat.le_of_ble_eq_true rfl) dJ10_checkIndex_5 rfl) (fun x2 σ3 h => ?_)
  refine z_pop hX rfl dJ10_checkIndex_8 ?_
  obtain rfl := Option.some.inj h
  exact z_vret hX dJ10_checkIndex_9

theorem c_J10_checkIndex {l : Launch} {D : va_G} {tys : zTy} (hl : l.stackTraces = false) {p1 : Int32} {p2 : Int32} {σ : zS} {Rt : Unit × zS} (h : f_J10_checkIndex p1 p2 σ = some Rt) : zM l D tys yJ10_checkIndex (ws_ yJ10_checkIndex cJ10_checkIndex 2 (Option.none : Option Jvm.ClassFile.FieldType)) 2 62 [zI p1, zI p2] σ (.inl (eU Rt.1)) Rt.2 :=
  zM_in hl rfl (Nat.le_of_ble_eq_true rfl) (fun p e R s m args below meth c hX => z_L rfl (s_J10_checkIndex hX h))
def f_J12_charAt (p1 : Option Nat) (p2 : Int32) (σ : zS) : Option (Int32 × zS) :=
  p1.bind fun a1 =>
  (zaln σ a1).bind fun x2 =>
  zb2 (f_J10_checkIndex p2 x2 σ) fun _ σ4 =>
  (lI σ4 a1 1 p2).bind fun x5 =>
  zch (((x5 &&& 255).toUInt32 % 65536).toInt32) (some (((x5 &&& 255).toUInt32 % 65536).toInt32, σ4))

set_option maxHeartbeats 4000000 in
theorem s_J12_charAt {X : zX} (hX : zOk X RJ12 cJ12_charAt 2 3 83 (Option.some Jvm.ClassFile.FieldType.char) "charAt" []) {p1 : Option Nat} {p2 : Int32} {σ : zS} {Rt : Int32 × zS} (h : f_J12_charAt p1 p2 σ = some Rt) : zG X (zQ X (.inl (eI Rt.1)) Rt.2) 2 0 [(0, zA p1), (1, zI p2)] [] σ := by
  unfold f_J12_charAt at h
  refine z_iload_n hX 1 rfl rfl dJ12_charAt_0 (z_aload_n hX 0 rfl rfl dJ12_charAt_1 ?_)
  obtain ⟨a1, e9, k_a1⟩ := z_nn h
  subst e9
  have h := k_a1
  refine z_alen hX h dJ12_charAt_2 (fun x2 h => ?_)
  refine z_cNU hX (rest := []) h (fun r9 σ9 e9 => z_runS hX lk_J12_9 (c_J10_checkIndex hX.tr e9) ⟨Nat.le_of_ble_eq_true rfl, Nat.le_of_ble_eq_true rfl⟩ rfl (Nat.le_of_ble_eq_true rfl) dJ12_charAt_3 rfl) (fun _ σ4 h => ?_)
  refine z_aload_n hX 0 rfl rfl dJ12_charAt_6 (z_iload_n hX 1 rfl rfl dJ12_charAt_7 ?_)
  refine z_bald hX h dJ12_charAt_8 (fun x5 h => ?_)
  refine z_sipush hX (v := 255) (by decide) dJ12_charAt_9 (z_iand hX dJ12_charAt_12 (z_i2c hX dJ12_charAt_13 ?_))
  obtain ⟨n9, h⟩ := zch_inv h
  obtain rfl := Option.some.inj h
  exact z_zretT hX n9 dJ12_charAt_14

theorem c_J12_charAt {l : Launch} {D : va_G} {tys : zTy} (hl : l.stackTraces = false) {p1 : Option Nat} {p2 : Int32} {σ : zS} {Rt : Int32 × zS} (h : f_J12_charAt p1 p2 σ = some Rt) : zM l D tys yJ12_charAt (ws_ yJ12_charAt cJ12_charAt 2 (Option.some Jvm.ClassFile.FieldType.char)) 3 83 [zA p1, zI p2] σ (.inl (eI Rt.1)) Rt.2 :=
  zM_in hl rfl (Nat.le_of_ble_eq_true rfl) (fun p e R s m args below meth c hX => z_L rfl (s_J12_charAt hX h))
def f_J10_charAt (o : Nat) (p1 : Int32) (σ : zS) : Option (Int32 × zS) :=
  zif (zcl σ o = 21) <|
  zb2 (f_J10_isLatin1 o σ) fun x2 σ3 =>
  if x2 = 0 then
    (gR σ3 o 21 0).bind fun r4 =>
    none
  else
    (gR σ3 o 21 0).bind fun r5 =>
    zb2 (f_J12_charAt r5 p1 σ3) fun x6 σ7 =>
    zch x6 (some (x6, σ7))

set_option maxHeartbeats 4000000 in
theorem s_J10_charAt {X : zX} (hX : zOk X RJ10 cJ10_charAt 2 4 104 (Option.some Jvm.ClassFile.FieldType.char) "charAt" []) {o : Nat} {p1 : Int32} {σ : zS} {Rt : Int32 × zS} (h : f_J10_charAt o p1 σ = some Rt) : zG X (zQ X (.inl (eI Rt.1)) Rt.2) 2 0 [(0, zA (some o)), (1, zI p1)] [] σ := by
  unfold f_J10_charAt at h
  refine z_aload_n hX 0 rfl rfl dJ10_charAt_0 ?_
  obtain ⟨c1, h⟩ := z_ck h
  refine z_cNI hX (rest := []) h (fun r9 σ9 e9 => z_runV hX lk_J10_492 (c_J10_isLatin1 hX.tr e9) (ci := 21) zc9_21 c1 ⟨Nat.le_of_ble_eq_true rfl, Nat.le_of_ble_eq_true rfl⟩ rfl (Nat.le_of_ble_eq_true rfl) dJ10_charAt_1 rfl) (fun x2 σ3 h => ?_)
  refine z_if_eq (tgt := 16) hX h dJ10_charAt_4 (by decide) (fun h => ?_) (fun h => ?_)
  · refine z_aload_n hX 0 rfl rfl dJ10_charAt_16 ?_
    refine z_getR hX fl_J10_9_21 h dJ10_charAt_17 (fun r4 h => ?_)
    refine z_iload_n hX 1 rfl rfl dJ10_charAt_20 ?_
    cases h
  · refine z_aload_n hX 0 rfl rfl dJ10_charAt_7 ?_
    refine z_getR hX fl_J10_9_21 h dJ10_charAt_8 (fun r5 h => ?_)
    refine z_iload_n hX 1 rfl rfl dJ10_charAt_11 ?_
    refine z_cNI hX (rest := []) h (fun r9 σ9 e9 => z_runS hX lk_J10_495 (c_J12_charAt hX.tr e9) ⟨Nat.le_of_ble_eq_true rfl, Nat.le_of_ble_eq_true rfl⟩ rfl (Nat.le_of_ble_eq_true rfl) dJ10_charAt_12 rfl) (fun x6 σ7 h => ?_)
    obtain ⟨n9, h⟩ := zch_inv h
    obtain rfl := Option.some.inj h
    exact z_zretT hX n9 dJ10_charAt_15

theorem c_J10_charAt {l : Launch} {D : va_G} {tys : zTy} (hl : l.stackTraces = false) {o : Nat} {p1 : Int32} {σ : zS} {Rt : Int32 × zS} (h : f_J10_charAt o p1 σ = some Rt) : zM l D tys yJ10_charAt (ws_ yJ10_charAt cJ10_charAt 2 (Option.some Jvm.ClassFile.FieldType.char)) 4 104 [zA (some o), zI p1] σ (.inl (eI Rt.1)) Rt.2 :=
  zM_in hl rfl (Nat.le_of_ble_eq_true rfl) (fun p e R s m args below meth c hX => z_L rfl (s_J10_charAt hX h))
def f_X3_init (o : Nat) (σ : zS) : Option (Unit × zS) :=
  zb2 (znewB σ 400) fun a1 σ2 =>
  (pR σ2 o 2 0 (some a1)).bind fun σ3 =>
  (pI σ3 o 2 5 (-1)).bind fun σ4 =>
  some ((), σ4)

set_option maxHeartbeats 4000000 in
theorem s_X3_init {X : zX} (hX : zOk X RX3 cX3_init 1 1 40 (Option.none : Option Jvm.ClassFile.FieldType) "<init>" []) {o : Nat} {σ : zS} {Rt : Unit × zS} (h : f_X3_init o σ = some Rt) : zG X (zQ X (.inl (eU Rt.1)) Rt.2) 1 0 [(0, zA (some o))] [] σ := by
  unfold f_X3_init at h
  refine z_aload_n hX 0 rfl rfl dX3_init_0 (z_objInit hX q225 (Nat.le_of_ble_eq_true rfl) (Nat.le_of_ble_eq_true rfl) (Nat.le_of_ble_eq_true rfl) dX3_init_1 (z_aload_n hX 0 rfl rfl dX3_init_4 (z_sipush hX (v := 400) (by decide) dX3_init_5 ?_)))
  refine z_newB hX h dX3_init_8 (fun a1 σ2 h => ?_)
  refine z_putR hX fp_X3_9_2 (Or.inr ⟨_, rfl⟩) (fun _ => rfl) h dX3_init_10 (fun σ3 h => ?_)
  refine z_aload_n hX 0 rfl rfl dX3_init_13 (z_iconst hX (v := (-1)) (by decide) dX3_init_14 ?_)
  refine z_putI hX fp_X3_15_2 (fun h => nomatch h) h dX3_init_15 (fun σ4 h => ?_)
  obtain rfl := Option.some.inj h
  exact z_vret hX dX3_init_18

theorem c_X3_init {l : Launch} {D : va_G} {tys : zTy} (hl : l.stackTraces = false) {o : Nat} {σ : zS} {Rt : Unit × zS} (h : f_X3_init o σ = some Rt) : zM l D tys yX3_init (ws_ yX3_init cX3_init 1 (Option.none : Option Jvm.ClassFile.FieldType)) 1 40 [zA (some o)] σ (.inl (eU Rt.1)) Rt.2 :=
  zM_in hl rfl (Nat.le_of_ble_eq_true rfl) (fun p e R s m args below meth c hX => z_L rfl (s_X3_init hX h))
def f_X4_init (o : Nat) (σ : zS) : Option (Unit × zS) :=
  some ((), σ)

set_option maxHeartbeats 4000000 in
theorem s_X4_init {X : zX} (hX : zOk X RX4 cX4_init 1 1 40 (Option.none : Option Jvm.ClassFile.FieldType) "<init>" []) {o : Nat} {σ : zS} {Rt : Unit × zS} (h : f_X4_init o σ = some Rt) : zG X (zQ X (.inl (eU Rt.1)) Rt.2) 1 0 [(0, zA (some o))] [] σ := by
  unfold f_X4_init at h
  refine z_aload_n hX 0 rfl rfl dX4_init_0 (z_objInit hX q256 (Nat.le_of_ble_eq_true rfl) (Nat.le_of_ble_eq_true rfl) (Nat.le_of_ble_eq_true rfl) dX4_init_1 ?_)
  obtain rfl := Option.some.inj h
  exact z_vret hX dX4_init_4

theorem c_X4_init {l : Launch} {D : va_G} {tys : zTy} (hl : l.stackTraces = false) {o : Nat} {σ : zS} {Rt : Unit × zS} (h : f_X4_init o σ = some Rt) : zM l D tys yX4_init (ws_ yX4_init cX4_init 1 (Option.none : Option Jvm.ClassFile.FieldType)) 1 40 [zA (some o)] σ (.inl (eU Rt.1)) Rt.2 :=
  zM_in hl rfl (Nat.le_of_ble_eq_true rfl) (fun p e R s m args below meth c hX => z_L rfl (s_X4_init hX h))
def f_X5_init (o : Nat) (p1 : Option Nat) (σ : zS) : Option (Unit × zS) :=
  (pR σ o 4 8 p1).bind fun σ1 =>
  zb2 (znewI σ1 6) fun a2 σ3 =>
  (pR σ3 o 4 0 (some a2)).bind fun σ4 =>
  zb2 (znewI σ4 64) fun a5 σ6 =>
  (pR σ6 o 4 1 (some a5)).bind fun σ7 =>
  zb2 (znewI σ7 4096) fun a8 σ9 =>
  (pR σ9 o 4 2 (some a8)).bind fun σ10 =>
  zb2 (znewI σ10 4096) fun a11 σ12 =>
  (pR σ12 o 4 3 (some a11)).bind fun σ13 =>
  some ((), σ13)

set_option maxHeartbeats 4000000 in
theorem s_X5_init {X : zX} (hX : zOk X RX5 cX5_init 2 1 40 (Option.none : Option Jvm.ClassFile.FieldType) "<init>" []) {o : Nat} {p1 : Option Nat} {σ : zS} {Rt : Unit × zS} (h : f_X5_init o p1 σ = some Rt) : zG X (zQ X (.inl (eU Rt.1)) Rt.2) 2 0 [(0, zA (some o)), (1, zA p1)] [] σ := by
  unfold f_X5_init at h
  refine z_aload_n hX 0 rfl rfl dX5_init_0 (z_aload_n hX 1 rfl rfl dX5_init_1 ?_)
  refine z_putR hX fp_X5_3_4 (Or.inl ⟨_, rfl⟩) (fun _ => rfl) h dX5_init_2 (fun σ1 h => ?_)
  refine z_aload_n hX 0 rfl rfl dX5_init_5 (z_objInit hX q291 (Nat.le_of_ble_eq_true rfl) (Nat.le_of_ble_eq_true rfl) (Nat.le_of_ble_eq_true rfl) dX5_init_6 (z_aload_n hX 0 rfl rfl dX5_init_9 (z_bipush hX (v := 6) (by decide) dX5_init_10 ?_)))
  refine z_newI hX h dX5_init_12 (fun a2 σ3 h => ?_)
  refine z_putR hX fp_X5_15_4 (Or.inr ⟨_, rfl⟩) (fun _ => rfl) h dX5_init_14 (fun σ4 h => ?_)
  refine z_aload_n hX 0 rfl rfl dX5_init_17 (z_bipush hX (v := 64) (by decide) dX5_init_18 ?_)
  refine z_newI hX h dX5_init_20 (fun a5 σ6 h => ?_)
  refine z_putR hX fp_X5_19_4 (Or.inr ⟨_, rfl⟩) (fun _ => rfl) h dX5_init_22 (fun σ7 h => ?_)
  refine z_aload_n hX 0 rfl rfl dX5_init_25 (z_sipush hX (v := 4096) (by decide) dX5_init_26 ?_)
  refine z_newI hX h dX5_init_29 (fun a8 σ9 h => ?_)
  refine z_putR hX fp_X5_22_4 (Or.inr ⟨_, rfl⟩) (fun h => nomatch h) h dX5_init_31 (fun σ10 h => ?_)
  refine z_aload_n hX 0 rfl rfl dX5_init_34 (z_sipush hX (v := 4096) (by decide) dX5_init_35 ?_)
  refine z_newI hX h dX5_init_38 (fun a11 σ12 h => ?_)
  refine z_putR hX fp_X5_25_4 (Or.inr ⟨_, rfl⟩) (fun h => nomatch h) h dX5_init_40 (fun σ13 h => ?_)
  obtain rfl := Option.some.inj h
  exact z_vret hX dX5_init_43

theorem c_X5_init {l : Launch} {D : va_G} {tys : zTy} (hl : l.stackTraces = false) {o : Nat} {p1 : Option Nat} {σ : zS} {Rt : Unit × zS} (h : f_X5_init o p1 σ = some Rt) : zM l D tys yX5_init (ws_ yX5_init cX5_init 2 (Option.none : Option Jvm.ClassFile.FieldType)) 1 40 [zA (some o), zA p1] σ (.inl (eU Rt.1)) Rt.2 :=
  zM_in hl rfl (Nat.le_of_ble_eq_true rfl) (fun p e R s m args below meth c hX => z_L rfl (s_X5_init hX h))
def f_X1_init (o : Nat) (σ : zS) : Option (Unit × zS) :=
  zb2 (znewO σ 1 [.int 0, .int 0, .int 0, .int 0, .int 0, .int 0, .int 0, .null, .null, .null, .null, .null, .null]) fun a1 σ2 =>
  zb2 (f_X2_init a1 σ2) fun _ σ4 =>
  (pR σ4 o 0 0 (some a1)).bind fun σ5 =>
  zb2 (znewO σ5 2 [.null, .int 0, .int 0, .int 0, .int 0, .int 0, .int 0]) fun a6 σ7 =>
  zb2 (f_X3_init a6 σ7) fun _ σ9 =>
  (pR σ9 o 0 2 (some a6)).bind fun σ10 =>
  zb2 (znewO σ10 3 [.int 0, .int 0, .int 0, .int 0, .int 0, .int 0, .int 0]) fun a11 σ12 =>
  zb2 (f_X4_init a11 σ12) fun _ σ14 =>
  (pR σ14 o 0 3 (some a11)).bind fun σ15 =>
  zb2 (znewO σ15 4 [.null, .null, .null, .null, .int 0, .int 0, .int 0, .int 0, .null]) fun a16 σ17 =>
  zb2 (f_X5_init a16 (some o) σ17) fun _ σ19 =>
  (pR σ19 o 0 4 (some a16)).bind fun σ20 =>
  zb2 (znewI σ20 16) fun a21 σ22 =>
  (pR σ22 o 0 5 (some a21)).bind fun σ23 =>
  some ((), σ23)

set_option maxHeartbeats 4000000 in
theorem s_X1_init {X : zX} (hX : zOk X RX1 cX1_init 1 5 120 (Option.none : Option Jvm.ClassFile.FieldType) "<init>" []) {o : Nat} {σ : zS} {Rt : Unit × zS} (h : f_X1_init o σ = some Rt) : zG X (zQ X (.inl (eU Rt.1)) Rt.2) 1 0 [(0, zA (some o))] [] σ := by
  unfold f_X1_init at h
  refine z_aload_n hX 0 rfl rfl dX1_init_0 (z_objInit hX q128 (Nat.le_of_ble_eq_true rfl) (Nat.le_of_ble_eq_true rfl) (Nat.le_of_ble_eq_true rfl) dX1_init_1 (z_aload_n hX 0 rfl rfl dX1_init_4 ?_))
  refine z_new hX ne_X1_7 h dX1_init_5 (fun a1 σ2 h => ?_)
  refine z_dup hX rfl dX1_init_8 ?_
  refine z_cNU hX (rest := [zA (some a1), zA (some o)]) h (fun r9 σ9 e9 => z_runIN hX lk_X1_9 (c_X2_init hX.tr e9) ⟨Nat.le_of_ble_eq_true rfl, Nat.le_of_ble_eq_true rfl⟩ rfl (Nat.le_of_ble_eq_true rfl) dX1_init_9 rfl) (fun _ σ4 h => ?_)
  refine z_putR hX fp_X1_10_0 (Or.inl ⟨_, rfl⟩) (fun h => nomatch h) h dX1_init_12 (fun σ5 h => ?_)
  refine z_aload_n hX 0 rfl rfl dX1_init_15 ?_
  refine z_new hX ne_X1_16 h dX1_init_16 (fun a6 σ7 h => ?_)
  refine z_dup hX rfl dX1_init_19 ?_
  refine z_cNU hX (rest := [zA (some a6), zA (some o)]) h (fun r9 σ9 e9 => z_runIN hX lk_X1_18 (c_X3_init hX.tr e9) ⟨Nat.le_of_ble_eq_true rfl, Nat.le_of_ble_eq_true rfl⟩ rfl (Nat.le_of_ble_eq_true rfl) dX1_init_20 rfl) (fun _ σ9 h => ?_)
  refine z_putR hX fp_X1_19_0 (Or.inl ⟨_, rfl⟩) (fun _ => rfl) h dX1_init_23 (fun σ10 h => ?_)
  refine z_aload_n hX 0 rfl rfl dX1_init_26 ?_
  refine z_new hX ne_X1_23 h dX1_init_27 (fun a11 σ12 h => ?_)
  refine z_dup hX rfl dX1_init_30 ?_
  refine z_cNU hX (rest := [zA (some a11), zA (some o)]) h (fun r9 σ9 e9 => z_runIN hX lk_X1_25 (c_X4_init hX.tr e9) ⟨Nat.le_of_ble_eq_true rfl, Nat.le_of_ble_eq_true rfl⟩ rfl (Nat.le_of_ble_eq_true rfl) dX1_init_31 rfl) (fun _ σ14 h => ?_)
  refine z_putR hX fp_X1_26_0 (Or.inl ⟨_, rfl⟩) (fun _ => rfl) h dX1_init_34 (fun σ15 h => ?_)
  refine z_aload_n hX 0 rfl rfl dX1_init_37 ?_
  refine z_new hX ne_X1_30 h dX1_init_38 (fun a16 σ17 h => ?_)
  refine z_dup hX rfl dX1_init_41 (z_aload_n hX 0 rfl rfl dX1_init_42 ?_)
  refine z_cNU hX (rest := [zA (some a16), zA (some o)]) h (fun r9 σ9 e9 => z_runIN hX lk_X1_32 (c_X5_init hX.tr e9) ⟨Nat.le_of_ble_eq_true rfl, Nat.le_of_ble_eq_true rfl⟩ rfl (Nat.le_of_ble_eq_true rfl) dX1_init_43 rfl) (fun _ σ19 h => ?_)
  refine z_putR hX fp_X1_35_0 (Or.inl ⟨_, rfl⟩) (fun _ => rfl) h dX1_init_46 (fun σ20 h => ?_)
  refine z_aload_n hX 0 rfl rfl dX1_init_49 (z_bipush hX (v := 16) (by decide) dX1_init_50 ?_)
  refine z_newI hX h dX1_init_52 (fun a21 σ22 h => ?_)
  refine z_putR hX fp_X1_39_0 (Or.inr ⟨_, rfl⟩) (fun _ => rfl) h dX1_init_54 (fun σ23 h => ?_)
  obtain rfl := Option.some.inj h
  exact z_vret hX dX1_init_57

theorem c_X1_init {l : Launch} {D : va_G} {tys : zTy} (hl : l.stackTraces = false) {o : Nat} {σ : zS} {Rt : Unit × zS} (h : f_X1_init o σ = some Rt) : zM l D tys yX1_init (ws_ yX1_init cX1_init 1 (Option.none : Option Jvm.ClassFile.FieldType)) 5 120 [zA (some o)] σ (.inl (eU Rt.1)) Rt.2 :=
  zM_in hl rfl (Nat.le_of_ble_eq_true rfl) (fun p e R s m args below meth c hX => z_L rfl (s_X1_init hX h))
def f_X3_add_39_b (o : Nat) (rec23 : Int32 → zS → Option (Int32 × zS)) (v2 : Option Nat) (v3 : Int32) (v4 : Int32) (v5 : Int32) (rec39 : Int32 → zS → Option (Int32 × zS)) (v6 : Int32) (σ : zS) : Option (Int32 × zS) :=
  if v6 < 0 then
    zl (v4 + 1) fun x7 =>
    rec23 x7 σ
  else
    (gR σ o 2 0).bind fun r8 =>
    (gI σ o 2 1).bind fun x9 =>
    r8.bind fun a10 =>
    (sB σ a10 x9 ((v5 >>> (v6 &&& 31)).toInt8.toInt32)).bind fun σ11 =>
    (gI σ11 o 2 1).bind fun x12 =>
    (pI σ11 o 2 1 (x12 + 1)).bind fun σ13 =>
    zl (v6 + (-8)) fun x14 =>
    rec39 x14 σ13

def f_X3_add_39 (o : Nat) (rec23 : Int32 → zS → Option (Int32 × zS)) (v2 : Option Nat) (v3 : Int32) (v4 : Int32) (v5 : Int32) : Int32 → zS → Option (Int32 × zS) := zlp1 (f_X3_add_39_b o rec23 v2 v3 v4 v5) NN
set_option maxHeartbeats 4000000 in
theorem s_X3_add_39_b {X : zX} (hX : zOk X RX3 cX3_add 7 1 40 (Option.some Jvm.ClassFile.FieldType.int) "add" []) {o : Nat} {Rt : Int32 × zS} {rec23 : Int32 → zS → Option (Int32 × zS)} {v2 : Option Nat} {v3 : Int32} {v4 : Int32} {v5 : Int32} (hrec23 : ∀ (v4 : Int32) (σ : zS), rec23 v4 σ = some Rt → zG X (zQ X (.inl (eI Rt.1)) Rt.2) 7 23 [(0, zA (some o)), (2, zA v2), (3, zI v3), (4, zI v4)] [] σ) {rec39 : Int32 → zS → Option (Int32 × zS)} (hrec39 : ∀ (v6 : Int32) (σ : zS), rec39 v6 σ = some Rt → zG X (zQ X (.inl (eI Rt.1)) Rt.2) 7 39 [(0, zA (some o)), (2, zA v2), (3, zI v3), (4, zI v4), (5, zI v5), (6, zI v6)] [] σ) {v6 : Int32} {σ : zS} (h : f_X3_add_39_b o rec23 v2 v3 v4 v5 rec39 v6 σ = some Rt) : zG X (zQ X (.inl (eI Rt.1)) Rt.2) 7 39 [(0, zA (some o)), (2, zA v2), (3, zI v3), (4, zI v4), (5, zI v5), (6, zI v6)] [] σ := by
  unfold f_X3_add_39_b at h
  refine z_iload hX 5 rfl dX3_add_39 ?_
  refine z_if_lt (tgt := 75) hX h dX3_add_41 (by decide) (fun h => ?_) (fun h => ?_)
  · refine z_iinc hX (j := 3) h rfl (by decide) (by decide) dX3_add_75 (fun x7 h => z_L (L' := [(0, zA (some o)), (2, zA v2), (3, zI v3), (4, zI x7), (5, zI v5), (6, zI v6)]) rfl ?_)
    refine z_goto (tgt := 23) hX dX3_add_78 (by decide) ?_
    exact z_sub [0, 1, 2, 3] rfl (hrec23 _ _ h)
  · refine z_aload_n hX 0 rfl rfl dX3_add_44 ?_
    refine z_getR hX fl_X3_9_2 h dX3_add_45 (fun r8 h => ?_)
    refine z_aload_n hX 0 rfl rfl dX3_add_48 ?_
    refine z_getI hX fl_X3_19_2 h dX3_add_49 (fun x9 h => ?_)
    refine z_iload hX 4 rfl dX3_add_52 (z_iload hX 5 rfl dX3_add_54 (z_ishr hX dX3_add_56 (z_i2b hX dX3_add_57 ?_)))
    obtain ⟨a10, e9, k_a10⟩ := z_nn h
    subst e9
    have h := k_a10
    refine z_bast hX h dX3_add_58 (fun σ11 h => ?_)
    refine z_aload_n hX 0 rfl rfl dX3_add_59 (z_dup hX rfl dX3_add_60 ?_)
    refine z_getI hX fl_X3_19_2 h dX3_add_61 (fun x12 h => ?_)
    refine z_iconst hX (v := 1) (by decide) dX3_add_64 (z_iadd hX dX3_add_65 ?_)
    refine z_putI hX fp_X3_19_2 (fun h => nomatch h) h dX3_add_66 (fun σ13 h => ?_)
    refine z_iinc hX (j := 5) h rfl (by decide) (by decide) dX3_add_69 (fun x14 h => z_L (L' := [(0, zA (some o)), (2, zA v2), (3, zI v3), (4, zI v4), (5, zI v5), (6, zI x14)]) rfl ?_)
    refine z_goto (tgt := 39) hX dX3_add_72 (by decide) ?_
    exact z_sub [0, 1, 2, 3, 4, 5] rfl (hrec39 _ _ h)

theorem s_X3_add_39 {X : zX} (hX : zOk X RX3 cX3_add 7 1 40 (Option.some Jvm.ClassFile.FieldType.int) "add" []) {o : Nat} {Rt : Int32 × zS} {rec23 : Int32 → zS → Option (Int32 × zS)} {v2 : Option Nat} {v3 : Int32} {v4 : Int32} {v5 : Int32} (hrec23 : ∀ (v4 : Int32) (σ : zS), rec23 v4 σ = some Rt → zG X (zQ X (.inl (eI Rt.1)) Rt.2) 7 23 [(0, zA (some o)), (2, zA v2), (3, zI v3), (4, zI v4)] [] σ) {v6 : Int32} {σ : zS} (h : f_X3_add_39 o rec23 v2 v3 v4 v5 v6 σ = some Rt) : zG X (zQ X (.inl (eI Rt.1)) Rt.2) 7 39 [(0, zA (some o)), (2, zA v2), (3, zI v3), (4, zI v4), (5, zI v5), (6, zI v6)] [] σ :=
  zlp1_ok (P := fun v6 σ => zG X (zQ X (.inl (eI Rt.1)) Rt.2) 7 39 [(0, zA (some o)), (2, zA v2), (3, zI v3), (4, zI v4), (5, zI v5), (6, zI v6)] [] σ) (fun rec hr v6 σ h => s_X3_add_39_b (o := o) hX hrec23 hr h) NN v6 σ h
def f_X3_add_23_b (o : Nat) (v2 : Option Nat) (v3 : Int32) (rec23 : Int32 → zS → Option (Int32 × zS)) (v4 : Int32) (σ : zS) : Option (Int32 × zS) :=
  if v3 ≤ v4 then
    (gI σ o 2 1).bind fun x4 =>
    some (x4, σ)
  else
    v2.bind fun a5 =>
    (lI σ a5 0 v4).bind fun x6 =>
    f_X3_add_39 o rec23 (some a5) v3 v4 x6 24 σ

def f_X3_add_23 (o : Nat) (v2 : Option Nat) (v3 : Int32) : Int32 → zS → Option (Int32 × zS) := zlp1 (f_X3_add_23_b o v2 v3) NN
set_option maxHeartbeats 4000000 in
theorem s_X3_add_23_b {X : zX} (hX : zOk X RX3 cX3_add 7 1 40 (Option.some Jvm.ClassFile.FieldType.int) "add" []) {o : Nat} {Rt : Int32 × zS} {v2 : Option Nat} {v3 : Int32} {rec23 : Int32 → zS → Option (Int32 × zS)} (hrec23 : ∀ (v4 : Int32) (σ : zS), rec23 v4 σ = some Rt → zG X (zQ X (.inl (eI Rt.1)) Rt.2) 7 23 [(0, zA (some o)), (2, zA v2), (3, zI v3), (4, zI v4)] [] σ) {v4 : Int32} {σ : zS} (h : f_X3_add_23_b o v2 v3 rec23 v4 σ = some Rt) : zG X (zQ X (.inl (eI Rt.1)) Rt.2) 7 23 [(0, zA (some o)), (2, zA v2), (3, zI v3), (4, zI v4)] [] σ := by
  unfold f_X3_add_23_b at h
  refine z_iload hX 3 rfl dX3_add_23 (z_iload_n hX 2 rfl rfl dX3_add_25 ?_)
  refine z_icmp_ge (tgt := 81) hX h dX3_add_26 (by decide) (fun h => ?_) (fun h => ?_)
  · refine z_aload_n hX 0 rfl rfl dX3_add_81 ?_
    refine z_getI hX fl_X3_19_2 h dX3_add_82 (fun x4 h => ?_)
    obtain rfl := Option.some.inj h
    exact z_iret hX dX3_add_85
  · refine z_aload_n hX 1 rfl rfl dX3_add_29 (z_iload hX 3 rfl dX3_add_30 ?_)
    obtain ⟨a5, e9, k_a5⟩ := z_nn h
    subst e9
    have h := k_a5
    refine z_iald hX h dX3_add_32 (fun x6 h => ?_)
    refine z_istore (L' := [(0, zA (some o)), (2, zA (some a5)), (3, zI v3), (4, zI v4), (5, zI x6)]) hX rfl (by decide) dX3_add_33 (z_bipush hX (v := 24) (by decide) dX3_add_35 (z_istore (L' := [(0, zA (some o)), (2, zA (some a5)), (3, zI v3), (4, zI v4), (5, zI x6), (6, zI 24)]) hX rfl (by decide) dX3_add_37 ?_))
    exact z_sub [0, 1, 2, 3, 4, 5] rfl (s_X3_add_39 (o := o) hX hrec23 h)

theorem s_X3_add_23 {X : zX} (hX : zOk X RX3 cX3_add 7 1 40 (Option.some Jvm.ClassFile.FieldType.int) "add" []) {o : Nat} {Rt : Int32 × zS} {v2 : Option Nat} {v3 : Int32} {v4 : Int32} {σ : zS} (h : f_X3_add_23 o v2 v3 v4 σ = some Rt) : zG X (zQ X (.inl (eI Rt.1)) Rt.2) 7 23 [(0, zA (some o)), (2, zA v2), (3, zI v3), (4, zI v4)] [] σ :=
  zlp1_ok (P := fun v4 σ => zG X (zQ X (.inl (eI Rt.1)) Rt.2) 7 23 [(0, zA (some o)), (2, zA v2), (3, zI v3), (4, zI v4)] [] σ) (fun rec hr v4 σ h => s_X3_add_23_b (o := o) hX hr h) NN v4 σ h
def f_X3_add (o : Nat) (p1 : Option Nat) (σ : zS) : Option (Int32 × zS) :=
  (gI σ o 2 1).bind fun x1 =>
  if (x1 + 20) ≤ 400 then
    p1.bind fun a2 =>
    (zaln σ a2).bind fun x3 =>
    f_X3_add_23 o (some a2) x3 0 σ
  else
    some (((-1) : Int32), σ)

set_option maxHeartbeats 4000000 in
theorem s_X3_add {X : zX} (hX : zOk X RX3 cX3_add 7 1 40 (Option.some Jvm.ClassFile.FieldType.int) "add" []) {o : Nat} {p1 : Option Nat} {σ : zS} {Rt : Int32 × zS} (h : f_X3_add o p1 σ = some Rt) : zG X (zQ X (.inl (eI Rt.1)) Rt.2) 7 0 [(0, zA (some o)), (1, zA p1)] [] σ := by
  unfold f_X3_add at h
  refine z_aload_n hX 0 rfl rfl dX3_add_0 ?_
  refine z_getI hX fl_X3_19_2 h dX3_add_1 (fun x1 h => ?_)
  refine z_bipush hX (v := 20) (by decide) dX3_add_4 (z_iadd hX dX3_add_6 (z_sipush hX (v := 400) (by decide) dX3_add_7 ?_))
  refine z_icmp_le (tgt := 15) hX h dX3_add_10 (by decide) (fun h => ?_) (fun h => ?_)
  · refine z_aload_n hX 1 rfl rfl dX3_add_15 (z_astore_n (L' := [(0, zA (some o)), (1, zA p1), (2, zA p1)]) hX rfl rfl (by decide) dX3_add_16 (z_aload_n hX 2 rfl rfl dX3_add_17 ?_))
    obtain ⟨a2, e9, k_a2⟩ := z_nn h
    subst e9
    have h := k_a2
    refine z_alen hX h dX3_add_18 (fun x3 h => ?_)
    refine z_istore_n (L' := [(0, zA (some o)), (1, zA (some a2)), (2, zA (some a2)), (3, zI x3)]) hX rfl rfl (by decide) dX3_add_19 (z_iconst hX (v := 0) (by decide) dX3_add_20 (z_istore (L' := [(0, zA (some o)), (1, zA (some a2)), (2, zA (some a2)), (3, zI x3), (4, zI 0)]) hX rfl (by decide) dX3_add_21 ?_))
    exact z_sub [0, 2, 3, 4] rfl (s_X3_add_23 (o := o) hX  h)
  · refine z_iconst hX (v := (-1)) (by decide) dX3_add_13 ?_
    obtain rfl := Option.some.inj h
    exact z_iret hX dX3_add_14

theorem c_X3_add {l : Launch} {D : va_G} {tys : zTy} (hl : l.stackTraces = false) {o : Nat} {p1 : Option Nat} {σ : zS} {Rt : Int32 × zS} (h : f_X3_add o p1 σ = some Rt) : zM l D tys yX3_add (ws_ yX3_add cX3_add 7 (Option.some Jvm.ClassFile.FieldType.int)) 1 40 [zA (some o), zA p1] σ (.inl (eI Rt.1)) Rt.2 :=
  zM_in hl rfl (Nat.le_of_ble_eq_true rfl) (fun p e R s m args below meth c hX => z_L rfl (s_X3_add hX h))
def f_X1_feed (o : Nat) (p1 : Int32) (p2 : Int32) (p3 : Int32) (p4 : Int32) (p5 : Int32) (σ : zS) : Option (Int32 × zS) :=
  (gR σ o 0 2).bind fun r1 =>
  zb2 (znewI σ 5) fun a2 σ3 =>
  (sI σ3 a2 0 p1).bind fun σ4 =>
  (sI σ4 a2 1 p2).bind fun σ5 =>
  (sI σ5 a2 2 p3).bind fun σ6 =>
  (sI σ6 a2 3 p4).bind fun σ7 =>
  (sI σ7 a2 4 p5).bind fun σ8 =>
  r1.bind fun a9 =>
  zif (zcl σ8 a9 = 2) <|
  zb2 (f_X3_add a9 (some a2) σ8) fun x11 σ12 =>
  some (x11, σ12)

set_option maxHeartbeats 4000000 in
theorem s_X1_feed {X : zX} (hX : zOk X RX1 cX1_feed 6 2 66 (Option.some Jvm.ClassFile.FieldType.int) "feed" []) {o : Nat} {p1 : Int32} {p2 : Int32} {p3 : Int32} {p4 : Int32} {p5 : Int32} {σ : zS} {Rt : Int32 × zS} (h : f_X1_feed o p1 p2 p3 p4 p5 σ = some Rt) : zG X (zQ X (.inl (eI Rt.1)) Rt.2) 6 0 [(0, zA (some o)), (1, zI p1), (2, zI p2), (3, zI p3), (4, zI p4), (5, zI p5)] [] σ := by
  unfold f_X1_feed at h
  refine z_aload_n hX 0 rfl rfl dX1_feed_0 ?_
  refine z_getR hX fl_X1_19_0 h dX1_feed_1 (fun r1 h => ?_)
  refine z_iconst hX (v := 5) (by decide) dX1_feed_4 ?_
  refine z_newI hX h dX1_feed_5 (fun a2 σ3 h => ?_)
  refine z_dup hX rfl dX1_feed_7 (z_iconst hX (v := 0) (by decide) dX1_feed_8 (z_iload_n hX 1 rfl rfl dX1_feed_9 ?_))
  refine z_iast hX h dX1_feed_10 (fun σ4 h => ?_)
  refine z_dup hX rfl dX1_feed_11 (z_iconst hX (v := 1) (by decide) dX1_feed_12 (z_iload_n hX 2 rfl rfl dX1_feed_13 ?_))
  refine z_iast hX h dX1_feed_14 (fun σ5 h => ?_)
  refine z_dup hX rfl dX1_feed_15 (z_iconst hX (v := 2) (by decide) dX1_feed_16 (z_iload_n hX 3 rfl rfl dX1_feed_17 ?_))
  refine z_iast hX h dX1_feed_18 (fun σ6 h => ?_)
  refine z_dup hX rfl dX1_feed_19 (z_iconst hX (v := 3) (by decide) dX1_feed_20 (z_iload hX 4 rfl dX1_feed_21 ?_))
  refine z_iast hX h dX1_feed_23 (fun σ7 h => ?_)
  refine z_dup hX rfl dX1_feed_24 (z_iconst hX (v := 4) (by decide) dX1_feed_25 (z_iload hX 5 rfl dX1_feed_26 ?_))
  refine z_iast hX h dX1_feed_28 (fun σ8 h => ?_)
  obtain ⟨a9, e9, k_a9⟩ := z_nn h
  subst e9
  have h := k_a9
  obtain ⟨c10, h⟩ := z_ck h
  refine z_cNI hX (rest := []) h (fun r9 σ9 e9 => z_runV hX lk_X1_43 (c_X3_add hX.tr e9) (ci := 2) zc9_2 c10 ⟨Nat.le_of_ble_eq_true rfl, Nat.le_of_ble_eq_true rfl⟩ rfl (Nat.le_of_ble_eq_true rfl) dX1_feed_29 rfl) (fun x11 σ12 h => ?_)
  obtain rfl := Option.some.inj h
  exact z_iret hX dX1_feed_32

theorem c_X1_feed {l : Launch} {D : va_G} {tys : zTy} (hl : l.stackTraces = false) {o : Nat} {p1 : Int32} {p2 : Int32} {p3 : Int32} {p4 : Int32} {p5 : Int32} {σ : zS} {Rt : Int32 × zS} (h : f_X1_feed o p1 p2 p3 p4 p5 σ = some Rt) : zM l D tys yX1_feed (ws_ yX1_feed cX1_feed 6 (Option.some Jvm.ClassFile.FieldType.int)) 2 66 [zA (some o), zI p1, zI p2, zI p3, zI p4, zI p5] σ (.inl (eI Rt.1)) Rt.2 :=
  zM_in hl rfl (Nat.le_of_ble_eq_true rfl) (fun p e R s m args below meth c hX => z_L rfl (s_X1_feed hX h))
def f_X3_cut (o : Nat) (p1 : Int32) (σ : zS) : Option (Int32 × zS) :=
  if p1 < 0 then
    some ((0 : Int32), σ)
  else
    (gI σ o 2 1).bind fun x1 =>
    if p1 ≤ x1 then
      (pI σ o 2 1 p1).bind fun σ2 =>
      some ((1 : Int32), σ2)
    else
      some ((0 : Int32), σ)

set_option maxHeartbeats 4000000 in
theorem s_X3_cut {X : zX} (hX : zOk X RX3 cX3_cut 2 1 40 (Option.some Jvm.ClassFile.FieldType.boolean) "cut" []) {o : Nat} {p1 : Int32} {σ : zS} {Rt : Int32 × zS} (h : f_X3_cut o p1 σ = some Rt) : zG X (zQ X (.inl (eI Rt.1)) Rt.2) 2 0 [(0, zA (some o)), (1, zI p1)] [] σ := by
  unfold f_X3_cut at h
  refine z_iload_n hX 1 rfl rfl dX3_cut_0 ?_
  refine z_if_lt (tgt := 12) hX h dX3_cut_1 (by decide) (fun h => ?_) (fun h => ?_)
  · refine z_iconst hX (v := 0) (by decide) dX3_cut_12 ?_
    obtain rfl := Option.some.inj h
    exact z_zretT (r := 0) hX (by decide) dX3_cut_13
  · refine z_iload_n hX 1 rfl rfl dX3_cut_4 (z_aload_n hX 0 rfl rfl dX3_cut_5 ?_)
    refine z_getI hX fl_X3_19_2 h dX3_cut_6 (fun x1 h => ?_)
    refine z_icmp_le (tgt := 14) hX h dX3_cut_9 (by decide) (fun h => ?_) (fun h => ?_)
    · refine z_aload_n hX 0 rfl rfl dX3_cut_14 (z_iload_n hX 1 rfl rfl dX3_cut_15 ?_)
      refine z_putI hX fp_X3_19_2 (fun h => nomatch h) h dX3_cut_16 (fun σ2 h => ?_)
      refine z_iconst hX (v := 1) (by decide) dX3_cut_19 ?_
      obtain rfl := Option.some.inj h
      exact z_zretT (r := 1) hX (by decide) dX3_cut_20
    · refine z_iconst hX (v := 0) (by decide) dX3_cut_12 ?_
      obtain rfl := Option.some.inj h
      exact z_zretT (r := 0) hX (by decide) dX3_cut_13

theorem c_X3_cut {l : Launch} {D : va_G} {tys : zTy} (hl : l.stackTraces = false) {o : Nat} {p1 : Int32} {σ : zS} {Rt : Int32 × zS} (h : f_X3_cut o p1 σ = some Rt) : zM l D tys yX3_cut (ws_ yX3_cut cX3_cut 2 (Option.some Jvm.ClassFile.FieldType.boolean)) 1 40 [zA (some o), zI p1] σ (.inl (eI Rt.1)) Rt.2 :=
  zM_in hl rfl (Nat.le_of_ble_eq_true rfl) (fun p e R s m args below meth c hX => z_L rfl (s_X3_cut hX h))
def f_X1_end (o : Nat) (p1 : Int32) (σ : zS) : Option (Int32 × zS) :=
  (gR σ o 0 2).bind fun r1 =>
  r1.bind fun a2 =>
  zif (zcl σ a2 = 2) <|
  zb2 (f_X3_cut a2 p1 σ) fun x4 σ5 =>
  zbo x4 (some (x4, σ5))

set_option maxHeartbeats 4000000 in
theorem s_X1_end {X : zX} (hX : zOk X RX1 cX1_end 2 2 61 (Option.some Jvm.ClassFile.FieldType.boolean) "end" []) {o : Nat} {p1 : Int32} {σ : zS} {Rt : Int32 × zS} (h : f_X1_end o p1 σ = some Rt) : zG X (zQ X (.inl (eI Rt.1)) Rt.2) 2 0 [(0, zA (some o)), (1, zI p1)] [] σ := by
  unfold f_X1_end at h
  refine z_aload_n hX 0 rfl rfl dX1_end_0 ?_
  refine z_getR hX fl_X1_19_0 h dX1_end_1 (fun r1 h => ?_)
  refine z_iload_n hX 1 rfl rfl dX1_end_4 ?_
  obtain ⟨a2, e9, k_a2⟩ := z_nn h
  subst e9
  have h := k_a2
  obtain ⟨c3, h⟩ := z_ck h
  refine z_cNI hX (rest := []) h (fun r9 σ9 e9 => z_runV hX lk_X1_47 (c_X3_cut hX.tr e9) (ci := 2) zc9_2 c3 ⟨Nat.le_of_ble_eq_true rfl, Nat.le_of_ble_eq_true rfl⟩ rfl (Nat.le_of_ble_eq_true rfl) dX1_end_5 rfl) (fun x4 σ5 h => ?_)
  obtain ⟨n9, h⟩ := zbo_inv h
  obtain rfl := Option.some.inj h
  exact z_zretT hX n9 dX1_end_8

theorem c_X1_end {l : Launch} {D : va_G} {tys : zTy} (hl : l.stackTraces = false) {o : Nat} {p1 : Int32} {σ : zS} {Rt : Int32 × zS} (h : f_X1_end o p1 σ = some Rt) : zM l D tys yX1_end (ws_ yX1_end cX1_end 2 (Option.some Jvm.ClassFile.FieldType.boolean)) 2 61 [zA (some o), zI p1] σ (.inl (eI Rt.1)) Rt.2 :=
  zM_in hl rfl (Nat.le_of_ble_eq_true rfl) (fun p e R s m args below meth c hX => z_L rfl (s_X1_end hX h))
def f_X1_fault (o : Nat) (σ : zS) : Option (Int32 × zS) :=
  (gR σ o 0 2).bind fun r1 =>
  r1.bind fun a2 =>
  (gI σ a2 2 5).bind fun x3 =>
  some (x3, σ)

set_option maxHeartbeats 4000000 in
theorem s_X1_fault {X : zX} (hX : zOk X RX1 cX1_fault 1 1 40 (Option.some Jvm.ClassFile.FieldType.int) "fault" []) {o : Nat} {σ : zS} {Rt : Int32 × zS} (h : f_X1_fault o σ = some Rt) : zG X (zQ X (.inl (eI Rt.1)) Rt.2) 1 0 [(0, zA (some o))] [] σ := by
  unfold f_X1_fault at h
  refine z_aload_n hX 0 rfl rfl dX1_fault_0 ?_
  refine z_getR hX fl_X1_19_0 h dX1_fault_1 (fun r1 h => ?_)
  obtain ⟨a2, e9, k_a2⟩ := z_nn h
  subst e9
  have h := k_a2
  refine z_getI hX fl_X1_51_2 h dX1_fault_4 (fun x3 h => ?_)
  obtain rfl := Option.some.inj h
  exact z_iret hX dX1_fault_7

theorem c_X1_fault {l : Launch} {D : va_G} {tys : zTy} (hl : l.stackTraces = false) {o : Nat} {σ : zS} {Rt : Int32 × zS} (h : f_X1_fault o σ = some Rt) : zM l D tys yX1_fault (ws_ yX1_fault cX1_fault 1 (Option.some Jvm.ClassFile.FieldType.int)) 1 40 [zA (some o)] σ (.inl (eI Rt.1)) Rt.2 :=
  zM_in hl rfl (Nat.le_of_ble_eq_true rfl) (fun p e R s m args below meth c hX => z_L rfl (s_X1_fault hX h))
def f_J2_fastRemove_34 (o : Nat) (v1 : Option Nat) (v3 : Int32) (σ : zS) : Option (Unit × zS) :=
  (pI σ o 19 2 v3).bind fun σ5 =>
  v1.bind fun a6 =>
  (sR σ5 a6 v3 none).bind fun σ7 =>
  some ((), σ7)

set_option maxHeartbeats 4000000 in
theorem s_J2_fastRemove_34 {X : zX} (hX : zOk X RJ2 cJ2_fastRemove 4 1 40 (Option.none : Option Jvm.ClassFile.FieldType) "fastRemove" []) {o : Nat} {Rt : Unit × zS} {v1 : Option Nat} {v3 : Int32} {σ : zS} (h : f_J2_fastRemove_34 o v1 v3 σ = some Rt) : zG X (zQ X (.inl (eU Rt.1)) Rt.2) 4 34 [(0, zA (some o)), (1, zA v1), (3, zI v3)] [] σ := by
  unfold f_J2_fastRemove_34 at h
  refine z_aload_n hX 1 rfl rfl dJ2_fastRemove_34 (z_aload_n hX 0 rfl rfl dJ2_fastRemove_35 (z_iload_n hX 2 rfl rfl dJ2_fastRemove_36 (z_dup_x1 hX rfl rfl dJ2_fastRemove_37 ?_)))
  refine z_putI hX fp_J2_48_19 (fun h => nomatch h) h dJ2_fastRemove_38 (fun σ5 h => ?_)
  refine z_null hX dJ2_fastRemove_41 ?_
  obtain ⟨a6, e9, k_a6⟩ := z_nn h
  subst e9
  have h := k_a6
  refine z_aast hX zto h dJ2_fastRemove_42 (fun σ7 h => ?_)
  obtain rfl := Option.some.inj h
  exact z_vret hX dJ2_fastRemove_43

def f_J2_fastRemove (o : Nat) (p1 : Option Nat) (p2 : Int32) (σ : zS) : Option (Unit × zS) :=
  (gI σ o 19 0).bind fun x1 =>
  (pI σ o 19 0 (x1 + 1)).bind fun σ2 =>
  (gI σ2 o 19 2).bind fun x3 =>
  zl (x3 - 1) fun x4 =>
  if (x3 - 1) ≤ p2 then
    f_J2_fastRemove_34 o p1 x4 σ2
  else
    p1.bind fun a8 =>
    (zcpy σ2 a8 (p2 + 1) a8 p2 (x4 - p2)).bind fun σ9 =>
    f_J2_fastRemove_34 o (some a8) x4 σ9

set_option maxHeartbeats 4000000 in
theorem s_J2_fastRemove {X : zX} (hX : zOk X RJ2 cJ2_fastRemove 4 1 40 (Option.none : Option Jvm.ClassFile.FieldType) "fastRemove" []) {o : Nat} {p1 : Option Nat} {p2 : Int32} {σ : zS} {Rt : Unit × zS} (h : f_J2_fastRemove o p1 p2 σ = some Rt) : zG X (zQ X (.inl (eU Rt.1)) Rt.2) 4 0 [(0, zA (some o)), (1, zA p1), (2, zI p2)] [] σ := by
  unfold f_J2_fastRemove at h
  refine z_aload_n hX 0 rfl rfl dJ2_fastRemove_0 (z_dup hX rfl dJ2_fastRemove_1 ?_)
  refine z_getI hX fl_J2_63_19 h dJ2_fastRemove_2 (fun x1 h => ?_)
  refine z_iconst hX (v := 1) (by decide) dJ2_fastRemove_5 (z_iadd hX dJ2_fastRemove_6 ?_)
  refine z_putI hX fp_J2_63_19 (fun h => nomatch h) h dJ2_fastRemove_7 (fun σ2 h => ?_)
  refine z_aload_n hX 0 rfl rfl dJ2_fastRemove_10 ?_
  refine z_getI hX fl_J2_48_19 h dJ2_fastRemove_11 (fun x3 h => ?_)
  refine z_iconst hX (v := 1) (by decide) dJ2_fastRemove_14 (z_isub hX dJ2_fastRemove_15 (z_dup hX rfl dJ2_fastRemove_16 ?_))
  refine z_nmI h (fun x4 h => ?_)
  refine z_istore_n (L' := [(0, zA (some o)), (1, zA p1), (2, zI p2), (3, zI x4)]) hX rfl rfl (by decide) dJ2_fastRemove_17 (z_iload_n hX 2 rfl rfl dJ2_fastRemove_18 ?_)
  refine z_icmp_le (tgt := 34) hX h dJ2_fastRemove_19 (by decide) (fun h => ?_) (fun h => ?_)
  · exact z_sub [0, 1, 3] rfl (s_J2_fastRemove_34 (o := o) hX  h)
  · refine z_aload_n hX 1 rfl rfl dJ2_fastRemove_22 (z_iload_n hX 2 rfl rfl dJ2_fastRemove_23 (z_iconst hX (v := 1) (by decide) dJ2_fastRemove_24 (z_iadd hX dJ2_fastRemove_25 (z_aload_n hX 1 rfl rfl dJ2_fastRemove_26 (z_iload_n hX 2 rfl rfl dJ2_fastRemove_27 (z_iload_n hX 3 rfl rfl dJ2_fastRemove_28 (z_iload_n hX 2 rfl rfl dJ2_fastRemove_29 (z_isub hX dJ2_fastRemove_30 ?_))))))))
    obtain ⟨a8, e9, k_a8⟩ := z_nn h
    subst e9
    have h := k_a8
    refine z_cpy hX zto q394 (Nat.le_of_ble_eq_true rfl) (Nat.le_of_ble_eq_true rfl) (Nat.le_of_ble_eq_true rfl) h dJ2_fastRemove_31 (fun σ9 h => ?_)
    exact z_sub [0, 1, 3] rfl (s_J2_fastRemove_34 (o := o) hX  h)

theorem c_J2_fastRemove {l : Launch} {D : va_G} {tys : zTy} (hl : l.stackTraces = false) {o : Nat} {p1 : Option Nat} {p2 : Int32} {σ : zS} {Rt : Unit × zS} (h : f_J2_fastRemove o p1 p2 σ = some Rt) : zM l D tys yJ2_fastRemove (ws_ yJ2_fastRemove cJ2_fastRemove 4 (Option.none : Option Jvm.ClassFile.FieldType)) 1 40 [zA (some o), zA p1, zI p2] σ (.inl (eU Rt.1)) Rt.2 :=
  zM_in hl rfl (Nat.le_of_ble_eq_true rfl) (fun p e R s m args below meth c hX => z_L rfl (s_J2_fastRemove hX h))
def f_J2_remove (o : Nat) (p1 : Int32) (σ : zS) : Option ((Option Nat) × zS) :=
  (gI σ o 19 2).bind fun x1 =>
  zb2 (f_J3_checkIndex p1 x1 σ) fun x2 σ3 =>
  (gR σ3 o 19 1).bind fun r4 =>
  r4.bind fun a5 =>
  (lR σ3 a5 p1).bind fun r6 =>
  zif (zcl σ3 o = 19) <|
  zb2 (f_J2_fastRemove o (some a5) p1 σ3) fun _ σ9 =>
  some (r6, σ9)

set_option maxHeartbeats 4000000 in
theorem s_J2_remove {X : zX} (hX : zOk X RJ2 cJ2_remove 4 3 83 (Option.some (Jvm.ClassFile.FieldType.object "java/lang/Object")) "remove" []) {o : Nat} {p1 : Int32} {σ : zS} {Rt : (Option Nat) × zS} (h : f_J2_remove o p1 σ = some Rt) : zG X (zQ X (.inl (eA Rt.1)) Rt.2) 4 0 [(0, zA (some o)), (1, zI p1)] [] σ := by
  unfold f_J2_remove at h
  refine z_iload_n hX 1 rfl rfl dJ2_remove_0 (z_aload_n hX 0 rfl rfl dJ2_remove_1 ?_)
  refine z_getI hX fl_J2_48_19 h dJ2_remove_2 (fun x1 h => ?_)
  refine z_cNI hX (rest := []) h (fun r9 σ9 e9 => z_runS hX lk_J2_118 (c_J3_checkIndex hX.tr e9) ⟨Nat.le_of_ble_eq_true rfl, Nat.le_of_ble_eq_true rfl⟩ rfl (Nat.le_of_ble_eq_true rfl) dJ2_remove_5 rfl) (fun x2 σ3 h => ?_)
  refine z_pop hX rfl dJ2_remove_8 (z_aload_n hX 0 rfl rfl dJ2_remove_9 ?_)
  refine z_getR hX fl_J2_9_19 h dJ2_remove_10 (fun r4 h => ?_)
  refine z_astore_n (L' := [(0, zA (some o)), (1, zI p1), (2, zA r4)]) hX rfl rfl (by decide) dJ2_remove_13 (z_aload_n hX 2 rfl rfl dJ2_remove_14 (z_iload_n hX 1 rfl rfl dJ2_remove_15 ?_))
  obtain ⟨a5, e9, k_a5⟩ := z_nn h
  subst e9
  have h := k_a5
  refine z_aald hX h dJ2_remove_16 (fun r6 h => ?_)
  refine z_astore_n (L' := [(0, zA (some o)), (1, zI p1), (2, zA (some a5)), (3, zA r6)]) hX rfl rfl (by decide) dJ2_remove_17 (z_aload_n hX 0 rfl rfl dJ2_remove_18 (z_aload_n hX 2 rfl rfl dJ2_remove_19 (z_iload_n hX 1 rfl rfl dJ2_remove_20 ?_)))
  obtain ⟨c7, h⟩ := z_ck h
  refine z_cNU hX (rest := []) h (fun r9 σ9 e9 => z_runV hX lk_J2_144 (c_J2_fastRemove hX.tr e9) (ci := 19) zc9_19 c7 ⟨Nat.le_of_ble_eq_true rfl, Nat.le_of_ble_eq_true rfl⟩ rfl (Nat.le_of_ble_eq_true rfl) dJ2_remove_21 rfl) (fun _ σ9 h => ?_)
  refine z_aload_n hX 3 rfl rfl dJ2_remove_24 ?_
  obtain rfl := Option.some.inj h
  exact z_aret hX (Or.inl ⟨_, rfl⟩) dJ2_remove_25

theorem c_J2_remove {l : Launch} {D : va_G} {tys : zTy} (hl : l.stackTraces = false) {o : Nat} {p1 : Int32} {σ : zS} {Rt : (Option Nat) × zS} (h : f_J2_remove o p1 σ = some Rt) : zM l D tys yJ2_remove (ws_ yJ2_remove cJ2_remove 4 (Option.some (Jvm.ClassFile.FieldType.object "java/lang/Object"))) 3 83 [zA (some o), zI p1] σ (.inl (eA Rt.1)) Rt.2 :=
  zM_in hl rfl (Nat.le_of_ble_eq_true rfl) (fun p e R s m args below meth c hX => z_L rfl (s_J2_remove hX h))
def f_X1_undo_75_b (o : Nat) (v1 : Int32) (v2 : Option Nat) (rec75 : Int32 → zS → Option (Int32 × zS)) (v3 : Int32) (σ : zS) : Option (Int32 × zS) :=
  v2.bind fun a34 =>
  (gI σ a34 8 4).bind fun x35 =>
  if x35 ≤ v3 then
    some (v1, σ)
  else
    (gR σ o 0 0).bind fun r36 =>
    r36.bind fun a37 =>
    (gR σ a37 1 9).bind fun r38 =>
    r38.bind fun a39 =>
    zif (zcl σ a39 = 19) <|
    zb2 (f_J2_get a39 v3 σ) fun r41 σ42 =>
    zif (zckC σ42 r41 7 = true) <|
    (gR σ42 o 0 0).bind fun r43 =>
    r43.bind fun a44 =>
    (gR σ42 a44 1 9).bind fun r45 =>
    r45.bind fun a46 =>
    zif (zcl σ42 a46 = 19) <|
    zb2 (f_J2_get a46 v3 σ42) fun r48 σ49 =>
    zif (zckC σ49 r48 7 = true) <|
    r48.bind fun a50 =>
    (gI σ49 a50 7 1).bind fun x51 =>
    r41.bind fun a52 =>
    (pI σ49 a52 7 1 (zmax 0 (x51 - 1))).bind fun σ53 =>
    zl (v3 + 1) fun x54 =>
    rec75 x54 σ53

def f_X1_undo_75 (o : Nat) (v1 : Int32) (v2 : Option Nat) : Int32 → zS → Option (Int32 × zS) := zlp1 (f_X1_undo_75_b o v1 v2) NN
set_option maxHeartbeats 4000000 in
theorem s_X1_undo_75_b {X : zX} (hX : zOk X RX1 cX1_undo 4 4 106 (Option.some Jvm.ClassFile.FieldType.int) "undo" []) {o : Nat} {Rt : Int32 × zS} {v1 : Int32} {v2 : Option Nat} {rec75 : Int32 → zS → Option (Int32 × zS)} (hrec75 : ∀ (v3 : Int32) (σ : zS), rec75 v3 σ = some Rt → zG X (zQ X (.inl (eI Rt.1)) Rt.2) 4 75 [(0, zA (some o)), (1, zI v1), (2, zA v2), (3, zI v3)] [] σ) {v3 : Int32} {σ : zS} (h : f_X1_undo_75_b o v1 v2 rec75 v3 σ = some Rt) : zG X (zQ X (.inl (eI Rt.1)) Rt.2) 4 75 [(0, zA (some o)), (1, zI v1), (2, zA v2), (3, zI v3)] [] σ := by
  unfold f_X1_undo_75_b at h
  refine z_iload_n hX 3 rfl rfl dX1_undo_75 (z_aload_n hX 2 rfl rfl dX1_undo_76 ?_)
  obtain ⟨a34, e9, k_a34⟩ := z_nn h
  subst e9
  have h := k_a34
  refine z_getI hX fl_X1_400_8 h dX1_undo_77 (fun x35 h => ?_)
  refine z_icmp_ge (tgt := 129) hX h dX1_undo_80 (by decide) (fun h => ?_) (fun h => ?_)
  · refine z_iload_n hX 1 rfl rfl dX1_undo_129 ?_
    obtain rfl := Option.some.inj h
    exact z_iret hX dX1_undo_130
  · refine z_aload_n hX 0 rfl rfl dX1_undo_83 ?_
    refine z_getR hX fl_X1_10_0 h dX1_undo_84 (fun r36 h => ?_)
    obtain ⟨a37, e9, k_a37⟩ := z_nn h
    subst e9
    have h := k_a37
    refine z_getR hX fl_X1_144_1 h dX1_undo_87 (fun r38 h => ?_)
    refine z_iload_n hX 3 rfl rfl dX1_undo_90 ?_
    obtain ⟨a39, e9, k_a39⟩ := z_nn h
    subst e9
    have h := k_a39
    obtain ⟨c40, h⟩ := z_ck h
    refine z_cNA hX (rest := []) h (fun r9 σ9 e9 => z_runV hX lk_X1_313 (c_J2_get hX.tr e9) (ci := 19) zc9_19 c40 ⟨Nat.le_of_ble_eq_true rfl, Nat.le_of_ble_eq_true rfl⟩ rfl (Nat.le_of_ble_eq_true rfl) dX1_undo_91 rfl) (fun r41 σ42 h => ?_)
    refine z_castC hX (ci := 7) rfl q397 h dX1_undo_94 (fun h => ?_)
    refine z_iconst hX (v := 0) (by decide) dX1_undo_97 (z_aload_n hX 0 rfl rfl dX1_undo_98 ?_)
    refine z_getR hX fl_X1_10_0 h dX1_undo_99 (fun r43 h => ?_)
    obtain ⟨a44, e9, k_a44⟩ := z_nn h
    subst e9
    have h := k_a44
    refine z_getR hX fl_X1_144_1 h dX1_undo_102 (fun r45 h => ?_)
    refine z_iload_n hX 3 rfl rfl dX1_undo_105 ?_
    obtain ⟨a46, e9, k_a46⟩ := z_nn h
    subst e9
    have h := k_a46
    obtain ⟨c47, h⟩ := z_ck h
    refine z_cNA hX (rest := [zI 0, zA r41]) h (fun r9 σ9 e9 => z_runV hX lk_X1_313 (c_J2_get hX.tr e9) (ci := 19) zc9_19 c47 ⟨Nat.le_of_ble_eq_true rfl, Nat.le_of_ble_eq_true rfl⟩ rfl (Nat.le_of_ble_eq_true rfl) dX1_undo_106 rfl) (fun r48 σ49 h => ?_)
    refine z_castC hX (ci := 7) rfl q397 h dX1_undo_109 (fun h => ?_)
    obtain ⟨a50, e9, k_a50⟩ := z_nn h
    subst e9
    have h := k_a50
    refine z_getI hX fl_X1_325_7 h dX1_undo_112 (fun x51 h => ?_)
    refine z_iconst hX (v := 1) (by decide) dX1_undo_115 (z_isub hX dX1_undo_116 (z_mmax hX q398 (Nat.le_of_ble_eq_true rfl) (Nat.le_of_ble_eq_true rfl) (Nat.le_of_ble_eq_true rfl) dX1_undo_117 ?_))
    obtain ⟨a52, e9, k_a52⟩ := z_nn h
    subst e9
    have h := k_a52
    refine z_putI hX fp_X1_325_7 (fun h => nomatch h) h dX1_undo_120 (fun σ53 h => ?_)
    refine z_iinc hX (j := 3) h rfl (by decide) (by decide) dX1_undo_123 (fun x54 h => z_L (L' := [(0, zA (some o)), (1, zI v1), (2, zA (some a34)), (3, zI x54)]) rfl ?_)
    refine z_goto (tgt := 75) hX dX1_undo_126 (by decide) ?_
    exact z_sub [0, 1, 2, 3] rfl (hrec75 _ _ h)

theorem s_X1_undo_75 {X : zX} (hX : zOk X RX1 cX1_undo 4 4 106 (Option.some Jvm.ClassFile.FieldType.int) "undo" []) {o : Nat} {Rt : Int32 × zS} {v1 : Int32} {v2 : Option Nat} {v3 : Int32} {σ : zS} (h : f_X1_undo_75 o v1 v2 v3 σ = some Rt) : zG X (zQ X (.inl (eI Rt.1)) Rt.2) 4 75 [(0, zA (some o)), (1, zI v1), (2, zA v2), (3, zI v3)] [] σ :=
  zlp1_ok (P := fun v3 σ => zG X (zQ X (.inl (eI Rt.1)) Rt.2) 4 75 [(0, zA (some o)), (1, zI v1), (2, zA v2), (3, zI v3)] [] σ) (fun rec hr v3 σ h => s_X1_undo_75_b (o := o) hX hr h) NN v3 σ h
def f_X1_undo (o : Nat) (σ : zS) : Option (Int32 × zS) :=
  (gR σ o 0 0).bind fun r1 =>
  r1.bind fun a2 =>
  (gR σ a2 1 11).bind fun r3 =>
  r3.bind fun a4 =>
  zif (zcl σ a4 = 19) <|
  zb2 (f_J2_size a4 σ) fun x6 σ7 =>
  zl (x6 - 1) fun x8 =>
  if x8 < 0 then
    some (((-1) : Int32), σ7)
  else
    (gR σ7 o 0 0).bind fun r9 =>
    r9.bind fun a10 =>
    (gR σ7 a10 1 11).bind fun r11 =>
    r11.bind fun a12 =>
    zif (zcl σ7 a12 = 19) <|
    zb2 (f_J2_get a12 x8 σ7) fun r14 σ15 =>
    zif (zckC σ15 r14 8 = true) <|
    r14.bind fun a16 =>
    (gI σ15 a16 8 7).bind fun x17 =>
    if x17 = 0 then
      (gR σ15 o 0 0).bind fun r18 =>
      r18.bind fun a19 =>
      (gR σ15 a19 1 11).bind fun r20 =>
      r20.bind fun a21 =>
      zif (zcl σ15 a21 = 19) <|
      zb2 (f_J2_remove a21 x8 σ15) fun r23 σ24 =>
      zif (zckC σ24 r23 8 = true) <|
      (gR σ24 o 0 0).bind fun r25 =>
      r25.bind fun a26 =>
      (gR σ24 a26 1 7).bind fun r27 =>
      r23.bind fun a28 =>
      (gI σ24 a28 8 3).bind fun x29 =>
      r27.bind fun a30 =>
      (lI σ24 a30 0 x29).bind fun x31 =>
      (gI σ24 a28 8 5).bind fun x32 =>
      (sI σ24 a30 x29 (x31 + x32)).bind fun σ33 =>
      f_X1_undo_75 o x8 (some a28) 0 σ33
    else
      some (((-1) : Int32), σ15)

set_option maxHeartbeats 4000000 in
theorem s_X1_undo {X : zX} (hX : zOk X RX1 cX1_undo 4 4 106 (Option.some Jvm.ClassFile.FieldType.int) "undo" []) {o : Nat} {σ : zS} {Rt : Int32 × zS} (h : f_X1_undo o σ = some Rt) : zG X (zQ X (.inl (eI Rt.1)) Rt.2) 4 0 [(0, zA (some o))] [] σ := by
  unfold f_X1_undo at h
  refine z_aload_n hX 0 rfl rfl dX1_undo_0 ?_
  refine z_getR hX fl_X1_10_0 h dX1_undo_1 (fun r1 h => ?_)
  obtain ⟨a2, e9, k_a2⟩ := z_nn h
  subst e9
  have h := k_a2
  refine z_getR hX fl_X1_374_1 h dX1_undo_4 (fun r3 h => ?_)
  obtain ⟨a4, e9, k_a4⟩ := z_nn h
  subst e9
  have h := k_a4
  obtain ⟨c5, h⟩ := z_ck h
  refine z_cNI hX (rest := []) h (fun r9 σ9 e9 => z_runV hX lk_X1_59 (c_J2_size hX.tr e9) (ci := 19) zc9_19 c5 ⟨Nat.le_of_ble_eq_true rfl, Nat.le_of_ble_eq_true rfl⟩ rfl (Nat.le_of_ble_eq_true rfl) dX1_undo_7 rfl) (fun x6 σ7 h => ?_)
  refine z_iconst hX (v := 1) (by decide) dX1_undo_10 (z_isub hX dX1_undo_11 ?_)
  refine z_nmI h (fun x8 h => ?_)
  refine z_istore_n (L' := [(0, zA (some o)), (1, zI x8)]) hX rfl rfl (by decide) dX1_undo_12 (z_iload_n hX 1 rfl rfl dX1_undo_13 ?_)
  refine z_if_lt (tgt := 37) hX h dX1_undo_14 (by decide) (fun h => ?_) (fun h => ?_)
  · refine z_iconst hX (v := (-1)) (by decide) dX1_undo_37 ?_
    obtain rfl := Option.some.inj h
    exact z_iret hX dX1_undo_38
  · refine z_aload_n hX 0 rfl rfl dX1_undo_17 ?_
    refine z_getR hX fl_X1_10_0 h dX1_undo_18 (fun r9 h => ?_)
    obtain ⟨a10, e9, k_a10⟩ := z_nn h
    subst e9
    have h := k_a10
    refine z_getR hX fl_X1_374_1 h dX1_undo_21 (fun r11 h => ?_)
    refine z_iload_n hX 1 rfl rfl dX1_undo_24 ?_
    obtain ⟨a12, e9, k_a12⟩ := z_nn h
    subst e9
    have h := k_a12
    obtain ⟨c13, h⟩ := z_ck h
    refine z_cNA hX (rest := []) h (fun r9 σ9 e9 => z_runV hX lk_X1_313 (c_J2_get hX.tr e9) (ci := 19) zc9_19 c13 ⟨Nat.le_of_ble_eq_true rfl, Nat.le_of_ble_eq_true rfl⟩ rfl (Nat.le_of_ble_eq_true rfl) dX1_undo_25 rfl) (fun r14 σ15 h => ?_)
    refine z_castC hX (ci := 8) rfl q385 h dX1_undo_28 (fun h => ?_)
    obtain ⟨a16, e9, k_a16⟩ := z_nn h
    subst e9
    have h := k_a16
    refine z_getI hX fl_X1_396_8 h dX1_undo_31 (fun x17 h => ?_)
    refine z_if_eq (tgt := 39) hX h dX1_undo_34 (by decide) (fun h => ?_) (fun h => ?_)
    · refine z_aload_n hX 0 rfl rfl dX1_undo_39 ?_
      refine z_getR hX fl_X1_10_0 h dX1_undo_40 (fun r18 h => ?_)
      obtain ⟨a19, e9, k_a19⟩ := z_nn h
      subst e9
      have h := k_a19
      refine z_getR hX fl_X1_374_1 h dX1_undo_43 (fun r20 h => ?_)
      refine z_iload_n hX 1 rfl rfl dX1_undo_46 ?_
      obtain ⟨a21, e9, k_a21⟩ := z_nn h
      subst e9
      have h := k_a21
      obtain ⟨c22, h⟩ := z_ck h
      refine z_cNA hX (rest := []) h (fun r9 σ9 e9 => z_runV hX lk_X1_425 (c_J2_remove hX.tr e9) (ci := 19) zc9_19 c22 ⟨Nat.le_of_ble_eq_true rfl, Nat.le_of_ble_eq_true rfl⟩ rfl (Nat.le_of_ble_eq_true rfl) dX1_undo_47 rfl) (fun r23 σ24 h => ?_)
      refine z_castC hX (ci := 8) rfl q385 h dX1_undo_50 (fun h => ?_)
      refine z_astore_n (L' := [(0, zA (some o)), (1, zI x8), (2, zA r23)]) hX rfl rfl (by decide) dX1_undo_53 (z_aload_n hX 0 rfl rfl dX1_undo_54 ?_)
      refine z_getR hX fl_X1_10_0 h dX1_undo_55 (fun r25 h => ?_)
      obtain ⟨a26, e9, k_a26⟩ := z_nn h
      subst e9
      have h := k_a26
      refine z_getR hX fl_X1_137_1 h dX1_undo_58 (fun r27 h => ?_)
      refine z_aload_n hX 2 rfl rfl dX1_undo_61 ?_
      obtain ⟨a28, e9, k_a28⟩ := z_nn h
      subst e9
      have h := k_a28
      refine z_getI hX fl_X1_399_8 h dX1_undo_62 (fun x29 h => ?_)
      refine z_dup2 hX rfl rfl dX1_undo_65 ?_
      obtain ⟨a30, e9, k_a30⟩ := z_nn h
      subst e9
      have h := k_a30
      refine z_iald hX h dX1_undo_66 (fun x31 h => ?_)
      refine z_aload_n hX 2 rfl rfl dX1_undo_67 ?_
      refine z_getI hX fl_X1_393_8 h dX1_undo_68 (fun x32 h => ?_)
      refine z_iadd hX dX1_undo_71 ?_
      refine z_iast hX h dX1_undo_72 (fun σ33 h => ?_)
      refine z_iconst hX (v := 0) (by decide) dX1_undo_73 (z_istore_n (L' := [(0, zA (some o)), (1, zI x8), (2, zA (some a28)), (3, zI 0)]) hX rfl rfl (by decide) dX1_undo_74 ?_)
      exact z_sub [0, 1, 2, 3] rfl (s_X1_undo_75 (o := o) hX  h)
    · refine z_iconst hX (v := (-1)) (by decide) dX1_undo_37 ?_
      obtain rfl := Option.some.inj h
      exact z_iret hX dX1_undo_38

theorem c_X1_undo {l : Launch} {D : va_G} {tys : zTy} (hl : l.stackTraces = false) {o : Nat} {σ : zS} {Rt : Int32 × zS} (h : f_X1_undo o σ = some Rt) : zM l D tys yX1_undo (ws_ yX1_undo cX1_undo 4 (Option.some Jvm.ClassFile.FieldType.int)) 4 106 [zA (some o)] σ (.inl (eI Rt.1)) Rt.2 :=
  zM_in hl rfl (Nat.le_of_ble_eq_true rfl) (fun p e R s m args below meth c hX => z_L rfl (s_X1_undo hX h))
def f_X1_missed_2_b (o : Nat) (rec2 : Int32 → zS → Option (Int32 × zS)) (v1 : Int32) (σ : zS) : Option (Int32 × zS) :=
  (gR σ o 0 0).bind fun r1 =>
  r1.bind fun a2 =>
  (gR σ a2 1 9).bind fun r3 =>
  r3.bind fun a4 =>
  zif (zcl σ a4 = 19) <|
  zb2 (f_J2_size a4 σ) fun x6 σ7 =>
  if x6 ≤ v1 then
    some (((-1) : Int32), σ7)
  else
    (gR σ7 o 0 0).bind fun r8 =>
    r8.bind fun a9 =>
    zif (zcl σ7 a9 = 1) <|
    zb2 (f_X2_missed a9 v1 σ7) fun x11 σ12 =>
    if x11 = 0 then
      zl (v1 + 1) fun x13 =>
      rec2 x13 σ12
    else
      some (v1, σ12)

def f_X1_missed_2 (o : Nat) : Int32 → zS → Option (Int32 × zS) := zlp1 (f_X1_missed_2_b o) NN
set_option maxHeartbeats 4000000 in
theorem s_X1_missed_2_b {X : zX} (hX : zOk X RX1 cX1_missed 2 5 129 (Option.some Jvm.ClassFile.FieldType.int) "missed" []) {o : Nat} {Rt : Int32 × zS} {rec2 : Int32 → zS → Option (Int32 × zS)} (hrec2 : ∀ (v1 : Int32) (σ : zS), rec2 v1 σ = some Rt → zG X (zQ X (.inl (eI Rt.1)) Rt.2) 2 2 [(0, zA (some o)), (1, zI v1)] [] σ) {v1 : Int32} {σ : zS} (h : f_X1_missed_2_b o rec2 v1 σ = some Rt) : zG X (zQ X (.inl (eI Rt.1)) Rt.2) 2 2 [(0, zA (some o)), (1, zI v1)] [] σ := by
  unfold f_X1_missed_2_b at h
  refine z_iload_n hX 1 rfl rfl dX1_missed_2 (z_aload_n hX 0 rfl rfl dX1_missed_3 ?_)
  refine z_getR hX fl_X1_10_0 h dX1_missed_4 (fun r1 h => ?_)
  obtain ⟨a2, e9, k_a2⟩ := z_nn h
  subst e9
  have h := k_a2
  refine z_getR hX fl_X1_144_1 h dX1_missed_7 (fun r3 h => ?_)
  obtain ⟨a4, e9, k_a4⟩ := z_nn h
  subst e9
  have h := k_a4
  obtain ⟨c5, h⟩ := z_ck h
  refine z_cNI hX (rest := [zI v1]) h (fun r9 σ9 e9 => z_runV hX lk_X1_59 (c_J2_size hX.tr e9) (ci := 19) zc9_19 c5 ⟨Nat.le_of_ble_eq_true rfl, Nat.le_of_ble_eq_true rfl⟩ rfl (Nat.le_of_ble_eq_true rfl) dX1_missed_10 rfl) (fun x6 σ7 h => ?_)
  refine z_icmp_ge (tgt := 35) hX h dX1_missed_13 (by decide) (fun h => ?_) (fun h => ?_)
  · refine z_iconst hX (v := (-1)) (by decide) dX1_missed_35 ?_
    obtain rfl := Option.some.inj h
    exact z_iret hX dX1_missed_36
  · refine z_aload_n hX 0 rfl rfl dX1_missed_16 ?_
    refine z_getR hX fl_X1_10_0 h dX1_missed_17 (fun r8 h => ?_)
    refine z_iload_n hX 1 rfl rfl dX1_missed_20 ?_
    obtain ⟨a9, e9, k_a9⟩ := z_nn h
    subst e9
    have h := k_a9
    obtain ⟨c10, h⟩ := z_ck h
    refine z_cNI hX (rest := []) h (fun r9 σ9 e9 => z_runV hX lk_X1_390 (c_X2_missed hX.tr e9) (ci := 1) zc9_1 c10 ⟨Nat.le_of_ble_eq_true rfl, Nat.le_of_ble_eq_true rfl⟩ rfl (Nat.le_of_ble_eq_true rfl) dX1_missed_21 rfl) (fun x11 σ12 h => ?_)
    refine z_if_eq (tgt := 29) hX h dX1_missed_24 (by decide) (fun h => ?_) (fun h => ?_)
    · refine z_iinc hX (j := 1) h rfl (by decide) (by decide) dX1_missed_29 (fun x13 h => z_L (L' := [(0, zA (some o)), (1, zI x13)]) rfl ?_)
      refine z_goto (tgt := 2) hX dX1_missed_32 (by decide) ?_
      exact z_sub [0, 1] rfl (hrec2 _ _ h)
    · refine z_iload_n hX 1 rfl rfl dX1_missed_27 ?_
      obtain rfl := Option.some.inj h
      exact z_iret hX dX1_missed_28

theorem s_X1_missed_2 {X : zX} (hX : zOk X RX1 cX1_missed 2 5 129 (Option.some Jvm.ClassFile.FieldType.int) "missed" []) {o : Nat} {Rt : Int32 × zS} {v1 : Int32} {σ : zS} (h : f_X1_missed_2 o v1 σ = some Rt) : zG X (zQ X (.inl (eI Rt.1)) Rt.2) 2 2 [(0, zA (some o)), (1, zI v1)] [] σ :=
  zlp1_ok (P := fun v1 σ => zG X (zQ X (.inl (eI Rt.1)) Rt.2) 2 2 [(0, zA (some o)), (1, zI v1)] [] σ) (fun rec hr v1 σ h => s_X1_missed_2_b (o := o) hX hr h) NN v1 σ h
def f_X1_missed (o : Nat) (σ : zS) : Option (Int32 × zS) :=
  f_X1_missed_2 o 0 σ

set_option maxHeartbeats 4000000 in
theorem s_X1_missed {X : zX} (hX : zOk X RX1 cX1_missed 2 5 129 (Option.some Jvm.ClassFile.FieldType.int) "missed" []) {o : Nat} {σ : zS} {Rt : Int32 × zS} (h : f_X1_missed o σ = some Rt) : zG X (zQ X (.inl (eI Rt.1)) Rt.2) 2 0 [(0, zA (some o))] [] σ := by
  unfold f_X1_missed at h
  refine z_iconst hX (v := 0) (by decide) dX1_missed_0 (z_istore_n (L' := [(0, zA (some o)), (1, zI 0)]) hX rfl rfl (by decide) dX1_missed_1 ?_)
  exact z_sub [0, 1] rfl (s_X1_missed_2 (o := o) hX  h)

theorem c_X1_missed {l : Launch} {D : va_G} {tys : zTy} (hl : l.stackTraces = false) {o : Nat} {σ : zS} {Rt : Int32 × zS} (h : f_X1_missed o σ = some Rt) : zM l D tys yX1_missed (ws_ yX1_missed cX1_missed 2 (Option.some Jvm.ClassFile.FieldType.int)) 5 129 [zA (some o)] σ (.inl (eI Rt.1)) Rt.2 :=
  zM_in hl rfl (Nat.le_of_ble_eq_true rfl) (fun p e R s m args below meth c hX => z_L rfl (s_X1_missed hX h))
def f_X1_ways_22_b (o : Nat) (rec7 : Int64 → Int32 → Int32 → zS → Option (Int64 × zS)) (v4 : Int32) (rec22 : Int64 → Int32 → Int32 → zS → Option (Int64 × zS)) (v1 : Int64) (v3 : Int32) (v5 : Int32) (σ : zS) : Option (Int64 × zS) :=
  zif (zcl σ o = 0) <|
  zb2 (f_X1_lost o v4 σ) fun x5 σ6 =>
  if x5 < v5 then
    zl (v4 + 1) fun x7 =>
    rec7 v1 v3 x7 σ6
  else
    zl (v3 + 1) fun x8 =>
    (zdivJ (v1 * x8.toInt64) v5.toInt64).bind fun x9 =>
    zl (v5 + 1) fun x10 =>
    rec22 x9 x8 x10 σ6

def f_X1_ways_22 (o : Nat) (rec7 : Int64 → Int32 → Int32 → zS → Option (Int64 × zS)) (v4 : Int32) : Int64 → Int32 → Int32 → zS → Option (Int64 × zS) := zlp3 (f_X1_ways_22_b o rec7 v4) NN
set_option maxHeartbeats 4000000 in
theorem s_X1_ways_22_b {X : zX} (hX : zOk X RX1 cX1_ways 6 5 127 (Option.some Jvm.ClassFile.FieldType.long) "ways" []) {o : Nat} {Rt : Int64 × zS} {rec7 : Int64 → Int32 → Int32 → zS → Option (Int64 × zS)} {v4 : Int32} (hrec7 : ∀ (v1 : Int64) (v3 : Int32) (v4 : Int32) (σ : zS), rec7 v1 v3 v4 σ = some Rt → zG X (zQ X (.inl (eJ Rt.1)) Rt.2) 6 7 [(0, zA (some o)), (1, zJ v1), (3, zI v3), (4, zI v4)] [] σ) {rec22 : Int64 → Int32 → Int32 → zS → Option (Int64 × zS)} (hrec22 : ∀ (v1 : Int64) (v3 : Int32) (v5 : Int32) (σ : zS), rec22 v1 v3 v5 σ = some Rt → zG X (zQ X (.inl (eJ Rt.1)) Rt.2) 6 22 [(0, zA (some o)), (1, zJ v1), (3, zI v3), (4, zI v4), (5, zI v5)] [] σ) {v1 : Int64} {v3 : Int32} {v5 : Int32} {σ : zS} (h : f_X1_ways_22_b o rec7 v4 rec22 v1 v3 v5 σ = some Rt) : zG X (zQ X (.inl (eJ Rt.1)) Rt.2) 6 22 [(0, zA (some o)), (1, zJ v1), (3, zI v3), (4, zI v4), (5, zI v5)] [] σ := by
  unfold f_X1_ways_22_b at h
  refine z_iload hX 4 rfl dX1_ways_22 (z_aload_n hX 0 rfl rfl dX1_ways_24 (z_iload hX 3 rfl dX1_ways_25 ?_))
  obtain ⟨c4, h⟩ := z_ck h
  refine z_cNI hX (rest := [zI v5]) h (fun r9 σ9 e9 => z_runV hX lk_X1_479 (c_X1_lost hX.tr e9) (ci := 0) zc9_0 c4 ⟨Nat.le_of_ble_eq_true rfl, Nat.le_of_ble_eq_true rfl⟩ rfl (Nat.le_of_ble_eq_true rfl) dX1_ways_27 rfl) (fun x5 σ6 h => ?_)
  refine z_icmp_gt (tgt := 51) hX h dX1_ways_30 (by decide) (fun h => ?_) (fun h => ?_)
  · refine z_iinc hX (j := 3) h rfl (by decide) (by decide) dX1_ways_51 (fun x7 h => z_L (L' := [(0, zA (some o)), (1, zJ v1), (3, zI v3), (4, zI x7), (5, zI v5)]) rfl ?_)
    refine z_goto (tgt := 7) hX dX1_ways_54 (by decide) ?_
    exact z_sub [0, 1, 2, 3] rfl (hrec7 _ _ _ _ h)
  · refine z_iinc hX (j := 2) h rfl (by decide) (by decide) dX1_ways_33 (fun x8 h => z_L (L' := [(0, zA (some o)), (1, zJ v1), (3, zI x8), (4, zI v4), (5, zI v5)]) rfl ?_)
    refine z_lload_n hX 1 rfl rfl dX1_ways_36 (z_iload_n hX 2 rfl rfl dX1_ways_37 (z_i2l hX dX1_ways_38 (z_lmul hX dX1_ways_39 (z_iload hX 4 rfl dX1_ways_40 (z_i2l hX dX1_ways_42 ?_)))))
    refine z_ldiv hX h dX1_ways_43 (fun x9 h => ?_)
    refine z_lstore_n (L' := [(0, zA (some o)), (1, zJ x9), (3, zI x8), (4, zI v4), (5, zI v5)]) hX rfl rfl (by decide) dX1_ways_44 ?_
    refine z_iinc hX (j := 4) h rfl (by decide) (by decide) dX1_ways_45 (fun x10 h => z_L (L' := [(0, zA (some o)), (1, zJ x9), (3, zI x8), (4, zI v4), (5, zI x10)]) rfl ?_)
    refine z_goto (tgt := 22) hX dX1_ways_48 (by decide) ?_
    exact z_sub [0, 1, 2, 3, 4] rfl (hrec22 _ _ _ _ h)

theorem s_X1_ways_22 {X : zX} (hX : zOk X RX1 cX1_ways 6 5 127 (Option.some Jvm.ClassFile.FieldType.long) "ways" []) {o : Nat} {Rt : Int64 × zS} {rec7 : Int64 → Int32 → Int32 → zS → Option (Int64 × zS)} {v4 : Int32} (hrec7 : ∀ (v1 : Int64) (v3 : Int32) (v4 : Int32) (σ : zS), rec7 v1 v3 v4 σ = some Rt → zG X (zQ X (.inl (eJ Rt.1)) Rt.2) 6 7 [(0, zA (some o)), (1, zJ v1), (3, zI v3), (4, zI v4)] [] σ) {v1 : Int64} {v3 : Int32} {v5 : Int32} {σ : zS} (h : f_X1_ways_22 o rec7 v4 v1 v3 v5 σ = some Rt) : zG X (zQ X (.inl (eJ Rt.1)) Rt.2) 6 22 [(0, zA (some o)), (1, zJ v1), (3, zI v3), (4, zI v4), (5, zI v5)] [] σ :=
  zlp3_ok (P := fun v1 v3 v5 σ => zG X (zQ X (.inl (eJ Rt.1)) Rt.2) 6 22 [(0, zA (some o)), (1, zJ v1), (3, zI v3), (4, zI v4), (5, zI v5)] [] σ) (fun rec hr v1 v3 v5 σ h => s_X1_ways_22_b (o := o) hX hrec7 hr h) NN v1 v3 v5 σ h
def f_X1_ways_7_b (o : Nat) (rec7 : Int64 → Int32 → Int32 → zS → Option (Int64 × zS)) (v1 : Int64) (v3 : Int32) (v4 : Int32) (σ : zS) : Option (Int64 × zS) :=
  (gR σ o 0 0).bind fun r1 =>
  r1.bind fun a2 =>
  (gI σ a2 1 1).bind fun x3 =>
  if x3 ≤ v4 then
    some (v1, σ)
  else
    f_X1_ways_22 o rec7 v4 v1 v3 1 σ

def f_X1_ways_7 (o : Nat) : Int64 → Int32 → Int32 → zS → Option (Int64 × zS) := zlp3 (f_X1_ways_7_b o) NN
set_option maxHeartbeats 4000000 in
theorem s_X1_ways_7_b {X : zX} (hX : zOk X RX1 cX1_ways 6 5 127 (Option.some Jvm.ClassFile.FieldType.long) "ways" []) {o : Nat} {Rt : Int64 × zS} {rec7 : Int64 → Int32 → Int32 → zS → Option (Int64 × zS)} (hrec7 : ∀ (v1 : Int64) (v3 : Int32) (v4 : Int32) (σ : zS), rec7 v1 v3 v4 σ = some Rt → zG X (zQ X (.inl (eJ Rt.1)) Rt.2) 6 7 [(0, zA (some o)), (1, zJ v1), (3, zI v3), (4, zI v4)] [] σ) {v1 : Int64} {v3 : Int32} {v4 : Int32} {σ : zS} (h : f_X1_ways_7_b o rec7 v1 v3 v4 σ = some Rt) : zG X (zQ X (.inl (eJ Rt.1)) Rt.2) 6 7 [(0, zA (some o)), (1, zJ v1), (3, zI v3), (4, zI v4)] [] σ := by
  unfold f_X1_ways_7_b at h
  refine z_iload hX 3 rfl dX1_ways_7 (z_aload_n hX 0 rfl rfl dX1_ways_9 ?_)
  refine z_getR hX fl_X1_10_0 h dX1_ways_10 (fun r1 h => ?_)
  obtain ⟨a2, e9, k_a2⟩ := z_nn h
  subst e9
  have h := k_a2
  refine z_getI hX fl_X1_85_1 h dX1_ways_13 (fun x3 h => ?_)
  refine z_icmp_ge (tgt := 57) hX h dX1_ways_16 (by decide) (fun h => ?_) (fun h => ?_)
  · refine z_lload_n hX 1 rfl rfl dX1_ways_57 ?_
    obtain rfl := Option.some.inj h
    exact z_lret hX dX1_ways_58
  · refine z_iconst hX (v := 1) (by decide) dX1_ways_19 (z_istore (L' := [(0, zA (some o)), (1, zJ v1), (3, zI v3), (4, zI v4), (5, zI 1)]) hX rfl (by decide) dX1_ways_20 ?_)
    exact z_sub [0, 1, 2, 3, 4] rfl (s_X1_ways_22 (o := o) hX hrec7 h)

theorem s_X1_ways_7 {X : zX} (hX : zOk X RX1 cX1_ways 6 5 127 (Option.some Jvm.ClassFile.FieldType.long) "ways" []) {o : Nat} {Rt : Int64 × zS} {v1 : Int64} {v3 : Int32} {v4 : Int32} {σ : zS} (h : f_X1_ways_7 o v1 v3 v4 σ = some Rt) : zG X (zQ X (.inl (eJ Rt.1)) Rt.2) 6 7 [(0, zA (some o)), (1, zJ v1), (3, zI v3), (4, zI v4)] [] σ :=
  zlp3_ok (P := fun v1 v3 v4 σ => zG X (zQ X (.inl (eJ Rt.1)) Rt.2) 6 7 [(0, zA (some o)), (1, zJ v1), (3, zI v3), (4, zI v4)] [] σ) (fun rec hr v1 v3 v4 σ h => s_X1_ways_7_b (o := o) hX hr h) NN v1 v3 v4 σ h
def f_X1_ways (o : Nat) (σ : zS) : Option (Int64 × zS) :=
  f_X1_ways_7 o 1 0 0 σ

set_option maxHeartbeats 4000000 in
theorem s_X1_ways {X : zX} (hX : zOk X RX1 cX1_ways 6 5 127 (Option.some Jvm.ClassFile.FieldType.long) "ways" []) {o : Nat} {σ : zS} {Rt : Int64 × zS} (h : f_X1_ways o σ = some Rt) : zG X (zQ X (.inl (eJ Rt.1)) Rt.2) 6 0 [(0, zA (some o))] [] σ := by
  unfold f_X1_ways at h
  refine z_lconst hX (v := 1) (by decide) dX1_ways_0 (z_lstore_n (L' := [(0, zA (some o)), (1, zJ 1)]) hX rfl rfl (by decide) dX1_ways_1 (z_iconst hX (v := 0) (by decide) dX1_ways_2 (z_istore_n (L' := [(0, zA (some o)), (1, zJ 1), (3, zI 0)]) hX rfl rfl (by decide) dX1_ways_3 (z_iconst hX (v := 0) (by decide) dX1_ways_4 (z_istore (L' := [(0, zA (some o)), (1, zJ 1), (3, zI 0), (4, zI 0)]) hX rfl (by decide) dX1_ways_5 ?_)))))
  exact z_sub [0, 1, 2, 3] rfl (s_X1_ways_7 (o := o) hX  h)

theorem c_X1_ways {l : Launch} {D : va_G} {tys : zTy} (hl : l.stackTraces = false) {o : Nat} {σ : zS} {Rt : Int64 × zS} (h : f_X1_ways o σ = some Rt) : zM l D tys yX1_ways (ws_ yX1_ways cX1_ways 6 (Option.some Jvm.ClassFile.FieldType.long)) 5 127 [zA (some o)] σ (.inl (eJ Rt.1)) Rt.2 :=
  zM_in hl rfl (Nat.le_of_ble_eq_true rfl) (fun p e R s m args below meth c hX => z_L rfl (s_X1_ways hX h))
def f_X1_seed (o : Nat) (p1 : Int32) (σ : zS) : Option (Int32 × zS) :=
  (gR σ o 0 0).bind fun r1 =>
  r1.bind fun a2 =>
  (gI σ a2 1 5).bind fun x3 =>
  (gR σ o 0 0).bind fun r4 =>
  r4.bind fun a5 =>
  (pI σ a5 1 5 p1).bind fun σ6 =>
  some (x3, σ6)

set_option maxHeartbeats 4000000 in
theorem s_X1_seed {X : zX} (hX : zOk X RX1 cX1_seed 3 1 40 (Option.some Jvm.ClassFile.FieldType.int) "seed" []) {o : Nat} {p1 : Int32} {σ : zS} {Rt : Int32 × zS} (h : f_X1_seed o p1 σ = some Rt) : zG X (zQ X (.inl (eI Rt.1)) Rt.2) 3 0 [(0, zA (some o)), (1, zI p1)] [] σ := by
  unfold f_X1_seed at h
  refine z_aload_n hX 0 rfl rfl dX1_seed_0 ?_
  refine z_getR hX fl_X1_10_0 h dX1_seed_1 (fun r1 h => ?_)
  obtain ⟨a2, e9, k_a2⟩ := z_nn h
  subst e9
  have h := k_a2
  refine z_getI hX fl_X1_482_1 h dX1_seed_4 (fun x3 h => ?_)
  refine z_istore_n (L' := [(0, zA (some o)), (1, zI p1), (2, zI x3)]) hX rfl rfl (by decide) dX1_seed_7 (z_aload_n hX 0 rfl rfl dX1_seed_8 ?_)
  refine z_getR hX fl_X1_10_0 h dX1_seed_9 (fun r4 h => ?_)
  refine z_iload_n hX 1 rfl rfl dX1_seed_12 ?_
  obtain ⟨a5, e9, k_a5⟩ := z_nn h
  subst e9
  have h := k_a5
  refine z_putI hX fp_X1_482_1 (fun h => nomatch h) h dX1_seed_13 (fun σ6 h => ?_)
  refine z_iload_n hX 2 rfl rfl dX1_seed_16 ?_
  obtain rfl := Option.some.inj h
  exact z_iret hX dX1_seed_17

theorem c_X1_seed {l : Launch} {D : va_G} {tys : zTy} (hl : l.stackTraces = false) {o : Nat} {p1 : Int32} {σ : zS} {Rt : Int32 × zS} (h : f_X1_seed o p1 σ = some Rt) : zM l D tys yX1_seed (ws_ yX1_seed cX1_seed 3 (Option.some Jvm.ClassFile.FieldType.int)) 1 40 [zA (some o), zI p1] σ (.inl (eI Rt.1)) Rt.2 :=
  zM_in hl rfl (Nat.le_of_ble_eq_true rfl) (fun p e R s m args below meth c hX => z_L rfl (s_X1_seed hX h))
def f_X1_image (o : Nat) (σ : zS) : Option (Unit × zS) :=
  (gR σ o 0 0).bind fun r1 =>
  r1.bind fun a2 =>
  zif (zcl σ a2 = 1) <|
  zb2 (f_X2_copy a2 σ) fun r4 σ5 =>
  (pR σ5 o 0 1 r4).bind fun σ6 =>
  some ((), σ6)

set_option maxHeartbeats 4000000 in
theorem s_X1_image {X : zX} (hX : zOk X RX1 cX1_image 1 8 193 (Option.none : Option Jvm.ClassFile.FieldType) "image" []) {o : Nat} {σ : zS} {Rt : Unit × zS} (h : f_X1_image o σ = some Rt) : zG X (zQ X (.inl (eU Rt.1)) Rt.2) 1 0 [(0, zA (some o))] [] σ := by
  unfold f_X1_image at h
  refine z_aload_n hX 0 rfl rfl dX1_image_0 (z_aload_n hX 0 rfl rfl dX1_image_1 ?_)
  refine z_getR hX fl_X1_10_0 h dX1_image_2 (fun r1 h => ?_)
  obtain ⟨a2, e9, k_a2⟩ := z_nn h
  subst e9
  have h := k_a2
  obtain ⟨c3, h⟩ := z_ck h
  refine z_cNA hX (rest := [zA (some o)]) h (fun r9 σ9 e9 => z_runV hX lk_X1_185 (c_X2_copy hX.tr e9) (ci := 1) zc9_1 c3 ⟨Nat.le_of_ble_eq_true rfl, Nat.le_of_ble_eq_true rfl⟩ rfl (Nat.le_of_ble_eq_true rfl) dX1_image_5 rfl) (fun r4 σ5 h => ?_)
  refine z_putR hX fp_X1_492_0 (Or.inl ⟨_, rfl⟩) (fun h => nomatch h) h dX1_image_8 (fun σ6 h => ?_)
  obtain rfl := Option.some.inj h
  exact z_vret hX dX1_image_11

theorem c_X1_image {l : Launch} {D : va_G} {tys : zTy} (hl : l.stackTraces = false) {o : Nat} {σ : zS} {Rt : Unit × zS} (h : f_X1_image o σ = some Rt) : zM l D tys yX1_image (ws_ yX1_image cX1_image 1 (Option.none : Option Jvm.ClassFile.FieldType)) 8 193 [zA (some o)] σ (.inl (eU Rt.1)) Rt.2 :=
  zM_in hl rfl (Nat.le_of_ble_eq_true rfl) (fun p e R s m args below meth c hX => z_L rfl (s_X1_image hX h))
def f_X1_back (o : Nat) (σ : zS) : Option (Int32 × zS) :=
  (gR σ o 0 1).bind fun r1 =>
  zcs r1 (
    some ((0 : Int32), σ)
  ) fun a2 =>
    (gR σ o 0 1).bind fun r3 =>
    r3.bind fun a4 =>
    zif (zcl σ a4 = 1) <|
    zb2 (f_X2_copy a4 σ) fun r6 σ7 =>
    (pR σ7 o 0 0 r6).bind fun σ8 =>
    some ((1 : Int32), σ8)

set_option maxHeartbeats 4000000 in
theorem s_X1_back {X : zX} (hX : zOk X RX1 cX1_back 1 8 193 (Option.some Jvm.ClassFile.FieldType.boolean) "back" []) {o : Nat} {σ : zS} {Rt : Int32 × zS} (h : f_X1_back o σ = some Rt) : zG X (zQ X (.inl (eI Rt.1)) Rt.2) 1 0 [(0, zA (some o))] [] σ := by
  unfold f_X1_back at h
  refine z_aload_n hX 0 rfl rfl dX1_back_0 ?_
  refine z_getR hX fl_X1_492_0 h dX1_back_1 (fun r1 h => ?_)
  refine z_ifnonnull (tgt := 9) hX h dX1_back_4 (by decide) (fun e9 k_a2 => ?_) (fun a2 e9 k_a2 => ?_)
  · subst e9
    have h := k_a2
    refine z_iconst hX (v := 0) (by decide) dX1_back_7 ?_
    obtain rfl := Option.some.inj h
    exact z_zretT (r := 0) hX (by decide) dX1_back_8
  · subst e9
    have h := k_a2
    refine z_aload_n hX 0 rfl rfl dX1_back_9 (z_aload_n hX 0 rfl rfl dX1_back_10 ?_)
    refine z_getR hX fl_X1_492_0 h dX1_back_11 (fun r3 h => ?_)
    obtain ⟨a4, e9, k_a4⟩ := z_nn h
    subst e9
    have h := k_a4
    obtain ⟨c5, h⟩ := z_ck h
    refine z_cNA hX (rest := [zA (some o)]) h (fun r9 σ9 e9 => z_runV hX lk_X1_185 (c_X2_copy hX.tr e9) (ci := 1) zc9_1 c5 ⟨Nat.le_of_ble_eq_true rfl, Nat.le_of_ble_eq_true rfl⟩ rfl (Nat.le_of_ble_eq_true rfl) dX1_back_14 rfl) (fun r6 σ7 h => ?_)
    refine z_putR hX fp_X1_10_0 (Or.inl ⟨_, rfl⟩) (fun h => nomatch h) h dX1_back_17 (fun σ8 h => ?_)
    refine z_iconst hX (v := 1) (by decide) dX1_back_20 ?_
    obtain rfl := Option.some.inj h
    exact z_zretT (r := 1) hX (by decide) dX1_back_21

theorem c_X1_back {l : Launch} {D : va_G} {tys : zTy} (hl : l.stackTraces = false) {o : Nat} {σ : zS} {Rt : Int32 × zS} (h : f_X1_back o σ = some Rt) : zM l D tys yX1_back (ws_ yX1_back cX1_back 1 (Option.some Jvm.ClassFile.FieldType.boolean)) 8 193 [zA (some o)] σ (.inl (eI Rt.1)) Rt.2 :=
  zM_in hl rfl (Nat.le_of_ble_eq_true rfl) (fun p e R s m args below meth c hX => z_L rfl (s_X1_back hX h))
def f_X1_sum_39_b (o : Nat) (v1 : Int32) (rec39 : Int32 → Int32 → zS → Option (Int32 × zS)) (v2 : Int32) (v3 : Int32) (σ : zS) : Option (Int32 × zS) :=
  (gR σ o 0 0).bind fun r4 =>
  r4.bind fun a5 =>
  (gR σ a5 1 11).bind fun r6 =>
  r6.bind fun a7 =>
  zif (zcl σ a7 = 19) <|
  zb2 (f_J2_size a7 σ) fun x9 σ10 =>
  if x9 ≤ v3 then
    some (v2, σ10)
  else
    if ¬ v1 = 0 then
      some (v2, σ10)
    else
      (gR σ10 o 0 0).bind fun r11 =>
      r11.bind fun a12 =>
      (gR σ10 a12 1 11).bind fun r13 =>
      r13.bind fun a14 =>
      zif (zcl σ10 a14 = 19) <|
      zb2 (f_J2_get a14 v3 σ10) fun r16 σ17 =>
      zif (zckC σ17 r16 8 = true) <|
      r16.bind fun a18 =>
      (gI σ17 a18 8 5).bind fun x19 =>
      zl (v2 + x19) fun x20 =>
      zl (v3 + 1) fun x21 =>
      rec39 x20 x21 σ17

def f_X1_sum_39 (o : Nat) (v1 : Int32) : Int32 → Int32 → zS → Option (Int32 × zS) := zlp2 (f_X1_sum_39_b o v1) NN
set_option maxHeartbeats 4000000 in
theorem s_X1_sum_39_b {X : zX} (hX : zOk X RX1 cX1_sum 4 4 104 (Option.some Jvm.ClassFile.FieldType.int) "sum" []) {o : Nat} {Rt : Int32 × zS} {v1 : Int32} {rec39 : Int32 → Int32 → zS → Option (Int32 × zS)} (hrec39 : ∀ (v2 : Int32) (v3 : Int32) (σ : zS), rec39 v2 v3 σ = some Rt → zG X (zQ X (.inl (eI Rt.1)) Rt.2) 4 39 [(0, zA (some o)), (1, zI v1), (2, zI v2), (3, zI v3)] [] σ) {v2 : Int32} {v3 : Int32} {σ : zS} (h : f_X1_sum_39_b o v1 rec39 v2 v3 σ = some Rt) : zG X (zQ X (.inl (eI Rt.1)) Rt.2) 4 39 [(0, zA (some o)), (1, zI v1), (2, zI v2), (3, zI v3)] [] σ := by
  unfold f_X1_sum_39_b at h
  refine z_iload_n hX 3 rfl rfl dX1_sum_39 (z_aload_n hX 0 rfl rfl dX1_sum_40 ?_)
  refine z_getR hX fl_X1_10_0 h dX1_sum_41 (fun r4 h => ?_)
  obtain ⟨a5, e9, k_a5⟩ := z_nn h
  subst e9
  have h := k_a5
  refine z_getR hX fl_X1_374_1 h dX1_sum_44 (fun r6 h => ?_)
  obtain ⟨a7, e9, k_a7⟩ := z_nn h
  subst e9
  have h := k_a7
  obtain ⟨c8, h⟩ := z_ck h
  refine z_cNI hX (rest := [zI v3]) h (fun r9 σ9 e9 => z_runV hX lk_X1_59 (c_J2_size hX.tr e9) (ci := 19) zc9_19 c8 ⟨Nat.le_of_ble_eq_true rfl, Nat.le_of_ble_eq_true rfl⟩ rfl (Nat.le_of_ble_eq_true rfl) dX1_sum_47 rfl) (fun x9 σ10 h => ?_)
  refine z_icmp_ge (tgt := 83) hX h dX1_sum_50 (by decide) (fun h => ?_) (fun h => ?_)
  · refine z_iload_n hX 2 rfl rfl dX1_sum_83 ?_
    obtain rfl := Option.some.inj h
    exact z_iret hX dX1_sum_84
  · refine z_iload_n hX 1 rfl rfl dX1_sum_53 ?_
    refine z_if_ne (tgt := 83) hX h dX1_sum_54 (by decide) (fun h => ?_) (fun h => ?_)
    · refine z_iload_n hX 2 rfl rfl dX1_sum_83 ?_
      obtain rfl := Option.some.inj h
      exact z_iret hX dX1_sum_84
    · refine z_iload_n hX 2 rfl rfl dX1_sum_57 (z_aload_n hX 0 rfl rfl dX1_sum_58 ?_)
      refine z_getR hX fl_X1_10_0 h dX1_sum_59 (fun r11 h => ?_)
      obtain ⟨a12, e9, k_a12⟩ := z_nn h
      subst e9
      have h := k_a12
      refine z_getR hX fl_X1_374_1 h dX1_sum_62 (fun r13 h => ?_)
      refine z_iload_n hX 3 rfl rfl dX1_sum_65 ?_
      obtain ⟨a14, e9, k_a14⟩ := z_nn h
      subst e9
      have h := k_a14
      obtain ⟨c15, h⟩ := z_ck h
      refine z_cNA hX (rest := [zI v2]) h (fun r9 σ9 e9 => z_runV hX lk_X1_313 (c_J2_get hX.tr e9) (ci := 19) zc9_19 c15 ⟨Nat.le_of_ble_eq_true rfl, Nat.le_of_ble_eq_true rfl⟩ rfl (Nat.le_of_ble_eq_true rfl) dX1_sum_66 rfl) (fun r16 σ17 h => ?_)
      refine z_castC hX (ci := 8) rfl q385 h dX1_sum_69 (fun h => ?_)
      obtain ⟨a18, e9, k_a18⟩ := z_nn h
      subst e9
      have h := k_a18
      refine z_getI hX fl_X1_393_8 h dX1_sum_72 (fun x19 h => ?_)
      refine z_iadd hX dX1_sum_75 ?_
      refine z_nmI h (fun x20 h => ?_)
      refine z_istore_n (L' := [(0, zA (some o)), (1, zI v1), (2, zI x20), (3, zI v3)]) hX rfl rfl (by decide) dX1_sum_76 ?_
      refine z_iinc hX (j := 3) h rfl (by decide) (by decide) dX1_sum_77 (fun x21 h => z_L (L' := [(0, zA (some o)), (1, zI v1), (2, zI x20), (3, zI x21)]) rfl ?_)
      refine z_goto (tgt := 39) hX dX1_sum_80 (by decide) ?_
      exact z_sub [0, 1, 2, 3] rfl (hrec39 _ _ _ h)

theorem s_X1_sum_39 {X : zX} (hX : zOk X RX1 cX1_sum 4 4 104 (Option.some Jvm.ClassFile.FieldType.int) "sum" []) {o : Nat} {Rt : Int32 × zS} {v1 : Int32} {v2 : Int32} {v3 : Int32} {σ : zS} (h : f_X1_sum_39 o v1 v2 v3 σ = some Rt) : zG X (zQ X (.inl (eI Rt.1)) Rt.2) 4 39 [(0, zA (some o)), (1, zI v1), (2, zI v2), (3, zI v3)] [] σ :=
  zlp2_ok (P := fun v2 v3 σ => zG X (zQ X (.inl (eI Rt.1)) Rt.2) 4 39 [(0, zA (some o)), (1, zI v1), (2, zI v2), (3, zI v3)] [] σ) (fun rec hr v2 v3 σ h => s_X1_sum_39_b (o := o) hX hr h) NN v2 v3 σ h
def f_X1_sum_37 (o : Nat) (v1 : Int32) (v2 : Int32) (σ : zS) : Option (Int32 × zS) :=
  f_X1_sum_39 o v1 v2 0 σ

set_option maxHeartbeats 4000000 in
theorem s_X1_sum_37 {X : zX} (hX : zOk X RX1 cX1_sum 4 4 104 (Option.some Jvm.ClassFile.FieldType.int) "sum" []) {o : Nat} {Rt : Int32 × zS} {v1 : Int32} {v2 : Int32} {σ : zS} (h : f_X1_sum_37 o v1 v2 σ = some Rt) : zG X (zQ X (.inl (eI Rt.1)) Rt.2) 4 37 [(0, zA (some o)), (1, zI v1), (2, zI v2)] [] σ := by
  unfold f_X1_sum_37 at h
  refine z_iconst hX (v := 0) (by decide) dX1_sum_37 (z_istore_n (L' := [(0, zA (some o)), (1, zI v1), (2, zI v2), (3, zI 0)]) hX rfl rfl (by decide) dX1_sum_38 ?_)
  exact z_sub [0, 1, 2, 3] rfl (s_X1_sum_39 (o := o) hX  h)

def f_X1_sum_4_b (o : Nat) (v1 : Int32) (rec4 : Int32 → Int32 → zS → Option (Int32 × zS)) (v2 : Int32) (v3 : Int32) (σ : zS) : Option (Int32 × zS) :=
  (gR σ o 0 0).bind fun r1 =>
  r1.bind fun a2 =>
  (gI σ a2 1 1).bind fun x3 =>
  if x3 ≤ v3 then
    f_X1_sum_37 o v1 v2 σ
  else
    if v1 = 0 then
      f_X1_sum_37 o v1 v2 σ
    else
      (gR σ o 0 0).bind fun r22 =>
      r22.bind fun a23 =>
      (gR σ a23 1 7).bind fun r24 =>
      r24.bind fun a25 =>
      (lI σ a25 0 v3).bind fun x26 =>
      zl (v2 + x26) fun x27 =>
      zl (v3 + 1) fun x28 =>
      rec4 x27 x28 σ

def f_X1_sum_4 (o : Nat) (v1 : Int32) : Int32 → Int32 → zS → Option (Int32 × zS) := zlp2 (f_X1_sum_4_b o v1) NN
set_option maxHeartbeats 4000000 in
theorem s_X1_sum_4_b {X : zX} (hX : zOk X RX1 cX1_sum 4 4 104 (Option.some Jvm.ClassFile.FieldType.int) "sum" []) {o : Nat} {Rt : Int32 × zS} {v1 : Int32} {rec4 : Int32 → Int32 → zS → Option (Int32 × zS)} (hrec4 : ∀ (v2 : Int32) (v3 : Int32) (σ : zS), rec4 v2 v3 σ = some Rt → zG X (zQ X (.inl (eI Rt.1)) Rt.2) 4 4 [(0, zA (some o)), (1, zI v1), (2, zI v2), (3, zI v3)] [] σ) {v2 : Int32} {v3 : Int32} {σ : zS} (h : f_X1_sum_4_b o v1 rec4 v2 v3 σ = some Rt) : zG X (zQ X (.inl (eI Rt.1)) Rt.2) 4 4 [(0, zA (some o)), (1, zI v1), (2, zI v2), (3, zI v3)] [] σ := by
  unfold f_X1_sum_4_b at h
  refine z_iload_n hX 3 rfl rfl dX1_sum_4 (z_aload_n hX 0 rfl rfl dX1_sum_5 ?_)
  refine z_getR hX fl_X1_10_0 h dX1_sum_6 (fun r1 h => ?_)
  obtain ⟨a2, e9, k_a2⟩ := z_nn h
  subst e9
  have h := k_a2
  refine z_getI hX fl_X1_85_1 h dX1_sum_9 (fun x3 h => ?_)
  refine z_icmp_ge (tgt := 37) hX h dX1_sum_12 (by decide) (fun h => ?_) (fun h => ?_)
  · exact z_sub [0, 1, 2] rfl (s_X1_sum_37 (o := o) hX  h)
  · refine z_iload_n hX 1 rfl rfl dX1_sum_15 ?_
    refine z_if_eq (tgt := 37) hX h dX1_sum_16 (by decide) (fun h => ?_) (fun h => ?_)
    · exact z_sub [0, 1, 2] rfl (s_X1_sum_37 (o := o) hX  h)
    · refine z_iload_n hX 2 rfl rfl dX1_sum_19 (z_aload_n hX 0 rfl rfl dX1_sum_20 ?_)
      refine z_getR hX fl_X1_10_0 h dX1_sum_21 (fun r22 h => ?_)
      obtain ⟨a23, e9, k_a23⟩ := z_nn h
      subst e9
      have h := k_a23
      refine z_getR hX fl_X1_137_1 h dX1_sum_24 (fun r24 h => ?_)
      refine z_iload_n hX 3 rfl rfl dX1_sum_27 ?_
      obtain ⟨a25, e9, k_a25⟩ := z_nn h
      subst e9
      have h := k_a25
      refine z_iald hX h dX1_sum_28 (fun x26 h => ?_)
      refine z_iadd hX dX1_sum_29 ?_
      refine z_nmI h (fun x27 h => ?_)
      refine z_istore_n (L' := [(0, zA (some o)), (1, zI v1), (2, zI x27), (3, zI v3)]) hX rfl rfl (by decide) dX1_sum_30 ?_
      refine z_iinc hX (j := 3) h rfl (by decide) (by decide) dX1_sum_31 (fun x28 h => z_L (L' := [(0, zA (some o)), (1, zI v1), (2, zI x27), (3, zI x28)]) rfl ?_)
      refine z_goto (tgt := 4) hX dX1_sum_34 (by decide) ?_
      exact z_sub [0, 1, 2, 3] rfl (hrec4 _ _ _ h)

theorem s_X1_sum_4 {X : zX} (hX : zOk X RX1 cX1_sum 4 4 104 (Option.some Jvm.ClassFile.FieldType.int) "sum" []) {o : Nat} {Rt : Int32 × zS} {v1 : Int32} {v2 : Int32} {v3 : Int32} {σ : zS} (h : f_X1_sum_4 o v1 v2 v3 σ = some Rt) : zG X (zQ X (.inl (eI Rt.1)) Rt.2) 4 4 [(0, zA (some o)), (1, zI v1), (2, zI v2), (3, zI v3)] [] σ :=
  zlp2_ok (P := fun v2 v3 σ => zG X (zQ X (.inl (eI Rt.1)) Rt.2) 4 4 [(0, zA (some o)), (1, zI v1), (2, zI v2), (3, zI v3)] [] σ) (fun rec hr v2 v3 σ h => s_X1_sum_4_b (o := o) hX hr h) NN v2 v3 σ h
def f_X1_sum (o : Nat) (p1 : Int32) (σ : zS) : Option (Int32 × zS) :=
  f_X1_sum_4 o p1 0 0 σ

set_option maxHeartbeats 4000000 in
theorem s_X1_sum {X : zX} (hX : zOk X RX1 cX1_sum 4 4 104 (Option.some Jvm.ClassFile.FieldType.int) "sum" []) {o : Nat} {p1 : Int32} {σ : zS} {Rt : Int32 × zS} (h : f_X1_sum o p1 σ = some Rt) : zG X (zQ X (.inl (eI Rt.1)) Rt.2) 4 0 [(0, zA (some o)), (1, zI p1)] [] σ := by
  unfold f_X1_sum at h
  refine z_iconst hX (v := 0) (by decide) dX1_sum_0 (z_istore_n (L' := [(0, zA (some o)), (1, zI p1), (2, zI 0)]) hX rfl rfl (by decide) dX1_sum_1 (z_iconst hX (v := 0) (by decide) dX1_sum_2 (z_istore_n (L' := [(0, zA (some o)), (1, zI p1), (2, zI 0), (3, zI 0)]) hX rfl rfl (by decide) dX1_sum_3 ?_)))
  exact z_sub [0, 1, 2, 3] rfl (s_X1_sum_4 (o := o) hX  h)

theorem c_X1_sum {l : Launch} {D : va_G} {tys : zTy} (hl : l.stackTraces = false) {o : Nat} {p1 : Int32} {σ : zS} {Rt : Int32 × zS} (h : f_X1_sum o p1 σ = some Rt) : zM l D tys yX1_sum (ws_ yX1_sum cX1_sum 4 (Option.some Jvm.ClassFile.FieldType.int)) 4 104 [zA (some o), zI p1] σ (.inl (eI Rt.1)) Rt.2 :=
  zM_in hl rfl (Nat.le_of_ble_eq_true rfl) (fun p e R s m args below meth c hX => z_L rfl (s_X1_sum hX h))
def f_X1_count (o : Nat) (p1 : Int32) (σ : zS) : Option (Int32 × zS) :=
  (gR σ o 0 0).bind fun r1 =>
  if p1.toInt < 0 ∨ 12 < p1.toInt then
    some (((-1) : Int32), σ)
  else if p1 = 0 then
    r1.bind fun a2 =>
    (gI σ a2 1 1).bind fun x3 =>
    some (x3, σ)
  else if p1 = 1 then
    r1.bind fun a4 =>
    (gR σ a4 1 8).bind fun r5 =>
    r5.bind fun a6 =>
    zif (zcl σ a6 = 19) <|
    zb2 (f_J2_size a6 σ) fun x8 σ9 =>
    some (x8, σ9)
  else if p1 = 2 then
    r1.bind fun a10 =>
    (gR σ a10 1 9).bind fun r11 =>
    r11.bind fun a12 =>
    zif (zcl σ a12 = 19) <|
    zb2 (f_J2_size a12 σ) fun x14 σ15 =>
    some (x14, σ15)
  else if p1 = 3 then
    r1.bind fun a16 =>
    (gI σ a16 1 0).bind fun x17 =>
    some (x17, σ)
  else if p1 = 4 then
    r1.bind fun a18 =>
    (gR σ a18 1 12).bind fun r19 =>
    zcs r19 (
      some (((-1) : Int32), σ)
    ) fun a20 =>
      (gR σ a18 1 12).bind fun r21 =>
      r21.bind fun a22 =>
      (gR σ a22 11 0).bind fun r23 =>
      r23.bind fun a24 =>
      zif (zcl σ a24 = 19) <|
      zb2 (f_J2_size a24 σ) fun x26 σ27 =>
      some (x26, σ27)
  else if p1 = 5 then
    r1.bind fun a28 =>
    (gR σ a28 1 11).bind fun r29 =>
    r29.bind fun a30 =>
    zif (zcl σ a30 = 19) <|
    zb2 (f_J2_size a30 σ) fun x32 σ33 =>
    some (x32, σ33)
  else if p1 = 6 then
    r1.bind fun a34 =>
    zif (zcl σ a34 = 1) <|
    zb2 (f_X2_burnt a34 σ) fun x36 σ37 =>
    some (x36, σ37)
  else if p1 = 7 then
    r1.bind fun a38 =>
    (gI σ a38 1 4).bind fun x39 =>
    some (x39, σ)
  else if p1 = 8 then
    r1.bind fun a40 =>
    (gI σ a40 1 2).bind fun x41 =>
    some (x41, σ)
  else if p1 = 9 then
    r1.bind fun a42 =>
    (gI σ a42 1 3).bind fun x43 =>
    some (x43, σ)
  else if p1 = 10 then
    r1.bind fun a44 =>
    (gR σ a44 1 10).bind fun r45 =>
    r45.bind fun a46 =>
    zif (zcl σ a46 = 19) <|
    zb2 (f_J2_size a46 σ) fun x48 σ49 =>
    some (x48, σ49)
  else if p1 = 11 then
    zif (zcl σ o = 0) <|
    zb2 (f_X1_sum o 1 σ) fun x51 σ52 =>
    some (x51, σ52)
  else if p1 = 12 then
    zif (zcl σ o = 0) <|
    zb2 (f_X1_sum o 0 σ) fun x54 σ55 =>
    some (x54, σ55)
  else none

set_option maxHeartbeats 4000000 in
theorem s_X1_count {X : zX} (hX : zOk X RX1 cX1_count 3 5 127 (Option.some Jvm.ClassFile.FieldType.int) "count" []) {o : Nat} {p1 : Int32} {σ : zS} {Rt : Int32 × zS} (h : f_X1_count o p1 σ = some Rt) : zG X (zQ X (.inl (eI Rt.1)) Rt.2) 3 0 [(0, zA (some o)), (1, zI p1)] [] σ := by
  unfold f_X1_count at h
  refine z_aload_n hX 0 rfl rfl dX1_count_0 ?_
  refine z_getR hX fl_X1_10_0 h dX1_count_1 (fun r1 h => ?_)
  refine z_astore_n (L' := [(0, zA (some o)), (1, zI p1), (2, zA r1)]) hX rfl rfl (by decide) dX1_count_4 (z_iload_n hX 1 rfl rfl dX1_count_5 ?_)
  rcases z_ite h with ⟨c9, h⟩ | ⟨c9, h⟩
  · refine z_tableOut (tgt := 168) hX dX1_count_6 c9 (by decide) ?_
    refine z_iconst hX (v := (-1)) (by decide) dX1_count_168 ?_
    obtain rfl := Option.some.inj h
    exact z_iret hX dX1_count_169
  · rcases z_ite h with ⟨e9, h⟩ | ⟨-, h⟩
    · rw [e9]
      refine z_tableIn (tgt := 72) hX dX1_count_6 (by decide) (by decide) rfl (by decide) ?_
      refine z_aload_n hX 2 rfl rfl dX1_count_72 ?_
      obtain ⟨a2, e9, k_a2⟩ := z_nn h
      subst e9
      have h := k_a2
      refine z_getI hX fl_X1_85_1 h dX1_count_73 (fun x3 h => ?_)
      obtain rfl := Option.some.inj h
      exact z_iret hX dX1_count_76
    rcases z_ite h with ⟨e9, h⟩ | ⟨-, h⟩
    · rw [e9]
      refine z_tableIn (tgt := 77) hX dX1_count_6 (by decide) (by decide) rfl (by decide) ?_
      refine z_aload_n hX 2 rfl rfl dX1_count_77 ?_
      obtain ⟨a4, e9, k_a4⟩ := z_nn h
      subst e9
      have h := k_a4
      refine z_getR hX fl_X1_55_1 h dX1_count_78 (fun r5 h => ?_)
      obtain ⟨a6, e9, k_a6⟩ := z_nn h
      subst e9
      have h := k_a6
      obtain ⟨c7, h⟩ := z_ck h
      refine z_cNI hX (rest := []) h (fun r9 σ9 e9 => z_runV hX lk_X1_59 (c_J2_size hX.tr e9) (ci := 19) zc9_19 c7 ⟨Nat.le_of_ble_eq_true rfl, Nat.le_of_ble_eq_true rfl⟩ rfl (Nat.le_of_ble_eq_true rfl) dX1_count_81 rfl) (fun x8 σ9 h => ?_)
      obtain rfl := Option.some.inj h
      exact z_iret hX dX1_count_84
    rcases z_ite h with ⟨e9, h⟩ | ⟨-, h⟩
    · rw [e9]
      refine z_tableIn (tgt := 85) hX dX1_count_6 (by decide) (by decide) rfl (by decide) ?_
      refine z_aload_n hX 2 rfl rfl dX1_count_85 ?_
      obtain ⟨a10, e9, k_a10⟩ := z_nn h
      subst e9
      have h := k_a10
      refine z_getR hX fl_X1_144_1 h dX1_count_86 (fun r11 h => ?_)
      obtain ⟨a12, e9, k_a12⟩ := z_nn h
      subst e9
      have h := k_a12
      obtain ⟨c13, h⟩ := z_ck h
      refine z_cNI hX (rest := []) h (fun r9 σ9 e9 => z_runV hX lk_X1_59 (c_J2_size hX.tr e9) (ci := 19) zc9_19 c13 ⟨Nat.le_of_ble_eq_true rfl, Nat.le_of_ble_eq_true rfl⟩ rfl (Nat.le_of_ble_eq_true rfl) dX1_count_89 rfl) (fun x14 σ15 h => ?_)
      obtain rfl := Option.some.inj h
      exact z_iret hX dX1_count_92
    rcases z_ite h with ⟨e9, h⟩ | ⟨-, h⟩
    · rw [e9]
      refine z_tableIn (tgt := 93) hX dX1_count_6 (by decide) (by decide) rfl (by decide) ?_
      refine z_aload_n hX 2 rfl rfl dX1_count_93 ?_
      obtain ⟨a16, e9, k_a16⟩ := z_nn h
      subst e9
      have h := k_a16
      refine z_getI hX fl_X1_197_1 h dX1_count_94 (fun x17 h => ?_)
      obtain rfl := Option.some.inj h
      exact z_iret hX dX1_count_97
    rcases z_ite h with ⟨e9, h⟩ | ⟨-, h⟩
    · rw [e9]
      refine z_tableIn (tgt := 98) hX dX1_count_6 (by decide) (by decide) rfl (by decide) ?_
      refine z_aload_n hX 2 rfl rfl dX1_count_98 ?_
      obtain ⟨a18, e9, k_a18⟩ := z_nn h
      subst e9
      have h := k_a18
      refine z_getR hX fl_X1_305_1 h dX1_count_99 (fun r19 h => ?_)
      refine z_ifnonnull (tgt := 109) hX h dX1_count_102 (by decide) (fun e9 k_a20 => ?_) (fun a20 e9 k_a20 => ?_)
      · subst e9
        have h := k_a20
        refine z_iconst hX (v := (-1)) (by decide) dX1_count_105 (z_goto (tgt := 119) hX dX1_count_106 (by decide) ?_)
        obtain rfl := Option.some.inj h
        exact z_iret hX dX1_count_119
      · subst e9
        have h := k_a20
        refine z_aload_n hX 2 rfl rfl dX1_count_109 ?_
        refine z_getR hX fl_X1_305_1 h dX1_count_110 (fun r21 h => ?_)
        obtain ⟨a22, e9, k_a22⟩ := z_nn h
        subst e9
        have h := k_a22
        refine z_getR hX fl_X1_294_11 h dX1_count_113 (fun r23 h => ?_)
        obtain ⟨a24, e9, k_a24⟩ := z_nn h
        subst e9
        have h := k_a24
        obtain ⟨c25, h⟩ := z_ck h
        refine z_cNI hX (rest := []) h (fun r9 σ9 e9 => z_runV hX lk_X1_59 (c_J2_size hX.tr e9) (ci := 19) zc9_19 c25 ⟨Nat.le_of_ble_eq_true rfl, Nat.le_of_ble_eq_true rfl⟩ rfl (Nat.le_of_ble_eq_true rfl) dX1_count_116 rfl) (fun x26 σ27 h => ?_)
        obtain rfl := Option.some.inj h
        exact z_iret hX dX1_count_119
    rcases z_ite h with ⟨e9, h⟩ | ⟨-, h⟩
    · rw [e9]
      refine z_tableIn (tgt := 120) hX dX1_count_6 (by decide) (by decide) rfl (by decide) ?_
      refine z_aload_n hX 2 rfl rfl dX1_count_120 ?_
      obtain ⟨a28, e9, k_a28⟩ := z_nn h
      subst e9
      have h := k_a28
      refine z_getR hX fl_X1_374_1 h dX1_count_121 (fun r29 h => ?_)
      obtain ⟨a30, e9, k_a30⟩ := z_nn h
      subst e9
      have h := k_a30
      obtain ⟨c31, h⟩ := z_ck h
      refine z_cNI hX (rest := []) h (fun r9 σ9 e9 => z_runV hX lk_X1_59 (c_J2_size hX.tr e9) (ci := 19) zc9_19 c31 ⟨Nat.le_of_ble_eq_true rfl, Nat.le_of_ble_eq_true rfl⟩ rfl (Nat.le_of_ble_eq_true rfl) dX1_count_124 rfl) (fun x32 σ33 h => ?_)
      obtain rfl := Option.some.inj h
      exact z_iret hX dX1_count_127
    rcases z_ite h with ⟨e9, h⟩ | ⟨-, h⟩
    · rw [e9]
      refine z_tableIn (tgt := 128) hX dX1_count_6 (by decide) (by decide) rfl (by decide) ?_
      refine z_aload_n hX 2 rfl rfl dX1_count_128 ?_
      obtain ⟨a34, e9, k_a34⟩ := z_nn h
      subst e9
      have h := k_a34
      obtain ⟨c35, h⟩ := z_ck h
      refine z_cNI hX (rest := []) h (fun r9 σ9 e9 => z_runV hX lk_X1_468 (c_X2_burnt hX.tr e9) (ci := 1) zc9_1 c35 ⟨Nat.le_of_ble_eq_true rfl, Nat.le_of_ble_eq_true rfl⟩ rfl (Nat.le_of_ble_eq_true rfl) dX1_count_129 rfl) (fun x36 σ37 h => ?_)
      obtain rfl := Option.some.inj h
      exact z_iret hX dX1_count_132
    rcases z_ite h with ⟨e9, h⟩ | ⟨-, h⟩
    · rw [e9]
      refine z_tableIn (tgt := 133) hX dX1_count_6 (by decide) (by decide) rfl (by decide) ?_
      refine z_aload_n hX 2 rfl rfl dX1_count_133 ?_
      obtain ⟨a38, e9, k_a38⟩ := z_nn h
      subst e9
      have h := k_a38
      refine z_getI hX fl_X1_331_1 h dX1_count_134 (fun x39 h => ?_)
      obtain rfl := Option.some.inj h
      exact z_iret hX dX1_count_137
    rcases z_ite h with ⟨e9, h⟩ | ⟨-, h⟩
    · rw [e9]
      refine z_tableIn (tgt := 138) hX dX1_count_6 (by decide) (by decide) rfl (by decide) ?_
      refine z_aload_n hX 2 rfl rfl dX1_count_138 ?_
      obtain ⟨a40, e9, k_a40⟩ := z_nn h
      subst e9
      have h := k_a40
      refine z_getI hX fl_X1_152_1 h dX1_count_139 (fun x41 h => ?_)
      obtain rfl := Option.some.inj h
      exact z_iret hX dX1_count_142
    rcases z_ite h with ⟨e9, h⟩ | ⟨-, h⟩
    · rw [e9]
      refine z_tableIn (tgt := 143) hX dX1_count_6 (by decide) (by decide) rfl (by decide) ?_
      refine z_aload_n hX 2 rfl rfl dX1_count_143 ?_
      obtain ⟨a42, e9, k_a42⟩ := z_nn h
      subst e9
      have h := k_a42
      refine z_getI hX fl_X1_154_1 h dX1_count_144 (fun x43 h => ?_)
      obtain rfl := Option.some.inj h
      exact z_iret hX dX1_count_147
    rcases z_ite h with ⟨e9, h⟩ | ⟨-, h⟩
    · rw [e9]
      refine z_tableIn (tgt := 148) hX dX1_count_6 (by decide) (by decide) rfl (by decide) ?_
      refine z_aload_n hX 2 rfl rfl dX1_count_148 ?_
      obtain ⟨a44, e9, k_a44⟩ := z_nn h
      subst e9
      have h := k_a44
      refine z_getR hX fl_X1_101_1 h dX1_count_149 (fun r45 h => ?_)
      obtain ⟨a46, e9, k_a46⟩ := z_nn h
      subst e9
      have h := k_a46
      obtain ⟨c47, h⟩ := z_ck h
      refine z_cNI hX (rest := []) h (fun r9 σ9 e9 => z_runV hX lk_X1_59 (c_J2_size hX.tr e9) (ci := 19) zc9_19 c47 ⟨Nat.le_of_ble_eq_true rfl, Nat.le_of_ble_eq_true rfl⟩ rfl (Nat.le_of_ble_eq_true rfl) dX1_count_152 rfl) (fun x48 σ49 h => ?_)
      obtain rfl := Option.some.inj h
      exact z_iret hX dX1_count_155
    rcases z_ite h with ⟨e9, h⟩ | ⟨-, h⟩
    · rw [e9]
      refine z_tableIn (tgt := 156) hX dX1_count_6 (by decide) (by decide) rfl (by decide) ?_
      refine z_aload_n hX 0 rfl rfl dX1_count_156 (z_iconst hX (v := 1) (by decide) dX1_count_157 ?_)
      obtain ⟨c50, h⟩ := z_ck h
      refine z_cNI hX (rest := []) h (fun r9 σ9 e9 => z_runV hX lk_X1_495 (c_X1_sum hX.tr e9) (ci := 0) zc9_0 c50 ⟨Nat.le_of_ble_eq_true rfl, Nat.le_of_ble_eq_true rfl⟩ rfl (Nat.le_of_ble_eq_true rfl) dX1_count_158 rfl) (fun x51 σ52 h => ?_)
      obtain rfl := Option.some.inj h
      exact z_iret hX dX1_count_161
    rcases z_ite h with ⟨e9, h⟩ | ⟨-, h⟩
    · rw [e9]
      refine z_tableIn (tgt := 162) hX dX1_count_6 (by decide) (by decide) rfl (by decide) ?_
      refine z_aload_n hX 0 rfl rfl dX1_count_162 (z_iconst hX (v := 0) (by decide) dX1_count_163 ?_)
      obtain ⟨c53, h⟩ := z_ck h
      refine z_cNI hX (rest := []) h (fun r9 σ9 e9 => z_runV hX lk_X1_495 (c_X1_sum hX.tr e9) (ci := 0) zc9_0 c53 ⟨Nat.le_of_ble_eq_true rfl, Nat.le_of_ble_eq_true rfl⟩ rfl (Nat.le_of_ble_eq_true rfl) dX1_count_164 rfl) (fun x54 σ55 h => ?_)
      obtain rfl := Option.some.inj h
      exact z_iret hX dX1_count_167
    cases h

theorem c_X1_count {l : Launch} {D : va_G} {tys : zTy} (hl : l.stackTraces = false) {o : Nat} {p1 : Int32} {σ : zS} {Rt : Int32 × zS} (h : f_X1_count o p1 σ = some Rt) : zM l D tys yX1_count (ws_ yX1_count cX1_count 3 (Option.some Jvm.ClassFile.FieldType.int)) 5 127 [zA (some o), zI p1] σ (.inl (eI Rt.1)) Rt.2 :=
  zM_in hl rfl (Nat.le_of_ble_eq_true rfl) (fun p e R s m args below meth c hX => z_L rfl (s_X1_count hX h))
