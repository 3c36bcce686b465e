/-! what the entries of the pools mean -/
theorem zStr_of {c : String} {k i : Nat} {t : String} (h : Cond.stringRef c k t ∈ lw_tbl) (hi : zTx.idxOf? t = some i) : (c, k, t, 100 + i) ∈ zStr := List.mem_filterMap.mpr ⟨_, h, by show Option.map _ _ = _; rw [hi]; rfl⟩
def zNm2 : List String := ["java/lang/RuntimeException", "java/lang/Exception"]
theorem zAllA {ws : List Cond} (h : (ws.filter goodWord).all (fun w => lw_tbl.contains w) = true) : ∀ w ∈ ws.filter goodWord, w ∈ lw_all := fun w hw => lw_g (List.contains_iff_mem.mp (List.all_eq_true.mp h w hw)) (List.mem_filter.mp hw).2
theorem zAllB {ws : List Cond} (h : (ws.filter (fun w => !goodWord w)).all (fun w => lw_tbl.contains w && zNwB w) = true) : ∀ w ∈ ws.filter (fun w => !goodWord w), w ∈ zNw := fun w hw => by
  have h1 := List.all_eq_true.mp h w hw
  rw [Bool.and_eq_true] at h1
  exact zNw_of (List.contains_iff_mem.mp h1.1) h1.2
theorem zAllC {ws : List Cond} (h : ws.all (fun w => vx_ot w) = true) : ∀ w ∈ ws, vx_ot w = true := List.all_eq_true.mp h
theorem zc9_0 : zCl 0 = some (RX1, TX1, 7) := rfl
theorem zc9_1 : zCl 1 = some (RX2, TX2, 13) := rfl
theorem zc9_2 : zCl 2 = some (RX3, TX3, 7) := rfl
theorem zc9_3 : zCl 3 = some (RX4, TX4, 7) := rfl
theorem zc9_4 : zCl 4 = some (RX5, TX5, 9) := rfl
theorem zc9_5 : zCl 5 = some (RX6, TX6, 25) := rfl
theorem zc9_6 : zCl 6 = some (RX7, TX7, 4) := rfl
theorem zc9_7 : zCl 7 = some (RX8, TX8, 3) := rfl
theorem zc9_8 : zCl 8 = some (RX9, TX9, 8) := rfl
theorem zc9_9 : zCl 9 = some (RX10, TX10, 6) := rfl
theorem zc9_10 : zCl 10 = some (RX11, TX11, 2) := rfl
theorem zc9_11 : zCl 11 = some (RX12, TX12, 1) := rfl
theorem zc9_12 : zCl 12 = some (RX13, TX13, 2) := rfl
theorem zc9_13 : zCl 13 = some (RX14, TX14, 2) := rfl
theorem zc9_14 : zCl 14 = some (RX15, TX15, 1) := rfl
theorem zc9_15 : zCl 15 = some (RX17, TX17, 1) := rfl
theorem zc9_16 : zCl 16 = some (RX18, TX18, 1) := rfl
theorem zc9_17 : zCl 17 = some (RX19, TX19, 2) := rfl
theorem zc9_18 : zCl 18 = some (RX21, TX21, 2) := rfl
theorem zc9_19 : zCl 19 = some (RJ2, TJ2, 3) := rfl
theorem zc9_20 : zCl 20 = some (RJ9, TJ9, 4) := rfl
theorem zc9_21 : zCl 21 = some (RJ10, TJ10, 4) := rfl
theorem zc9_50 : zCl 50 = some ("StepDebts$Tag", TTag, 2) := rfl
theorem zc9_51 : zCl 51 = some ("StepDebts$Fact", TFact, 2) := rfl
theorem fl_J10_9_21 : zFl RJ10 9 21 0 := ⟨RJ10, TJ10, 4, "java/lang/String", rfl, fun _ => in_J10, by decide, Or.inl q989, Or.inl rfl⟩
theorem fl_J10_15_21 : zFl RJ10 15 21 1 := ⟨RJ10, TJ10, 4, "java/lang/String", rfl, fun _ => in_J10, by decide, Or.inl q990, Or.inl rfl⟩
theorem fl_J10_19_21 : zFl RJ10 19 21 2 := ⟨RJ10, TJ10, 4, "java/lang/String", rfl, fun _ => in_J10, by decide, Or.inl q991, Or.inl rfl⟩
theorem fl_J10_23_21 : zFl RJ10 23 21 3 := ⟨RJ10, TJ10, 4, "java/lang/String", rfl, fun _ => in_J10, by decide, Or.inl q992, Or.inl rfl⟩
theorem fl_J10_1048_20 : zFl RJ10 1048 20 2 := ⟨RJ9, TJ9, 4, "java/lang/AbstractStringBuilder", rfl, fun _ => in_J9, by decide, Or.inl q705, Or.inl rfl⟩
theorem fl_J19_7_50 : zFl RJ19 7 50 0 := ⟨"StepDebts$Tag", TTag, 2, "java/lang/Enum", rfl, fun h => absurd h (by decide), by decide, Or.inl q2217, Or.inl rfl⟩
theorem fl_J19_7_51 : zFl RJ19 7 51 0 := ⟨"StepDebts$Fact", TFact, 2, "java/lang/Enum", rfl, fun h => absurd h (by decide), by decide, Or.inl q2217, Or.inl rfl⟩
theorem fl_J2_9_19 : zFl RJ2 9 19 1 := ⟨RJ2, TJ2, 3, "java/util/ArrayList", rfl, fun _ => in_J2, by decide, Or.inl q151, Or.inl rfl⟩
theorem fl_J2_48_19 : zFl RJ2 48 19 2 := ⟨RJ2, TJ2, 3, "java/util/ArrayList", rfl, fun _ => in_J2, by decide, Or.inl q152, Or.inl rfl⟩
theorem fl_J2_63_19 : zFl RJ2 63 19 0 := ⟨RJ2, TJ2, 3, "java/util/ArrayList", rfl, fun _ => in_J2, by decide, Or.inl q154, Or.inr q155⟩
theorem fl_J8_15_20 : zFl RJ8 15 20 0 := ⟨RJ9, TJ9, 4, "java/lang/AbstractStringBuilder", rfl, fun _ => in_J9, by decide, Or.inl q703, Or.inl rfl⟩
theorem fl_J8_22_20 : zFl RJ8 22 20 1 := ⟨RJ9, TJ9, 4, "java/lang/AbstractStringBuilder", rfl, fun _ => in_J9, by decide, Or.inl q704, Or.inl rfl⟩
theorem fl_J8_79_20 : zFl RJ8 79 20 3 := ⟨RJ9, TJ9, 4, "java/lang/AbstractStringBuilder", rfl, fun _ => in_J9, by decide, Or.inl q706, Or.inl rfl⟩
theorem fl_X1_10_0 : zFl RX1 10 0 0 := ⟨RX1, TX1, 7, "StepDebts", rfl, fun _ => in_X1, by decide, Or.inl q320, Or.inl rfl⟩
theorem fl_X1_19_0 : zFl RX1 19 0 2 := ⟨RX1, TX1, 7, "StepDebts", rfl, fun _ => in_X1, by decide, Or.inl q323, Or.inl rfl⟩
theorem fl_X1_26_0 : zFl RX1 26 0 3 := ⟨RX1, TX1, 7, "StepDebts", rfl, fun _ => in_X1, by decide, Or.inl q324, Or.inl rfl⟩
theorem fl_X1_35_0 : zFl RX1 35 0 4 := ⟨RX1, TX1, 7, "StepDebts", rfl, fun _ => in_X1, by decide, Or.inl q325, Or.inl rfl⟩
theorem fl_X1_39_0 : zFl RX1 39 0 5 := ⟨RX1, TX1, 7, "StepDebts", rfl, fun _ => in_X1, by decide, Or.inl q326, Or.inl rfl⟩
theorem fl_X1_51_2 : zFl RX1 51 2 5 := ⟨RX3, TX3, 7, "StepDebts$Reader", rfl, fun _ => in_X3, by decide, Or.inr ⟨_, zNw_of q233 rfl⟩, Or.inl rfl⟩
theorem fl_X1_55_1 : zFl RX1 55 1 8 := ⟨RX2, TX2, 13, "StepDebts$World", rfl, fun _ => in_X2, by decide, Or.inr ⟨_, zNw_of q183 rfl⟩, Or.inl rfl⟩
theorem fl_X1_85_1 : zFl RX1 85 1 1 := ⟨RX2, TX2, 13, "StepDebts$World", rfl, fun _ => in_X2, by decide, Or.inr ⟨_, zNw_of q167 rfl⟩, Or.inl rfl⟩
theorem fl_X1_101_1 : zFl RX1 101 1 10 := ⟨RX2, TX2, 13, "StepDebts$World", rfl, fun _ => in_X2, by decide, Or.inr ⟨_, zNw_of q188 rfl⟩, Or.inl rfl⟩
theorem fl_X1_137_1 : zFl RX1 137 1 7 := ⟨RX2, TX2, 13, "StepDebts$World", rfl, fun _ => in_X2, by decide, Or.inr ⟨_, zNw_of q180 rfl⟩, Or.inl rfl⟩
theorem fl_X1_144_1 : zFl RX1 144 1 9 := ⟨RX2, TX2, 13, "StepDebts$World", rfl, fun _ => in_X2, by decide, Or.inr ⟨_, zNw_of q186 rfl⟩, Or.inl rfl⟩
theorem fl_X1_152_1 : zFl RX1 152 1 2 := ⟨RX2, TX2, 13, "StepDebts$World", rfl, fun _ => in_X2, by decide, Or.inr ⟨_, zNw_of q169 rfl⟩, Or.inl rfl⟩
theorem fl_X1_154_1 : zFl RX1 154 1 3 := ⟨RX2, TX2, 13, "StepDebts$World", rfl, fun _ => in_X2, by decide, Or.inr ⟨_, zNw_of q172 rfl⟩, Or.inl rfl⟩
theorem fl_X1_176_2 : zFl RX1 176 2 4 := ⟨RX3, TX3, 7, "StepDebts$Reader", rfl, fun _ => in_X3, by decide, Or.inr ⟨_, zNw_of q231 rfl⟩, Or.inl rfl⟩
theorem fl_X1_197_1 : zFl RX1 197 1 0 := ⟨RX2, TX2, 13, "StepDebts$World", rfl, fun _ => in_X2, by decide, Or.inr ⟨_, zNw_of q165 rfl⟩, Or.inl rfl⟩
theorem fl_X1_219_16 : zFl RX1 219 16 0 := ⟨RX18, TX18, 1, "StepDebts$Sum", rfl, fun _ => in_X18, by decide, Or.inr ⟨_, zNw_of q1310 rfl⟩, Or.inl rfl⟩
theorem fl_X1_272_13 : zFl RX1 272 13 1 := ⟨RX14, TX14, 2, "StepDebts$Row", rfl, fun _ => in_X14, by decide, Or.inr ⟨_, zNw_of q1239 rfl⟩, Or.inl rfl⟩
theorem fl_X1_294_11 : zFl RX1 294 11 0 := ⟨RX12, TX12, 1, "StepDebts$Law", rfl, fun _ => in_X12, by decide, Or.inr ⟨_, zNw_of q1213 rfl⟩, Or.inl rfl⟩
theorem fl_X1_305_1 : zFl RX1 305 1 12 := ⟨RX2, TX2, 13, "StepDebts$World", rfl, fun _ => in_X2, by decide, Or.inr ⟨_, zNw_of q192 rfl⟩, Or.inl rfl⟩
theorem fl_X1_317_6 : zFl RX1 317 6 0 := ⟨RX7, TX7, 4, "StepDebts$Walker", rfl, fun _ => in_X7, by decide, Or.inr ⟨_, zNw_of q448 rfl⟩, Or.inl rfl⟩
theorem fl_X1_321_6 : zFl RX1 321 6 1 := ⟨RX7, TX7, 4, "StepDebts$Walker", rfl, fun _ => in_X7, by decide, Or.inr ⟨_, zNw_of q450 rfl⟩, Or.inl rfl⟩
theorem fl_X1_325_7 : zFl RX1 325 7 1 := ⟨RX8, TX8, 3, "StepDebts$Turn", rfl, fun _ => in_X8, by decide, Or.inr ⟨_, zNw_of q554 rfl⟩, Or.inl rfl⟩
theorem fl_X1_331_1 : zFl RX1 331 1 4 := ⟨RX2, TX2, 13, "StepDebts$World", rfl, fun _ => in_X2, by decide, Or.inr ⟨_, zNw_of q174 rfl⟩, Or.inl rfl⟩
theorem fl_X1_339_6 : zFl RX1 339 6 3 := ⟨RX7, TX7, 4, "StepDebts$Walker", rfl, fun _ => in_X7, by decide, Or.inr ⟨_, zNw_of q455 rfl⟩, Or.inl rfl⟩
theorem fl_X1_372_6 : zFl RX1 372 6 2 := ⟨RX7, TX7, 4, "StepDebts$Walker", rfl, fun _ => in_X7, by decide, Or.inr ⟨_, zNw_of q452 rfl⟩, Or.inl rfl⟩
theorem fl_X1_374_1 : zFl RX1 374 1 11 := ⟨RX2, TX2, 13, "StepDebts$World", rfl, fun _ => in_X2, by decide, Or.inr ⟨_, zNw_of q190 rfl⟩, Or.inl rfl⟩
theorem fl_X1_379_8 : zFl RX1 379 8 2 := ⟨RX9, TX9, 8, "StepDebts$Entry", rfl, fun _ => in_X9, by decide, Or.inr ⟨_, zNw_of q582 rfl⟩, Or.inl rfl⟩
theorem fl_X1_382_8 : zFl RX1 382 8 1 := ⟨RX9, TX9, 8, "StepDebts$Entry", rfl, fun _ => in_X9, by decide, Or.inr ⟨_, zNw_of q579 rfl⟩, Or.inl rfl⟩
theorem fl_X1_387_7 : zFl RX1 387 7 0 := ⟨RX8, TX8, 3, "StepDebts$Turn", rfl, fun _ => in_X8, by decide, Or.inr ⟨_, zNw_of q551 rfl⟩, Or.inl rfl⟩
theorem fl_X1_393_8 : zFl RX1 393 8 5 := ⟨RX9, TX9, 8, "StepDebts$Entry", rfl, fun _ => in_X9, by decide, Or.inr ⟨_, zNw_of q590 rfl⟩, Or.inl rfl⟩
theorem fl_X1_396_8 : zFl RX1 396 8 7 := ⟨RX9, TX9, 8, "StepDebts$Entry", rfl, fun _ => in_X9, by decide, Or.inr ⟨_, zNw_of q596 rfl⟩, Or.inl rfl⟩
theorem fl_X1_399_8 : zFl RX1 399 8 3 := ⟨RX9, TX9, 8, "StepDebts$Entry", rfl, fun _ => in_X9, by decide, Or.inr ⟨_, zNw_of q585 rfl⟩, Or.inl rfl⟩
theorem fl_X1_400_8 : zFl RX1 400 8 4 := ⟨RX9, TX9, 8, "StepDebts$Entry", rfl, fun _ => in_X9, by decide, Or.inr ⟨_, zNw_of q588 rfl⟩, Or.inl rfl⟩
theorem fl_X1_402_8 : zFl RX1 402 8 6 := ⟨RX9, TX9, 8, "StepDebts$Entry", rfl, fun _ => in_X9, by decide, Or.inr ⟨_, zNw_of q593 rfl⟩, Or.inl rfl⟩
theorem fl_X1_439_1 : zFl RX1 439 1 6 := ⟨RX2, TX2, 13, "StepDebts$World", rfl, fun _ => in_X2, by decide, Or.inr ⟨_, zNw_of q178 rfl⟩, Or.inl rfl⟩
theorem fl_X1_445_10 : zFl RX1 445 10 0 := ⟨RX11, TX11, 2, "StepDebts$Offer", rfl, fun _ => in_X11, by decide, Or.inr ⟨_, zNw_of q1147 rfl⟩, Or.inl rfl⟩
theorem fl_X1_446_10 : zFl RX1 446 10 1 := ⟨RX11, TX11, 2, "StepDebts$Offer", rfl, fun _ => in_X11, by decide, Or.inr ⟨_, zNw_of q1149 rfl⟩, Or.inl rfl⟩
theorem fl_X1_470_0 : zFl RX1 470 0 6 := ⟨RX1, TX1, 7, "StepDebts", rfl, fun _ => in_X1, by decide, Or.inl q327, Or.inl rfl⟩
theorem fl_X1_482_1 : zFl RX1 482 1 5 := ⟨RX2, TX2, 13, "StepDebts$World", rfl, fun _ => in_X2, by decide, Or.inr ⟨_, zNw_of q176 rfl⟩, Or.inl rfl⟩
theorem fl_X1_492_0 : zFl RX1 492 0 1 := ⟨RX1, TX1, 7, "StepDebts", rfl, fun _ => in_X1, by decide, Or.inl q322, Or.inl rfl⟩
theorem fl_X12_10_11 : zFl RX12 10 11 0 := ⟨RX12, TX12, 1, "StepDebts$Law", rfl, fun _ => in_X12, by decide, Or.inl q1212, Or.inl rfl⟩
theorem fl_X12_26_12 : zFl RX12 26 12 1 := ⟨RX13, TX13, 2, "StepDebts$Line", rfl, fun _ => in_X13, by decide, Or.inr ⟨_, zNw_of q1372 rfl⟩, Or.inl rfl⟩
theorem fl_X12_36_12 : zFl RX12 36 12 0 := ⟨RX13, TX13, 2, "StepDebts$Line", rfl, fun _ => in_X13, by decide, Or.inr ⟨_, zNw_of q1370 rfl⟩, Or.inl rfl⟩
theorem fl_X14_10_13 : zFl RX14 10 13 1 := ⟨RX14, TX14, 2, "StepDebts$Row", rfl, fun _ => in_X14, by decide, Or.inl q1238, Or.inl rfl⟩
theorem fl_X14_16_13 : zFl RX14 16 13 0 := ⟨RX14, TX14, 2, "StepDebts$Row", rfl, fun _ => in_X14, by decide, Or.inl q1237, Or.inl rfl⟩
theorem fl_X15_7_14 : zFl RX15 7 14 0 := ⟨RX15, TX15, 1, "StepDebts$Not", rfl, fun _ => in_X15, by decide, Or.inl q1268, Or.inl rfl⟩
theorem fl_X16_41_50 : zFl RX16 41 50 1 := ⟨"StepDebts$Tag", TTag, 2, "StepDebts$Tag", rfl, fun h => absurd h (by decide), by decide, Or.inl q2215, Or.inl rfl⟩
theorem fl_X17_7_15 : zFl RX17 7 15 0 := ⟨RX17, TX17, 1, "StepDebts$Is", rfl, fun _ => in_X17, by decide, Or.inl q1293, Or.inl rfl⟩
theorem fl_X18_10_16 : zFl RX18 10 16 0 := ⟨RX18, TX18, 1, "StepDebts$Sum", rfl, fun _ => in_X18, by decide, Or.inl q1309, Or.inl rfl⟩
theorem fl_X19_7_17 : zFl RX19 7 17 0 := ⟨RX19, TX19, 2, "StepDebts$Part", rfl, fun _ => in_X19, by decide, Or.inl q1328, Or.inl rfl⟩
theorem fl_X19_13_17 : zFl RX19 13 17 1 := ⟨RX19, TX19, 2, "StepDebts$Part", rfl, fun _ => in_X19, by decide, Or.inl q1329, Or.inl rfl⟩
theorem fl_X2_9_1 : zFl RX2 9 1 2 := ⟨RX2, TX2, 13, "StepDebts$World", rfl, fun _ => in_X2, by decide, Or.inl q168, Or.inl rfl⟩
theorem fl_X2_15_1 : zFl RX2 15 1 5 := ⟨RX2, TX2, 13, "StepDebts$World", rfl, fun _ => in_X2, by decide, Or.inl q175, Or.inl rfl⟩
theorem fl_X2_18_1 : zFl RX2 18 1 7 := ⟨RX2, TX2, 13, "StepDebts$World", rfl, fun _ => in_X2, by decide, Or.inl q179, Or.inl rfl⟩
theorem fl_X2_25_1 : zFl RX2 25 1 8 := ⟨RX2, TX2, 13, "StepDebts$World", rfl, fun _ => in_X2, by decide, Or.inl q181, Or.inl rfl⟩
theorem fl_X2_29_1 : zFl RX2 29 1 9 := ⟨RX2, TX2, 13, "StepDebts$World", rfl, fun _ => in_X2, by decide, Or.inl q184, Or.inl rfl⟩
theorem fl_X2_32_1 : zFl RX2 32 1 10 := ⟨RX2, TX2, 13, "StepDebts$World", rfl, fun _ => in_X2, by decide, Or.inl q187, Or.inl rfl⟩
theorem fl_X2_35_1 : zFl RX2 35 1 11 := ⟨RX2, TX2, 13, "StepDebts$World", rfl, fun _ => in_X2, by decide, Or.inl q189, Or.inl rfl⟩
theorem fl_X2_39_1 : zFl RX2 39 1 0 := ⟨RX2, TX2, 13, "StepDebts$World", rfl, fun _ => in_X2, by decide, Or.inl q164, Or.inl rfl⟩
theorem fl_X2_42_1 : zFl RX2 42 1 1 := ⟨RX2, TX2, 13, "StepDebts$World", rfl, fun _ => in_X2, by decide, Or.inl q166, Or.inl rfl⟩
theorem fl_X2_45_1 : zFl RX2 45 1 3 := ⟨RX2, TX2, 13, "StepDebts$World", rfl, fun _ => in_X2, by decide, Or.inl q171, Or.inl rfl⟩
theorem fl_X2_48_1 : zFl RX2 48 1 4 := ⟨RX2, TX2, 13, "StepDebts$World", rfl, fun _ => in_X2, by decide, Or.inl q173, Or.inl rfl⟩
theorem fl_X2_51_1 : zFl RX2 51 1 6 := ⟨RX2, TX2, 13, "StepDebts$World", rfl, fun _ => in_X2, by decide, Or.inl q177, Or.inl rfl⟩
theorem fl_X2_54_1 : zFl RX2 54 1 12 := ⟨RX2, TX2, 13, "StepDebts$World", rfl, fun _ => in_X2, by decide, Or.inl q191, Or.inl rfl⟩
theorem fl_X2_96_8 : zFl RX2 96 8 3 := ⟨RX9, TX9, 8, "StepDebts$Entry", rfl, fun _ => in_X9, by decide, Or.inr ⟨_, zNw_of q584 rfl⟩, Or.inl rfl⟩
theorem fl_X2_99_8 : zFl RX2 99 8 7 := ⟨RX9, TX9, 8, "StepDebts$Entry", rfl, fun _ => in_X9, by decide, Or.inr ⟨_, zNw_of q595 rfl⟩, Or.inl rfl⟩
theorem fl_X2_103_7 : zFl RX2 103 7 0 := ⟨RX8, TX8, 3, "StepDebts$Turn", rfl, fun _ => in_X8, by decide, Or.inr ⟨_, zNw_of q550 rfl⟩, Or.inl rfl⟩
theorem fl_X2_106_7 : zFl RX2 106 7 1 := ⟨RX8, TX8, 3, "StepDebts$Turn", rfl, fun _ => in_X8, by decide, Or.inr ⟨_, zNw_of q553 rfl⟩, Or.inl rfl⟩
theorem fl_X2_109_8 : zFl RX2 109 8 2 := ⟨RX9, TX9, 8, "StepDebts$Entry", rfl, fun _ => in_X9, by decide, Or.inr ⟨_, zNw_of q581 rfl⟩, Or.inl rfl⟩
theorem fl_X2_112_8 : zFl RX2 112 8 1 := ⟨RX9, TX9, 8, "StepDebts$Entry", rfl, fun _ => in_X9, by decide, Or.inr ⟨_, zNw_of q578 rfl⟩, Or.inl rfl⟩
theorem fl_X2_113_8 : zFl RX2 113 8 6 := ⟨RX9, TX9, 8, "StepDebts$Entry", rfl, fun _ => in_X9, by decide, Or.inr ⟨_, zNw_of q592 rfl⟩, Or.inl rfl⟩
theorem fl_X2_125_8 : zFl RX2 125 8 4 := ⟨RX9, TX9, 8, "StepDebts$Entry", rfl, fun _ => in_X9, by decide, Or.inr ⟨_, zNw_of q587 rfl⟩, Or.inl rfl⟩
theorem fl_X2_127_8 : zFl RX2 127 8 0 := ⟨RX9, TX9, 8, "StepDebts$Entry", rfl, fun _ => in_X9, by decide, Or.inr ⟨_, zNw_of q576 rfl⟩, Or.inl rfl⟩
theorem fl_X2_128_7 : zFl RX2 128 7 2 := ⟨RX8, TX8, 3, "StepDebts$Turn", rfl, fun _ => in_X8, by decide, Or.inr ⟨_, zNw_of q556 rfl⟩, Or.inl rfl⟩
theorem fl_X20_35_51 : zFl RX20 35 51 1 := ⟨"StepDebts$Fact", TFact, 2, "StepDebts$Fact", rfl, fun h => absurd h (by decide), by decide, Or.inl q2216, Or.inl rfl⟩
theorem fl_X21_7_18 : zFl RX21 7 18 0 := ⟨RX21, TX21, 2, "StepDebts$Less", rfl, fun _ => in_X21, by decide, Or.inl q1356, Or.inl rfl⟩
theorem fl_X21_13_18 : zFl RX21 13 18 1 := ⟨RX21, TX21, 2, "StepDebts$Less", rfl, fun _ => in_X21, by decide, Or.inl q1357, Or.inl rfl⟩
theorem fl_X3_9_2 : zFl RX3 9 2 0 := ⟨RX3, TX3, 7, "StepDebts$Reader", rfl, fun _ => in_X3, by decide, Or.inl q226, Or.inl rfl⟩
theorem fl_X3_19_2 : zFl RX3 19 2 1 := ⟨RX3, TX3, 7, "StepDebts$Reader", rfl, fun _ => in_X3, by decide, Or.inl q227, Or.inl rfl⟩
theorem fl_X3_22_2 : zFl RX3 22 2 2 := ⟨RX3, TX3, 7, "StepDebts$Reader", rfl, fun _ => in_X3, by decide, Or.inl q228, Or.inl rfl⟩
theorem fl_X3_25_2 : zFl RX3 25 2 3 := ⟨RX3, TX3, 7, "StepDebts$Reader", rfl, fun _ => in_X3, by decide, Or.inl q229, Or.inl rfl⟩
theorem fl_X3_28_2 : zFl RX3 28 2 6 := ⟨RX3, TX3, 7, "StepDebts$Reader", rfl, fun _ => in_X3, by decide, Or.inl q234, Or.inl rfl⟩
theorem fl_X3_35_2 : zFl RX3 35 2 4 := ⟨RX3, TX3, 7, "StepDebts$Reader", rfl, fun _ => in_X3, by decide, Or.inl q230, Or.inl rfl⟩
theorem fl_X4_13_3 : zFl RX4 13 3 1 := ⟨RX4, TX4, 7, "StepDebts$Scene", rfl, fun _ => in_X4, by decide, Or.inl q259, Or.inl rfl⟩
theorem fl_X4_19_3 : zFl RX4 19 3 2 := ⟨RX4, TX4, 7, "StepDebts$Scene", rfl, fun _ => in_X4, by decide, Or.inl q261, Or.inl rfl⟩
theorem fl_X4_22_3 : zFl RX4 22 3 3 := ⟨RX4, TX4, 7, "StepDebts$Scene", rfl, fun _ => in_X4, by decide, Or.inl q263, Or.inl rfl⟩
theorem fl_X4_25_3 : zFl RX4 25 3 4 := ⟨RX4, TX4, 7, "StepDebts$Scene", rfl, fun _ => in_X4, by decide, Or.inl q265, Or.inl rfl⟩
theorem fl_X4_34_3 : zFl RX4 34 3 5 := ⟨RX4, TX4, 7, "StepDebts$Scene", rfl, fun _ => in_X4, by decide, Or.inl q267, Or.inl rfl⟩
theorem fl_X4_41_3 : zFl RX4 41 3 6 := ⟨RX4, TX4, 7, "StepDebts$Scene", rfl, fun _ => in_X4, by decide, Or.inl q269, Or.inl rfl⟩
theorem fl_X4_44_3 : zFl RX4 44 3 0 := ⟨RX4, TX4, 7, "StepDebts$Scene", rfl, fun _ => in_X4, by decide, Or.inl q257, Or.inl rfl⟩
theorem fl_X5_3_4 : zFl RX5 3 4 8 := ⟨RX5, TX5, 9, "StepDebts$Plan", rfl, fun _ => in_X5, by decide, Or.inl q300, Or.inl rfl⟩
theorem fl_X5_15_4 : zFl RX5 15 4 0 := ⟨RX5, TX5, 9, "StepDebts$Plan", rfl, fun _ => in_X5, by decide, Or.inl q292, Or.inl rfl⟩
theorem fl_X5_19_4 : zFl RX5 19 4 1 := ⟨RX5, TX5, 9, "StepDebts$Plan", rfl, fun _ => in_X5, by decide, Or.inl q293, Or.inl rfl⟩
theorem fl_X5_22_4 : zFl RX5 22 4 2 := ⟨RX5, TX5, 9, "StepDebts$Plan", rfl, fun _ => in_X5, by decide, Or.inl q294, Or.inl rfl⟩
theorem fl_X5_25_4 : zFl RX5 25 4 3 := ⟨RX5, TX5, 9, "StepDebts$Plan", rfl, fun _ => in_X5, by decide, Or.inl q295, Or.inl rfl⟩
theorem fl_X5_28_4 : zFl RX5 28 4 4 := ⟨RX5, TX5, 9, "StepDebts$Plan", rfl, fun _ => in_X5, by decide, Or.inl q296, Or.inl rfl⟩
theorem fl_X5_32_0 : zFl RX5 32 0 0 := ⟨RX1, TX1, 7, "StepDebts", rfl, fun _ => in_X1, by decide, Or.inr ⟨_, zNw_of q321 rfl⟩, Or.inl rfl⟩
theorem fl_X5_36_1 : zFl RX5 36 1 3 := ⟨RX2, TX2, 13, "StepDebts$World", rfl, fun _ => in_X2, by decide, Or.inr ⟨_, zNw_of q170 rfl⟩, Or.inl rfl⟩
theorem fl_X5_41_4 : zFl RX5 41 4 5 := ⟨RX5, TX5, 9, "StepDebts$Plan", rfl, fun _ => in_X5, by decide, Or.inl q297, Or.inl rfl⟩
theorem fl_X5_44_4 : zFl RX5 44 4 6 := ⟨RX5, TX5, 9, "StepDebts$Plan", rfl, fun _ => in_X5, by decide, Or.inl q298, Or.inl rfl⟩
theorem fl_X5_47_1 : zFl RX5 47 1 8 := ⟨RX2, TX2, 13, "StepDebts$World", rfl, fun _ => in_X2, by decide, Or.inr ⟨_, zNw_of q182 rfl⟩, Or.inl rfl⟩
theorem fl_X5_63_6 : zFl RX5 63 6 3 := ⟨RX7, TX7, 4, "StepDebts$Walker", rfl, fun _ => in_X7, by decide, Or.inr ⟨_, zNw_of q454 rfl⟩, Or.inl rfl⟩
theorem fl_X5_66_1 : zFl RX5 66 1 9 := ⟨RX2, TX2, 13, "StepDebts$World", rfl, fun _ => in_X2, by decide, Or.inr ⟨_, zNw_of q185 rfl⟩, Or.inl rfl⟩
theorem fl_X5_85_4 : zFl RX5 85 4 7 := ⟨RX5, TX5, 9, "StepDebts$Plan", rfl, fun _ => in_X5, by decide, Or.inl q299, Or.inl rfl⟩
theorem fl_X6_7_5 : zFl RX6 7 5 1 := ⟨RX6, TX6, 25, "StepDebtsModel", rfl, fun _ => in_X6, by decide, Or.inl q1764, Or.inl rfl⟩
theorem fl_X6_13_5 : zFl RX6 13 5 2 := ⟨RX6, TX6, 25, "StepDebtsModel", rfl, fun _ => in_X6, by decide, Or.inl q1765, Or.inl rfl⟩
theorem fl_X6_16_5 : zFl RX6 16 5 4 := ⟨RX6, TX6, 25, "StepDebtsModel", rfl, fun _ => in_X6, by decide, Or.inl q1767, Or.inl rfl⟩
theorem fl_X6_19_5 : zFl RX6 19 5 5 := ⟨RX6, TX6, 25, "StepDebtsModel", rfl, fun _ => in_X6, by decide, Or.inl q1768, Or.inl rfl⟩
theorem fl_X6_22_5 : zFl RX6 22 5 10 := ⟨RX6, TX6, 25, "StepDebtsModel", rfl, fun _ => in_X6, by decide, Or.inl q1773, Or.inl rfl⟩
theorem fl_X6_26_5 : zFl RX6 26 5 12 := ⟨RX6, TX6, 25, "StepDebtsModel", rfl, fun _ => in_X6, by decide, Or.inl q1775, Or.inl rfl⟩
theorem fl_X6_29_5 : zFl RX6 29 5 17 := ⟨RX6, TX6, 25, "StepDebtsModel", rfl, fun _ => in_X6, by decide, Or.inl q1780, Or.inl rfl⟩
theorem fl_X6_32_5 : zFl RX6 32 5 19 := ⟨RX6, TX6, 25, "StepDebtsModel", rfl, fun _ => in_X6, by decide, Or.inl q1782, Or.inl rfl⟩
theorem fl_X6_35_5 : zFl RX6 35 5 20 := ⟨RX6, TX6, 25, "StepDebtsModel", rfl, fun _ => in_X6, by decide, Or.inl q1783, Or.inl rfl⟩
theorem fl_X6_38_5 : zFl RX6 38 5 21 := ⟨RX6, TX6, 25, "StepDebtsModel", rfl, fun _ => in_X6, by decide, Or.inl q1784, Or.inl rfl⟩
theorem fl_X6_41_5 : zFl RX6 41 5 0 := ⟨RX6, TX6, 25, "StepDebtsModel", rfl, fun _ => in_X6, by decide, Or.inl q1763, Or.inl rfl⟩
theorem fl_X6_48_5 : zFl RX6 48 5 6 := ⟨RX6, TX6, 25, "StepDebtsModel", rfl, fun _ => in_X6, by decide, Or.inl q1769, Or.inl rfl⟩
theorem fl_X6_51_5 : zFl RX6 51 5 7 := ⟨RX6, TX6, 25, "StepDebtsModel", rfl, fun _ => in_X6, by decide, Or.inl q1770, Or.inl rfl⟩
theorem fl_X6_54_5 : zFl RX6 54 5 9 := ⟨RX6, TX6, 25, "StepDebtsModel", rfl, fun _ => in_X6, by decide, Or.inl q1772, Or.inl rfl⟩
theorem fl_X6_57_5 : zFl RX6 57 5 8 := ⟨RX6, TX6, 25, "StepDebtsModel", rfl, fun _ => in_X6, by decide, Or.inl q1771, Or.inl rfl⟩
theorem fl_X6_122_5 : zFl RX6 122 5 11 := ⟨RX6, TX6, 25, "StepDebtsModel", rfl, fun _ => in_X6, by decide, Or.inl q1774, Or.inl rfl⟩
theorem fl_X6_153_5 : zFl RX6 153 5 13 := ⟨RX6, TX6, 25, "StepDebtsModel", rfl, fun _ => in_X6, by decide, Or.inl q1776, Or.inl rfl⟩
theorem fl_X6_158_5 : zFl RX6 158 5 14 := ⟨RX6, TX6, 25, "StepDebtsModel", rfl, fun _ => in_X6, by decide, Or.inl q1777, Or.inl rfl⟩
theorem fl_X6_164_5 : zFl RX6 164 5 15 := ⟨RX6, TX6, 25, "StepDebtsModel", rfl, fun _ => in_X6, by decide, Or.inl q1778, Or.inl rfl⟩
theorem fl_X6_193_5 : zFl RX6 193 5 16 := ⟨RX6, TX6, 25, "StepDebtsModel", rfl, fun _ => in_X6, by decide, Or.inl q1779, Or.inl rfl⟩
theorem fl_X6_244_5 : zFl RX6 244 5 18 := ⟨RX6, TX6, 25, "StepDebtsModel", rfl, fun _ => in_X6, by decide, Or.inl q1781, Or.inl rfl⟩
theorem fl_X6_256_5 : zFl RX6 256 5 22 := ⟨RX6, TX6, 25, "StepDebtsModel", rfl, fun _ => in_X6, by decide, Or.inl q1785, Or.inl rfl⟩
theorem fl_X6_265_5 : zFl RX6 265 5 23 := ⟨RX6, TX6, 25, "StepDebtsModel", rfl, fun _ => in_X6, by decide, Or.inl q1786, Or.inl rfl⟩
theorem fl_X6_268_5 : zFl RX6 268 5 24 := ⟨RX6, TX6, 25, "StepDebtsModel", rfl, fun _ => in_X6, by decide, Or.inl q1787, Or.inl rfl⟩
theorem fl_X6_280_5 : zFl RX6 280 5 3 := ⟨RX6, TX6, 25, "StepDebtsModel", rfl, fun _ => in_X6, by decide, Or.inl q1766, Or.inl rfl⟩
theorem fl_X7_7_6 : zFl RX7 7 6 0 := ⟨RX7, TX7, 4, "StepDebts$Walker", rfl, fun _ => in_X7, by decide, Or.inl q447, Or.inl rfl⟩
theorem fl_X7_13_6 : zFl RX7 13 6 1 := ⟨RX7, TX7, 4, "StepDebts$Walker", rfl, fun _ => in_X7, by decide, Or.inl q449, Or.inl rfl⟩
theorem fl_X7_16_6 : zFl RX7 16 6 3 := ⟨RX7, TX7, 4, "StepDebts$Walker", rfl, fun _ => in_X7, by decide, Or.inl q453, Or.inl rfl⟩
theorem fl_X7_19_6 : zFl RX7 19 6 2 := ⟨RX7, TX7, 4, "StepDebts$Walker", rfl, fun _ => in_X7, by decide, Or.inl q451, Or.inl rfl⟩
theorem fl_X8_7_7 : zFl RX8 7 7 0 := ⟨RX8, TX8, 3, "StepDebts$Turn", rfl, fun _ => in_X8, by decide, Or.inl q549, Or.inl rfl⟩
theorem fl_X8_16_7 : zFl RX8 16 7 1 := ⟨RX8, TX8, 3, "StepDebts$Turn", rfl, fun _ => in_X8, by decide, Or.inl q552, Or.inl rfl⟩
theorem fl_X8_19_7 : zFl RX8 19 7 2 := ⟨RX8, TX8, 3, "StepDebts$Turn", rfl, fun _ => in_X8, by decide, Or.inl q555, Or.inl rfl⟩
theorem fl_X9_7_8 : zFl RX9 7 8 0 := ⟨RX9, TX9, 8, "StepDebts$Entry", rfl, fun _ => in_X9, by decide, Or.inl q575, Or.inl rfl⟩
theorem fl_X9_13_8 : zFl RX9 13 8 1 := ⟨RX9, TX9, 8, "StepDebts$Entry", rfl, fun _ => in_X9, by decide, Or.inl q577, Or.inl rfl⟩
theorem fl_X9_16_8 : zFl RX9 16 8 2 := ⟨RX9, TX9, 8, "StepDebts$Entry", rfl, fun _ => in_X9, by decide, Or.inl q580, Or.inl rfl⟩
theorem fl_X9_19_8 : zFl RX9 19 8 3 := ⟨RX9, TX9, 8, "StepDebts$Entry", rfl, fun _ => in_X9, by decide, Or.inl q583, Or.inl rfl⟩
theorem fl_X9_22_8 : zFl RX9 22 8 4 := ⟨RX9, TX9, 8, "StepDebts$Entry", rfl, fun _ => in_X9, by decide, Or.inl q586, Or.inl rfl⟩
theorem fl_X9_25_8 : zFl RX9 25 8 6 := ⟨RX9, TX9, 8, "StepDebts$Entry", rfl, fun _ => in_X9, by decide, Or.inl q591, Or.inl rfl⟩
theorem fl_X9_29_8 : zFl RX9 29 8 5 := ⟨RX9, TX9, 8, "StepDebts$Entry", rfl, fun _ => in_X9, by decide, Or.inl q589, Or.inl rfl⟩
theorem fl_X9_35_8 : zFl RX9 35 8 7 := ⟨RX9, TX9, 8, "StepDebts$Entry", rfl, fun _ => in_X9, by decide, Or.inl q594, Or.inl rfl⟩
theorem fp_J1_7_19 : zFp RJ1 7 19 0 (.int) false := ⟨RJ2, TJ2, 3, "java/util/AbstractList", tyJ2, rfl, in_J2, by decide, Or.inl q153, Or.inl rfl, rfl, (fun h => nomatch h), tyJ2_ok, nmJ2, tyJ2_ok 0 (by decide)⟩
theorem fp_J10_9_21 : zFp RJ10 9 21 0 (.array (.byte)) true := ⟨RJ10, TJ10, 4, "java/lang/String", tyJ10, rfl, in_J10, by decide, Or.inl q989, Or.inl rfl, rfl, fun _ => rfl, tyJ10_ok, nmJ10, tyJ10_ok 0 (by decide)⟩
theorem fp_J10_15_21 : zFp RJ10 15 21 1 (.byte) true := ⟨RJ10, TJ10, 4, "java/lang/String", tyJ10, rfl, in_J10, by decide, Or.inl q990, Or.inl rfl, rfl, fun _ => rfl, tyJ10_ok, nmJ10, tyJ10_ok 1 (by decide)⟩
theorem fp_J10_19_21 : zFp RJ10 19 21 2 (.int) false := ⟨RJ10, TJ10, 4, "java/lang/String", tyJ10, rfl, in_J10, by decide, Or.inl q991, Or.inl rfl, rfl, (fun h => nomatch h), tyJ10_ok, nmJ10, tyJ10_ok 2 (by decide)⟩
theorem fp_J10_23_21 : zFp RJ10 23 21 3 (.boolean) false := ⟨RJ10, TJ10, 4, "java/lang/String", tyJ10, rfl, in_J10, by decide, Or.inl q992, Or.inl rfl, rfl, (fun h => nomatch h), tyJ10_ok, nmJ10, tyJ10_ok 3 (by decide)⟩
theorem fp_J13_7_9 : zFp RJ13 7 9 0 (.object "java/lang/Throwable") false := ⟨RX10, TX10, 6, "java/lang/Throwable", tyX10, rfl, in_X10, by decide, Or.inl q965, Or.inl rfl, rfl, (fun h => nomatch h), tyX10_ok, nmX10, tyX10_ok 0 (by decide)⟩
theorem fp_J13_17_9 : zFp RJ13 17 9 1 (.array (.object "java/lang/StackTraceElement")) false := ⟨RX10, TX10, 6, "java/lang/Throwable", tyX10, rfl, in_X10, by decide, Or.inl q966, Or.inl rfl, rfl, (fun h => nomatch h), tyX10_ok, nmX10, tyX10_ok 1 (by decide)⟩
theorem fp_J13_24_9 : zFp RJ13 24 9 2 (.object "java/util/List") false := ⟨RX10, TX10, 6, "java/lang/Throwable", tyX10, rfl, in_X10, by decide, Or.inl q967, Or.inl rfl, rfl, (fun h => nomatch h), tyX10_ok, nmX10, tyX10_ok 2 (by decide)⟩
theorem fp_J13_31_9 : zFp RJ13 31 9 3 (.object "java/lang/String") false := ⟨RX10, TX10, 6, "java/lang/Throwable", tyX10, rfl, in_X10, by decide, Or.inl q964, Or.inl rfl, rfl, (fun h => nomatch h), tyX10_ok, nmX10, tyX10_ok 3 (by decide)⟩
theorem fp_J2_9_19 : zFp RJ2 9 19 1 (.array (.object "java/lang/Object")) false := ⟨RJ2, TJ2, 3, "java/util/ArrayList", tyJ2, rfl, in_J2, by decide, Or.inl q151, Or.inl rfl, rfl, (fun h => nomatch h), tyJ2_ok, nmJ2, tyJ2_ok 1 (by decide)⟩
theorem fp_J2_48_19 : zFp RJ2 48 19 2 (.int) false := ⟨RJ2, TJ2, 3, "java/util/ArrayList", tyJ2, rfl, in_J2, by decide, Or.inl q152, Or.inl rfl, rfl, (fun h => nomatch h), tyJ2_ok, nmJ2, tyJ2_ok 2 (by decide)⟩
theorem fp_J2_63_19 : zFp RJ2 63 19 0 (.int) false := ⟨RJ2, TJ2, 3, "java/util/ArrayList", tyJ2, rfl, in_J2, by decide, Or.inl q154, Or.inr q155, rfl, (fun h => nomatch h), tyJ2_ok, nmJ2, tyJ2_ok 0 (by decide)⟩
theorem fp_J8_15_20 : zFp RJ8 15 20 0 (.array (.byte)) false := ⟨RJ9, TJ9, 4, "java/lang/AbstractStringBuilder", tyJ9, rfl, in_J9, by decide, Or.inl q703, Or.inl rfl, rfl, (fun h => nomatch h), tyJ9_ok, nmJ9, tyJ9_ok 0 (by decide)⟩
theorem fp_J8_22_20 : zFp RJ8 22 20 1 (.byte) false := ⟨RJ9, TJ9, 4, "java/lang/AbstractStringBuilder", tyJ9, rfl, in_J9, by decide, Or.inl q704, Or.inl rfl, rfl, (fun h => nomatch h), tyJ9_ok, nmJ9, tyJ9_ok 1 (by decide)⟩
theorem fp_J8_79_20 : zFp RJ8 79 20 3 (.int) false := ⟨RJ9, TJ9, 4, "java/lang/AbstractStringBuilder", tyJ9, rfl, in_J9, by decide, Or.inl q706, Or.inl rfl, rfl, (fun h => nomatch h), tyJ9_ok, nmJ9, tyJ9_ok 3 (by decide)⟩
theorem fp_X1_10_0 : zFp RX1 10 0 0 (.object "StepDebts$World") false := ⟨RX1, TX1, 7, "StepDebts", tyX1, rfl, in_X1, by decide, Or.inl q320, Or.inl rfl, rfl, (fun h => nomatch h), tyX1_ok, nmX1, tyX1_ok 0 (by decide)⟩
theorem fp_X1_19_0 : zFp RX1 19 0 2 (.object "StepDebts$Reader") true := ⟨RX1, TX1, 7, "StepDebts", tyX1, rfl, in_X1, by decide, Or.inl q323, Or.inl rfl, rfl, fun _ => rfl, tyX1_ok, nmX1, tyX1_ok 2 (by decide)⟩
theorem fp_X1_26_0 : zFp RX1 26 0 3 (.object "StepDebts$Scene") true := ⟨RX1, TX1, 7, "StepDebts", tyX1, rfl, in_X1, by decide, Or.inl q324, Or.inl rfl, rfl, fun _ => rfl, tyX1_ok, nmX1, tyX1_ok 3 (by decide)⟩
theorem fp_X1_35_0 : zFp RX1 35 0 4 (.object "StepDebts$Plan") true := ⟨RX1, TX1, 7, "StepDebts", tyX1, rfl, in_X1, by decide, Or.inl q325, Or.inl rfl, rfl, fun _ => rfl, tyX1_ok, nmX1, tyX1_ok 4 (by decide)⟩
theorem fp_X1_39_0 : zFp RX1 39 0 5 (.array (.int)) true := ⟨RX1, TX1, 7, "StepDebts", tyX1, rfl, in_X1, by decide, Or.inl q326, Or.inl rfl, rfl, fun _ => rfl, tyX1_ok, nmX1, tyX1_ok 5 (by decide)⟩
theorem fp_X1_51_2 : zFp RX1 51 2 5 (.int) false := ⟨RX3, TX3, 7, "StepDebts$Reader", tyX3, rfl, in_X3, by decide, Or.inr ⟨rfl, _, zNw_of q233 rfl⟩, Or.inl rfl, rfl, (fun h => nomatch h), tyX3_ok, nmX3, tyX3_ok 5 (by decide)⟩
theorem fp_X1_85_1 : zFp RX1 85 1 1 (.int) false := ⟨RX2, TX2, 13, "StepDebts$World", tyX2, rfl, in_X2, by decide, Or.inr ⟨rfl, _, zNw_of q167 rfl⟩, Or.inl rfl, rfl, (fun h => nomatch h), tyX2_ok, nmX2, tyX2_ok 1 (by decide)⟩
theorem fp_X1_152_1 : zFp RX1 152 1 2 (.int) false := ⟨RX2, TX2, 13, "StepDebts$World", tyX2, rfl, in_X2, by decide, Or.inr ⟨rfl, _, zNw_of q169 rfl⟩, Or.inl rfl, rfl, (fun h => nomatch h), tyX2_ok, nmX2, tyX2_ok 2 (by decide)⟩
theorem fp_X1_154_1 : zFp RX1 154 1 3 (.int) false := ⟨RX2, TX2, 13, "StepDebts$World", tyX2, rfl, in_X2, by decide, Or.inr ⟨rfl, _, zNw_of q172 rfl⟩, Or.inl rfl, rfl, (fun h => nomatch h), tyX2_ok, nmX2, tyX2_ok 3 (by decide)⟩
theorem fp_X1_197_1 : zFp RX1 197 1 0 (.int) false := ⟨RX2, TX2, 13, "StepDebts$World", tyX2, rfl, in_X2, by decide, Or.inr ⟨rfl, _, zNw_of q165 rfl⟩, Or.inl rfl, rfl, (fun h => nomatch h), tyX2_ok, nmX2, tyX2_ok 0 (by decide)⟩
theorem fp_X1_305_1 : zFp RX1 305 1 12 (.object "StepDebts$Law") false := ⟨RX2, TX2, 13, "StepDebts$World", tyX2, rfl, in_X2, by decide, Or.inr ⟨rfl, _, zNw_of q192 rfl⟩, Or.inl rfl, rfl, (fun h => nomatch h), tyX2_ok, nmX2, tyX2_ok 12 (by decide)⟩
theorem fp_X1_320_3 : zFp RX1 320 3 0 (.int) false := ⟨RX4, TX4, 7, "StepDebts$Scene", tyX4, rfl, in_X4, by decide, Or.inr ⟨rfl, _, zNw_of q258 rfl⟩, Or.inl rfl, rfl, (fun h => nomatch h), tyX4_ok, nmX4, tyX4_ok 0 (by decide)⟩
theorem fp_X1_324_3 : zFp RX1 324 3 1 (.int) false := ⟨RX4, TX4, 7, "StepDebts$Scene", tyX4, rfl, in_X4, by decide, Or.inr ⟨rfl, _, zNw_of q260 rfl⟩, Or.inl rfl, rfl, (fun h => nomatch h), tyX4_ok, nmX4, tyX4_ok 1 (by decide)⟩
theorem fp_X1_325_7 : zFp RX1 325 7 1 (.int) false := ⟨RX8, TX8, 3, "StepDebts$Turn", tyX8, rfl, in_X8, by decide, Or.inr ⟨rfl, _, zNw_of q554 rfl⟩, Or.inl rfl, rfl, (fun h => nomatch h), tyX8_ok, nmX8, tyX8_ok 1 (by decide)⟩
theorem fp_X1_328_3 : zFp RX1 328 3 2 (.int) false := ⟨RX4, TX4, 7, "StepDebts$Scene", tyX4, rfl, in_X4, by decide, Or.inr ⟨rfl, _, zNw_of q262 rfl⟩, Or.inl rfl, rfl, (fun h => nomatch h), tyX4_ok, nmX4, tyX4_ok 2 (by decide)⟩
theorem fp_X1_329_3 : zFp RX1 329 3 3 (.int) false := ⟨RX4, TX4, 7, "StepDebts$Scene", tyX4, rfl, in_X4, by decide, Or.inr ⟨rfl, _, zNw_of q264 rfl⟩, Or.inl rfl, rfl, (fun h => nomatch h), tyX4_ok, nmX4, tyX4_ok 3 (by decide)⟩
theorem fp_X1_331_1 : zFp RX1 331 1 4 (.int) false := ⟨RX2, TX2, 13, "StepDebts$World", tyX2, rfl, in_X2, by decide, Or.inr ⟨rfl, _, zNw_of q174 rfl⟩, Or.inl rfl, rfl, (fun h => nomatch h), tyX2_ok, nmX2, tyX2_ok 4 (by decide)⟩
theorem fp_X1_334_3 : zFp RX1 334 3 4 (.int) false := ⟨RX4, TX4, 7, "StepDebts$Scene", tyX4, rfl, in_X4, by decide, Or.inr ⟨rfl, _, zNw_of q266 rfl⟩, Or.inl rfl, rfl, (fun h => nomatch h), tyX4_ok, nmX4, tyX4_ok 4 (by decide)⟩
theorem fp_X1_335_3 : zFp RX1 335 3 5 (.boolean) false := ⟨RX4, TX4, 7, "StepDebts$Scene", tyX4, rfl, in_X4, by decide, Or.inr ⟨rfl, _, zNw_of q268 rfl⟩, Or.inl rfl, rfl, (fun h => nomatch h), tyX4_ok, nmX4, tyX4_ok 5 (by decide)⟩
theorem fp_X1_339_6 : zFp RX1 339 6 3 (.int) false := ⟨RX7, TX7, 4, "StepDebts$Walker", tyX7, rfl, in_X7, by decide, Or.inr ⟨rfl, _, zNw_of q455 rfl⟩, Or.inl rfl, rfl, (fun h => nomatch h), tyX7_ok, nmX7, tyX7_ok 3 (by decide)⟩
theorem fp_X1_341_3 : zFp RX1 341 3 6 (.boolean) false := ⟨RX4, TX4, 7, "StepDebts$Scene", tyX4, rfl, in_X4, by decide, Or.inr ⟨rfl, _, zNw_of q270 rfl⟩, Or.inl rfl, rfl, (fun h => nomatch h), tyX4_ok, nmX4, tyX4_ok 6 (by decide)⟩
theorem fp_X1_396_8 : zFp RX1 396 8 7 (.boolean) false := ⟨RX9, TX9, 8, "StepDebts$Entry", tyX9, rfl, in_X9, by decide, Or.inr ⟨rfl, _, zNw_of q596 rfl⟩, Or.inl rfl, rfl, (fun h => nomatch h), tyX9_ok, nmX9, tyX9_ok 7 (by decide)⟩
theorem fp_X1_442_7 : zFp RX1 442 7 2 (.int) false := ⟨RX8, TX8, 3, "StepDebts$Turn", tyX8, rfl, in_X8, by decide, Or.inr ⟨rfl, _, zNw_of q557 rfl⟩, Or.inl rfl, rfl, (fun h => nomatch h), tyX8_ok, nmX8, tyX8_ok 2 (by decide)⟩
theorem fp_X1_470_0 : zFp RX1 470 0 6 (.int) false := ⟨RX1, TX1, 7, "StepDebts", tyX1, rfl, in_X1, by decide, Or.inl q327, Or.inl rfl, rfl, (fun h => nomatch h), tyX1_ok, nmX1, tyX1_ok 6 (by decide)⟩
theorem fp_X1_482_1 : zFp RX1 482 1 5 (.int) false := ⟨RX2, TX2, 13, "StepDebts$World", tyX2, rfl, in_X2, by decide, Or.inr ⟨rfl, _, zNw_of q176 rfl⟩, Or.inl rfl, rfl, (fun h => nomatch h), tyX2_ok, nmX2, tyX2_ok 5 (by decide)⟩
theorem fp_X1_492_0 : zFp RX1 492 0 1 (.object "StepDebts$World") false := ⟨RX1, TX1, 7, "StepDebts", tyX1, rfl, in_X1, by decide, Or.inl q322, Or.inl rfl, rfl, (fun h => nomatch h), tyX1_ok, nmX1, tyX1_ok 1 (by decide)⟩
theorem fp_X11_7_10 : zFp RX11 7 10 0 (.int) true := ⟨RX11, TX11, 2, "StepDebts$Offer", tyX11, rfl, in_X11, by decide, Or.inl q1146, Or.inl rfl, rfl, fun _ => rfl, tyX11_ok, nmX11, tyX11_ok 0 (by decide)⟩
theorem fp_X11_13_10 : zFp RX11 13 10 1 (.int) true := ⟨RX11, TX11, 2, "StepDebts$Offer", tyX11, rfl, in_X11, by decide, Or.inl q1148, Or.inl rfl, rfl, fun _ => rfl, tyX11_ok, nmX11, tyX11_ok 1 (by decide)⟩
theorem fp_X12_10_11 : zFp RX12 10 11 0 (.object "java/util/ArrayList") true := ⟨RX12, TX12, 1, "StepDebts$Law", tyX12, rfl, in_X12, by decide, Or.inl q1212, Or.inl rfl, rfl, fun _ => rfl, tyX12_ok, nmX12, tyX12_ok 0 (by decide)⟩
theorem fp_X13_7_12 : zFp RX13 7 12 0 (.int) true := ⟨RX13, TX13, 2, "StepDebts$Line", tyX13, rfl, in_X13, by decide, Or.inl q1369, Or.inl rfl, rfl, fun _ => rfl, tyX13_ok, nmX13, tyX13_ok 0 (by decide)⟩
theorem fp_X13_13_12 : zFp RX13 13 12 1 (.object "StepDebts$Cond") true := ⟨RX13, TX13, 2, "StepDebts$Line", tyX13, rfl, in_X13, by decide, Or.inl q1371, Or.inl rfl, rfl, fun _ => rfl, tyX13_ok, nmX13, tyX13_ok 1 (by decide)⟩
theorem fp_X14_10_13 : zFp RX14 10 13 1 (.object "java/util/ArrayList") true := ⟨RX14, TX14, 2, "StepDebts$Row", tyX14, rfl, in_X14, by decide, Or.inl q1238, Or.inl rfl, rfl, fun _ => rfl, tyX14_ok, nmX14, tyX14_ok 1 (by decide)⟩
theorem fp_X14_16_13 : zFp RX14 16 13 0 (.boolean) true := ⟨RX14, TX14, 2, "StepDebts$Row", tyX14, rfl, in_X14, by decide, Or.inl q1237, Or.inl rfl, rfl, fun _ => rfl, tyX14_ok, nmX14, tyX14_ok 0 (by decide)⟩
theorem fp_X15_7_14 : zFp RX15 7 14 0 (.object "StepDebts$Cond") true := ⟨RX15, TX15, 1, "StepDebts$Not", tyX15, rfl, in_X15, by decide, Or.inl q1268, Or.inl rfl, rfl, fun _ => rfl, tyX15_ok, nmX15, tyX15_ok 0 (by decide)⟩
theorem fp_X17_7_15 : zFp RX17 7 15 0 (.object "StepDebts$Tag") true := ⟨RX17, TX17, 1, "StepDebts$Is", tyX17, rfl, in_X17, by decide, Or.inl q1293, Or.inl rfl, rfl, fun _ => rfl, tyX17_ok, nmX17, tyX17_ok 0 (by decide)⟩
theorem fp_X18_10_16 : zFp RX18 10 16 0 (.object "java/util/ArrayList") true := ⟨RX18, TX18, 1, "StepDebts$Sum", tyX18, rfl, in_X18, by decide, Or.inl q1309, Or.inl rfl, rfl, fun _ => rfl, tyX18_ok, nmX18, tyX18_ok 0 (by decide)⟩
theorem fp_X19_7_17 : zFp RX19 7 17 0 (.int) true := ⟨RX19, TX19, 2, "StepDebts$Part", tyX19, rfl, in_X19, by decide, Or.inl q1328, Or.inl rfl, rfl, fun _ => rfl, tyX19_ok, nmX19, tyX19_ok 0 (by decide)⟩
theorem fp_X19_13_17 : zFp RX19 13 17 1 (.object "StepDebts$Fact") true := ⟨RX19, TX19, 2, "StepDebts$Part", tyX19, rfl, in_X19, by decide, Or.inl q1329, Or.inl rfl, rfl, fun _ => rfl, tyX19_ok, nmX19, tyX19_ok 1 (by decide)⟩
theorem fp_X2_9_1 : zFp RX2 9 1 2 (.int) false := ⟨RX2, TX2, 13, "StepDebts$World", tyX2, rfl, in_X2, by decide, Or.inl q168, Or.inl rfl, rfl, (fun h => nomatch h), tyX2_ok, nmX2, tyX2_ok 2 (by decide)⟩
theorem fp_X2_15_1 : zFp RX2 15 1 5 (.int) false := ⟨RX2, TX2, 13, "StepDebts$World", tyX2, rfl, in_X2, by decide, Or.inl q175, Or.inl rfl, rfl, (fun h => nomatch h), tyX2_ok, nmX2, tyX2_ok 5 (by decide)⟩
theorem fp_X2_18_1 : zFp RX2 18 1 7 (.array (.int)) true := ⟨RX2, TX2, 13, "StepDebts$World", tyX2, rfl, in_X2, by decide, Or.inl q179, Or.inl rfl, rfl, fun _ => rfl, tyX2_ok, nmX2, tyX2_ok 7 (by decide)⟩
theorem fp_X2_25_1 : zFp RX2 25 1 8 (.object "java/util/ArrayList") true := ⟨RX2, TX2, 13, "StepDebts$World", tyX2, rfl, in_X2, by decide, Or.inl q181, Or.inl rfl, rfl, fun _ => rfl, tyX2_ok, nmX2, tyX2_ok 8 (by decide)⟩
theorem fp_X2_29_1 : zFp RX2 29 1 9 (.object "java/util/ArrayList") true := ⟨RX2, TX2, 13, "StepDebts$World", tyX2, rfl, in_X2, by decide, Or.inl q184, Or.inl rfl, rfl, fun _ => rfl, tyX2_ok, nmX2, tyX2_ok 9 (by decide)⟩
theorem fp_X2_32_1 : zFp RX2 32 1 10 (.object "java/util/ArrayList") true := ⟨RX2, TX2, 13, "StepDebts$World", tyX2, rfl, in_X2, by decide, Or.inl q187, Or.inl rfl, rfl, fun _ => rfl, tyX2_ok, nmX2, tyX2_ok 10 (by decide)⟩
theorem fp_X2_35_1 : zFp RX2 35 1 11 (.object "java/util/ArrayList") true := ⟨RX2, TX2, 13, "StepDebts$World", tyX2, rfl, in_X2, by decide, Or.inl q189, Or.inl rfl, rfl, fun _ => rfl, tyX2_ok, nmX2, tyX2_ok 11 (by decide)⟩
theorem fp_X2_39_1 : zFp RX2 39 1 0 (.int) false := ⟨RX2, TX2, 13, "StepDebts$World", tyX2, rfl, in_X2, by decide, Or.inl q164, Or.inl rfl, rfl, (fun h => nomatch h), tyX2_ok, nmX2, tyX2_ok 0 (by decide)⟩
theorem fp_X2_42_1 : zFp RX2 42 1 1 (.int) false := ⟨RX2, TX2, 13, "StepDebts$World", tyX2, rfl, in_X2, by decide, Or.inl q166, Or.inl rfl, rfl, (fun h => nomatch h), tyX2_ok, nmX2, tyX2_ok 1 (by decide)⟩
theorem fp_X2_45_1 : zFp RX2 45 1 3 (.int) false := ⟨RX2, TX2, 13, "StepDebts$World", tyX2, rfl, in_X2, by decide, Or.inl q171, Or.inl rfl, rfl, (fun h => nomatch h), tyX2_ok, nmX2, tyX2_ok 3 (by decide)⟩
theorem fp_X2_48_1 : zFp RX2 48 1 4 (.int) false := ⟨RX2, TX2, 13, "StepDebts$World", tyX2, rfl, in_X2, by decide, Or.inl q173, Or.inl rfl, rfl, (fun h => nomatch h), tyX2_ok, nmX2, tyX2_ok 4 (by decide)⟩
theorem fp_X2_51_1 : zFp RX2 51 1 6 (.int) false := ⟨RX2, TX2, 13, "StepDebts$World", tyX2, rfl, in_X2, by decide, Or.inl q177, Or.inl rfl, rfl, (fun h => nomatch h), tyX2_ok, nmX2, tyX2_ok 6 (by decide)⟩
theorem fp_X2_54_1 : zFp RX2 54 1 12 (.object "StepDebts$Law") false := ⟨RX2, TX2, 13, "StepDebts$World", tyX2, rfl, in_X2, by decide, Or.inl q191, Or.inl rfl, rfl, (fun h => nomatch h), tyX2_ok, nmX2, tyX2_ok 12 (by decide)⟩
theorem fp_X2_106_7 : zFp RX2 106 7 1 (.int) false := ⟨RX8, TX8, 3, "StepDebts$Turn", tyX8, rfl, in_X8, by decide, Or.inr ⟨rfl, _, zNw_of q553 rfl⟩, Or.inl rfl, rfl, (fun h => nomatch h), tyX8_ok, nmX8, tyX8_ok 1 (by decide)⟩
theorem fp_X21_7_18 : zFp RX21 7 18 0 (.object "StepDebts$Sum") true := ⟨RX21, TX21, 2, "StepDebts$Less", tyX21, rfl, in_X21, by decide, Or.inl q1356, Or.inl rfl, rfl, fun _ => rfl, tyX21_ok, nmX21, tyX21_ok 0 (by decide)⟩
theorem fp_X21_13_18 : zFp RX21 13 18 1 (.object "StepDebts$Sum") true := ⟨RX21, TX21, 2, "StepDebts$Less", tyX21, rfl, in_X21, by decide, Or.inl q1357, Or.inl rfl, rfl, fun _ => rfl, tyX21_ok, nmX21, tyX21_ok 1 (by decide)⟩
theorem fp_X3_9_2 : zFp RX3 9 2 0 (.array (.byte)) true := ⟨RX3, TX3, 7, "StepDebts$Reader", tyX3, rfl, in_X3, by decide, Or.inl q226, Or.inl rfl, rfl, fun _ => rfl, tyX3_ok, nmX3, tyX3_ok 0 (by decide)⟩
theorem fp_X3_15_2 : zFp RX3 15 2 5 (.int) false := ⟨RX3, TX3, 7, "StepDebts$Reader", tyX3, rfl, in_X3, by decide, Or.inl q232, Or.inl rfl, rfl, (fun h => nomatch h), tyX3_ok, nmX3, tyX3_ok 5 (by decide)⟩
theorem fp_X3_19_2 : zFp RX3 19 2 1 (.int) false := ⟨RX3, TX3, 7, "StepDebts$Reader", tyX3, rfl, in_X3, by decide, Or.inl q227, Or.inl rfl, rfl, (fun h => nomatch h), tyX3_ok, nmX3, tyX3_ok 1 (by decide)⟩
theorem fp_X3_22_2 : zFp RX3 22 2 2 (.int) false := ⟨RX3, TX3, 7, "StepDebts$Reader", tyX3, rfl, in_X3, by decide, Or.inl q228, Or.inl rfl, rfl, (fun h => nomatch h), tyX3_ok, nmX3, tyX3_ok 2 (by decide)⟩
theorem fp_X3_25_2 : zFp RX3 25 2 3 (.int) false := ⟨RX3, TX3, 7, "StepDebts$Reader", tyX3, rfl, in_X3, by decide, Or.inl q229, Or.inl rfl, rfl, (fun h => nomatch h), tyX3_ok, nmX3, tyX3_ok 3 (by decide)⟩
theorem fp_X3_28_2 : zFp RX3 28 2 6 (.int) false := ⟨RX3, TX3, 7, "StepDebts$Reader", tyX3, rfl, in_X3, by decide, Or.inl q234, Or.inl rfl, rfl, (fun h => nomatch h), tyX3_ok, nmX3, tyX3_ok 6 (by decide)⟩
theorem fp_X3_35_2 : zFp RX3 35 2 4 (.int) false := ⟨RX3, TX3, 7, "StepDebts$Reader", tyX3, rfl, in_X3, by decide, Or.inl q230, Or.inl rfl, rfl, (fun h => nomatch h), tyX3_ok, nmX3, tyX3_ok 4 (by decide)⟩
theorem fp_X5_3_4 : zFp RX5 3 4 8 (.object "StepDebts") true := ⟨RX5, TX5, 9, "StepDebts$Plan", tyX5, rfl, in_X5, by decide, Or.inl q300, Or.inl rfl, rfl, fun _ => rfl, tyX5_ok, nmX5, tyX5_ok 8 (by decide)⟩
theorem fp_X5_15_4 : zFp RX5 15 4 0 (.array (.int)) true := ⟨RX5, TX5, 9, "StepDebts$Plan", tyX5, rfl, in_X5, by decide, Or.inl q292, Or.inl rfl, rfl, fun _ => rfl, tyX5_ok, nmX5, tyX5_ok 0 (by decide)⟩
theorem fp_X5_19_4 : zFp RX5 19 4 1 (.array (.int)) true := ⟨RX5, TX5, 9, "StepDebts$Plan", tyX5, rfl, in_X5, by decide, Or.inl q293, Or.inl rfl, rfl, fun _ => rfl, tyX5_ok, nmX5, tyX5_ok 1 (by decide)⟩
theorem fp_X5_22_4 : zFp RX5 22 4 2 (.array (.int)) false := ⟨RX5, TX5, 9, "StepDebts$Plan", tyX5, rfl, in_X5, by decide, Or.inl q294, Or.inl rfl, rfl, (fun h => nomatch h), tyX5_ok, nmX5, tyX5_ok 2 (by decide)⟩
theorem fp_X5_25_4 : zFp RX5 25 4 3 (.array (.int)) false := ⟨RX5, TX5, 9, "StepDebts$Plan", tyX5, rfl, in_X5, by decide, Or.inl q295, Or.inl rfl, rfl, (fun h => nomatch h), tyX5_ok, nmX5, tyX5_ok 3 (by decide)⟩
theorem fp_X5_28_4 : zFp RX5 28 4 4 (.int) false := ⟨RX5, TX5, 9, "StepDebts$Plan", tyX5, rfl, in_X5, by decide, Or.inl q296, Or.inl rfl, rfl, (fun h => nomatch h), tyX5_ok, nmX5, tyX5_ok 4 (by decide)⟩
theorem fp_X5_41_4 : zFp RX5 41 4 5 (.int) false := ⟨RX5, TX5, 9, "StepDebts$Plan", tyX5, rfl, in_X5, by decide, Or.inl q297, Or.inl rfl, rfl, (fun h => nomatch h), tyX5_ok, nmX5, tyX5_ok 5 (by decide)⟩
theorem fp_X5_44_4 : zFp RX5 44 4 6 (.int) false := ⟨RX5, TX5, 9, "StepDebts$Plan", tyX5, rfl, in_X5, by decide, Or.inl q298, Or.inl rfl, rfl, (fun h => nomatch h), tyX5_ok, nmX5, tyX5_ok 6 (by decide)⟩
theorem fp_X5_85_4 : zFp RX5 85 4 7 (.int) false := ⟨RX5, TX5, 9, "StepDebts$Plan", tyX5, rfl, in_X5, by decide, Or.inl q299, Or.inl rfl, rfl, (fun h => nomatch h), tyX5_ok, nmX5, tyX5_ok 7 (by decide)⟩
theorem fp_X6_7_5 : zFp RX6 7 5 1 (.array (.int)) true := ⟨RX6, TX6, 25, "StepDebtsModel", tyX6, rfl, in_X6, by decide, Or.inl q1764, Or.inl rfl, rfl, fun _ => rfl, tyX6_ok, nmX6, tyX6_ok 1 (by decide)⟩
theorem fp_X6_13_5 : zFp RX6 13 5 2 (.array (.int)) true := ⟨RX6, TX6, 25, "StepDebtsModel", tyX6, rfl, in_X6, by decide, Or.inl q1765, Or.inl rfl, rfl, fun _ => rfl, tyX6_ok, nmX6, tyX6_ok 2 (by decide)⟩
theorem fp_X6_16_5 : zFp RX6 16 5 4 (.array (.int)) true := ⟨RX6, TX6, 25, "StepDebtsModel", tyX6, rfl, in_X6, by decide, Or.inl q1767, Or.inl rfl, rfl, fun _ => rfl, tyX6_ok, nmX6, tyX6_ok 4 (by decide)⟩
theorem fp_X6_19_5 : zFp RX6 19 5 5 (.array (.int)) true := ⟨RX6, TX6, 25, "StepDebtsModel", tyX6, rfl, in_X6, by decide, Or.inl q1768, Or.inl rfl, rfl, fun _ => rfl, tyX6_ok, nmX6, tyX6_ok 5 (by decide)⟩
theorem fp_X6_22_5 : zFp RX6 22 5 10 (.int) false := ⟨RX6, TX6, 25, "StepDebtsModel", tyX6, rfl, in_X6, by decide, Or.inl q1773, Or.inl rfl, rfl, (fun h => nomatch h), tyX6_ok, nmX6, tyX6_ok 10 (by decide)⟩
theorem fp_X6_26_5 : zFp RX6 26 5 12 (.array (.int)) true := ⟨RX6, TX6, 25, "StepDebtsModel", tyX6, rfl, in_X6, by decide, Or.inl q1775, Or.inl rfl, rfl, fun _ => rfl, tyX6_ok, nmX6, tyX6_ok 12 (by decide)⟩
theorem fp_X6_29_5 : zFp RX6 29 5 17 (.array (.int)) true := ⟨RX6, TX6, 25, "StepDebtsModel", tyX6, rfl, in_X6, by decide, Or.inl q1780, Or.inl rfl, rfl, fun _ => rfl, tyX6_ok, nmX6, tyX6_ok 17 (by decide)⟩
theorem fp_X6_32_5 : zFp RX6 32 5 19 (.array (.int)) true := ⟨RX6, TX6, 25, "StepDebtsModel", tyX6, rfl, in_X6, by decide, Or.inl q1782, Or.inl rfl, rfl, fun _ => rfl, tyX6_ok, nmX6, tyX6_ok 19 (by decide)⟩
theorem fp_X6_35_5 : zFp RX6 35 5 20 (.array (.int)) true := ⟨RX6, TX6, 25, "StepDebtsModel", tyX6, rfl, in_X6, by decide, Or.inl q1783, Or.inl rfl, rfl, fun _ => rfl, tyX6_ok, nmX6, tyX6_ok 20 (by decide)⟩
theorem fp_X6_38_5 : zFp RX6 38 5 21 (.array (.int)) true := ⟨RX6, TX6, 25, "StepDebtsModel", tyX6, rfl, in_X6, by decide, Or.inl q1784, Or.inl rfl, rfl, fun _ => rfl, tyX6_ok, nmX6, tyX6_ok 21 (by decide)⟩
theorem fp_X6_41_5 : zFp RX6 41 5 0 (.int) false := ⟨RX6, TX6, 25, "StepDebtsModel", tyX6, rfl, in_X6, by decide, Or.inl q1763, Or.inl rfl, rfl, (fun h => nomatch h), tyX6_ok, nmX6, tyX6_ok 0 (by decide)⟩
theorem fp_X6_48_5 : zFp RX6 48 5 6 (.int) false := ⟨RX6, TX6, 25, "StepDebtsModel", tyX6, rfl, in_X6, by decide, Or.inl q1769, Or.inl rfl, rfl, (fun h => nomatch h), tyX6_ok, nmX6, tyX6_ok 6 (by decide)⟩
theorem fp_X6_51_5 : zFp RX6 51 5 7 (.int) false := ⟨RX6, TX6, 25, "StepDebtsModel", tyX6, rfl, in_X6, by decide, Or.inl q1770, Or.inl rfl, rfl, (fun h => nomatch h), tyX6_ok, nmX6, tyX6_ok 7 (by decide)⟩
theorem fp_X6_54_5 : zFp RX6 54 5 9 (.int) false := ⟨RX6, TX6, 25, "StepDebtsModel", tyX6, rfl, in_X6, by decide, Or.inl q1772, Or.inl rfl, rfl, (fun h => nomatch h), tyX6_ok, nmX6, tyX6_ok 9 (by decide)⟩
theorem fp_X6_57_5 : zFp RX6 57 5 8 (.int) false := ⟨RX6, TX6, 25, "StepDebtsModel", tyX6, rfl, in_X6, by decide, Or.inl q1771, Or.inl rfl, rfl, (fun h => nomatch h), tyX6_ok, nmX6, tyX6_ok 8 (by decide)⟩
theorem fp_X6_122_5 : zFp RX6 122 5 11 (.int) false := ⟨RX6, TX6, 25, "StepDebtsModel", tyX6, rfl, in_X6, by decide, Or.inl q1774, Or.inl rfl, rfl, (fun h => nomatch h), tyX6_ok, nmX6, tyX6_ok 11 (by decide)⟩
theorem fp_X6_153_5 : zFp RX6 153 5 13 (.int) false := ⟨RX6, TX6, 25, "StepDebtsModel", tyX6, rfl, in_X6, by decide, Or.inl q1776, Or.inl rfl, rfl, (fun h => nomatch h), tyX6_ok, nmX6, tyX6_ok 13 (by decide)⟩
theorem fp_X6_158_5 : zFp RX6 158 5 14 (.boolean) false := ⟨RX6, TX6, 25, "StepDebtsModel", tyX6, rfl, in_X6, by decide, Or.inl q1777, Or.inl rfl, rfl, (fun h => nomatch h), tyX6_ok, nmX6, tyX6_ok 14 (by decide)⟩
theorem fp_X6_164_5 : zFp RX6 164 5 15 (.boolean) false := ⟨RX6, TX6, 25, "StepDebtsModel", tyX6, rfl, in_X6, by decide, Or.inl q1778, Or.inl rfl, rfl, (fun h => nomatch h), tyX6_ok, nmX6, tyX6_ok 15 (by decide)⟩
theorem fp_X6_193_5 : zFp RX6 193 5 16 (.int) false := ⟨RX6, TX6, 25, "StepDebtsModel", tyX6, rfl, in_X6, by decide, Or.inl q1779, Or.inl rfl, rfl, (fun h => nomatch h), tyX6_ok, nmX6, tyX6_ok 16 (by decide)⟩
theorem fp_X6_244_5 : zFp RX6 244 5 18 (.int) false := ⟨RX6, TX6, 25, "StepDebtsModel", tyX6, rfl, in_X6, by decide, Or.inl q1781, Or.inl rfl, rfl, (fun h => nomatch h), tyX6_ok, nmX6, tyX6_ok 18 (by decide)⟩
theorem fp_X6_256_5 : zFp RX6 256 5 22 (.int) false := ⟨RX6, TX6, 25, "StepDebtsModel", tyX6, rfl, in_X6, by decide, Or.inl q1785, Or.inl rfl, rfl, (fun h => nomatch h), tyX6_ok, nmX6, tyX6_ok 22 (by decide)⟩
theorem fp_X6_265_5 : zFp RX6 265 5 23 (.int) false := ⟨RX6, TX6, 25, "StepDebtsModel", tyX6, rfl, in_X6, by decide, Or.inl q1786, Or.inl rfl, rfl, (fun h => nomatch h), tyX6_ok, nmX6, tyX6_ok 23 (by decide)⟩
theorem fp_X6_268_5 : zFp RX6 268 5 24 (.int) false := ⟨RX6, TX6, 25, "StepDebtsModel", tyX6, rfl, in_X6, by decide, Or.inl q1787, Or.inl rfl, rfl, (fun h => nomatch h), tyX6_ok, nmX6, tyX6_ok 24 (by decide)⟩
theorem fp_X6_280_5 : zFp RX6 280 5 3 (.boolean) false := ⟨RX6, TX6, 25, "StepDebtsModel", tyX6, rfl, in_X6, by decide, Or.inl q1766, Or.inl rfl, rfl, (fun h => nomatch h), tyX6_ok, nmX6, tyX6_ok 3 (by decide)⟩
theorem fp_X7_7_6 : zFp RX7 7 6 0 (.int) true := ⟨RX7, TX7, 4, "StepDebts$Walker", tyX7, rfl, in_X7, by decide, Or.inl q447, Or.inl rfl, rfl, fun _ => rfl, tyX7_ok, nmX7, tyX7_ok 0 (by decide)⟩
theorem fp_X7_13_6 : zFp RX7 13 6 1 (.int) true := ⟨RX7, TX7, 4, "StepDebts$Walker", tyX7, rfl, in_X7, by decide, Or.inl q449, Or.inl rfl, rfl, fun _ => rfl, tyX7_ok, nmX7, tyX7_ok 1 (by decide)⟩
theorem fp_X7_16_6 : zFp RX7 16 6 3 (.int) false := ⟨RX7, TX7, 4, "StepDebts$Walker", tyX7, rfl, in_X7, by decide, Or.inl q453, Or.inl rfl, rfl, (fun h => nomatch h), tyX7_ok, nmX7, tyX7_ok 3 (by decide)⟩
theorem fp_X7_19_6 : zFp RX7 19 6 2 (.int) true := ⟨RX7, TX7, 4, "StepDebts$Walker", tyX7, rfl, in_X7, by decide, Or.inl q451, Or.inl rfl, rfl, fun _ => rfl, tyX7_ok, nmX7, tyX7_ok 2 (by decide)⟩
theorem fp_X8_7_7 : zFp RX8 7 7 0 (.int) true := ⟨RX8, TX8, 3, "StepDebts$Turn", tyX8, rfl, in_X8, by decide, Or.inl q549, Or.inl rfl, rfl, fun _ => rfl, tyX8_ok, nmX8, tyX8_ok 0 (by decide)⟩
theorem fp_X8_16_7 : zFp RX8 16 7 1 (.int) false := ⟨RX8, TX8, 3, "StepDebts$Turn", tyX8, rfl, in_X8, by decide, Or.inl q552, Or.inl rfl, rfl, (fun h => nomatch h), tyX8_ok, nmX8, tyX8_ok 1 (by decide)⟩
theorem fp_X8_19_7 : zFp RX8 19 7 2 (.int) false := ⟨RX8, TX8, 3, "StepDebts$Turn", tyX8, rfl, in_X8, by decide, Or.inl q555, Or.inl rfl, rfl, (fun h => nomatch h), tyX8_ok, nmX8, tyX8_ok 2 (by decide)⟩
theorem fp_X9_7_8 : zFp RX9 7 8 0 (.int) true := ⟨RX9, TX9, 8, "StepDebts$Entry", tyX9, rfl, in_X9, by decide, Or.inl q575, Or.inl rfl, rfl, fun _ => rfl, tyX9_ok, nmX9, tyX9_ok 0 (by decide)⟩
theorem fp_X9_13_8 : zFp RX9 13 8 1 (.int) true := ⟨RX9, TX9, 8, "StepDebts$Entry", tyX9, rfl, in_X9, by decide, Or.inl q577, Or.inl rfl, rfl, fun _ => rfl, tyX9_ok, nmX9, tyX9_ok 1 (by decide)⟩
theorem fp_X9_16_8 : zFp RX9 16 8 2 (.int) true := ⟨RX9, TX9, 8, "StepDebts$Entry", tyX9, rfl, in_X9, by decide, Or.inl q580, Or.inl rfl, rfl, fun _ => rfl, tyX9_ok, nmX9, tyX9_ok 2 (by decide)⟩
theorem fp_X9_19_8 : zFp RX9 19 8 3 (.int) true := ⟨RX9, TX9, 8, "StepDebts$Entry", tyX9, rfl, in_X9, by decide, Or.inl q583, Or.inl rfl, rfl, fun _ => rfl, tyX9_ok, nmX9, tyX9_ok 3 (by decide)⟩
theorem fp_X9_22_8 : zFp RX9 22 8 4 (.int) true := ⟨RX9, TX9, 8, "StepDebts$Entry", tyX9, rfl, in_X9, by decide, Or.inl q586, Or.inl rfl, rfl, fun _ => rfl, tyX9_ok, nmX9, tyX9_ok 4 (by decide)⟩
theorem fp_X9_25_8 : zFp RX9 25 8 6 (.boolean) true := ⟨RX9, TX9, 8, "StepDebts$Entry", tyX9, rfl, in_X9, by decide, Or.inl q591, Or.inl rfl, rfl, fun _ => rfl, tyX9_ok, nmX9, tyX9_ok 6 (by decide)⟩
theorem fp_X9_29_8 : zFp RX9 29 8 5 (.int) true := ⟨RX9, TX9, 8, "StepDebts$Entry", tyX9, rfl, in_X9, by decide, Or.inl q589, Or.inl rfl, rfl, fun _ => rfl, tyX9_ok, nmX9, tyX9_ok 5 (by decide)⟩
theorem fp_X9_35_8 : zFp RX9 35 8 7 (.boolean) false := ⟨RX9, TX9, 8, "StepDebts$Entry", tyX9, rfl, in_X9, by decide, Or.inl q594, Or.inl rfl, rfl, (fun h => nomatch h), tyX9_ok, nmX9, tyX9_ok 7 (by decide)⟩
theorem ne_J9_18 : zNe RJ9 18 21 [.null, .int 0, .int 0, .int 0] := ⟨RJ10, TJ10, 4, tyJ10, rfl, in_J10, tyJ10_ok, q798, q799, q96, rfl, by decide⟩
theorem ne_X0_8 : zNe RX0 8 0 [.null, .null, .null, .null, .null, .null, .int 0] := ⟨RX1, TX1, 7, tyX1, rfl, in_X1, tyX1_ok, q123, q124, q76, rfl, by decide⟩
theorem ne_X0_84 : zNe RX0 84 5 [.int 0, .null, .null, .int 0, .null, .null, .int 0, .int 0, .int 0, .int 0, .int 0, .int 0, .null, .int 0, .int 0, .int 0, .int 0, .null, .int 0, .null, .null, .null, .int 0, .int 0, .int 0] := ⟨RX6, TX6, 25, tyX6, rfl, in_X6, tyX6_ok, q1757, q1758, q84, rfl, by decide⟩
theorem ne_X1_7 : zNe RX1 7 1 [.int 0, .int 0, .int 0, .int 0, .int 0, .int 0, .int 0, .null, .null, .null, .null, .null, .null] := ⟨RX2, TX2, 13, tyX2, rfl, in_X2, tyX2_ok, q131, q132, q77, rfl, by decide⟩
theorem ne_X1_16 : zNe RX1 16 2 [.null, .int 0, .int 0, .int 0, .int 0, .int 0, .int 0] := ⟨RX3, TX3, 7, tyX3, rfl, in_X3, tyX3_ok, q220, q221, q81, rfl, by decide⟩
theorem ne_X1_23 : zNe RX1 23 3 [.int 0, .int 0, .int 0, .int 0, .int 0, .int 0, .int 0] := ⟨RX4, TX4, 7, tyX4, rfl, in_X4, tyX4_ok, q251, q252, q82, rfl, by decide⟩
theorem ne_X1_30 : zNe RX1 30 4 [.null, .null, .null, .null, .int 0, .int 0, .int 0, .int 0, .null] := ⟨RX5, TX5, 9, tyX5, rfl, in_X5, tyX5_ok, q286, q287, q83, rfl, by decide⟩
theorem ne_X1_88 : zNe RX1 88 6 [.int 0, .int 0, .int 0, .int 0] := ⟨RX7, TX7, 4, tyX7, rfl, in_X7, tyX7_ok, q1124, q442, q88, rfl, by decide⟩
theorem ne_X1_111 : zNe RX1 111 10 [.int 0, .int 0] := ⟨RX11, TX11, 2, tyX11, rfl, in_X11, tyX11_ok, q1140, q1141, q106, rfl, by decide⟩
theorem ne_X1_147 : zNe RX1 147 7 [.int 0, .int 0, .int 0] := ⟨RX8, TX8, 3, tyX8, rfl, in_X8, tyX8_ok, q397, q544, q92, rfl, by decide⟩
theorem ne_X1_206 : zNe RX1 206 17 [.int 0, .null] := ⟨RX19, TX19, 2, tyX19, rfl, in_X19, tyX19_ok, q1322, q1323, q116, rfl, by decide⟩
theorem ne_X1_216 : zNe RX1 216 16 [.null] := ⟨RX18, TX18, 1, tyX18, rfl, in_X18, tyX18_ok, q1301, q1302, q115, rfl, by decide⟩
theorem ne_X1_241 : zNe RX1 241 14 [.null] := ⟨RX15, TX15, 1, tyX15, rfl, in_X15, tyX15_ok, q1262, q1263, q111, rfl, by decide⟩
theorem ne_X1_253 : zNe RX1 253 15 [.null] := ⟨RX17, TX17, 1, tyX17, rfl, in_X17, tyX17_ok, q1287, q1288, q114, rfl, by decide⟩
theorem ne_X1_262 : zNe RX1 262 18 [.null, .null] := ⟨RX21, TX21, 2, tyX21, rfl, in_X21, tyX21_ok, q1350, q1351, q118, rfl, by decide⟩
theorem ne_X1_267 : zNe RX1 267 13 [.int 0, .null] := ⟨RX14, TX14, 2, tyX14, rfl, in_X14, tyX14_ok, q1229, q1230, q110, rfl, by decide⟩
theorem ne_X1_284 : zNe RX1 284 12 [.int 0, .null] := ⟨RX13, TX13, 2, tyX13, rfl, in_X13, tyX13_ok, q1222, q1223, q109, rfl, by decide⟩
theorem ne_X1_291 : zNe RX1 291 11 [.null] := ⟨RX12, TX12, 1, tyX12, rfl, in_X12, tyX12_ok, q1204, q1205, q108, rfl, by decide⟩
theorem ne_X12_7 : zNe RX12 7 19 [.int 0, .null, .int 0] := ⟨RJ2, TJ2, 3, tyJ2, rfl, in_J2, tyJ2_ok, q1210, q138, q80, rfl, by decide⟩
theorem ne_X14_7 : zNe RX14 7 19 [.int 0, .null, .int 0] := ⟨RJ2, TJ2, 3, tyJ2, rfl, in_J2, tyJ2_ok, q1235, q138, q80, rfl, by decide⟩
theorem ne_X18_7 : zNe RX18 7 19 [.int 0, .null, .int 0] := ⟨RJ2, TJ2, 3, tyJ2, rfl, in_J2, tyJ2_ok, q1307, q138, q80, rfl, by decide⟩
theorem ne_X2_10 : zNe RX2 10 1 [.int 0, .int 0, .int 0, .int 0, .int 0, .int 0, .int 0, .null, .null, .null, .null, .null, .null] := ⟨RX2, TX2, 13, tyX2, rfl, in_X2, tyX2_ok, q433, q132, q77, rfl, by decide⟩
theorem ne_X2_22 : zNe RX2 22 19 [.int 0, .null, .int 0] := ⟨RJ2, TJ2, 3, tyJ2, rfl, in_J2, tyJ2_ok, q137, q138, q80, rfl, by decide⟩
theorem ne_X2_87 : zNe RX2 87 8 [.int 0, .int 0, .int 0, .int 0, .int 0, .int 0, .int 0, .int 0] := ⟨RX9, TX9, 8, tyX9, rfl, in_X9, tyX9_ok, q412, q570, q93, rfl, by decide⟩
theorem ne_X3_45 : zNe RX3 45 20 [.null, .int 0, .int 0, .int 0] := ⟨RJ9, TJ9, 4, tyJ9, rfl, in_J9, tyJ9_ok, q685, q686, q95, rfl, by decide⟩
theorem ne_X3_76 : zNe RX3 76 9 [.null, .null, .null, .null, .null, .int 0] := ⟨RX10, TX10, 6, tyX10, rfl, in_X10, tyX10_ok, q1006, q1007, q105, rfl, by decide⟩
theorem ne_X7_8 : zNe RX7 8 6 [.int 0, .int 0, .int 0, .int 0] := ⟨RX7, TX7, 4, tyX7, rfl, in_X7, tyX7_ok, q441, q442, q88, rfl, by decide⟩
theorem ne_X8_8 : zNe RX8 8 7 [.int 0, .int 0, .int 0] := ⟨RX8, TX8, 3, tyX8, rfl, in_X8, tyX8_ok, q543, q544, q92, rfl, by decide⟩
theorem ne_X9_8 : zNe RX9 8 8 [.int 0, .int 0, .int 0, .int 0, .int 0, .int 0, .int 0, .int 0] := ⟨RX9, TX9, 8, tyX9, rfl, in_X9, tyX9_ok, q569, q570, q93, rfl, by decide⟩
theorem st_X1_77 : (RX1, 77, "of", 109) ∈ zStr := zStr_of (i := 9) q1123 rfl
theorem st_X1_90 : (RX1, 90, "zeal", 110) ∈ zStr := zStr_of (i := 10) q1125 rfl
theorem st_X1_109 : (RX1, 109, "for", 111) ∈ zStr := zStr_of (i := 11) q1139 rfl
theorem st_X1_119 : (RX1, 119, "house", 100) ∈ zStr := zStr_of (i := 0) q1091 rfl
theorem st_X1_121 : (RX1, 121, "man", 101) ∈ zStr := zStr_of (i := 1) q1100 rfl
theorem st_X1_123 : (RX1, 123, "child", 102) ∈ zStr := zStr_of (i := 2) q1101 rfl
theorem st_X1_125 : (RX1, 125, "donkey", 103) ∈ zStr := zStr_of (i := 3) q1102 rfl
theorem st_X1_127 : (RX1, 127, "cripple", 104) ∈ zStr := zStr_of (i := 4) q1103 rfl
theorem st_X1_129 : (RX1, 129, "turn", 105) ∈ zStr := zStr_of (i := 5) q1104 rfl
theorem st_X1_131 : (RX1, 131, "limit", 106) ∈ zStr := zStr_of (i := 6) q1105 rfl
theorem st_X1_133 : (RX1, 133, "rest", 107) ∈ zStr := zStr_of (i := 7) q1106 rfl
theorem st_X1_135 : (RX1, 135, "offer", 108) ∈ zStr := zStr_of (i := 8) q1107 rfl
theorem st_X1_236 : (RX1, 236, "not", 114) ∈ zStr := zStr_of (i := 14) q1261 rfl
theorem st_X1_275 : (RX1, 275, "and", 115) ∈ zStr := zStr_of (i := 15) q1363 rfl
theorem st_X1_280 : (RX1, 280, "or", 116) ∈ zStr := zStr_of (i := 16) q1364 rfl
theorem st_X1_282 : (RX1, 282, "count", 112) ∈ zStr := zStr_of (i := 12) q1221 rfl
theorem st_X1_286 : (RX1, 286, "if", 113) ∈ zStr := zStr_of (i := 13) q1224 rfl
theorem st_X6_89 : (RX6, 89, "of", 109) ∈ zStr := zStr_of (i := 9) q1955 rfl
theorem st_X6_95 : (RX6, 95, "zeal", 110) ∈ zStr := zStr_of (i := 10) q1960 rfl
theorem st_X6_97 : (RX6, 97, "house", 100) ∈ zStr := zStr_of (i := 0) q1949 rfl
theorem st_X6_100 : (RX6, 100, "man", 101) ∈ zStr := zStr_of (i := 1) q1925 rfl
theorem st_X6_106 : (RX6, 106, "child", 102) ∈ zStr := zStr_of (i := 2) q1926 rfl
theorem st_X6_108 : (RX6, 108, "donkey", 103) ∈ zStr := zStr_of (i := 3) q1927 rfl
theorem st_X6_110 : (RX6, 110, "cripple", 104) ∈ zStr := zStr_of (i := 4) q1928 rfl
theorem st_X6_112 : (RX6, 112, "turn", 105) ∈ zStr := zStr_of (i := 5) q1961 rfl
theorem st_X6_114 : (RX6, 114, "limit", 106) ∈ zStr := zStr_of (i := 6) q1962 rfl
theorem st_X6_116 : (RX6, 116, "rest", 107) ∈ zStr := zStr_of (i := 7) q1963 rfl
theorem st_X6_118 : (RX6, 118, "offer", 108) ∈ zStr := zStr_of (i := 8) q1964 rfl
theorem st_X6_120 : (RX6, 120, "for", 111) ∈ zStr := zStr_of (i := 11) q1965 rfl
theorem st_X6_142 : (RX6, 142, "age", 119) ∈ zStr := zStr_of (i := 19) q1939 rfl
theorem st_X6_144 : (RX6, 144, "wear", 120) ∈ zStr := zStr_of (i := 20) q1940 rfl
theorem st_X6_146 : (RX6, 146, "paces", 121) ∈ zStr := zStr_of (i := 21) q1941 rfl
theorem st_X6_148 : (RX6, 148, "day", 122) ∈ zStr := zStr_of (i := 22) q1942 rfl
theorem st_X6_156 : (RX6, 156, "night", 117) ∈ zStr := zStr_of (i := 17) q1929 rfl
theorem st_X6_162 : (RX6, 162, "own", 118) ∈ zStr := zStr_of (i := 18) q1930 rfl
theorem st_X6_170 : (RX6, 170, "not", 114) ∈ zStr := zStr_of (i := 14) q1916 rfl
theorem st_X6_182 : (RX6, 182, "and", 115) ∈ zStr := zStr_of (i := 15) q1943 rfl
theorem st_X6_187 : (RX6, 187, "or", 116) ∈ zStr := zStr_of (i := 16) q1944 rfl
theorem st_X6_189 : (RX6, 189, "count", 112) ∈ zStr := zStr_of (i := 12) q1882 rfl
theorem st_X6_191 : (RX6, 191, "if", 113) ∈ zStr := zStr_of (i := 13) q1903 rfl
theorem th_X1_181_a : ∀ w ∈ (vx_at0 RX1 181 (zEx 0) zNm2).filter goodWord, w ∈ lw_all := zAllA (by decide +kernel)
theorem th_X1_181_b : ∀ w ∈ (vx_at0 RX1 181 (zEx 0) zNm2).filter (fun w => !goodWord w), w ∈ zNw := zAllB (by decide +kernel)
theorem th_X1_181_c : ∀ w ∈ Cond.classLink RX1 179 (zEx 0) :: Cond.initialized (zEx 0) :: vx_at0 RX1 181 (zEx 0) zNm2, vx_ot w = true := zAllC (by decide +kernel)
theorem th_X1_202_a : ∀ w ∈ (vx_at0 RX1 202 (zEx 1) zNm2).filter goodWord, w ∈ lw_all := zAllA (by decide +kernel)
theorem th_X1_202_b : ∀ w ∈ (vx_at0 RX1 202 (zEx 1) zNm2).filter (fun w => !goodWord w), w ∈ zNw := zAllB (by decide +kernel)
theorem th_X1_202_c : ∀ w ∈ Cond.classLink RX1 200 (zEx 1) :: Cond.initialized (zEx 1) :: vx_at0 RX1 202 (zEx 1) zNm2, vx_ot w = true := zAllC (by decide +kernel)
theorem th_X1_353_a : ∀ w ∈ (vx_at0 RX1 353 (zEx 2) zNm2).filter goodWord, w ∈ lw_all := zAllA (by decide +kernel)
theorem th_X1_353_b : ∀ w ∈ (vx_at0 RX1 353 (zEx 2) zNm2).filter (fun w => !goodWord w), w ∈ zNw := zAllB (by decide +kernel)
theorem th_X1_353_c : ∀ w ∈ Cond.classLink RX1 351 (zEx 2) :: Cond.initialized (zEx 2) :: vx_at0 RX1 353 (zEx 2) zNm2, vx_ot w = true := zAllC (by decide +kernel)
theorem th_X1_356_a : ∀ w ∈ (vx_at0 RX1 356 (zEx 4) zNm2).filter goodWord, w ∈ lw_all := zAllA (by decide +kernel)
theorem th_X1_356_b : ∀ w ∈ (vx_at0 RX1 356 (zEx 4) zNm2).filter (fun w => !goodWord w), w ∈ zNw := zAllB (by decide +kernel)
theorem th_X1_356_c : ∀ w ∈ Cond.classLink RX1 354 (zEx 4) :: Cond.initialized (zEx 4) :: vx_at0 RX1 356 (zEx 4) zNm2, vx_ot w = true := zAllC (by decide +kernel)
theorem th_X1_359_a : ∀ w ∈ (vx_at0 RX1 359 (zEx 3) zNm2).filter goodWord, w ∈ lw_all := zAllA (by decide +kernel)
theorem th_X1_359_b : ∀ w ∈ (vx_at0 RX1 359 (zEx 3) zNm2).filter (fun w => !goodWord w), w ∈ zNw := zAllB (by decide +kernel)
theorem th_X1_359_c : ∀ w ∈ Cond.classLink RX1 357 (zEx 3) :: Cond.initialized (zEx 3) :: vx_at0 RX1 359 (zEx 3) zNm2, vx_ot w = true := zAllC (by decide +kernel)
theorem lk_J1_1 : zLI RJ1 1 yJ0_init (ws_ yJ0_init cJ0_init 1 (Option.none : Option Jvm.ClassFile.FieldType)) 0 := ⟨lw_meth q147, q78, q145, q146, rfl, by decide, by decide, by decide⟩
theorem lk_J10_54 : zLS RJ10 54 yJ7_copyOfRange (ws_ yJ7_copyOfRange cJ7_copyOfRange 3 (Option.some (Jvm.ClassFile.FieldType.array Jvm.ClassFile.FieldType.byte))) 3 := ⟨lw_S q821 q822 q91 q823, by decide, by decide, by decide⟩
theorem lk_J10_335 : zLV RJ10 335 RJ10 yJ10_coder (ws_ yJ10_coder cJ10_coder 1 (Option.some Jvm.ClassFile.FieldType.byte)) 0 := ⟨lw_V q930 q931 q932 q96 q933, rfl, by decide, by decide, by decide⟩
theorem lk_J10_489 : zLI RJ10 489 yJ10_init_2 (ws_ yJ10_init_2 cJ10_init_2 5 (Option.none : Option Jvm.ClassFile.FieldType)) 2 := ⟨lw_meth q805, q96, q803, q804, rfl, by decide, by decide, by decide⟩
theorem lk_J10_492 : zLV RJ10 492 RJ10 yJ10_isLatin1 (ws_ yJ10_isLatin1 cJ10_isLatin1 1 (Option.some Jvm.ClassFile.FieldType.boolean)) 0 := ⟨lw_V q1034 q1035 q1036 q96 q1037, rfl, by decide, by decide, by decide⟩
theorem lk_J10_495 : zLS RJ10 495 yJ12_charAt (ws_ yJ12_charAt cJ12_charAt 2 (Option.some Jvm.ClassFile.FieldType.char)) 2 := ⟨lw_S q1892 q1893 q98 q1894, by decide, by decide, by decide⟩
theorem lk_J10_541 : zLS RJ10 541 yJ12_equals (ws_ yJ12_equals cJ12_equals 3 (Option.some Jvm.ClassFile.FieldType.boolean)) 2 := ⟨lw_S q1097 q1098 q98 q1099, by decide, by decide, by decide⟩
theorem lk_J10_549 : zLG RJ10 549 RJ9 "java/lang/AbstractStringBuilder" ⟨"java/lang/AbstractStringBuilder", "length", "()I"⟩ yJ9_length (ws_ yJ9_length cJ9_length 1 (Option.some Jvm.ClassFile.FieldType.int)) 0 := ⟨lw_meth q817, q812, q814, q816, q95, ⟨q813, _, _, _, q819⟩, Or.inl q815, by decide, by decide, by decide⟩
theorem lk_J10_552 : zLG RJ10 552 RJ9 "java/lang/AbstractStringBuilder" ⟨"java/lang/AbstractStringBuilder", "getValue", "()[B"⟩ yJ8_getValue (ws_ yJ8_getValue cJ8_getValue 1 (Option.some (Jvm.ClassFile.FieldType.array Jvm.ClassFile.FieldType.byte))) 0 := ⟨lw_meth q811, q807, q809, q808, q94, ⟨q808, _, _, _, q811⟩, Or.inl q810, by decide, by decide, by decide⟩
theorem lk_J10_628 : zLS RJ10 628 yJ12_hashCode (ws_ yJ12_hashCode cJ12_hashCode 1 (Option.some Jvm.ClassFile.FieldType.int)) 1 := ⟨lw_S q1038 q1039 q98 q1040, by decide, by decide, by decide⟩
theorem lk_J10_1047 : zLG RJ10 1047 RJ9 "java/lang/AbstractStringBuilder" ⟨"java/lang/AbstractStringBuilder", "isLatin1", "()Z"⟩ yJ8_isLatin1 (ws_ yJ8_isLatin1 cJ8_isLatin1 1 (Option.some Jvm.ClassFile.FieldType.boolean)) 0 := ⟨lw_meth q747, q820, q745, q744, q94, ⟨q744, _, _, _, q747⟩, Or.inl q746, by decide, by decide, by decide⟩
theorem lk_J10_1059 : zLS RJ10 1059 yJ4_checkIndex (ws_ yJ4_checkIndex cJ4_checkIndex 3 (Option.some Jvm.ClassFile.FieldType.int)) 3 := ⟨lw_S q793 q379 q87 q380, by decide, by decide, by decide⟩
theorem lk_J12_9 : zLS RJ12 9 yJ10_checkIndex (ws_ yJ10_checkIndex cJ10_checkIndex 2 (Option.none : Option Jvm.ClassFile.FieldType)) 2 := ⟨lw_S q1895 q791 q96 q792, by decide, by decide, by decide⟩
theorem lk_J12_84 : zLS RJ12 84 yJ5_vectorizedHashCode (ws_ yJ5_vectorizedHashCode cJ5_vectorizedHashCode 5 (Option.some Jvm.ClassFile.FieldType.int)) 5 := ⟨lw_S q1041 q1042 q89 q1043, by decide, by decide, by decide⟩
theorem lk_J14_16 : zLI RJ14 16 yJ13_init_3 (ws_ yJ13_init_3 cJ13_init_3 5 (Option.none : Option Jvm.ClassFile.FieldType)) 4 := ⟨lw_meth q1023, q99, q1021, q1022, rfl, by decide, by decide, by decide⟩
theorem lk_J2_1 : zLI RJ2 1 yJ1_init (ws_ yJ1_init cJ1_init 1 (Option.none : Option Jvm.ClassFile.FieldType)) 0 := ⟨lw_meth q144, q79, q142, q143, rfl, by decide, by decide, by decide⟩
theorem lk_J2_42 : zLF RJ2 42 RJ2 ⟨"java/util/Collection", "toArray", "()[Ljava/lang/Object;"⟩ yJ2_toArray (ws_ yJ2_toArray cJ2_toArray 1 (Option.some (Jvm.ClassFile.FieldType.array (Jvm.ClassFile.FieldType.object "java/lang/Object")))) 0 := ⟨lw_app (List.forall_mem_cons.mpr ⟨q619, List.forall_mem_cons.mpr ⟨q623, List.forall_mem_cons.mpr ⟨q625, List.forall_mem_cons.mpr ⟨q80, fun r hr => absurd hr List.not_mem_nil⟩⟩⟩⟩) (lw_meth q627), by decide, by decide, by decide⟩
theorem lk_J2_66 : zLS RJ2 66 yJ7_copyOf (ws_ yJ7_copyOf cJ7_copyOf 2 (Option.some (Jvm.ClassFile.FieldType.array (Jvm.ClassFile.FieldType.object "java/lang/Object")))) 2 := ⟨lw_S q489 q490 q91 q491, by decide, by decide, by decide⟩
theorem lk_J2_69 : zLV RJ2 69 RJ2 yJ2_grow_2 (ws_ yJ2_grow_2 cJ2_grow_2 4 (Option.some (Jvm.ClassFile.FieldType.array (Jvm.ClassFile.FieldType.object "java/lang/Object")))) 1 := ⟨lw_V q477 q479 qs4 q80 q480, rfl, by decide, by decide, by decide⟩
theorem lk_J2_73 : zLS RJ2 73 yJ5_newLength (ws_ yJ5_newLength cJ5_newLength 4 (Option.some Jvm.ClassFile.FieldType.int)) 3 := ⟨lw_S q481 q482 q89 q483, by decide, by decide, by decide⟩
theorem lk_J2_118 : zLS RJ2 118 yJ3_checkIndex (ws_ yJ3_checkIndex cJ3_checkIndex 2 (Option.some Jvm.ClassFile.FieldType.int)) 2 := ⟨lw_S q375 q376 q86 q377, by decide, by decide, by decide⟩
theorem lk_J2_123 : zLV RJ2 123 RJ2 yJ2_elementData (ws_ yJ2_elementData cJ2_elementData 2 (Option.some (Jvm.ClassFile.FieldType.object "java/lang/Object"))) 1 := ⟨lw_V q381 q382 q383 q80 q384, rfl, by decide, by decide, by decide⟩
theorem lk_J2_129 : zLV RJ2 129 RJ2 yJ2_grow (ws_ yJ2_grow cJ2_grow 1 (Option.some (Jvm.ClassFile.FieldType.array (Jvm.ClassFile.FieldType.object "java/lang/Object")))) 0 := ⟨lw_V q473 q475 qs3 q80 q476, rfl, by decide, by decide, by decide⟩
theorem lk_J2_131 : zLV RJ2 131 RJ2 yJ2_add_2 (ws_ yJ2_add_2 cJ2_add_2 4 (Option.none : Option Jvm.ClassFile.FieldType)) 3 := ⟨lw_V q469 q471 qs2 q80 q472, rfl, by decide, by decide, by decide⟩
theorem lk_J2_144 : zLV RJ2 144 RJ2 yJ2_fastRemove (ws_ yJ2_fastRemove cJ2_fastRemove 4 (Option.none : Option Jvm.ClassFile.FieldType)) 2 := ⟨lw_V q390 q392 qs0 q80 q393, rfl, by decide, by decide, by decide⟩
theorem lk_J3_105 : zLS RJ3 105 yJ4_checkIndex (ws_ yJ4_checkIndex cJ4_checkIndex 3 (Option.some Jvm.ClassFile.FieldType.int)) 3 := ⟨lw_S q378 q379 q87 q380, by decide, by decide, by decide⟩
theorem lk_J5_62 : zLS RJ5 62 yJ5_signedHashCode (ws_ yJ5_signedHashCode cJ5_signedHashCode 6 (Option.some Jvm.ClassFile.FieldType.int)) 4 := ⟨lw_S q1045 q1046 q89 q1047, by decide, by decide, by decide⟩
theorem lk_J5_75 : zLS RJ5 75 yJ5_hashCode_2 (ws_ yJ5_hashCode_2 cJ5_hashCode_2 6 (Option.some Jvm.ClassFile.FieldType.int)) 4 := ⟨lw_S q1068 q1069 q89 q1070, by decide, by decide, by decide⟩
theorem lk_J7_300 : zLS RJ7 300 yJ7_copyOf_2 (ws_ yJ7_copyOf_2 cJ7_copyOf_2 4 (Option.some (Jvm.ClassFile.FieldType.array (Jvm.ClassFile.FieldType.object "java/lang/Object")))) 3 := ⟨lw_S q527 q528 q91 q529, by decide, by decide, by decide⟩
theorem lk_J7_339 : zLS RJ7 339 yJ7_copyOfRangeByte (ws_ yJ7_copyOfRangeByte cJ7_copyOfRangeByte 5 (Option.some (Jvm.ClassFile.FieldType.array Jvm.ClassFile.FieldType.byte))) 3 := ⟨lw_S q824 q825 q91 q826, by decide, by decide, by decide⟩
theorem lk_J7_343 : zLS RJ7 343 yJ7_checkLength (ws_ yJ7_checkLength cJ7_checkLength 2 (Option.none : Option Jvm.ClassFile.FieldType)) 2 := ⟨lw_S q827 q828 q91 q829, by decide, by decide, by decide⟩
theorem lk_J8_83 : zLG RJ8 83 RJ9 "java/lang/AbstractStringBuilder" ⟨"java/lang/AbstractStringBuilder", "isLatin1", "()Z"⟩ yJ8_isLatin1 (ws_ yJ8_isLatin1 cJ8_isLatin1 1 (Option.some Jvm.ClassFile.FieldType.boolean)) 0 := ⟨lw_meth q747, q743, q745, q744, q94, ⟨q744, _, _, _, q747⟩, Or.inl q746, by decide, by decide, by decide⟩
theorem lk_J8_100 : zLG RJ8 100 RJ9 "java/lang/AbstractStringBuilder" yJ8_ensureCapacityInternal yJ8_ensureCapacityInternal (ws_ yJ8_ensureCapacityInternal cJ8_ensureCapacityInternal 3 (Option.none : Option Jvm.ClassFile.FieldType)) 1 := ⟨lw_meth q726, q723, q2161, q725, q94, ⟨q725, _, _, _, q726⟩, Or.inr ⟨by simp [zPv], rfl⟩, by decide, by decide, by decide⟩
theorem lk_J8_104 : zLG RJ8 104 RJ9 "java/lang/AbstractStringBuilder" yJ8_newCapacity yJ8_newCapacity (ws_ yJ8_newCapacity cJ8_newCapacity 6 (Option.some Jvm.ClassFile.FieldType.int)) 1 := ⟨lw_meth q730, q727, q2162, q729, q94, ⟨q729, _, _, _, q730⟩, Or.inr ⟨by simp [zPv], rfl⟩, by decide, by decide, by decide⟩
theorem lk_J8_108 : zLS RJ8 108 yJ7_copyOf_3 (ws_ yJ7_copyOf_3 cJ7_copyOf_3 3 (Option.some (Jvm.ClassFile.FieldType.array Jvm.ClassFile.FieldType.byte))) 2 := ⟨lw_S q733 q734 q91 q735, by decide, by decide, by decide⟩
theorem lk_J8_114 : zLS RJ8 114 yJ5_newLength (ws_ yJ5_newLength cJ5_newLength 4 (Option.some Jvm.ClassFile.FieldType.int)) 3 := ⟨lw_S q731 q482 q89 q483, by decide, by decide, by decide⟩
theorem lk_J8_191 : zLS RJ8 191 yJ12_canEncode (ws_ yJ12_canEncode cJ12_canEncode 1 (Option.some Jvm.ClassFile.FieldType.boolean)) 1 := ⟨lw_S q748 q749 q98 q750, by decide, by decide, by decide⟩
theorem lk_J9_1 : zLI RJ9 1 yJ8_init (ws_ yJ8_init cJ8_init 2 (Option.none : Option Jvm.ClassFile.FieldType)) 1 := ⟨lw_meth q692, q94, q690, q691, rfl, by decide, by decide, by decide⟩
theorem lk_J9_50 : zLSU RJ9 50 yJ8_append (ws_ yJ8_append cJ8_append 2 (Option.some (Jvm.ClassFile.FieldType.object "java/lang/AbstractStringBuilder"))) 1 := ⟨lw_app (List.forall_mem_cons.mpr ⟨q720, List.forall_mem_cons.mpr ⟨q2160, List.forall_mem_cons.mpr ⟨q715, List.forall_mem_cons.mpr ⟨q721, List.forall_mem_cons.mpr ⟨q94, fun r hr => absurd hr List.not_mem_nil⟩⟩⟩⟩⟩) (lw_meth q722), by decide, by decide⟩
theorem lk_J9_137 : zLI RJ9 137 yJ10_init (ws_ yJ10_init cJ10_init 2 (Option.none : Option Jvm.ClassFile.FieldType)) 1 := ⟨lw_meth q802, q96, q800, q801, rfl, by decide, by decide, by decide⟩
theorem lk_J9_343 : zLSU RJ9 343 yJ8_length (ws_ yJ8_length cJ8_length 1 (Option.some Jvm.ClassFile.FieldType.int)) 0 := ⟨lw_app (List.forall_mem_cons.mpr ⟨q818, List.forall_mem_cons.mpr ⟨q814, List.forall_mem_cons.mpr ⟨q715, List.forall_mem_cons.mpr ⟨q813, List.forall_mem_cons.mpr ⟨q94, fun r hr => absurd hr List.not_mem_nil⟩⟩⟩⟩⟩) (lw_meth q819), by decide, by decide⟩
theorem lk_X0_7 : zLV RX0 7 RX1 yX1_people (wsW_ yX1_people cX1_people 3 (Option.some Jvm.ClassFile.FieldType.int) [(15, 28, 31, 192)]) 0 := ⟨lw_VW q649 q650 q651 q76 q652, rfl, by decide, by decide, by decide⟩
theorem lk_X0_17 : zLV RX0 17 RX1 yX1_law (wsW_ yX1_law cX1_law 2 (Option.some Jvm.ClassFile.FieldType.int) [(7, 26, 29, 192)]) 0 := ⟨lw_VW q1196 q1197 q1198 q76 q1199, rfl, by decide, by decide, by decide⟩
theorem lk_X0_20 : zLV RX0 20 RX1 yX1_house (ws_ yX1_house cX1_house 5 (Option.some Jvm.ClassFile.FieldType.int)) 2 := ⟨lw_V q1401 q1402 q1403 q76 q1404, rfl, by decide, by decide, by decide⟩
theorem lk_X0_28 : zLV RX0 28 RX1 yX1_walker (ws_ yX1_walker cX1_walker 5 (Option.some Jvm.ClassFile.FieldType.int)) 2 := ⟨lw_V q1453 q1454 q1455 q76 q1456, rfl, by decide, by decide, by decide⟩
theorem lk_X0_31 : zLV RX0 31 RX1 yX1_turn (ws_ yX1_turn cX1_turn 4 (Option.some Jvm.ClassFile.FieldType.int)) 2 := ⟨lw_V q1460 q1461 q1462 q76 q1463, rfl, by decide, by decide, by decide⟩
theorem lk_X0_34 : zLV RX0 34 RX1 yX1_entry (ws_ yX1_entry cX1_entry 4 (Option.some Jvm.ClassFile.FieldType.int)) 2 := ⟨lw_V q1471 q1472 q1473 q76 q1474, rfl, by decide, by decide, by decide⟩
theorem lk_X0_37 : zLV RX0 37 RX1 yX1_counts (ws_ yX1_counts cX1_counts 5 (Option.some Jvm.ClassFile.FieldType.int)) 4 := ⟨lw_V q1478 q1479 q1480 q76 q1481, rfl, by decide, by decide, by decide⟩
theorem lk_X0_41 : zLV RX0 41 RX1 yX1_walk (ws_ yX1_walk cX1_walk 5 (Option.some Jvm.ClassFile.FieldType.int)) 4 := ⟨lw_V q1575 q1576 q1577 q76 q1578, rfl, by decide, by decide, by decide⟩
theorem lk_X0_46 : zLV RX0 46 RX1 yX1_days (ws_ yX1_days cX1_days 2 (Option.some Jvm.ClassFile.FieldType.int)) 1 := ⟨lw_V q1610 q1611 q1612 q76 q1613, rfl, by decide, by decide, by decide⟩
theorem lk_X0_50 : zLV RX0 50 RX1 yX1_pass (ws_ yX1_pass cX1_pass 5 (Option.some Jvm.ClassFile.FieldType.int)) 3 := ⟨lw_V q1617 q1618 q1619 q76 q1620, rfl, by decide, by decide, by decide⟩
theorem lk_X0_54 : zLV RX0 54 RX1 yX1_marry (ws_ yX1_marry cX1_marry 4 (Option.some Jvm.ClassFile.FieldType.int)) 2 := ⟨lw_V q1629 q1630 q1631 q76 q1632, rfl, by decide, by decide, by decide⟩
theorem lk_X0_57 : zLV RX0 57 RX1 yX1_mend (ws_ yX1_mend cX1_mend 4 (Option.some Jvm.ClassFile.FieldType.int)) 1 := ⟨lw_V q1636 q1637 q1638 q76 q1639, rfl, by decide, by decide, by decide⟩
theorem lk_X0_60 : zLV RX0 60 RX1 yX1_worn (ws_ yX1_worn cX1_worn 5 (Option.some Jvm.ClassFile.FieldType.int)) 2 := ⟨lw_V q1643 q1644 q1645 q76 q1646, rfl, by decide, by decide, by decide⟩
theorem lk_X0_63 : zLV RX0 63 RX1 yX1_deal (ws_ yX1_deal cX1_deal 4 (Option.some Jvm.ClassFile.FieldType.int)) 2 := ⟨lw_V q1650 q1651 q1652 q76 q1653, rfl, by decide, by decide, by decide⟩
theorem lk_X0_67 : zLV RX0 67 RX1 yX1_plan (ws_ yX1_plan cX1_plan 5 (Option.some Jvm.ClassFile.FieldType.int)) 3 := ⟨lw_V q1671 q1672 q1673 q76 q1674, rfl, by decide, by decide, by decide⟩
theorem lk_X0_71 : zLV RX0 71 RX1 yX1_burn (ws_ yX1_burn cX1_burn 5 (Option.some Jvm.ClassFile.FieldType.int)) 2 := ⟨lw_V q1715 q1716 q1717 q76 q1718, rfl, by decide, by decide, by decide⟩
theorem lk_X0_74 : zLV RX0 74 RX1 yX1_span (ws_ yX1_span cX1_span 5 (Option.some Jvm.ClassFile.FieldType.int)) 2 := ⟨lw_V q1722 q1723 q1724 q76 q1725, rfl, by decide, by decide, by decide⟩
theorem lk_X0_77 : zLV RX0 77 RX1 yX1_proof (ws_ yX1_proof cX1_proof 12 (Option.some Jvm.ClassFile.FieldType.int)) 2 := ⟨lw_V q1737 q1738 q1739 q76 q1740, rfl, by decide, by decide, by decide⟩
theorem lk_X0_80 : zLV RX0 80 RX1 yX1_live (ws_ yX1_live cX1_live 9 (Option.some Jvm.ClassFile.FieldType.int)) 1 := ⟨lw_V q1744 q1745 q1746 q76 q1747, rfl, by decide, by decide, by decide⟩
theorem lk_X0_83 : zLI RX0 83 yX1_init (ws_ yX1_init cX1_init 1 (Option.none : Option Jvm.ClassFile.FieldType)) 0 := ⟨lw_meth q127, q76, q125, q126, rfl, by decide, by decide, by decide⟩
theorem lk_X0_86 : zLI RX0 86 yX6_init (ws_ yX6_init cX6_init 1 (Option.none : Option Jvm.ClassFile.FieldType)) 0 := ⟨lw_meth q1761, q84, q1759, q1760, rfl, by decide, by decide, by decide⟩
theorem lk_X0_87 : zLV RX0 87 RX1 yX1_feed (ws_ yX1_feed cX1_feed 6 (Option.some Jvm.ClassFile.FieldType.int)) 5 := ⟨lw_V q343 q344 q345 q76 q346, rfl, by decide, by decide, by decide⟩
theorem lk_X0_91 : zLV RX0 91 RX6 yX6_feed (ws_ yX6_feed cX6_feed 8 (Option.some Jvm.ClassFile.FieldType.int)) 5 := ⟨lw_V q1843 q1844 q1845 q84 q1846, rfl, by decide, by decide, by decide⟩
theorem lk_X0_92 : zLV RX0 92 RX1 yX1_end (ws_ yX1_end cX1_end 2 (Option.some Jvm.ClassFile.FieldType.boolean)) 1 := ⟨lw_V q351 q352 q353 q76 q354, rfl, by decide, by decide, by decide⟩
theorem lk_X0_96 : zLV RX0 96 RX6 yX6_end (ws_ yX6_end cX6_end 2 (Option.some Jvm.ClassFile.FieldType.boolean)) 1 := ⟨lw_V q1847 q1848 q1849 q84 q1850, rfl, by decide, by decide, by decide⟩
theorem lk_X0_97 : zLS RX0 97 yX0_people (wsW_ yX0_people cX0_people 3 (Option.some Jvm.ClassFile.FieldType.int) [(0, 8, 11, 13), (0, 8, 14, 15)]) 2 := ⟨lw_SW q644 q645 q75 q646, by decide, by decide, by decide⟩
theorem lk_X0_102 : zLV RX0 102 RX6 yX6_people (ws_ yX6_people cX6_people 2 (Option.some Jvm.ClassFile.FieldType.int)) 0 := ⟨lw_V q1854 q1855 q1856 q84 q1857, rfl, by decide, by decide, by decide⟩
theorem lk_X0_103 : zLV RX0 103 RX6 yX6_thrown (ws_ yX6_thrown cX6_thrown 1 (Option.some Jvm.ClassFile.FieldType.int)) 0 := ⟨lw_V q1839 q1840 q1841 q84 q1842, rfl, by decide, by decide, by decide⟩
theorem lk_X0_106 : zLS RX0 106 yX0_law (wsW_ yX0_law cX0_law 3 (Option.some Jvm.ClassFile.FieldType.int) [(0, 8, 11, 13)]) 2 := ⟨lw_SW q1193 q1194 q75 q1195, by decide, by decide, by decide⟩
theorem lk_X0_108 : zLV RX0 108 RX6 yX6_law (ws_ yX6_law cX6_law 3 (Option.some Jvm.ClassFile.FieldType.int)) 0 := ⟨lw_V q1966 q1967 q1968 q84 q1969, rfl, by decide, by decide, by decide⟩
theorem lk_X0_109 : zLV RX0 109 RX1 yX1_fault (ws_ yX1_fault cX1_fault 1 (Option.some Jvm.ClassFile.FieldType.int)) 0 := ⟨lw_V q359 q360 q361 q76 q362, rfl, by decide, by decide, by decide⟩
theorem lk_X0_112 : zLV RX0 112 RX6 yX6_fault (ws_ yX6_fault cX6_fault 1 (Option.some Jvm.ClassFile.FieldType.int)) 0 := ⟨lw_V q1970 q1971 q1972 q84 q1973, rfl, by decide, by decide, by decide⟩
theorem lk_X0_113 : zLS RX0 113 yX0_house (wsW_ yX0_house cX0_house 5 (Option.some Jvm.ClassFile.FieldType.int) [(0, 10, 13, 24), (0, 10, 17, 26)]) 4 := ⟨lw_SW q1378 q1379 q75 q1380, by decide, by decide, by decide⟩
theorem lk_X0_116 : zLV RX0 116 RX6 yX6_house (ws_ yX6_house cX6_house 5 (Option.some Jvm.ClassFile.FieldType.int)) 2 := ⟨lw_V q1974 q1975 q1976 q84 q1977, rfl, by decide, by decide, by decide⟩
theorem lk_X0_117 : zLS RX0 117 yX0_walker (wsW_ yX0_walker cX0_walker 5 (Option.some Jvm.ClassFile.FieldType.int) [(0, 10, 13, 24), (0, 10, 17, 26)]) 4 := ⟨lw_SW q1450 q1451 q75 q1452, by decide, by decide, by decide⟩
theorem lk_X0_119 : zLV RX0 119 RX6 yX6_walker (ws_ yX6_walker cX6_walker 5 (Option.some Jvm.ClassFile.FieldType.int)) 2 := ⟨lw_V q1994 q1995 q1996 q84 q1997, rfl, by decide, by decide, by decide⟩
theorem lk_X0_120 : zLS RX0 120 yX0_turn (wsW_ yX0_turn cX0_turn 5 (Option.some Jvm.ClassFile.FieldType.int) [(0, 10, 13, 24), (0, 10, 17, 26)]) 4 := ⟨lw_SW q1457 q1458 q75 q1459, by decide, by decide, by decide⟩
theorem lk_X0_122 : zLV RX0 122 RX6 yX6_turn (ws_ yX6_turn cX6_turn 3 (Option.some Jvm.ClassFile.FieldType.int)) 2 := ⟨lw_V q2002 q2003 q2004 q84 q2005, rfl, by decide, by decide, by decide⟩
theorem lk_X0_123 : zLS RX0 123 yX0_entry (wsW_ yX0_entry cX0_entry 5 (Option.some Jvm.ClassFile.FieldType.int) [(0, 10, 13, 24), (0, 10, 17, 26)]) 4 := ⟨lw_SW q1468 q1469 q75 q1470, by decide, by decide, by decide⟩
theorem lk_X0_125 : zLV RX0 125 RX6 yX6_entry (ws_ yX6_entry cX6_entry 3 (Option.some Jvm.ClassFile.FieldType.int)) 2 := ⟨lw_V q2018 q2019 q2020 q84 q2021, rfl, by decide, by decide, by decide⟩
theorem lk_X0_126 : zLS RX0 126 yX0_counts (wsW_ yX0_counts cX0_counts 7 (Option.some Jvm.ClassFile.FieldType.int) [(0, 14, 17, 24), (0, 14, 21, 13)]) 6 := ⟨lw_SW q1475 q1476 q75 q1477, by decide, by decide, by decide⟩
theorem lk_X0_129 : zLV RX0 129 RX6 yX6_counts (ws_ yX6_counts cX6_counts 5 (Option.some Jvm.ClassFile.FieldType.int)) 4 := ⟨lw_V q2026 q2027 q2028 q84 q2029, rfl, by decide, by decide, by decide⟩
theorem lk_X0_130 : zLS RX0 130 yX0_walk (wsW_ yX0_walk cX0_walk 7 (Option.some Jvm.ClassFile.FieldType.int) [(0, 14, 17, 24), (0, 14, 21, 13), (0, 14, 25, 44)]) 6 := ⟨lw_SW q1571 q1572 q75 q1573, by decide, by decide, by decide⟩
theorem lk_X0_132 : zLV RX0 132 RX6 yX6_walk (ws_ yX6_walk cX6_walk 5 (Option.some Jvm.ClassFile.FieldType.int)) 4 := ⟨lw_V q2042 q2043 q2044 q84 q2045, rfl, by decide, by decide, by decide⟩
theorem lk_X0_133 : zLV RX0 133 RX1 yX1_undo (ws_ yX1_undo cX1_undo 4 (Option.some Jvm.ClassFile.FieldType.int)) 0 := ⟨lw_V q363 q364 q365 q76 q366, rfl, by decide, by decide, by decide⟩
theorem lk_X0_136 : zLV RX0 136 RX6 yX6_undo (ws_ yX6_undo cX6_undo 3 (Option.some Jvm.ClassFile.FieldType.int)) 0 := ⟨lw_V q2054 q2055 q2056 q84 q2057, rfl, by decide, by decide, by decide⟩
theorem lk_X0_137 : zLS RX0 137 yX0_days (wsW_ yX0_days cX0_days 4 (Option.some Jvm.ClassFile.FieldType.int) [(0, 9, 12, 13)]) 3 := ⟨lw_SW q1607 q1608 q75 q1609, by decide, by decide, by decide⟩
theorem lk_X0_140 : zLV RX0 140 RX6 yX6_days (ws_ yX6_days cX6_days 2 (Option.some Jvm.ClassFile.FieldType.int)) 1 := ⟨lw_V q2058 q2059 q2060 q84 q2061, rfl, by decide, by decide, by decide⟩
theorem lk_X0_141 : zLS RX0 141 yX0_pass (wsW_ yX0_pass cX0_pass 6 (Option.some Jvm.ClassFile.FieldType.int) [(0, 12, 15, 24), (0, 12, 19, 13), (0, 12, 23, 44)]) 5 := ⟨lw_SW q1614 q1615 q75 q1616, by decide, by decide, by decide⟩
theorem lk_X0_144 : zLV RX0 144 RX6 yX6_pass (ws_ yX6_pass cX6_pass 5 (Option.some Jvm.ClassFile.FieldType.int)) 3 := ⟨lw_V q2062 q2063 q2064 q84 q2065, rfl, by decide, by decide, by decide⟩
theorem lk_X0_145 : zLS RX0 145 yX0_marry (wsW_ yX0_marry cX0_marry 5 (Option.some Jvm.ClassFile.FieldType.int) [(0, 10, 13, 24), (0, 10, 17, 13), (0, 10, 21, 44)]) 4 := ⟨lw_SW q1626 q1627 q75 q1628, by decide, by decide, by decide⟩
theorem lk_X0_147 : zLV RX0 147 RX6 yX6_marry (ws_ yX6_marry cX6_marry 4 (Option.some Jvm.ClassFile.FieldType.int)) 2 := ⟨lw_V q2066 q2067 q2068 q84 q2069, rfl, by decide, by decide, by decide⟩
theorem lk_X0_148 : zLS RX0 148 yX0_mend (wsW_ yX0_mend cX0_mend 4 (Option.some Jvm.ClassFile.FieldType.int) [(0, 9, 12, 24)]) 3 := ⟨lw_SW q1633 q1634 q75 q1635, by decide, by decide, by decide⟩
theorem lk_X0_150 : zLV RX0 150 RX6 yX6_mend (ws_ yX6_mend cX6_mend 3 (Option.some Jvm.ClassFile.FieldType.int)) 1 := ⟨lw_V q2070 q2071 q2072 q84 q2073, rfl, by decide, by decide, by decide⟩
theorem lk_X0_151 : zLS RX0 151 yX0_worn (wsW_ yX0_worn cX0_worn 5 (Option.some Jvm.ClassFile.FieldType.int) [(0, 10, 13, 24), (0, 10, 17, 13)]) 4 := ⟨lw_SW q1640 q1641 q75 q1642, by decide, by decide, by decide⟩
theorem lk_X0_153 : zLV RX0 153 RX6 yX6_worn (ws_ yX6_worn cX6_worn 4 (Option.some Jvm.ClassFile.FieldType.int)) 2 := ⟨lw_V q2074 q2075 q2076 q84 q2077, rfl, by decide, by decide, by decide⟩
theorem lk_X0_154 : zLV RX0 154 RX1 yX1_missed (ws_ yX1_missed cX1_missed 2 (Option.some Jvm.ClassFile.FieldType.int)) 0 := ⟨lw_V q401 q402 q403 q76 q404, rfl, by decide, by decide, by decide⟩
theorem lk_X0_157 : zLV RX0 157 RX6 yX6_missed (ws_ yX6_missed cX6_missed 2 (Option.some Jvm.ClassFile.FieldType.int)) 0 := ⟨lw_V q2078 q2079 q2080 q84 q2081, rfl, by decide, by decide, by decide⟩
theorem lk_X0_158 : zLS RX0 158 yX0_deal (wsW_ yX0_deal cX0_deal 5 (Option.some Jvm.ClassFile.FieldType.int) [(0, 10, 13, 24)]) 4 := ⟨lw_SW q1647 q1648 q75 q1649, by decide, by decide, by decide⟩
theorem lk_X0_161 : zLV RX0 161 RX6 yX6_deal (ws_ yX6_deal cX6_deal 9 (Option.some Jvm.ClassFile.FieldType.int)) 2 := ⟨lw_V q2082 q2083 q2084 q84 q2085, rfl, by decide, by decide, by decide⟩
theorem lk_X0_162 : zLS RX0 162 yX0_plan (wsW_ yX0_plan cX0_plan 6 (Option.some Jvm.ClassFile.FieldType.int) [(0, 12, 15, 24), (0, 12, 19, 13)]) 5 := ⟨lw_SW q1668 q1669 q75 q1670, by decide, by decide, by decide⟩
theorem lk_X0_165 : zLV RX0 165 RX6 yX6_plan (ws_ yX6_plan cX6_plan 9 (Option.some Jvm.ClassFile.FieldType.int)) 3 := ⟨lw_V q2089 q2090 q2091 q84 q2092, rfl, by decide, by decide, by decide⟩
theorem lk_X0_166 : zLS RX0 166 yX0_burn (wsW_ yX0_burn cX0_burn 5 (Option.some Jvm.ClassFile.FieldType.int) [(0, 10, 13, 24), (0, 10, 17, 13), (0, 10, 21, 44)]) 4 := ⟨lw_SW q1712 q1713 q75 q1714, by decide, by decide, by decide⟩
theorem lk_X0_168 : zLV RX0 168 RX6 yX6_burn (ws_ yX6_burn cX6_burn 5 (Option.some Jvm.ClassFile.FieldType.int)) 2 := ⟨lw_V q2101 q2102 q2103 q84 q2104, rfl, by decide, by decide, by decide⟩
theorem lk_X0_169 : zLS RX0 169 yX0_span (wsW_ yX0_span cX0_span 5 (Option.some Jvm.ClassFile.FieldType.int) [(0, 10, 13, 24)]) 4 := ⟨lw_SW q1719 q1720 q75 q1721, by decide, by decide, by decide⟩
theorem lk_X0_171 : zLV RX0 171 RX6 yX6_span (ws_ yX6_span cX6_span 6 (Option.some Jvm.ClassFile.FieldType.int)) 2 := ⟨lw_V q2109 q2110 q2111 q84 q2112, rfl, by decide, by decide, by decide⟩
theorem lk_X0_172 : zLS RX0 172 yX0_proof (wsW_ yX0_proof cX0_proof 5 (Option.some Jvm.ClassFile.FieldType.int) [(0, 10, 13, 24)]) 4 := ⟨lw_SW q1734 q1735 q75 q1736, by decide, by decide, by decide⟩
theorem lk_X0_174 : zLV RX0 174 RX6 yX6_proof (ws_ yX6_proof cX6_proof 6 (Option.some Jvm.ClassFile.FieldType.int)) 2 := ⟨lw_V q2121 q2122 q2123 q84 q2124, rfl, by decide, by decide, by decide⟩
theorem lk_X0_175 : zLV RX0 175 RX1 yX1_ways (ws_ yX1_ways cX1_ways 6 (Option.some Jvm.ClassFile.FieldType.long)) 0 := ⟨lw_V q413 q414 q415 q76 q416, rfl, by decide, by decide, by decide⟩
theorem lk_X0_179 : zLV RX0 179 RX6 yX6_ways (ws_ yX6_ways cX6_ways 9 (Option.some Jvm.ClassFile.FieldType.long)) 0 := ⟨lw_V q2130 q2131 q2132 q84 q2133, rfl, by decide, by decide, by decide⟩
theorem lk_X0_180 : zLS RX0 180 yX0_live (wsW_ yX0_live cX0_live 4 (Option.some Jvm.ClassFile.FieldType.int) [(0, 9, 12, 13)]) 3 := ⟨lw_SW q1741 q1742 q75 q1743, by decide, by decide, by decide⟩
theorem lk_X0_182 : zLV RX0 182 RX6 yX6_live (ws_ yX6_live cX6_live 7 (Option.some Jvm.ClassFile.FieldType.int)) 1 := ⟨lw_V q2134 q2135 q2136 q84 q2137, rfl, by decide, by decide, by decide⟩
theorem lk_X0_183 : zLV RX0 183 RX1 yX1_seed (ws_ yX1_seed cX1_seed 3 (Option.some Jvm.ClassFile.FieldType.int)) 1 := ⟨lw_V q421 q422 q423 q76 q424, rfl, by decide, by decide, by decide⟩
theorem lk_X0_186 : zLV RX0 186 RX6 yX6_seed (ws_ yX6_seed cX6_seed 3 (Option.some Jvm.ClassFile.FieldType.int)) 1 := ⟨lw_V q2143 q2144 q2145 q84 q2146, rfl, by decide, by decide, by decide⟩
theorem lk_X0_187 : zLV RX0 187 RX1 yX1_image (ws_ yX1_image cX1_image 1 (Option.none : Option Jvm.ClassFile.FieldType)) 0 := ⟨lw_V q425 q426 q427 q76 q428, rfl, by decide, by decide, by decide⟩
theorem lk_X0_190 : zLV RX0 190 RX6 yX6_image (ws_ yX6_image cX6_image 2 (Option.none : Option Jvm.ClassFile.FieldType)) 0 := ⟨lw_V q2147 q2148 q2149 q84 q2150, rfl, by decide, by decide, by decide⟩
theorem lk_X0_191 : zLV RX0 191 RX1 yX1_back (ws_ yX1_back cX1_back 1 (Option.some Jvm.ClassFile.FieldType.boolean)) 0 := ⟨lw_V q628 q629 q630 q76 q631, rfl, by decide, by decide, by decide⟩
theorem lk_X0_195 : zLV RX0 195 RX6 yX6_back (ws_ yX6_back cX6_back 2 (Option.some Jvm.ClassFile.FieldType.boolean)) 0 := ⟨lw_V q2151 q2152 q2153 q84 q2154, rfl, by decide, by decide, by decide⟩
theorem lk_X0_196 : zLV RX0 196 RX1 yX1_count (ws_ yX1_count cX1_count 3 (Option.some Jvm.ClassFile.FieldType.int)) 1 := ⟨lw_V q632 q633 q634 q76 q635, rfl, by decide, by decide, by decide⟩
theorem lk_X0_199 : zLV RX0 199 RX6 yX6_count (ws_ yX6_count cX6_count 5 (Option.some Jvm.ClassFile.FieldType.int)) 1 := ⟨lw_V q2155 q2156 q2157 q84 q2158, rfl, by decide, by decide, by decide⟩
theorem lk_X1_9 : zLN RX1 9 yX2_init (ws_ yX2_init cX2_init 1 (Option.none : Option Jvm.ClassFile.FieldType)) 0 := ⟨lw_meth q135, q77, ⟨_, zNw_of q133 rfl⟩, q134, rfl, by decide, by decide, by decide⟩
theorem lk_X1_18 : zLN RX1 18 yX3_init (ws_ yX3_init cX3_init 1 (Option.none : Option Jvm.ClassFile.FieldType)) 0 := ⟨lw_meth q224, q81, ⟨_, zNw_of q222 rfl⟩, q223, rfl, by decide, by decide, by decide⟩
theorem lk_X1_25 : zLN RX1 25 yX4_init (ws_ yX4_init cX4_init 1 (Option.none : Option Jvm.ClassFile.FieldType)) 0 := ⟨lw_meth q255, q82, ⟨_, zNw_of q253 rfl⟩, q254, rfl, by decide, by decide, by decide⟩
theorem lk_X1_32 : zLN RX1 32 yX5_init (ws_ yX5_init cX5_init 2 (Option.none : Option Jvm.ClassFile.FieldType)) 1 := ⟨lw_meth q290, q83, ⟨_, zNw_of q288 rfl⟩, q289, rfl, by decide, by decide, by decide⟩
theorem lk_X1_43 : zLV RX1 43 RX3 yX3_add (ws_ yX3_add cX3_add 7 (Option.some Jvm.ClassFile.FieldType.int)) 1 := ⟨lw_V q347 q348 q349 q81 q350, rfl, by decide, by decide, by decide⟩
theorem lk_X1_47 : zLV RX1 47 RX3 yX3_cut (ws_ yX3_cut cX3_cut 2 (Option.some Jvm.ClassFile.FieldType.boolean)) 1 := ⟨lw_V q355 q356 q357 q81 q358, rfl, by decide, by decide, by decide⟩
theorem lk_X1_59 : zLV RX1 59 RJ2 yJ2_size (ws_ yJ2_size cJ2_size 1 (Option.some Jvm.ClassFile.FieldType.int)) 0 := ⟨lw_V q367 q368 q369 q80 q370, rfl, by decide, by decide, by decide⟩
theorem lk_X1_65 : zLV RX1 65 RX3 yX3_wrong (ws_ yX3_wrong cX3_wrong 1 (Option.some (Jvm.ClassFile.FieldType.object "StepDebts$Wrong"))) 0 := ⟨lw_V q1002 q1003 q1004 q81 q1005, rfl, by decide, by decide, by decide⟩
theorem lk_X1_69 : zLV RX1 69 RX3 yX3_number (ws_ yX3_number cX3_number 3 (Option.some Jvm.ClassFile.FieldType.int)) 2 := ⟨lw_V q1118 q1119 q1120 q81 q1121, rfl, by decide, by decide, by decide⟩
theorem lk_X1_73 : zLV RX1 73 RX3 yX3_word (ws_ yX3_word cX3_word 3 (Option.some (Jvm.ClassFile.FieldType.object "java/lang/String"))) 0 := ⟨lw_V q678 q679 q680 q81 q681, rfl, by decide, by decide, by decide⟩
theorem lk_X1_79 : zLV RX1 79 RJ10 yJ10_equals (ws_ yJ10_equals cJ10_equals 3 (Option.some Jvm.ClassFile.FieldType.boolean)) 1 := ⟨lw_V q1092 q1093 q1094 q96 q1095, rfl, by decide, by decide, by decide⟩
theorem lk_X1_92 : zLV RX1 92 RX3 yX3_passes (ws_ yX3_passes cX3_passes 2 (Option.some Jvm.ClassFile.FieldType.boolean)) 1 := ⟨lw_V q1126 q1127 q1128 q81 q1129, rfl, by decide, by decide, by decide⟩
theorem lk_X1_96 : zLI RX1 96 yX7_init (ws_ yX7_init cX7_init 5 (Option.none : Option Jvm.ClassFile.FieldType)) 4 := ⟨lw_meth q445, q88, q1132, q444, rfl, by decide, by decide, by decide⟩
theorem lk_X1_99 : zLV RX1 99 RJ2 yJ2_add (ws_ yJ2_add cJ2_add 2 (Option.some Jvm.ClassFile.FieldType.boolean)) 1 := ⟨lw_V q1133 q466 q467 q80 q468, rfl, by decide, by decide, by decide⟩
theorem lk_X1_105 : zLV RX1 105 RX3 yX3_figures (ws_ yX3_figures cX3_figures 5 (Option.some Jvm.ClassFile.FieldType.int)) 3 := ⟨lw_V q1109 q1110 q1111 q81 q1112, rfl, by decide, by decide, by decide⟩
theorem lk_X1_113 : zLI RX1 113 yX11_init (ws_ yX11_init cX11_init 3 (Option.none : Option Jvm.ClassFile.FieldType)) 2 := ⟨lw_meth q1144, q106, q1142, q1143, rfl, by decide, by decide, by decide⟩
theorem lk_X1_116 : zLV RX1 116 RJ10 yJ10_hashCode (ws_ yJ10_hashCode cJ10_hashCode 2 (Option.some Jvm.ClassFile.FieldType.int)) 0 := ⟨lw_V q1030 q1031 q1032 q96 q1033, rfl, by decide, by decide, by decide⟩
theorem lk_X1_140 : zLV RX1 140 RX1 yX1_walkerTold (ws_ yX1_walkerTold cX1_walkerTold 6 (Option.none : Option Jvm.ClassFile.FieldType)) 2 := ⟨lw_V q1114 q1116 qs11 q76 q1117, rfl, by decide, by decide, by decide⟩
theorem lk_X1_149 : zLI RX1 149 yX8_init (ws_ yX8_init cX8_init 2 (Option.none : Option Jvm.ClassFile.FieldType)) 1 := ⟨lw_meth q547, q92, q1134, q546, rfl, by decide, by decide, by decide⟩
theorem lk_X1_156 : zLV RX1 156 RX1 yX1_offerTold (ws_ yX1_offerTold cX1_offerTold 4 (Option.none : Option Jvm.ClassFile.FieldType)) 1 := ⟨lw_V q1135 q1137 qs12 q76 q1138, rfl, by decide, by decide, by decide⟩
theorem lk_X1_160 : zLV RX1 160 RX3 yX3_isOver (ws_ yX3_isOver cX3_isOver 1 (Option.some Jvm.ClassFile.FieldType.boolean)) 0 := ⟨lw_V q662 q663 q664 q81 q665, rfl, by decide, by decide, by decide⟩
theorem lk_X1_164 : zLV RX1 164 RX1 yX1_noMore (ws_ yX1_noMore cX1_noMore 3 (Option.none : Option Jvm.ClassFile.FieldType)) 2 := ⟨lw_V q674 q676 qs8 q76 q677, rfl, by decide, by decide, by decide⟩
theorem lk_X1_167 : zLV RX1 167 RX1 yX1_peopleLine (ws_ yX1_peopleLine cX1_peopleLine 5 (Option.none : Option Jvm.ClassFile.FieldType)) 1 := ⟨lw_V q1026 q1028 qs10 q76 q1029, rfl, by decide, by decide, by decide⟩
theorem lk_X1_170 : zLV RX1 170 RX1 yX1_goesOn (ws_ yX1_goesOn cX1_goesOn 1 (Option.some Jvm.ClassFile.FieldType.boolean)) 0 := ⟨lw_V q1155 q1157 qs13 q76 q1158, rfl, by decide, by decide, by decide⟩
theorem lk_X1_173 : zLV RX1 173 RX3 yX3_sign (ws_ yX3_sign cX3_sign 2 (Option.some Jvm.ClassFile.FieldType.boolean)) 1 := ⟨lw_V q1159 q1160 q1161 q81 q1162, rfl, by decide, by decide, by decide⟩
theorem lk_X1_182 : zLV RX1 182 RX3 yX3_begins (ws_ yX3_begins cX3_begins 1 (Option.none : Option Jvm.ClassFile.FieldType)) 0 := ⟨lw_V q654 q655 q656 q81 q657, rfl, by decide, by decide, by decide⟩
theorem lk_X1_185 : zLV RX1 185 RX2 yX2_copy (ws_ yX2_copy cX2_copy 3 (Option.some (Jvm.ClassFile.FieldType.object "StepDebts$World"))) 0 := ⟨lw_V q429 q430 q431 q77 q432, rfl, by decide, by decide, by decide⟩
theorem lk_X1_189 : zLV RX1 189 RX1 yX1_peopleText (ws_ yX1_peopleText cX1_peopleText 3 (Option.none : Option Jvm.ClassFile.FieldType)) 1 := ⟨lw_V q658 q660 qs6 q76 q661, rfl, by decide, by decide, by decide⟩
theorem lk_X1_194 : zLV RX1 194 RX1 yX1_fails (ws_ yX1_fails cX1_fails 1 (Option.none : Option Jvm.ClassFile.FieldType)) 0 := ⟨lw_V q1163 q1165 qs14 q76 q1166, rfl, by decide, by decide, by decide⟩
theorem lk_X1_203 : zLV RX1 203 RX3 yX3_isFigure (ws_ yX3_isFigure cX3_isFigure 1 (Option.some Jvm.ClassFile.FieldType.boolean)) 0 := ⟨lw_V q1318 q1319 q1320 q81 q1321, rfl, by decide, by decide, by decide⟩
theorem lk_X1_208 : zLI RX1 208 yX19_init (ws_ yX19_init cX19_init 3 (Option.none : Option Jvm.ClassFile.FieldType)) 2 := ⟨lw_meth q1326, q116, q1324, q1325, rfl, by decide, by decide, by decide⟩
theorem lk_X1_211 : zLS RX1 211 yX20_of (ws_ yX20_of cX20_of 5 (Option.some (Jvm.ClassFile.FieldType.object "StepDebts$Fact"))) 1 := ⟨lw_S q1335 q1336 q117 q1337, by decide, by decide, by decide⟩
theorem lk_X1_218 : zLN RX1 218 yX18_init (ws_ yX18_init cX18_init 1 (Option.none : Option Jvm.ClassFile.FieldType)) 0 := ⟨lw_meth q1305, q115, ⟨_, zNw_of q1303 rfl⟩, q1304, rfl, by decide, by decide, by decide⟩
theorem lk_X1_222 : zLV RX1 222 RX1 yX1_onePart (ws_ yX1_onePart cX1_onePart 2 (Option.some (Jvm.ClassFile.FieldType.object "StepDebts$Part"))) 0 := ⟨lw_V q1314 q1316 qs21 q76 q1317, rfl, by decide, by decide, by decide⟩
theorem lk_X1_226 : zLV RX1 226 RX3 yX3_goesDeeper (ws_ yX3_goesDeeper cX3_goesDeeper 1 (Option.none : Option Jvm.ClassFile.FieldType)) 0 := ⟨lw_V q1253 q1254 q1255 q81 q1256, rfl, by decide, by decide, by decide⟩
theorem lk_X1_229 : zLV RX1 229 RX1 yX1_cond (ws_ yX1_cond cX1_cond 2 (Option.some (Jvm.ClassFile.FieldType.object "StepDebts$Cond"))) 0 := ⟨lw_V q1225 q1227 qs17 q76 q1228, rfl, by decide, by decide, by decide⟩
theorem lk_X1_233 : zLV RX1 233 RX3 yX3_comesUp (ws_ yX3_comesUp cX3_comesUp 1 (Option.none : Option Jvm.ClassFile.FieldType)) 0 := ⟨lw_V q1257 q1258 q1259 q81 q1260, rfl, by decide, by decide, by decide⟩
theorem lk_X1_238 : zLV RX1 238 RX1 yX1_atom (ws_ yX1_atom cX1_atom 6 (Option.some (Jvm.ClassFile.FieldType.object "StepDebts$Cond"))) 0 := ⟨lw_V q1249 q1251 qs19 q76 q1252, rfl, by decide, by decide, by decide⟩
theorem lk_X1_243 : zLI RX1 243 yX15_init (ws_ yX15_init cX15_init 2 (Option.none : Option Jvm.ClassFile.FieldType)) 1 := ⟨lw_meth q1266, q111, q1264, q1265, rfl, by decide, by decide, by decide⟩
theorem lk_X1_246 : zLS RX1 246 yX16_values (ws_ yX16_values cX16_values 0 (Option.some (Jvm.ClassFile.FieldType.array (Jvm.ClassFile.FieldType.object "StepDebts$Tag")))) 0 := ⟨lw_S q1272 q1273 q113 q1274, by decide, by decide, by decide⟩
theorem lk_X1_252 : zLV RX1 252 RX16 yX16_word (ws_ yX16_word cX16_word 1 (Option.some (Jvm.ClassFile.FieldType.object "java/lang/String"))) 0 := ⟨lw_V q1283 q1284 q1285 q113 q1286, rfl, by decide, by decide, by decide⟩
theorem lk_X1_255 : zLI RX1 255 yX17_init (ws_ yX17_init cX17_init 2 (Option.none : Option Jvm.ClassFile.FieldType)) 1 := ⟨lw_meth q1291, q114, q1289, q1290, rfl, by decide, by decide, by decide⟩
theorem lk_X1_258 : zLV RX1 258 RX1 yX1_sum_2 (ws_ yX1_sum_2 cX1_sum_2 2 (Option.some (Jvm.ClassFile.FieldType.object "StepDebts$Sum"))) 0 := ⟨lw_V q1297 q1299 qs20 q76 q1300, rfl, by decide, by decide, by decide⟩
theorem lk_X1_264 : zLI RX1 264 yX21_init (ws_ yX21_init cX21_init 3 (Option.none : Option Jvm.ClassFile.FieldType)) 2 := ⟨lw_meth q1354, q118, q1352, q1353, rfl, by decide, by decide, by decide⟩
theorem lk_X1_269 : zLI RX1 269 yX14_init (ws_ yX14_init cX14_init 2 (Option.none : Option Jvm.ClassFile.FieldType)) 1 := ⟨lw_meth q1233, q110, q1231, q1232, rfl, by decide, by decide, by decide⟩
theorem lk_X1_277 : zLV RX1 277 RX1 yX1_allOf (ws_ yX1_allOf cX1_allOf 2 (Option.some (Jvm.ClassFile.FieldType.object "StepDebts$Cond"))) 0 := ⟨lw_V q1245 q1247 qs18 q76 q1248, rfl, by decide, by decide, by decide⟩
theorem lk_X1_288 : zLI RX1 288 yX13_init (ws_ yX13_init cX13_init 3 (Option.none : Option Jvm.ClassFile.FieldType)) 2 := ⟨lw_meth q1367, q109, q1365, q1366, rfl, by decide, by decide, by decide⟩
theorem lk_X1_293 : zLN RX1 293 yX12_init (ws_ yX12_init cX12_init 1 (Option.none : Option Jvm.ClassFile.FieldType)) 0 := ⟨lw_meth q1208, q108, ⟨_, zNw_of q1206 rfl⟩, q1207, rfl, by decide, by decide, by decide⟩
theorem lk_X1_297 : zLV RX1 297 RX1 yX1_lawLine (ws_ yX1_lawLine cX1_lawLine 2 (Option.some (Jvm.ClassFile.FieldType.object "StepDebts$Line"))) 0 := ⟨lw_V q1217 q1219 qs16 q76 q1220, rfl, by decide, by decide, by decide⟩
theorem lk_X1_301 : zLV RX1 301 RX1 yX1_lawText (ws_ yX1_lawText cX1_lawText 2 (Option.some (Jvm.ClassFile.FieldType.object "StepDebts$Law"))) 0 := ⟨lw_V q1200 q1202 qs15 q76 q1203, rfl, by decide, by decide, by decide⟩
theorem lk_X1_309 : zLV RX1 309 RX2 yX2_paces (ws_ yX2_paces cX2_paces 4 (Option.some Jvm.ClassFile.FieldType.int)) 1 := ⟨lw_V q1493 q1494 q1495 q77 q1496, rfl, by decide, by decide, by decide⟩
theorem lk_X1_313 : zLV RX1 313 RJ2 yJ2_get (ws_ yJ2_get cJ2_get 2 (Option.some (Jvm.ClassFile.FieldType.object "java/lang/Object"))) 1 := ⟨lw_V q371 q372 q373 q80 q374, rfl, by decide, by decide, by decide⟩
theorem lk_X1_344 : zLV RX1 344 RX12 yX12_number (ws_ yX12_number cX12_number 4 (Option.some Jvm.ClassFile.FieldType.int)) 1 := ⟨lw_V q1497 q1498 q1499 q108 q1500, rfl, by decide, by decide, by decide⟩
theorem lk_X1_347 : zLS RX1 347 yX1_in (ws_ yX1_in cX1_in 3 (Option.some Jvm.ClassFile.FieldType.boolean)) 3 := ⟨lw_S q1412 q683 q76 q684, by decide, by decide, by decide⟩
theorem lk_X1_360 : zLS RX1 360 yX1_there (ws_ yX1_there cX1_there 2 (Option.none : Option Jvm.ClassFile.FieldType)) 2 := ⟨lw_S q1409 q1410 q76 q1411, by decide, by decide, by decide⟩
theorem lk_X1_363 : zLV RX1 363 RX1 yX1_houseAt (ws_ yX1_houseAt cX1_houseAt 2 (Option.none : Option Jvm.ClassFile.FieldType)) 1 := ⟨lw_V q1405 q1407 qs22 q76 q1408, rfl, by decide, by decide, by decide⟩
theorem lk_X1_366 : zLS RX1 366 yX1_asked (ws_ yX1_asked cX1_asked 2 (Option.none : Option Jvm.ClassFile.FieldType)) 2 := ⟨lw_S q1428 q1429 q76 q1430, by decide, by decide, by decide⟩
theorem lk_X1_369 : zLV RX1 369 RX2 yX2_beads (ws_ yX2_beads cX2_beads 4 (Option.some Jvm.ClassFile.FieldType.int)) 1 := ⟨lw_V q1446 q1447 q1448 q77 q1449, rfl, by decide, by decide, by decide⟩
theorem lk_X1_383 : zLV RX1 383 RX1 yX1_turnAt (ws_ yX1_turnAt cX1_turnAt 2 (Option.some (Jvm.ClassFile.FieldType.object "StepDebts$Turn"))) 1 := ⟨lw_V q1464 q1466 qs23 q76 q1467, rfl, by decide, by decide, by decide⟩
theorem lk_X1_390 : zLV RX1 390 RX2 yX2_missed (ws_ yX2_missed cX2_missed 6 (Option.some Jvm.ClassFile.FieldType.int)) 1 := ⟨lw_V q405 q406 q407 q77 q408, rfl, by decide, by decide, by decide⟩
theorem lk_X1_403 : zLS RX1 403 yX1_demand (ws_ yX1_demand cX1_demand 1 (Option.none : Option Jvm.ClassFile.FieldType)) 1 := ⟨lw_S q1486 q1487 q76 q1488, by decide, by decide, by decide⟩
theorem lk_X1_406 : zLV RX1 406 RX1 yX1_aWalk (ws_ yX1_aWalk cX1_aWalk 4 (Option.none : Option Jvm.ClassFile.FieldType)) 3 := ⟨lw_V q1482 q1484 qs24 q76 q1485, rfl, by decide, by decide, by decide⟩
theorem lk_X1_410 : zLV RX1 410 RX1 yX1_counted (ws_ yX1_counted cX1_counted 8 (Option.some Jvm.ClassFile.FieldType.int)) 4 := ⟨lw_V q1489 q1491 qs25 q76 q1492, rfl, by decide, by decide, by decide⟩
theorem lk_X1_414 : zLV RX1 414 RX2 yX2_may (ws_ yX2_may cX2_may 6 (Option.some Jvm.ClassFile.FieldType.boolean)) 3 := ⟨lw_V q1579 q1580 q1581 q77 q1582, rfl, by decide, by decide, by decide⟩
theorem lk_X1_418 : zLS RX1 418 yX1_can (ws_ yX1_can cX1_can 1 (Option.none : Option Jvm.ClassFile.FieldType)) 1 := ⟨lw_S q1583 q1584 q76 q1585, by decide, by decide, by decide⟩
theorem lk_X1_421 : zLV RX1 421 RX2 yX2_walks (ws_ yX2_walks cX2_walks 8 (Option.some Jvm.ClassFile.FieldType.int)) 5 := ⟨lw_V q1601 q1602 q1603 q77 q1604, rfl, by decide, by decide, by decide⟩
theorem lk_X1_425 : zLV RX1 425 RJ2 yJ2_remove (ws_ yJ2_remove cJ2_remove 4 (Option.some (Jvm.ClassFile.FieldType.object "java/lang/Object"))) 1 := ⟨lw_V q386 q387 q388 q80 q389, rfl, by decide, by decide, by decide⟩
theorem lk_X1_433 : zLV RX1 433 RX1 yX1_twoHouses (ws_ yX1_twoHouses cX1_twoHouses 3 (Option.none : Option Jvm.ClassFile.FieldType)) 2 := ⟨lw_V q1621 q1623 qs26 q76 q1624, rfl, by decide, by decide, by decide⟩
theorem lk_X1_449 : zLS RX1 449 yJ17_bitCount (ws_ yJ17_bitCount cJ17_bitCount 1 (Option.some Jvm.ClassFile.FieldType.int)) 1 := ⟨lw_S q1658 q1659 q104 q1660, by decide, by decide, by decide⟩
theorem lk_X1_454 : zLV RX1 454 RX1 yX1_bestDeal (ws_ yX1_bestDeal cX1_bestDeal 8 (Option.some Jvm.ClassFile.FieldType.int)) 1 := ⟨lw_V q1654 q1656 qs27 q76 q1657, rfl, by decide, by decide, by decide⟩
theorem lk_X1_457 : zLV RX1 457 RX1 yX1_priceOf (ws_ yX1_priceOf cX1_priceOf 4 (Option.some Jvm.ClassFile.FieldType.int)) 1 := ⟨lw_V q1664 q1666 qs28 q76 q1667, rfl, by decide, by decide, by decide⟩
theorem lk_X1_460 : zLV RX1 460 RX5 yX5_begins (ws_ yX5_begins cX5_begins 5 (Option.none : Option Jvm.ClassFile.FieldType)) 2 := ⟨lw_V q1675 q1676 q1677 q83 q1678, rfl, by decide, by decide, by decide⟩
theorem lk_X1_462 : zLV RX1 462 RX5 yX5_fewest (ws_ yX5_fewest cX5_fewest 4 (Option.some Jvm.ClassFile.FieldType.int)) 1 := ⟨lw_V q1683 q1684 q1685 q83 q1686, rfl, by decide, by decide, by decide⟩
theorem lk_X1_465 : zLV RX1 465 RX5 yX5_first (ws_ yX5_first cX5_first 3 (Option.some Jvm.ClassFile.FieldType.int)) 1 := ⟨lw_V q1708 q1709 q1710 q83 q1711, rfl, by decide, by decide, by decide⟩
theorem lk_X1_468 : zLV RX1 468 RX2 yX2_burnt (ws_ yX2_burnt cX2_burnt 3 (Option.some Jvm.ClassFile.FieldType.int)) 0 := ⟨lw_V q636 q637 q638 q77 q639, rfl, by decide, by decide, by decide⟩
theorem lk_X1_473 : zLV RX1 473 RX1 yX1_sifts (ws_ yX1_sifts cX1_sifts 4 (Option.none : Option Jvm.ClassFile.FieldType)) 0 := ⟨lw_V q1726 q1728 qs33 q76 q1729, rfl, by decide, by decide, by decide⟩
theorem lk_X1_476 : zLV RX1 476 RX1 yX1_known (ws_ yX1_known cX1_known 5 (Option.some Jvm.ClassFile.FieldType.int)) 1 := ⟨lw_V q1730 q1732 qs34 q76 q1733, rfl, by decide, by decide, by decide⟩
theorem lk_X1_479 : zLV RX1 479 RX1 yX1_lost (ws_ yX1_lost cX1_lost 4 (Option.some Jvm.ClassFile.FieldType.int)) 1 := ⟨lw_V q417 q419 qs1 q76 q420, rfl, by decide, by decide, by decide⟩
theorem lk_X1_486 : zLV RX1 486 RJ2 yJ2_isEmpty (ws_ yJ2_isEmpty cJ2_isEmpty 1 (Option.some Jvm.ClassFile.FieldType.boolean)) 0 := ⟨lw_V q1748 q1749 q1750 q80 q1751, rfl, by decide, by decide, by decide⟩
theorem lk_X1_489 : zLV RX1 489 RX1 yX1_draw (ws_ yX1_draw cX1_draw 2 (Option.some Jvm.ClassFile.FieldType.int)) 1 := ⟨lw_V q1752 q1754 qs35 q76 q1755, rfl, by decide, by decide, by decide⟩
theorem lk_X1_495 : zLV RX1 495 RX1 yX1_sum (ws_ yX1_sum cX1_sum 4 (Option.some Jvm.ClassFile.FieldType.int)) 1 := ⟨lw_V q640 q642 qs5 q76 q643, rfl, by decide, by decide, by decide⟩
theorem lk_X10_1 : zLI RX10 1 yJ14_init_2 (ws_ yJ14_init_2 cJ14_init_2 5 (Option.none : Option Jvm.ClassFile.FieldType)) 4 := ⟨lw_meth q1020, q100, q1018, q1019, rfl, by decide, by decide, by decide⟩
theorem lk_X12_9 : zLI RX12 9 yJ2_init (ws_ yJ2_init cJ2_init 1 (Option.none : Option Jvm.ClassFile.FieldType)) 0 := ⟨lw_meth q141, q80, q1211, q140, rfl, by decide, by decide, by decide⟩
theorem lk_X12_16 : zLV RX12 16 RJ2 yJ2_size (ws_ yJ2_size cJ2_size 1 (Option.some Jvm.ClassFile.FieldType.int)) 0 := ⟨lw_V q1501 q368 q369 q80 q370, rfl, by decide, by decide, by decide⟩
theorem lk_X12_20 : zLV RX12 20 RJ2 yJ2_get (ws_ yJ2_get cJ2_get 2 (Option.some (Jvm.ClassFile.FieldType.object "java/lang/Object"))) 1 := ⟨lw_V q1502 q372 q373 q80 q374, rfl, by decide, by decide, by decide⟩
theorem lk_X14_9 : zLI RX14 9 yJ2_init (ws_ yJ2_init cJ2_init 1 (Option.none : Option Jvm.ClassFile.FieldType)) 0 := ⟨lw_meth q141, q80, q1236, q140, rfl, by decide, by decide, by decide⟩
theorem lk_X14_20 : zLV RX14 20 RJ2 yJ2_size (ws_ yJ2_size cJ2_size 1 (Option.some Jvm.ClassFile.FieldType.int)) 0 := ⟨lw_V q1566 q368 q369 q80 q370, rfl, by decide, by decide, by decide⟩
theorem lk_X14_24 : zLV RX14 24 RJ2 yJ2_get (ws_ yJ2_get cJ2_get 2 (Option.some (Jvm.ClassFile.FieldType.object "java/lang/Object"))) 1 := ⟨lw_V q1567 q372 q373 q80 q374, rfl, by decide, by decide, by decide⟩
theorem lk_X17_13 : zLV RX17 13 RX4 yX4_is (ws_ yX4_is cX4_is 2 (Option.some Jvm.ClassFile.FieldType.boolean)) 1 := ⟨lw_V q1514 q1515 q1516 q82 q1517, rfl, by decide, by decide, by decide⟩
theorem lk_X18_9 : zLI RX18 9 yJ2_init (ws_ yJ2_init cJ2_init 1 (Option.none : Option Jvm.ClassFile.FieldType)) 0 := ⟨lw_meth q141, q80, q1308, q140, rfl, by decide, by decide, by decide⟩
theorem lk_X18_16 : zLV RX18 16 RJ2 yJ2_size (ws_ yJ2_size cJ2_size 1 (Option.some Jvm.ClassFile.FieldType.int)) 0 := ⟨lw_V q1538 q368 q369 q80 q370, rfl, by decide, by decide, by decide⟩
theorem lk_X18_20 : zLV RX18 20 RJ2 yJ2_get (ws_ yJ2_get cJ2_get 2 (Option.some (Jvm.ClassFile.FieldType.object "java/lang/Object"))) 1 := ⟨lw_V q1539 q372 q373 q80 q374, rfl, by decide, by decide, by decide⟩
theorem lk_X18_26 : zLV RX18 26 RX19 yX19_in (ws_ yX19_in cX19_in 2 (Option.some Jvm.ClassFile.FieldType.int)) 1 := ⟨lw_V q1541 q1542 q1543 q116 q1544, rfl, by decide, by decide, by decide⟩
theorem lk_X19_17 : zLV RX19 17 RX4 yX4_of (ws_ yX4_of cX4_of 2 (Option.some Jvm.ClassFile.FieldType.int)) 1 := ⟨lw_V q1545 q1546 q1547 q82 q1548, rfl, by decide, by decide, by decide⟩
theorem lk_X2_24 : zLI RX2 24 yJ2_init (ws_ yJ2_init cJ2_init 1 (Option.none : Option Jvm.ClassFile.FieldType)) 0 := ⟨lw_meth q141, q80, q139, q140, rfl, by decide, by decide, by decide⟩
theorem lk_X2_38 : zLI RX2 38 yX2_init (ws_ yX2_init cX2_init 1 (Option.none : Option Jvm.ClassFile.FieldType)) 0 := ⟨lw_meth q135, q77, q434, q134, rfl, by decide, by decide, by decide⟩
theorem lk_X2_64 : zLV RX2 64 RJ2 yJ2_size (ws_ yJ2_size cJ2_size 1 (Option.some Jvm.ClassFile.FieldType.int)) 0 := ⟨lw_V q411 q368 q369 q80 q370, rfl, by decide, by decide, by decide⟩
theorem lk_X2_68 : zLV RX2 68 RJ2 yJ2_get (ws_ yJ2_get cJ2_get 2 (Option.some (Jvm.ClassFile.FieldType.object "java/lang/Object"))) 1 := ⟨lw_V q409 q372 q373 q80 q374, rfl, by decide, by decide, by decide⟩
theorem lk_X2_74 : zLV RX2 74 RX7 yX7_copy (ws_ yX7_copy cX7_copy 1 (Option.some (Jvm.ClassFile.FieldType.object "StepDebts$Walker"))) 0 := ⟨lw_V q437 q438 q439 q88 q440, rfl, by decide, by decide, by decide⟩
theorem lk_X2_78 : zLV RX2 78 RJ2 yJ2_add (ws_ yJ2_add cJ2_add 2 (Option.some Jvm.ClassFile.FieldType.boolean)) 1 := ⟨lw_V q465 q466 q467 q80 q468, rfl, by decide, by decide, by decide⟩
theorem lk_X2_84 : zLV RX2 84 RX8 yX8_copy (ws_ yX8_copy cX8_copy 2 (Option.some (Jvm.ClassFile.FieldType.object "StepDebts$Turn"))) 0 := ⟨lw_V q539 q540 q541 q92 q542, rfl, by decide, by decide, by decide⟩
theorem lk_X2_89 : zLV RX2 89 RX9 yX9_copy (ws_ yX9_copy cX9_copy 2 (Option.some (Jvm.ClassFile.FieldType.object "StepDebts$Entry"))) 0 := ⟨lw_V q565 q566 q567 q93 q568, rfl, by decide, by decide, by decide⟩
theorem lk_X2_92 : zLV RX2 92 RJ2 yJ2_addAll (ws_ yJ2_addAll cJ2_addAll 6 (Option.some Jvm.ClassFile.FieldType.boolean)) 1 := ⟨lw_V q614 q615 q616 q80 q617, rfl, by decide, by decide, by decide⟩
theorem lk_X2_122 : zLI RX2 122 yX9_init (ws_ yX9_init cX9_init 8 (Option.none : Option Jvm.ClassFile.FieldType)) 7 := ⟨lw_meth q573, q93, q1606, q572, rfl, by decide, by decide, by decide⟩
theorem lk_X20_39 : zLS RX20 39 yX20_values (ws_ yX20_values cX20_values 0 (Option.some (Jvm.ClassFile.FieldType.array (Jvm.ClassFile.FieldType.object "StepDebts$Fact")))) 0 := ⟨lw_S q1338 q1339 q117 q1340, by decide, by decide, by decide⟩
theorem lk_X20_43 : zLV RX20 43 RJ10 yJ10_equals (ws_ yJ10_equals cJ10_equals 3 (Option.some Jvm.ClassFile.FieldType.boolean)) 1 := ⟨lw_V q1349 q1093 q1094 q96 q1095, rfl, by decide, by decide, by decide⟩
theorem lk_X21_16 : zLV RX21 16 RX18 yX18_in (ws_ yX18_in cX18_in 4 (Option.some Jvm.ClassFile.FieldType.int)) 1 := ⟨lw_V q1534 q1535 q1536 q115 q1537, rfl, by decide, by decide, by decide⟩
theorem lk_X3_31 : zLV RX3 31 RX3 yX3_byteAt (ws_ yX3_byteAt cX3_byteAt 2 (Option.some Jvm.ClassFile.FieldType.int)) 1 := ⟨lw_V q670 q672 qs7 q81 q673, rfl, by decide, by decide, by decide⟩
theorem lk_X3_38 : zLV RX3 38 RX3 yX3_blanks (ws_ yX3_blanks cX3_blanks 1 (Option.none : Option Jvm.ClassFile.FieldType)) 0 := ⟨lw_V q666 q667 q668 q81 q669, rfl, by decide, by decide, by decide⟩
theorem lk_X3_41 : zLSN RX3 41 yX1_in (ws_ yX1_in cX1_in 3 (Option.some Jvm.ClassFile.FieldType.boolean)) 3 := ⟨lw_meth q684, q76, ⟨_, zNw_of q682 rfl⟩, q683, by decide, by decide, by decide⟩
theorem lk_X3_47 : zLI RX3 47 yJ9_init (ws_ yJ9_init cJ9_init 1 (Option.none : Option Jvm.ClassFile.FieldType)) 0 := ⟨lw_meth q689, q95, q687, q688, rfl, by decide, by decide, by decide⟩
theorem lk_X3_48 : zLV RX3 48 RJ9 yJ9_append (ws_ yJ9_append cJ9_append 2 (Option.some (Jvm.ClassFile.FieldType.object "java/lang/StringBuilder"))) 1 := ⟨lw_V q716 q717 q718 q95 q719, rfl, by decide, by decide, by decide⟩
theorem lk_X3_52 : zLV RX3 52 RJ9 yJ9_toString (ws_ yJ9_toString cJ9_toString 1 (Option.some (Jvm.ClassFile.FieldType.object "java/lang/String"))) 0 := ⟨lw_V q794 q795 q796 q95 q797, rfl, by decide, by decide, by decide⟩
theorem lk_X3_56 : zLV RX3 56 RX3 yX3_word (ws_ yX3_word cX3_word 3 (Option.some (Jvm.ClassFile.FieldType.object "java/lang/String"))) 0 := ⟨lw_V q1130 q679 q680 q81 q681, rfl, by decide, by decide, by decide⟩
theorem lk_X3_59 : zLV RX3 59 RJ10 yJ10_equals (ws_ yJ10_equals cJ10_equals 3 (Option.some Jvm.ClassFile.FieldType.boolean)) 1 := ⟨lw_V q1131 q1093 q1094 q96 q1095, rfl, by decide, by decide, by decide⟩
theorem lk_X3_65 : zLV RX3 65 RX3 yX3_figures (ws_ yX3_figures cX3_figures 5 (Option.some Jvm.ClassFile.FieldType.int)) 3 := ⟨lw_V q1122 q1110 q1111 q81 q1112, rfl, by decide, by decide, by decide⟩
theorem lk_X3_69 : zLV RX3 69 RX3 yX3_wrong (ws_ yX3_wrong cX3_wrong 1 (Option.some (Jvm.ClassFile.FieldType.object "StepDebts$Wrong"))) 0 := ⟨lw_V q1113 q1003 q1004 q81 q1005, rfl, by decide, by decide, by decide⟩
theorem lk_X3_78 : zLI RX3 78 yX10_init (ws_ yX10_init cX10_init 1 (Option.none : Option Jvm.ClassFile.FieldType)) 0 := ⟨lw_meth q1017, q105, q1015, q1016, rfl, by decide, by decide, by decide⟩
theorem lk_X4_7 : zLG RX4 7 "StepDebts$Fact" "java/lang/Enum" ⟨"StepDebts$Fact", "ordinal", "()I"⟩ yJ19_ordinal (ws_ yJ19_ordinal cJ19_ordinal 1 (Option.some Jvm.ClassFile.FieldType.int)) 0 := ⟨lw_meth q1527, q1549, q1550, q1526, q112, ⟨q1526, _, _, _, q1527⟩, Or.inl q1551, by decide, by decide, by decide⟩
theorem lk_X4_47 : zLG RX4 47 "StepDebts$Tag" "java/lang/Enum" ⟨"StepDebts$Tag", "ordinal", "()I"⟩ yJ19_ordinal (ws_ yJ19_ordinal cJ19_ordinal 1 (Option.some Jvm.ClassFile.FieldType.int)) 0 := ⟨lw_meth q1527, q1522, q1523, q1526, q112, ⟨q1526, _, _, _, q1527⟩, Or.inl q1525, by decide, by decide, by decide⟩
theorem lk_X5_51 : zLV RX5 51 RJ2 yJ2_size (ws_ yJ2_size cJ2_size 1 (Option.some Jvm.ClassFile.FieldType.int)) 0 := ⟨lw_V q1679 q368 q369 q80 q370, rfl, by decide, by decide, by decide⟩
theorem lk_X5_57 : zLV RX5 57 RJ2 yJ2_get (ws_ yJ2_get cJ2_get 2 (Option.some (Jvm.ClassFile.FieldType.object "java/lang/Object"))) 1 := ⟨lw_V q1680 q372 q373 q80 q374, rfl, by decide, by decide, by decide⟩
theorem lk_X5_69 : zLVN RX5 69 RX1 yX1_counted (ws_ yX1_counted cX1_counted 8 (Option.some Jvm.ClassFile.FieldType.int)) 4 := ⟨lw_meth q1492, q76, ⟨_, zNw_of q1682 rfl⟩, ⟨q1491, qs25⟩, by decide, by decide, by decide⟩
theorem lk_X5_79 : zLS RX5 79 yJ7_fill (ws_ yJ7_fill cJ7_fill 4 (Option.none : Option Jvm.ClassFile.FieldType)) 2 := ⟨lw_S q1687 q1688 q91 q1689, by decide, by decide, by decide⟩
theorem lk_X5_88 : zLV RX5 88 RX5 yX5_states (ws_ yX5_states cX5_states 3 (Option.some Jvm.ClassFile.FieldType.int)) 0 := ⟨lw_V q1690 q1692 qs29 q83 q1693, rfl, by decide, by decide, by decide⟩
theorem lk_X5_91 : zLV RX5 91 RX5 yX5_most (ws_ yX5_most cX5_most 5 (Option.some Jvm.ClassFile.FieldType.int)) 1 := ⟨lw_V q1694 q1696 qs30 q83 q1697, rfl, by decide, by decide, by decide⟩
theorem lk_X5_95 : zLV RX5 95 RX5 yX5_rested (ws_ yX5_rested cX5_rested 5 (Option.some Jvm.ClassFile.FieldType.int)) 1 := ⟨lw_V q1698 q1700 qs31 q83 q1701, rfl, by decide, by decide, by decide⟩
theorem lk_X5_98 : zLS RX5 98 yJ17_bitCount (ws_ yJ17_bitCount cJ17_bitCount 1 (Option.some Jvm.ClassFile.FieldType.int)) 1 := ⟨lw_S q1702 q1659 q104 q1660, by decide, by decide, by decide⟩
theorem lk_X5_103 : zLV RX5 103 RX5 yX5_behind (ws_ yX5_behind cX5_behind 7 (Option.some Jvm.ClassFile.FieldType.int)) 2 := ⟨lw_V q1703 q1705 qs32 q83 q1706, rfl, by decide, by decide, by decide⟩
theorem lk_X6_44 : zLS RX6 44 yX6_isIn (ws_ yX6_isIn cX6_isIn 3 (Option.some Jvm.ClassFile.FieldType.boolean)) 3 := ⟨lw_S q1851 q1852 q84 q1853, by decide, by decide, by decide⟩
theorem lk_X6_60 : zLV RX6 60 RX6 yX6_letter (ws_ yX6_letter cX6_letter 2 (Option.some Jvm.ClassFile.FieldType.int)) 1 := ⟨lw_V q1870 q1872 qs39 q84 q1873, rfl, by decide, by decide, by decide⟩
theorem lk_X6_64 : zLV RX6 64 RX6 yX6_skip (ws_ yX6_skip cX6_skip 1 (Option.none : Option Jvm.ClassFile.FieldType)) 0 := ⟨lw_V q1866 q1868 qs38 q84 q1869, rfl, by decide, by decide, by decide⟩
theorem lk_X6_67 : zLV RX6 67 RJ10 yJ10_length (ws_ yJ10_length cJ10_length 1 (Option.some Jvm.ClassFile.FieldType.int)) 0 := ⟨lw_V q1887 q927 q928 q96 q929, rfl, by decide, by decide, by decide⟩
theorem lk_X6_73 : zLV RX6 73 RJ10 yJ10_charAt (ws_ yJ10_charAt cJ10_charAt 2 (Option.some Jvm.ClassFile.FieldType.char)) 1 := ⟨lw_V q1888 q1889 q1890 q96 q1891, rfl, by decide, by decide, by decide⟩
theorem lk_X6_77 : zLV RX6 77 RX6 yX6_wrong (ws_ yX6_wrong cX6_wrong 2 (Option.none : Option Jvm.ClassFile.FieldType)) 1 := ⟨lw_V q1874 q1876 qs40 q84 q1877, rfl, by decide, by decide, by decide⟩
theorem lk_X6_81 : zLV RX6 81 RX6 yX6_has (ws_ yX6_has cX6_has 4 (Option.some Jvm.ClassFile.FieldType.boolean)) 1 := ⟨lw_V q1883 q1885 qs42 q84 q1886, rfl, by decide, by decide, by decide⟩
theorem lk_X6_85 : zLV RX6 85 RX6 yX6_figures (ws_ yX6_figures cX6_figures 6 (Option.some Jvm.ClassFile.FieldType.int)) 3 := ⟨lw_V q1899 q1901 qs43 q84 q1902, rfl, by decide, by decide, by decide⟩
theorem lk_X6_91 : zLV RX6 91 RX6 yX6_must (ws_ yX6_must cX6_must 2 (Option.none : Option Jvm.ClassFile.FieldType)) 1 := ⟨lw_V q1956 q1958 qs53 q84 q1959, rfl, by decide, by decide, by decide⟩
theorem lk_X6_102 : zLV RX6 102 RX6 yX6_comes (ws_ yX6_comes cX6_comes 7 (Option.none : Option Jvm.ClassFile.FieldType)) 2 := ⟨lw_V q1951 q1953 qs52 q84 q1954, rfl, by decide, by decide, by decide⟩
theorem lk_X6_125 : zLV RX6 125 RX6 yX6_lawLine (ws_ yX6_lawLine cX6_lawLine 3 (Option.none : Option Jvm.ClassFile.FieldType)) 0 := ⟨lw_V q1878 q1880 qs41 q84 q1881, rfl, by decide, by decide, by decide⟩
theorem lk_X6_128 : zLV RX6 128 RX6 yX6_peopleLine (ws_ yX6_peopleLine cX6_peopleLine 4 (Option.none : Option Jvm.ClassFile.FieldType)) 0 := ⟨lw_V q1945 q1947 qs51 q84 q1948, rfl, by decide, by decide, by decide⟩
theorem lk_X6_131 : zLV RX6 131 RX6 yX6_isSign (ws_ yX6_isSign cX6_isSign 2 (Option.some Jvm.ClassFile.FieldType.boolean)) 1 := ⟨lw_V q1917 q1919 qs47 q84 q1920, rfl, by decide, by decide, by decide⟩
theorem lk_X6_135 : zLV RX6 135 RX6 yX6_begins (ws_ yX6_begins cX6_begins 1 (Option.none : Option Jvm.ClassFile.FieldType)) 0 := ⟨lw_V q1858 q1860 qs36 q84 q1861, rfl, by decide, by decide, by decide⟩
theorem lk_X6_138 : zLV RX6 138 RX6 yX6_read (ws_ yX6_read cX6_read 4 (Option.some Jvm.ClassFile.FieldType.int)) 1 := ⟨lw_V q1862 q1864 qs37 q84 q1865, rfl, by decide, by decide, by decide⟩
theorem lk_X6_150 : zLV RX6 150 RX6 yX6_part (ws_ yX6_part cX6_part 2 (Option.some Jvm.ClassFile.FieldType.int)) 0 := ⟨lw_V q1935 q1937 qs50 q84 q1938, rfl, by decide, by decide, by decide⟩
theorem lk_X6_167 : zLV RX6 167 RX6 yX6_sum (ws_ yX6_sum cX6_sum 2 (Option.some Jvm.ClassFile.FieldType.int)) 0 := ⟨lw_V q1931 q1933 qs49 q84 q1934, rfl, by decide, by decide, by decide⟩
theorem lk_X6_172 : zLV RX6 172 RX6 yX6_plain (ws_ yX6_plain cX6_plain 4 (Option.some Jvm.ClassFile.FieldType.boolean)) 0 := ⟨lw_V q1921 q1923 qs48 q84 q1924, rfl, by decide, by decide, by decide⟩
theorem lk_X6_176 : zLV RX6 176 RX6 yX6_atom (ws_ yX6_atom cX6_atom 4 (Option.some Jvm.ClassFile.FieldType.boolean)) 0 := ⟨lw_V q1912 q1914 qs46 q84 q1915, rfl, by decide, by decide, by decide⟩
theorem lk_X6_179 : zLV RX6 179 RX6 yX6_some (ws_ yX6_some cX6_some 3 (Option.some Jvm.ClassFile.FieldType.boolean)) 0 := ⟨lw_V q1904 q1906 qs44 q84 q1907, rfl, by decide, by decide, by decide⟩
theorem lk_X6_184 : zLV RX6 184 RX6 yX6_every (ws_ yX6_every cX6_every 3 (Option.some Jvm.ClassFile.FieldType.boolean)) 0 := ⟨lw_V q1908 q1910 qs45 q84 q1911, rfl, by decide, by decide, by decide⟩
theorem lk_X6_196 : zLV RX6 196 RX6 yX6_ofEntry (ws_ yX6_ofEntry cX6_ofEntry 3 (Option.some Jvm.ClassFile.FieldType.int)) 2 := ⟨lw_V q1990 q1992 qs57 q84 q1993, rfl, by decide, by decide, by decide⟩
theorem lk_X6_200 : zLV RX6 200 RX6 yX6_isHouse (ws_ yX6_isHouse cX6_isHouse 2 (Option.some Jvm.ClassFile.FieldType.boolean)) 1 := ⟨lw_V q1978 q1980 qs54 q84 q1981, rfl, by decide, by decide, by decide⟩
theorem lk_X6_203 : zLV RX6 203 RX6 yX6_ofWalker (ws_ yX6_ofWalker cX6_ofWalker 3 (Option.some Jvm.ClassFile.FieldType.int)) 2 := ⟨lw_V q1982 q1984 qs55 q84 q1985, rfl, by decide, by decide, by decide⟩
theorem lk_X6_206 : zLV RX6 206 RX6 yX6_beadsOf (ws_ yX6_beadsOf cX6_beadsOf 4 (Option.some Jvm.ClassFile.FieldType.int)) 1 := ⟨lw_V q1986 q1988 qs56 q84 q1989, rfl, by decide, by decide, by decide⟩
theorem lk_X6_209 : zLV RX6 209 RX6 yX6_isWalker (ws_ yX6_isWalker cX6_isWalker 2 (Option.some Jvm.ClassFile.FieldType.boolean)) 1 := ⟨lw_V q1998 q2000 qs58 q84 q2001, rfl, by decide, by decide, by decide⟩
theorem lk_X6_212 : zLV RX6 212 RX6 yX6_ofTurn (ws_ yX6_ofTurn cX6_ofTurn 3 (Option.some Jvm.ClassFile.FieldType.int)) 2 := ⟨lw_V q2014 q2016 qs61 q84 q2017, rfl, by decide, by decide, by decide⟩
theorem lk_X6_215 : zLV RX6 215 RX6 yX6_isTurn (ws_ yX6_isTurn cX6_isTurn 2 (Option.some Jvm.ClassFile.FieldType.boolean)) 1 := ⟨lw_V q2006 q2008 qs59 q84 q2009, rfl, by decide, by decide, by decide⟩
theorem lk_X6_218 : zLV RX6 218 RX6 yX6_missedOf (ws_ yX6_missedOf cX6_missedOf 4 (Option.some Jvm.ClassFile.FieldType.int)) 1 := ⟨lw_V q2010 q2012 qs60 q84 q2013, rfl, by decide, by decide, by decide⟩
theorem lk_X6_221 : zLV RX6 221 RX6 yX6_isEntry (ws_ yX6_isEntry cX6_isEntry 2 (Option.some Jvm.ClassFile.FieldType.boolean)) 1 := ⟨lw_V q2022 q2024 qs62 q84 q2025, rfl, by decide, by decide, by decide⟩
theorem lk_X6_224 : zLV RX6 224 RX6 yX6_pacesOf (ws_ yX6_pacesOf cX6_pacesOf 4 (Option.some Jvm.ClassFile.FieldType.int)) 1 := ⟨lw_V q2038 q2040 qs65 q84 q2041, rfl, by decide, by decide, by decide⟩
theorem lk_X6_227 : zLV RX6 227 RX6 yX6_refuses (ws_ yX6_refuses cX6_refuses 4 (Option.some Jvm.ClassFile.FieldType.int)) 3 := ⟨lw_V q2030 q2032 qs63 q84 q2033, rfl, by decide, by decide, by decide⟩
theorem lk_X6_230 : zLV RX6 230 RX6 yX6_countsOf (ws_ yX6_countsOf cX6_countsOf 8 (Option.some Jvm.ClassFile.FieldType.int)) 4 := ⟨lw_V q2034 q2036 qs64 q84 q2037, rfl, by decide, by decide, by decide⟩
theorem lk_X6_234 : zLV RX6 234 RX6 yX6_mayWalk (ws_ yX6_mayWalk cX6_mayWalk 6 (Option.some Jvm.ClassFile.FieldType.boolean)) 3 := ⟨lw_V q2046 q2048 qs66 q84 q2049, rfl, by decide, by decide, by decide⟩
theorem lk_X6_238 : zLV RX6 238 RX6 yX6_walks (ws_ yX6_walks cX6_walks 8 (Option.some Jvm.ClassFile.FieldType.int)) 4 := ⟨lw_V q2050 q2052 qs67 q84 q2053, rfl, by decide, by decide, by decide⟩
theorem lk_X6_241 : zLS RX6 241 yX6_bits (ws_ yX6_bits cX6_bits 3 (Option.some Jvm.ClassFile.FieldType.int)) 1 := ⟨lw_S q2086 q2087 q84 q2088, by decide, by decide, by decide⟩
theorem lk_X6_247 : zLV RX6 247 RX6 yX6_countedBy (ws_ yX6_countedBy cX6_countedBy 7 (Option.some Jvm.ClassFile.FieldType.int)) 3 := ⟨lw_V q2093 q2095 qs68 q84 q2096, rfl, by decide, by decide, by decide⟩
theorem lk_X6_250 : zLV RX6 250 RX6 yX6_dayOn (ws_ yX6_dayOn cX6_dayOn 8 (Option.some Jvm.ClassFile.FieldType.int)) 2 := ⟨lw_V q2097 q2099 qs69 q84 q2100, rfl, by decide, by decide, by decide⟩
theorem lk_X6_253 : zLV RX6 253 RX6 yX6_burntNow (ws_ yX6_burntNow cX6_burntNow 3 (Option.some Jvm.ClassFile.FieldType.int)) 0 := ⟨lw_V q2105 q2107 qs70 q84 q2108, rfl, by decide, by decide, by decide⟩
theorem lk_X6_259 : zLV RX6 259 RX6 yX6_asks (ws_ yX6_asks cX6_asks 5 (Option.some Jvm.ClassFile.FieldType.int)) 1 := ⟨lw_V q2113 q2115 qs71 q84 q2116, rfl, by decide, by decide, by decide⟩
theorem lk_X6_262 : zLV RX6 262 RX6 yX6_knownOf (ws_ yX6_knownOf cX6_knownOf 4 (Option.some Jvm.ClassFile.FieldType.int)) 1 := ⟨lw_V q2117 q2119 qs72 q84 q2120, rfl, by decide, by decide, by decide⟩
theorem lk_X6_271 : zLV RX6 271 RX6 yX6_sets (ws_ yX6_sets cX6_sets 5 (Option.none : Option Jvm.ClassFile.FieldType)) 3 := ⟨lw_V q2126 q2128 qs73 q84 q2129, rfl, by decide, by decide, by decide⟩
theorem lk_X6_277 : zLV RX6 277 RX6 yX6_draw (ws_ yX6_draw cX6_draw 2 (Option.some Jvm.ClassFile.FieldType.int)) 1 := ⟨lw_V q2138 q2140 qs74 q84 q2141, rfl, by decide, by decide, by decide⟩
theorem lk_X7_22 : zLI RX7 22 yX7_init (ws_ yX7_init cX7_init 5 (Option.none : Option Jvm.ClassFile.FieldType)) 4 := ⟨lw_meth q445, q88, q443, q444, rfl, by decide, by decide, by decide⟩
theorem lk_X8_13 : zLI RX8 13 yX8_init (ws_ yX8_init cX8_init 2 (Option.none : Option Jvm.ClassFile.FieldType)) 1 := ⟨lw_meth q547, q92, q545, q546, rfl, by decide, by decide, by decide⟩
theorem lk_X9_32 : zLI RX9 32 yX9_init (ws_ yX9_init cX9_init 8 (Option.none : Option Jvm.ClassFile.FieldType)) 7 := ⟨lw_meth q573, q93, q571, q572, rfl, by decide, by decide, by decide⟩
theorem lkh_X12_30 : zLH RX12 30 := List.forall_mem_cons.mpr ⟨fun b maxL ret h => ⟨lw_app (List.forall_mem_cons.mpr ⟨q1505, List.forall_mem_cons.mpr ⟨q1561, List.forall_mem_cons.mpr ⟨q1563, List.forall_mem_cons.mpr ⟨q110, fun r hr => absurd hr List.not_mem_nil⟩⟩⟩⟩) (lw_meth h), by decide, by decide, by decide⟩, List.forall_mem_cons.mpr ⟨fun b maxL ret h => ⟨lw_app (List.forall_mem_cons.mpr ⟨q1505, List.forall_mem_cons.mpr ⟨q1553, List.forall_mem_cons.mpr ⟨q1555, List.forall_mem_cons.mpr ⟨q111, fun r hr => absurd hr List.not_mem_nil⟩⟩⟩⟩) (lw_meth h), by decide, by decide, by decide⟩, List.forall_mem_cons.mpr ⟨fun b maxL ret h => ⟨lw_app (List.forall_mem_cons.mpr ⟨q1505, List.forall_mem_cons.mpr ⟨q1509, List.forall_mem_cons.mpr ⟨q1511, List.forall_mem_cons.mpr ⟨q114, fun r hr => absurd hr List.not_mem_nil⟩⟩⟩⟩) (lw_meth h), by decide, by decide, by decide⟩, List.forall_mem_cons.mpr ⟨fun b maxL ret h => ⟨lw_app (List.forall_mem_cons.mpr ⟨q1505, List.forall_mem_cons.mpr ⟨q1529, List.forall_mem_cons.mpr ⟨q1531, List.forall_mem_cons.mpr ⟨q118, fun r hr => absurd hr List.not_mem_nil⟩⟩⟩⟩) (lw_meth h), by decide, by decide, by decide⟩, fun q hq => absurd hq List.not_mem_nil⟩⟩⟩⟩
theorem lkh_X14_30 : zLH RX14 30 := List.forall_mem_cons.mpr ⟨fun b maxL ret h => ⟨lw_app (List.forall_mem_cons.mpr ⟨q1570, List.forall_mem_cons.mpr ⟨q1561, List.forall_mem_cons.mpr ⟨q1563, List.forall_mem_cons.mpr ⟨q110, fun r hr => absurd hr List.not_mem_nil⟩⟩⟩⟩) (lw_meth h), by decide, by decide, by decide⟩, List.forall_mem_cons.mpr ⟨fun b maxL ret h => ⟨lw_app (List.forall_mem_cons.mpr ⟨q1570, List.forall_mem_cons.mpr ⟨q1553, List.forall_mem_cons.mpr ⟨q1555, List.forall_mem_cons.mpr ⟨q111, fun r hr => absurd hr List.not_mem_nil⟩⟩⟩⟩) (lw_meth h), by decide, by decide, by decide⟩, List.forall_mem_cons.mpr ⟨fun b maxL ret h => ⟨lw_app (List.forall_mem_cons.mpr ⟨q1570, List.forall_mem_cons.mpr ⟨q1509, List.forall_mem_cons.mpr ⟨q1511, List.forall_mem_cons.mpr ⟨q114, fun r hr => absurd hr List.not_mem_nil⟩⟩⟩⟩) (lw_meth h), by decide, by decide, by decide⟩, List.forall_mem_cons.mpr ⟨fun b maxL ret h => ⟨lw_app (List.forall_mem_cons.mpr ⟨q1570, List.forall_mem_cons.mpr ⟨q1529, List.forall_mem_cons.mpr ⟨q1531, List.forall_mem_cons.mpr ⟨q118, fun r hr => absurd hr List.not_mem_nil⟩⟩⟩⟩) (lw_meth h), by decide, by decide, by decide⟩, fun q hq => absurd hq List.not_mem_nil⟩⟩⟩⟩
theorem lkh_X15_13 : zLH RX15 13 := List.forall_mem_cons.mpr ⟨fun b maxL ret h => ⟨lw_app (List.forall_mem_cons.mpr ⟨q1559, List.forall_mem_cons.mpr ⟨q1561, List.forall_mem_cons.mpr ⟨q1563, List.forall_mem_cons.mpr ⟨q110, fun r hr => absurd hr List.not_mem_nil⟩⟩⟩⟩) (lw_meth h), by decide, by decide, by decide⟩, List.forall_mem_cons.mpr ⟨fun b maxL ret h => ⟨lw_app (List.forall_mem_cons.mpr ⟨q1559, List.forall_mem_cons.mpr ⟨q1553, List.forall_mem_cons.mpr ⟨q1555, List.forall_mem_cons.mpr ⟨q111, fun r hr => absurd hr List.not_mem_nil⟩⟩⟩⟩) (lw_meth h), by decide, by decide, by decide⟩, List.forall_mem_cons.mpr ⟨fun b maxL ret h => ⟨lw_app (List.forall_mem_cons.mpr ⟨q1559, List.forall_mem_cons.mpr ⟨q1509, List.forall_mem_cons.mpr ⟨q1511, List.forall_mem_cons.mpr ⟨q114, fun r hr => absurd hr List.not_mem_nil⟩⟩⟩⟩) (lw_meth h), by decide, by decide, by decide⟩, List.forall_mem_cons.mpr ⟨fun b maxL ret h => ⟨lw_app (List.forall_mem_cons.mpr ⟨q1559, List.forall_mem_cons.mpr ⟨q1529, List.forall_mem_cons.mpr ⟨q1531, List.forall_mem_cons.mpr ⟨q118, fun r hr => absurd hr List.not_mem_nil⟩⟩⟩⟩) (lw_meth h), by decide, by decide, by decide⟩, fun q hq => absurd hq List.not_mem_nil⟩⟩⟩⟩
