/-! the start: what the Statement gives of it, as a map -/
def zFL : List Cond := flatC (Cond.and given_1 narrow_1)
def zTmL : List (String × Nat) := [("StepDebts", 119), ("StepDebts", 121), ("StepDebts", 123), ("StepDebts", 125), ("StepDebts", 127), ("StepDebts", 129), ("StepDebts", 131), ("StepDebts", 133), ("StepDebts", 135), ("StepDebts", 77), ("StepDebts", 90), ("StepDebts", 109), ("StepDebts", 282), ("StepDebts", 286), ("StepDebts", 236), ("StepDebts", 275), ("StepDebts", 280), ("StepDebtsModel", 156), ("StepDebtsModel", 162), ("StepDebtsModel", 142), ("StepDebtsModel", 144), ("StepDebtsModel", 146), ("StepDebtsModel", 148)]
def zTm (i : Nat) : Term := Term.string (zTmL.getD i ("", 0)).1 (zTmL.getD i ("", 0)).2
def zP1 : List Nat := [678, 689, 698, 709, 721, 734, 744, 755, 765, 776, 784, 794, 803, 814, 822, 831, 840, 928, 939, 948, 957, 967, 978]
def zP6 : List Nat := [1216, 1217, 1218, 1219, 1220, 1221, 1222, 1223, 1224, 1225, 1226, 1227, 1228, 1229, 1230, 1231, 1232, 1240, 1241, 1242, 1243, 1244, 1245]
def zEqL : List ((String × Nat) × Nat) := [(("StepDebts$Fact", 50), 1178), (("StepDebts$Fact", 56), 1189), (("StepDebts$Fact", 59), 1201), (("StepDebts$Fact", 62), 1211), (("StepDebts$Tag", 46), 1125), (("StepDebts$Tag", 52), 1138), (("StepDebts$Tag", 55), 1152), (("StepDebts$Tag", 58), 1167), (("StepDebts$Tag", 61), 1105), (("StepDebts$Tag", 64), 1115), (("StepDebtsModel", 89), 1026), (("StepDebtsModel", 95), 1037), (("StepDebtsModel", 97), 1017), (("StepDebtsModel", 100), 888), (("StepDebtsModel", 106), 900), (("StepDebtsModel", 108), 913), (("StepDebtsModel", 110), 927), (("StepDebtsModel", 112), 1048), (("StepDebtsModel", 114), 1060), (("StepDebtsModel", 116), 1071), (("StepDebtsModel", 118), 1083), (("StepDebtsModel", 120), 1093), (("StepDebtsModel", 170), 878), (("StepDebtsModel", 182), 996), (("StepDebtsModel", 187), 1005), (("StepDebtsModel", 189), 859), (("StepDebtsModel", 191), 868)]
section ZST
variable {s : State} {b : Nat}
theorem zg_at {c : Cond} (i : Nat) (hg : ∀ c ∈ zFL, c.before #[Value.ref b] s = true) (h : zFL[i]? = some c) : c.before #[Value.ref b] s = true := hg c (List.mem_of_getElem? h)
theorem zg_all {f : Nat → Cond} {P : Nat → Nat} {N : Nat} (hg : ∀ c ∈ zFL, c.before #[Value.ref b] s = true) (h : (List.range N).all (fun i => decide (zFL[P i]? = some (f i))) = true) : ∀ i, i < N → (f i).before #[Value.ref b] s = true := fun i hi => zg_at _ hg (of_decide_eq_true (List.all_eq_true.mp h i (List.mem_range.mpr hi)))
theorem zg_all2 {f : Nat → Nat → Cond} {P : Nat → Nat → Nat} {N : Nat} {L : Nat → Nat} (hg : ∀ c ∈ zFL, c.before #[Value.ref b] s = true) (h : (List.range N).all (fun i => (List.range (L i)).all (fun j => decide (zFL[P i j]? = some (f i j)))) = true) : ∀ i, i < N → ∀ j, j < L i → (f i j).before #[Value.ref b] s = true := fun i hi j hj => zg_at _ hg (of_decide_eq_true (List.all_eq_true.mp (List.all_eq_true.mp h i (List.mem_range.mpr hi)) j (List.mem_range.mpr hj)))
end ZST
theorem zC1 : (List.range 23).all (fun i => decide (zFL[zP1.getD i 0]? = some (Cond.exactly (zTm i) "java/lang/String"))) = true := by decide +kernel
theorem zC2 : (List.range 23).all (fun i => decide (zFL[zP1.getD i 0 + 1]? = some (Cond.eq (.field (zTm i) "java/lang/String" "coder" "B") (.int 0)))) = true := by decide +kernel
theorem zC3 : (List.range 23).all (fun i => decide (zFL[zP1.getD i 0 + 2]? = some (Cond.arrayOf (.field (zTm i) "java/lang/String" "value" "[B") .byte))) = true := by decide +kernel
theorem zC4 : (List.range 23).all (fun i => decide (zFL[zP1.getD i 0 + 3]? = some (Cond.eq (.length (.field (zTm i) "java/lang/String" "value" "[B")) (.int (Int32.ofNat (zTb i).length))))) = true := by decide +kernel
theorem zC5 : (List.range 23).all (fun i => (List.range (zTb i).length).all (fun j => decide (zFL[zP1.getD i 0 + 4 + j]? = some (Cond.eq (.elem (.field (zTm i) "java/lang/String" "value" "[B") (.int (Int32.ofNat j))) (.int ((zTb i).getD j 0)))))) = true := by decide +kernel
theorem zC6 : (List.range 23).all (fun i => decide (zFL[zP6.getD i 0]? = some (Cond.exactly (.field (zTm i) "java/lang/String" "value" "[B") "[B"))) = true := by decide +kernel
theorem zC7 : zStr.all (fun q => ((zTmL.getD (q.2.2.2 - 100) ("", 0)).1 == q.1 && (zTmL.getD (q.2.2.2 - 100) ("", 0)).2 == q.2.1 || (zEqL.lookup (q.1, q.2.1)).any (fun p => decide (zFL[p]? = some (Cond.eq (zTm (q.2.2.2 - 100)) (.string q.1 q.2.1))))) && (Nat.ble 100 q.2.2.2 && Nat.blt q.2.2.2 123)) = true := by decide +kernel
def zTagN : List String := ["MAN", "CHILD", "DONKEY", "CRIPPLE", "NIGHT", "OWN"]
def zTagT (i : Nat) : Term := .static "StepDebts$Tag" (zTagN.getD i "") "LStepDebts$Tag;"
def zTagP : List Nat := [249, 254, 260, 267, 242, 245]
def zTagL : List (String × Nat) := [("StepDebts$Tag", 46), ("StepDebts$Tag", 52), ("StepDebts$Tag", 55), ("StepDebts$Tag", 58), ("StepDebts$Tag", 61), ("StepDebts$Tag", 64)]
def zTagX : List Nat := [1, 2, 3, 4, 17, 18]
theorem zCTag1 : (List.range 6).all (fun i => decide (zFL[zTagP.getD i 0]? = some (Cond.exactly (zTagT i) "StepDebts$Tag"))) = true := by decide +kernel
theorem zCTag2 : (List.range 6).all (fun i => decide (zFL[zTagP.getD i 0 + 1]? = some (Cond.eq (.field (zTagT i) "java/lang/Enum" "ordinal" "I") (.int (Int32.ofNat i))))) = true := by decide +kernel
theorem zCTag3 : (List.range 6).all (fun i => decide (zFL[zTagP.getD i 0 + 2]? = some (Cond.eq (.field (zTagT i) "StepDebts$Tag" "told" "Ljava/lang/String;") (.string (zTagL.getD i ("", 0)).1 (zTagL.getD i ("", 0)).2)))) = true := by decide +kernel
theorem zCTag4 : (List.range 6).all (fun i => zStr.any (fun q => q.1 == (zTagL.getD i ("", 0)).1 && (q.2.1 == (zTagL.getD i ("", 0)).2 && q.2.2.2 == 100 + zTagX.getD i 0))) = true := by decide +kernel
def zTagV : Term := .static "StepDebts$Tag" "$VALUES" "[LStepDebts$Tag;"
theorem zCTagVex : zFL[223]? = some (Cond.exactly zTagV "[LStepDebts$Tag;") := by decide +kernel
theorem zCTagVar : zFL[224]? = some (Cond.arrayOf zTagV (.object "StepDebts$Tag")) := by decide +kernel
theorem zCTagVln : zFL[225]? = some (Cond.eq (.length zTagV) (.int 6)) := by decide +kernel
theorem zCTagVal : zFL[226]? = some (Cond.all zTagV (.le (.index 0) (.int 5))) := by decide +kernel
theorem zCTagVel : (List.range 6).all (fun i => decide (zFL[227 + i]? = some (Cond.eq (.elem zTagV (.int (Int32.ofNat i))) (zTagT i)))) = true := by decide +kernel
def zFactN : List String := ["AGE", "WEAR", "PACES", "DAY"]
def zFactT (i : Nat) : Term := .static "StepDebts$Fact" (zFactN.getD i "") "LStepDebts$Fact;"
def zFactP : List Nat := [275, 284, 294, 305]
def zFactL : List (String × Nat) := [("StepDebts$Fact", 50), ("StepDebts$Fact", 56), ("StepDebts$Fact", 59), ("StepDebts$Fact", 62)]
def zFactX : List Nat := [19, 20, 21, 22]
theorem zCFact1 : (List.range 4).all (fun i => decide (zFL[zFactP.getD i 0]? = some (Cond.exactly (zFactT i) "StepDebts$Fact"))) = true := by decide +kernel
theorem zCFact2 : (List.range 4).all (fun i => decide (zFL[zFactP.getD i 0 + 1]? = some (Cond.eq (.field (zFactT i) "java/lang/Enum" "ordinal" "I") (.int (Int32.ofNat i))))) = true := by decide +kernel
theorem zCFact3 : (List.range 4).all (fun i => decide (zFL[zFactP.getD i 0 + 2]? = some (Cond.eq (.field (zFactT i) "StepDebts$Fact" "told" "Ljava/lang/String;") (.string (zFactL.getD i ("", 0)).1 (zFactL.getD i ("", 0)).2)))) = true := by decide +kernel
theorem zCFact4 : (List.range 4).all (fun i => zStr.any (fun q => q.1 == (zFactL.getD i ("", 0)).1 && (q.2.1 == (zFactL.getD i ("", 0)).2 && q.2.2.2 == 100 + zFactX.getD i 0))) = true := by decide +kernel
def zFactV : Term := .static "StepDebts$Fact" "$VALUES" "[LStepDebts$Fact;"
theorem zCFactVex : zFL[234]? = some (Cond.exactly zFactV "[LStepDebts$Fact;") := by decide +kernel
theorem zCFactVar : zFL[235]? = some (Cond.arrayOf zFactV (.object "StepDebts$Fact")) := by decide +kernel
theorem zCFactVln : zFL[236]? = some (Cond.eq (.length zFactV) (.int 4)) := by decide +kernel
theorem zCFactVal : zFL[237]? = some (Cond.all zFactV (.le (.index 0) (.int 3))) := by decide +kernel
theorem zCFactVel : (List.range 4).all (fun i => decide (zFL[238 + i]? = some (Cond.eq (.elem zFactV (.int (Int32.ofNat i))) (zFactT i)))) = true := by decide +kernel
def zDefT : Term := .static "java/util/ArrayList" "DEFAULTCAPACITY_EMPTY_ELEMENTDATA" "[Ljava/lang/Object;"
theorem zCD1 : zFL[5]? = some (Cond.arrayOf zDefT (.object "java/lang/Object")) := by decide +kernel
theorem zCD2 : zFL[6]? = some (Cond.exactly zDefT "[Ljava/lang/Object;") := by decide +kernel
theorem zCD3 : zFL[7]? = some (Cond.eq (.length zDefT) (.int 0)) := by decide +kernel
def zFmT : Term := .static "jdk/internal/util/Preconditions" "SIOOBE_FORMATTER" "Ljava/util/function/BiFunction;"
theorem zCFm : zFL[9]? = some (Cond.isRef zFmT) := by decide +kernel
def zUsT : Term := .static "java/lang/Throwable" "UNASSIGNED_STACK" "[Ljava/lang/StackTraceElement;"
theorem zCUs : zFL[13]? = some (Cond.isRef zUsT) := by decide +kernel
def zSuT : Term := .static "java/lang/Throwable" "SUPPRESSED_SENTINEL" "Ljava/util/List;"
theorem zCSu : zFL[14]? = some (Cond.isRef zSuT) := by decide +kernel
theorem zCcs : zFL[8]? = some (Cond.eq (.static "java/lang/String" "COMPACT_STRINGS" "Z") (.int 1)) := by decide +kernel
theorem zCmi : zFL[637]? = some (Cond.isRef (.mirror "[Ljava/lang/Object;")) := by decide +kernel
def zNcP : List Nat := [450, 466, 346, 465, 332]
theorem zCnc : (List.range 5).all (fun i => decide (zFL[zNcP.getD i 0]? = some (Cond.not (.castable (zNc.getD i ("", "")).1 (zNc.getD i ("", "")).2)))) = true := by decide +kernel
