/-! DECODE ROWS BY BYTES: one lemma an opcode; a method's code is cut into short pieces once, and a row reads its own piece alone. -/
set_option maxRecDepth 100000
/-- the code has just these bytes from pc on -/
def DkAt (code : ByteArray) (pc : Nat) (bs : List UInt8) : Prop := ∀ (j : Nat) (b : UInt8), bs[j]? = some b → code.data.toList[pc + j]? = some b
/-- the piece W has the bytes bs from its place j on -/
def dkIn (W : List UInt8) (j : Nat) (bs : List UInt8) : Bool := decide ((W.drop j).take bs.length = bs)
theorem dk_seg {l W T : List UInt8} {o o2 : Nat} (h : l.drop o = W ++ T) (n : Nat) (hn : W.length = n) (ho : o + n = o2) : l.drop o2 = T := by
  subst ho
  rw [← List.drop_drop, h, List.drop_left' hn]
theorem dk_at {code : ByteArray} {W T bs : List UInt8} {o pc : Nat} (h : code.data.toList.drop o = W ++ T) (j : Nat) (hp : o + j = pc) (hw : dkIn W j bs = true) : DkAt code pc bs := by
  subst hp
  intro i b e
  have h1 := of_decide_eq_true hw
  have h2 : i < bs.length := (List.getElem?_eq_some_iff.mp e).1
  have h3 : W[j + i]? = some b := by
    rw [← h1, List.getElem?_take, if_pos h2, List.getElem?_drop] at e
    exact e
  have h4 : j + i < W.length := (List.getElem?_eq_some_iff.mp h3).1
  have h5 : (code.data.toList.drop o)[j + i]? = some b := by
    rw [h, List.getElem?_append_left h4]
    exact h3
  rw [List.getElem?_drop, ← Nat.add_assoc] at h5
  exact h5
theorem dk_u1 {A : ByteArray} {p : Nat} {b : UInt8} (h : A.data.toList[p]? = some b) : (Reader.u1 : Reader DecodeError Nat) A p = .ok (b.toNat, p + 1) := by
  obtain ⟨h1, h2⟩ := List.getElem?_eq_some_iff.mp h
  have h3 : p < A.size := by simpa using h1
  have h4 : A[p]'h3 = b := h2
  have e : (Reader.u1 : Reader DecodeError Nat) A p = (if h : p < A.size then .ok (A[p].toNat, p + 1) else .error (HasTruncated.truncated p)) := by
    show (do if h : p < A.size then do set (p + 1); Pure.pure A[p].toNat else MonadExcept.throw (HasTruncated.truncated p) : Reader DecodeError Nat) A p = _
    by_cases hi : p < A.size
    · rw [dif_pos hi, dif_pos hi]; rfl
    · rw [dif_neg hi, dif_neg hi]; rfl
  rw [e, dif_pos h3, h4]
theorem dk_bind {α β : Type} {r : Reader DecodeError α} {f : α → Reader DecodeError β} {A : ByteArray} {p s : Nat} {a : α} (h : r A p = .ok (a, s)) : (r >>= f) A p = f a A s := by
  show (do let (a, s) ← r A p; f a A s : Except DecodeError (β × Nat)) = _
  rw [h]
  rfl
theorem dk_map {α β : Type} {r : Reader DecodeError α} {g : α → β} {A : ByteArray} {p s : Nat} {a : α} (h : r A p = .ok (a, s)) : (g <$> r) A p = .ok (g a, s) := by
  show (do let (a, s) ← r A p; .ok (g a, s) : Except DecodeError (β × Nat)) = _
  rw [h]
  rfl
theorem dk_u2 {A : ByteArray} {p : Nat} {a b : UInt8} (h : A.data.toList[p]? = some a) (h2 : A.data.toList[p + 1]? = some b) : (Reader.u2 : Reader DecodeError Nat) A p = .ok (a.toNat * 256 + b.toNat, p + 2) := by
  show (Reader.u1 >>= fun hi => Reader.u1 >>= fun lo => Pure.pure (hi * 256 + lo) : Reader DecodeError Nat) A p = _
  rw [dk_bind (dk_u1 h), dk_bind (dk_u1 h2)]
  rfl
theorem dk_of {code : ByteArray} {pc n : Nat} {i : Instr} (h : Decoder.instr pc code pc = .ok (i, pc + n)) : decode code pc = .ok (i, n) := by
  have e : decode code pc = (match Decoder.instr pc code pc with | .error x => .error x | .ok (j, s) => .ok (j, s - pc)) := by
    show (do let (j, s) ← Decoder.instr pc code pc; Pure.pure (j, s - pc) : Except DecodeError (Instr × Nat)) = _
    cases Decoder.instr pc code pc <;> rfl
  rw [e, h]
  show Except.ok (i, pc + n - pc) = _
  rw [Nat.add_sub_cancel_left]
theorem dk_1 {code : ByteArray} {pc : Nat} (h : DkAt code pc [1]) : decode code pc = .ok (.aconst_null, 1) := dk_of ((dk_bind (dk_u1 (h 0 _ rfl))).trans rfl)
theorem dk_2 {code : ByteArray} {pc : Nat} (h : DkAt code pc [2]) : decode code pc = .ok (.iconst (-1), 1) := dk_of ((dk_bind (dk_u1 (h 0 _ rfl))).trans rfl)
theorem dk_3 {code : ByteArray} {pc : Nat} (h : DkAt code pc [3]) : decode code pc = .ok (.iconst 0, 1) := dk_of ((dk_bind (dk_u1 (h 0 _ rfl))).trans rfl)
theorem dk_4 {code : ByteArray} {pc : Nat} (h : DkAt code pc [4]) : decode code pc = .ok (.iconst 1, 1) := dk_of ((dk_bind (dk_u1 (h 0 _ rfl))).trans rfl)
theorem dk_5 {code : ByteArray} {pc : Nat} (h : DkAt code pc [5]) : decode code pc = .ok (.iconst 2, 1) := dk_of ((dk_bind (dk_u1 (h 0 _ rfl))).trans rfl)
theorem dk_6 {code : ByteArray} {pc : Nat} (h : DkAt code pc [6]) : decode code pc = .ok (.iconst 3, 1) := dk_of ((dk_bind (dk_u1 (h 0 _ rfl))).trans rfl)
theorem dk_7 {code : ByteArray} {pc : Nat} (h : DkAt code pc [7]) : decode code pc = .ok (.iconst 4, 1) := dk_of ((dk_bind (dk_u1 (h 0 _ rfl))).trans rfl)
theorem dk_8 {code : ByteArray} {pc : Nat} (h : DkAt code pc [8]) : decode code pc = .ok (.iconst 5, 1) := dk_of ((dk_bind (dk_u1 (h 0 _ rfl))).trans rfl)
theorem dk_9 {code : ByteArray} {pc : Nat} (h : DkAt code pc [9]) : decode code pc = .ok (.lconst 0, 1) := dk_of ((dk_bind (dk_u1 (h 0 _ rfl))).trans rfl)
theorem dk_10 {code : ByteArray} {pc : Nat} (h : DkAt code pc [10]) : decode code pc = .ok (.lconst 1, 1) := dk_of ((dk_bind (dk_u1 (h 0 _ rfl))).trans rfl)
theorem dk_16 {code : ByteArray} {pc : Nat} (a : UInt8) (h : DkAt code pc [16, a]) : decode code pc = .ok (.bipush (Reader.signed 8 a.toNat), 2) := dk_of ((dk_bind (dk_u1 (h 0 _ rfl))).trans ((dk_bind (dk_map (dk_u1 (h 1 _ rfl)))).trans rfl))
theorem dk_17 {code : ByteArray} {pc : Nat} (a b : UInt8) (h : DkAt code pc [17, a, b]) : decode code pc = .ok (.sipush (Reader.signed 16 (a.toNat * 256 + b.toNat)), 3) := dk_of ((dk_bind (dk_u1 (h 0 _ rfl))).trans ((dk_bind (dk_map (dk_u2 (h 1 _ rfl) (h 2 _ rfl)))).trans rfl))
theorem dk_18 {code : ByteArray} {pc : Nat} (a : UInt8) (h : DkAt code pc [18, a]) : decode code pc = .ok (.ldc a.toNat, 2) := dk_of ((dk_bind (dk_u1 (h 0 _ rfl))).trans ((dk_bind (dk_u1 (h 1 _ rfl))).trans rfl))
theorem dk_19 {code : ByteArray} {pc : Nat} (a b : UInt8) (h : DkAt code pc [19, a, b]) : decode code pc = .ok (.ldc_w (a.toNat * 256 + b.toNat), 3) := dk_of ((dk_bind (dk_u1 (h 0 _ rfl))).trans ((dk_bind (dk_u2 (h 1 _ rfl) (h 2 _ rfl))).trans rfl))
theorem dk_21 {code : ByteArray} {pc : Nat} (a : UInt8) (h : DkAt code pc [21, a]) : decode code pc = .ok (.iload a.toNat, 2) := dk_of ((dk_bind (dk_u1 (h 0 _ rfl))).trans ((dk_bind (dk_u1 (h 1 _ rfl))).trans rfl))
theorem dk_22 {code : ByteArray} {pc : Nat} (a : UInt8) (h : DkAt code pc [22, a]) : decode code pc = .ok (.lload a.toNat, 2) := dk_of ((dk_bind (dk_u1 (h 0 _ rfl))).trans ((dk_bind (dk_u1 (h 1 _ rfl))).trans rfl))
theorem dk_25 {code : ByteArray} {pc : Nat} (a : UInt8) (h : DkAt code pc [25, a]) : decode code pc = .ok (.aload a.toNat, 2) := dk_of ((dk_bind (dk_u1 (h 0 _ rfl))).trans ((dk_bind (dk_u1 (h 1 _ rfl))).trans rfl))
theorem dk_26 {code : ByteArray} {pc : Nat} (h : DkAt code pc [26]) : decode code pc = .ok (.iload_n 0, 1) := dk_of ((dk_bind (dk_u1 (h 0 _ rfl))).trans rfl)
theorem dk_27 {code : ByteArray} {pc : Nat} (h : DkAt code pc [27]) : decode code pc = .ok (.iload_n 1, 1) := dk_of ((dk_bind (dk_u1 (h 0 _ rfl))).trans rfl)
theorem dk_28 {code : ByteArray} {pc : Nat} (h : DkAt code pc [28]) : decode code pc = .ok (.iload_n 2, 1) := dk_of ((dk_bind (dk_u1 (h 0 _ rfl))).trans rfl)
theorem dk_29 {code : ByteArray} {pc : Nat} (h : DkAt code pc [29]) : decode code pc = .ok (.iload_n 3, 1) := dk_of ((dk_bind (dk_u1 (h 0 _ rfl))).trans rfl)
theorem dk_31 {code : ByteArray} {pc : Nat} (h : DkAt code pc [31]) : decode code pc = .ok (.lload_n 1, 1) := dk_of ((dk_bind (dk_u1 (h 0 _ rfl))).trans rfl)
theorem dk_32 {code : ByteArray} {pc : Nat} (h : DkAt code pc [32]) : decode code pc = .ok (.lload_n 2, 1) := dk_of ((dk_bind (dk_u1 (h 0 _ rfl))).trans rfl)
theorem dk_42 {code : ByteArray} {pc : Nat} (h : DkAt code pc [42]) : decode code pc = .ok (.aload_n 0, 1) := dk_of ((dk_bind (dk_u1 (h 0 _ rfl))).trans rfl)
theorem dk_43 {code : ByteArray} {pc : Nat} (h : DkAt code pc [43]) : decode code pc = .ok (.aload_n 1, 1) := dk_of ((dk_bind (dk_u1 (h 0 _ rfl))).trans rfl)
theorem dk_44 {code : ByteArray} {pc : Nat} (h : DkAt code pc [44]) : decode code pc = .ok (.aload_n 2, 1) := dk_of ((dk_bind (dk_u1 (h 0 _ rfl))).trans rfl)
theorem dk_45 {code : ByteArray} {pc : Nat} (h : DkAt code pc [45]) : decode code pc = .ok (.aload_n 3, 1) := dk_of ((dk_bind (dk_u1 (h 0 _ rfl))).trans rfl)
theorem dk_46 {code : ByteArray} {pc : Nat} (h : DkAt code pc [46]) : decode code pc = .ok (.iaload, 1) := dk_of ((dk_bind (dk_u1 (h 0 _ rfl))).trans rfl)
theorem dk_47 {code : ByteArray} {pc : Nat} (h : DkAt code pc [47]) : decode code pc = .ok (.laload, 1) := dk_of ((dk_bind (dk_u1 (h 0 _ rfl))).trans rfl)
theorem dk_50 {code : ByteArray} {pc : Nat} (h : DkAt code pc [50]) : decode code pc = .ok (.aaload, 1) := dk_of ((dk_bind (dk_u1 (h 0 _ rfl))).trans rfl)
theorem dk_51 {code : ByteArray} {pc : Nat} (h : DkAt code pc [51]) : decode code pc = .ok (.baload, 1) := dk_of ((dk_bind (dk_u1 (h 0 _ rfl))).trans rfl)
theorem dk_52 {code : ByteArray} {pc : Nat} (h : DkAt code pc [52]) : decode code pc = .ok (.caload, 1) := dk_of ((dk_bind (dk_u1 (h 0 _ rfl))).trans rfl)
theorem dk_53 {code : ByteArray} {pc : Nat} (h : DkAt code pc [53]) : decode code pc = .ok (.saload, 1) := dk_of ((dk_bind (dk_u1 (h 0 _ rfl))).trans rfl)
theorem dk_54 {code : ByteArray} {pc : Nat} (a : UInt8) (h : DkAt code pc [54, a]) : decode code pc = .ok (.istore a.toNat, 2) := dk_of ((dk_bind (dk_u1 (h 0 _ rfl))).trans ((dk_bind (dk_u1 (h 1 _ rfl))).trans rfl))
theorem dk_55 {code : ByteArray} {pc : Nat} (a : UInt8) (h : DkAt code pc [55, a]) : decode code pc = .ok (.lstore a.toNat, 2) := dk_of ((dk_bind (dk_u1 (h 0 _ rfl))).trans ((dk_bind (dk_u1 (h 1 _ rfl))).trans rfl))
theorem dk_58 {code : ByteArray} {pc : Nat} (a : UInt8) (h : DkAt code pc [58, a]) : decode code pc = .ok (.astore a.toNat, 2) := dk_of ((dk_bind (dk_u1 (h 0 _ rfl))).trans ((dk_bind (dk_u1 (h 1 _ rfl))).trans rfl))
theorem dk_59 {code : ByteArray} {pc : Nat} (h : DkAt code pc [59]) : decode code pc = .ok (.istore_n 0, 1) := dk_of ((dk_bind (dk_u1 (h 0 _ rfl))).trans rfl)
theorem dk_60 {code : ByteArray} {pc : Nat} (h : DkAt code pc [60]) : decode code pc = .ok (.istore_n 1, 1) := dk_of ((dk_bind (dk_u1 (h 0 _ rfl))).trans rfl)
theorem dk_61 {code : ByteArray} {pc : Nat} (h : DkAt code pc [61]) : decode code pc = .ok (.istore_n 2, 1) := dk_of ((dk_bind (dk_u1 (h 0 _ rfl))).trans rfl)
theorem dk_62 {code : ByteArray} {pc : Nat} (h : DkAt code pc [62]) : decode code pc = .ok (.istore_n 3, 1) := dk_of ((dk_bind (dk_u1 (h 0 _ rfl))).trans rfl)
theorem dk_64 {code : ByteArray} {pc : Nat} (h : DkAt code pc [64]) : decode code pc = .ok (.lstore_n 1, 1) := dk_of ((dk_bind (dk_u1 (h 0 _ rfl))).trans rfl)
theorem dk_65 {code : ByteArray} {pc : Nat} (h : DkAt code pc [65]) : decode code pc = .ok (.lstore_n 2, 1) := dk_of ((dk_bind (dk_u1 (h 0 _ rfl))).trans rfl)
theorem dk_76 {code : ByteArray} {pc : Nat} (h : DkAt code pc [76]) : decode code pc = .ok (.astore_n 1, 1) := dk_of ((dk_bind (dk_u1 (h 0 _ rfl))).trans rfl)
theorem dk_77 {code : ByteArray} {pc : Nat} (h : DkAt code pc [77]) : decode code pc = .ok (.astore_n 2, 1) := dk_of ((dk_bind (dk_u1 (h 0 _ rfl))).trans rfl)
theorem dk_78 {code : ByteArray} {pc : Nat} (h : DkAt code pc [78]) : decode code pc = .ok (.astore_n 3, 1) := dk_of ((dk_bind (dk_u1 (h 0 _ rfl))).trans rfl)
theorem dk_79 {code : ByteArray} {pc : Nat} (h : DkAt code pc [79]) : decode code pc = .ok (.iastore, 1) := dk_of ((dk_bind (dk_u1 (h 0 _ rfl))).trans rfl)
theorem dk_80 {code : ByteArray} {pc : Nat} (h : DkAt code pc [80]) : decode code pc = .ok (.lastore, 1) := dk_of ((dk_bind (dk_u1 (h 0 _ rfl))).trans rfl)
theorem dk_83 {code : ByteArray} {pc : Nat} (h : DkAt code pc [83]) : decode code pc = .ok (.aastore, 1) := dk_of ((dk_bind (dk_u1 (h 0 _ rfl))).trans rfl)
theorem dk_84 {code : ByteArray} {pc : Nat} (h : DkAt code pc [84]) : decode code pc = .ok (.bastore, 1) := dk_of ((dk_bind (dk_u1 (h 0 _ rfl))).trans rfl)
theorem dk_87 {code : ByteArray} {pc : Nat} (h : DkAt code pc [87]) : decode code pc = .ok (.pop, 1) := dk_of ((dk_bind (dk_u1 (h 0 _ rfl))).trans rfl)
theorem dk_89 {code : ByteArray} {pc : Nat} (h : DkAt code pc [89]) : decode code pc = .ok (.dup, 1) := dk_of ((dk_bind (dk_u1 (h 0 _ rfl))).trans rfl)
theorem dk_90 {code : ByteArray} {pc : Nat} (h : DkAt code pc [90]) : decode code pc = .ok (.dup_x1, 1) := dk_of ((dk_bind (dk_u1 (h 0 _ rfl))).trans rfl)
theorem dk_92 {code : ByteArray} {pc : Nat} (h : DkAt code pc [92]) : decode code pc = .ok (.dup2, 1) := dk_of ((dk_bind (dk_u1 (h 0 _ rfl))).trans rfl)
theorem dk_96 {code : ByteArray} {pc : Nat} (h : DkAt code pc [96]) : decode code pc = .ok (.iadd, 1) := dk_of ((dk_bind (dk_u1 (h 0 _ rfl))).trans rfl)
theorem dk_97 {code : ByteArray} {pc : Nat} (h : DkAt code pc [97]) : decode code pc = .ok (.ladd, 1) := dk_of ((dk_bind (dk_u1 (h 0 _ rfl))).trans rfl)
theorem dk_100 {code : ByteArray} {pc : Nat} (h : DkAt code pc [100]) : decode code pc = .ok (.isub, 1) := dk_of ((dk_bind (dk_u1 (h 0 _ rfl))).trans rfl)
theorem dk_101 {code : ByteArray} {pc : Nat} (h : DkAt code pc [101]) : decode code pc = .ok (.lsub, 1) := dk_of ((dk_bind (dk_u1 (h 0 _ rfl))).trans rfl)
theorem dk_104 {code : ByteArray} {pc : Nat} (h : DkAt code pc [104]) : decode code pc = .ok (.imul, 1) := dk_of ((dk_bind (dk_u1 (h 0 _ rfl))).trans rfl)
theorem dk_105 {code : ByteArray} {pc : Nat} (h : DkAt code pc [105]) : decode code pc = .ok (.lmul, 1) := dk_of ((dk_bind (dk_u1 (h 0 _ rfl))).trans rfl)
theorem dk_108 {code : ByteArray} {pc : Nat} (h : DkAt code pc [108]) : decode code pc = .ok (.idiv, 1) := dk_of ((dk_bind (dk_u1 (h 0 _ rfl))).trans rfl)
theorem dk_109 {code : ByteArray} {pc : Nat} (h : DkAt code pc [109]) : decode code pc = .ok (.ldiv, 1) := dk_of ((dk_bind (dk_u1 (h 0 _ rfl))).trans rfl)
theorem dk_112 {code : ByteArray} {pc : Nat} (h : DkAt code pc [112]) : decode code pc = .ok (.irem, 1) := dk_of ((dk_bind (dk_u1 (h 0 _ rfl))).trans rfl)
theorem dk_116 {code : ByteArray} {pc : Nat} (h : DkAt code pc [116]) : decode code pc = .ok (.ineg, 1) := dk_of ((dk_bind (dk_u1 (h 0 _ rfl))).trans rfl)
theorem dk_120 {code : ByteArray} {pc : Nat} (h : DkAt code pc [120]) : decode code pc = .ok (.ishl, 1) := dk_of ((dk_bind (dk_u1 (h 0 _ rfl))).trans rfl)
theorem dk_122 {code : ByteArray} {pc : Nat} (h : DkAt code pc [122]) : decode code pc = .ok (.ishr, 1) := dk_of ((dk_bind (dk_u1 (h 0 _ rfl))).trans rfl)
theorem dk_124 {code : ByteArray} {pc : Nat} (h : DkAt code pc [124]) : decode code pc = .ok (.iushr, 1) := dk_of ((dk_bind (dk_u1 (h 0 _ rfl))).trans rfl)
theorem dk_126 {code : ByteArray} {pc : Nat} (h : DkAt code pc [126]) : decode code pc = .ok (.iand, 1) := dk_of ((dk_bind (dk_u1 (h 0 _ rfl))).trans rfl)
theorem dk_128 {code : ByteArray} {pc : Nat} (h : DkAt code pc [128]) : decode code pc = .ok (.ior, 1) := dk_of ((dk_bind (dk_u1 (h 0 _ rfl))).trans rfl)
theorem dk_132 {code : ByteArray} {pc : Nat} (a b : UInt8) (h : DkAt code pc [132, a, b]) : decode code pc = .ok (.iinc a.toNat (Reader.signed 8 b.toNat), 3) := dk_of ((dk_bind (dk_u1 (h 0 _ rfl))).trans ((dk_bind (dk_u1 (h 1 _ rfl))).trans ((dk_bind (dk_map (dk_u1 (h 2 _ rfl)))).trans rfl)))
theorem dk_133 {code : ByteArray} {pc : Nat} (h : DkAt code pc [133]) : decode code pc = .ok (.i2l, 1) := dk_of ((dk_bind (dk_u1 (h 0 _ rfl))).trans rfl)
theorem dk_145 {code : ByteArray} {pc : Nat} (h : DkAt code pc [145]) : decode code pc = .ok (.i2b, 1) := dk_of ((dk_bind (dk_u1 (h 0 _ rfl))).trans rfl)
theorem dk_146 {code : ByteArray} {pc : Nat} (h : DkAt code pc [146]) : decode code pc = .ok (.i2c, 1) := dk_of ((dk_bind (dk_u1 (h 0 _ rfl))).trans rfl)
theorem dk_148 {code : ByteArray} {pc : Nat} (h : DkAt code pc [148]) : decode code pc = .ok (.lcmp, 1) := dk_of ((dk_bind (dk_u1 (h 0 _ rfl))).trans rfl)
theorem dk_153 {code : ByteArray} {pc : Nat} (a b : UInt8) (h : DkAt code pc [153, a, b]) : decode code pc = .ok (.ifCond .eq (Reader.signed 16 (a.toNat * 256 + b.toNat)), 3) := dk_of ((dk_bind (dk_u1 (h 0 _ rfl))).trans ((dk_bind (dk_map (dk_u2 (h 1 _ rfl) (h 2 _ rfl)))).trans rfl))
theorem dk_154 {code : ByteArray} {pc : Nat} (a b : UInt8) (h : DkAt code pc [154, a, b]) : decode code pc = .ok (.ifCond .ne (Reader.signed 16 (a.toNat * 256 + b.toNat)), 3) := dk_of ((dk_bind (dk_u1 (h 0 _ rfl))).trans ((dk_bind (dk_map (dk_u2 (h 1 _ rfl) (h 2 _ rfl)))).trans rfl))
theorem dk_155 {code : ByteArray} {pc : Nat} (a b : UInt8) (h : DkAt code pc [155, a, b]) : decode code pc = .ok (.ifCond .lt (Reader.signed 16 (a.toNat * 256 + b.toNat)), 3) := dk_of ((dk_bind (dk_u1 (h 0 _ rfl))).trans ((dk_bind (dk_map (dk_u2 (h 1 _ rfl) (h 2 _ rfl)))).trans rfl))
theorem dk_156 {code : ByteArray} {pc : Nat} (a b : UInt8) (h : DkAt code pc [156, a, b]) : decode code pc = .ok (.ifCond .ge (Reader.signed 16 (a.toNat * 256 + b.toNat)), 3) := dk_of ((dk_bind (dk_u1 (h 0 _ rfl))).trans ((dk_bind (dk_map (dk_u2 (h 1 _ rfl) (h 2 _ rfl)))).trans rfl))
theorem dk_157 {code : ByteArray} {pc : Nat} (a b : UInt8) (h : DkAt code pc [157, a, b]) : decode code pc = .ok (.ifCond .gt (Reader.signed 16 (a.toNat * 256 + b.toNat)), 3) := dk_of ((dk_bind (dk_u1 (h 0 _ rfl))).trans ((dk_bind (dk_map (dk_u2 (h 1 _ rfl) (h 2 _ rfl)))).trans rfl))
theorem dk_158 {code : ByteArray} {pc : Nat} (a b : UInt8) (h : DkAt code pc [158, a, b]) : decode code pc = .ok (.ifCond .le (Reader.signed 16 (a.toNat * 256 + b.toNat)), 3) := dk_of ((dk_bind (dk_u1 (h 0 _ rfl))).trans ((dk_bind (dk_map (dk_u2 (h 1 _ rfl) (h 2 _ rfl)))).trans rfl))
theorem dk_159 {code : ByteArray} {pc : Nat} (a b : UInt8) (h : DkAt code pc [159, a, b]) : decode code pc = .ok (.if_icmp .eq (Reader.signed 16 (a.toNat * 256 + b.toNat)), 3) := dk_of ((dk_bind (dk_u1 (h 0 _ rfl))).trans ((dk_bind (dk_map (dk_u2 (h 1 _ rfl) (h 2 _ rfl)))).trans rfl))
theorem dk_160 {code : ByteArray} {pc : Nat} (a b : UInt8) (h : DkAt code pc [160, a, b]) : decode code pc = .ok (.if_icmp .ne (Reader.signed 16 (a.toNat * 256 + b.toNat)), 3) := dk_of ((dk_bind (dk_u1 (h 0 _ rfl))).trans ((dk_bind (dk_map (dk_u2 (h 1 _ rfl) (h 2 _ rfl)))).trans rfl))
theorem dk_161 {code : ByteArray} {pc : Nat} (a b : UInt8) (h : DkAt code pc [161, a, b]) : decode code pc = .ok (.if_icmp .lt (Reader.signed 16 (a.toNat * 256 + b.toNat)), 3) := dk_of ((dk_bind (dk_u1 (h 0 _ rfl))).trans ((dk_bind (dk_map (dk_u2 (h 1 _ rfl) (h 2 _ rfl)))).trans rfl))
theorem dk_162 {code : ByteArray} {pc : Nat} (a b : UInt8) (h : DkAt code pc [162, a, b]) : decode code pc = .ok (.if_icmp .ge (Reader.signed 16 (a.toNat * 256 + b.toNat)), 3) := dk_of ((dk_bind (dk_u1 (h 0 _ rfl))).trans ((dk_bind (dk_map (dk_u2 (h 1 _ rfl) (h 2 _ rfl)))).trans rfl))
theorem dk_163 {code : ByteArray} {pc : Nat} (a b : UInt8) (h : DkAt code pc [163, a, b]) : decode code pc = .ok (.if_icmp .gt (Reader.signed 16 (a.toNat * 256 + b.toNat)), 3) := dk_of ((dk_bind (dk_u1 (h 0 _ rfl))).trans ((dk_bind (dk_map (dk_u2 (h 1 _ rfl) (h 2 _ rfl)))).trans rfl))
theorem dk_164 {code : ByteArray} {pc : Nat} (a b : UInt8) (h : DkAt code pc [164, a, b]) : decode code pc = .ok (.if_icmp .le (Reader.signed 16 (a.toNat * 256 + b.toNat)), 3) := dk_of ((dk_bind (dk_u1 (h 0 _ rfl))).trans ((dk_bind (dk_map (dk_u2 (h 1 _ rfl) (h 2 _ rfl)))).trans rfl))
theorem dk_165 {code : ByteArray} {pc : Nat} (a b : UInt8) (h : DkAt code pc [165, a, b]) : decode code pc = .ok (.if_acmp .eq (Reader.signed 16 (a.toNat * 256 + b.toNat)), 3) := dk_of ((dk_bind (dk_u1 (h 0 _ rfl))).trans ((dk_bind (dk_map (dk_u2 (h 1 _ rfl) (h 2 _ rfl)))).trans rfl))
theorem dk_166 {code : ByteArray} {pc : Nat} (a b : UInt8) (h : DkAt code pc [166, a, b]) : decode code pc = .ok (.if_acmp .ne (Reader.signed 16 (a.toNat * 256 + b.toNat)), 3) := dk_of ((dk_bind (dk_u1 (h 0 _ rfl))).trans ((dk_bind (dk_map (dk_u2 (h 1 _ rfl) (h 2 _ rfl)))).trans rfl))
theorem dk_167 {code : ByteArray} {pc : Nat} (a b : UInt8) (h : DkAt code pc [167, a, b]) : decode code pc = .ok (.goto (Reader.signed 16 (a.toNat * 256 + b.toNat)), 3) := dk_of ((dk_bind (dk_u1 (h 0 _ rfl))).trans ((dk_bind (dk_map (dk_u2 (h 1 _ rfl) (h 2 _ rfl)))).trans rfl))
theorem dk_172 {code : ByteArray} {pc : Nat} (h : DkAt code pc [172]) : decode code pc = .ok (.ireturn, 1) := dk_of ((dk_bind (dk_u1 (h 0 _ rfl))).trans rfl)
theorem dk_173 {code : ByteArray} {pc : Nat} (h : DkAt code pc [173]) : decode code pc = .ok (.lreturn, 1) := dk_of ((dk_bind (dk_u1 (h 0 _ rfl))).trans rfl)
theorem dk_176 {code : ByteArray} {pc : Nat} (h : DkAt code pc [176]) : decode code pc = .ok (.areturn, 1) := dk_of ((dk_bind (dk_u1 (h 0 _ rfl))).trans rfl)
theorem dk_177 {code : ByteArray} {pc : Nat} (h : DkAt code pc [177]) : decode code pc = .ok (.return_, 1) := dk_of ((dk_bind (dk_u1 (h 0 _ rfl))).trans rfl)
theorem dk_178 {code : ByteArray} {pc : Nat} (a b : UInt8) (h : DkAt code pc [178, a, b]) : decode code pc = .ok (.getstatic (a.toNat * 256 + b.toNat), 3) := dk_of ((dk_bind (dk_u1 (h 0 _ rfl))).trans ((dk_bind (dk_u2 (h 1 _ rfl) (h 2 _ rfl))).trans rfl))
theorem dk_180 {code : ByteArray} {pc : Nat} (a b : UInt8) (h : DkAt code pc [180, a, b]) : decode code pc = .ok (.getfield (a.toNat * 256 + b.toNat), 3) := dk_of ((dk_bind (dk_u1 (h 0 _ rfl))).trans ((dk_bind (dk_u2 (h 1 _ rfl) (h 2 _ rfl))).trans rfl))
theorem dk_181 {code : ByteArray} {pc : Nat} (a b : UInt8) (h : DkAt code pc [181, a, b]) : decode code pc = .ok (.putfield (a.toNat * 256 + b.toNat), 3) := dk_of ((dk_bind (dk_u1 (h 0 _ rfl))).trans ((dk_bind (dk_u2 (h 1 _ rfl) (h 2 _ rfl))).trans rfl))
theorem dk_182 {code : ByteArray} {pc : Nat} (a b : UInt8) (h : DkAt code pc [182, a, b]) : decode code pc = .ok (.invokevirtual (a.toNat * 256 + b.toNat), 3) := dk_of ((dk_bind (dk_u1 (h 0 _ rfl))).trans ((dk_bind (dk_u2 (h 1 _ rfl) (h 2 _ rfl))).trans rfl))
theorem dk_183 {code : ByteArray} {pc : Nat} (a b : UInt8) (h : DkAt code pc [183, a, b]) : decode code pc = .ok (.invokespecial (a.toNat * 256 + b.toNat), 3) := dk_of ((dk_bind (dk_u1 (h 0 _ rfl))).trans ((dk_bind (dk_u2 (h 1 _ rfl) (h 2 _ rfl))).trans rfl))
theorem dk_184 {code : ByteArray} {pc : Nat} (a b : UInt8) (h : DkAt code pc [184, a, b]) : decode code pc = .ok (.invokestatic (a.toNat * 256 + b.toNat), 3) := dk_of ((dk_bind (dk_u1 (h 0 _ rfl))).trans ((dk_bind (dk_u2 (h 1 _ rfl) (h 2 _ rfl))).trans rfl))
theorem dk_187 {code : ByteArray} {pc : Nat} (a b : UInt8) (h : DkAt code pc [187, a, b]) : decode code pc = .ok (.new (a.toNat * 256 + b.toNat), 3) := dk_of ((dk_bind (dk_u1 (h 0 _ rfl))).trans ((dk_bind (dk_u2 (h 1 _ rfl) (h 2 _ rfl))).trans rfl))
theorem dk_188_8 {code : ByteArray} {pc : Nat} (h : DkAt code pc [188, 8]) : decode code pc = .ok (.newarray .byte, 2) := dk_of ((dk_bind (dk_u1 (h 0 _ rfl))).trans ((dk_bind (dk_u1 (h 1 _ rfl))).trans rfl))
theorem dk_188_10 {code : ByteArray} {pc : Nat} (h : DkAt code pc [188, 10]) : decode code pc = .ok (.newarray .int, 2) := dk_of ((dk_bind (dk_u1 (h 0 _ rfl))).trans ((dk_bind (dk_u1 (h 1 _ rfl))).trans rfl))
theorem dk_188_11 {code : ByteArray} {pc : Nat} (h : DkAt code pc [188, 11]) : decode code pc = .ok (.newarray .long, 2) := dk_of ((dk_bind (dk_u1 (h 0 _ rfl))).trans ((dk_bind (dk_u1 (h 1 _ rfl))).trans rfl))
theorem dk_189 {code : ByteArray} {pc : Nat} (a b : UInt8) (h : DkAt code pc [189, a, b]) : decode code pc = .ok (.anewarray (a.toNat * 256 + b.toNat), 3) := dk_of ((dk_bind (dk_u1 (h 0 _ rfl))).trans ((dk_bind (dk_u2 (h 1 _ rfl) (h 2 _ rfl))).trans rfl))
theorem dk_190 {code : ByteArray} {pc : Nat} (h : DkAt code pc [190]) : decode code pc = .ok (.arraylength, 1) := dk_of ((dk_bind (dk_u1 (h 0 _ rfl))).trans rfl)
theorem dk_191 {code : ByteArray} {pc : Nat} (h : DkAt code pc [191]) : decode code pc = .ok (.athrow, 1) := dk_of ((dk_bind (dk_u1 (h 0 _ rfl))).trans rfl)
theorem dk_192 {code : ByteArray} {pc : Nat} (a b : UInt8) (h : DkAt code pc [192, a, b]) : decode code pc = .ok (.checkcast (a.toNat * 256 + b.toNat), 3) := dk_of ((dk_bind (dk_u1 (h 0 _ rfl))).trans ((dk_bind (dk_u2 (h 1 _ rfl) (h 2 _ rfl))).trans rfl))
theorem dk_193 {code : ByteArray} {pc : Nat} (a b : UInt8) (h : DkAt code pc [193, a, b]) : decode code pc = .ok (.instanceof (a.toNat * 256 + b.toNat), 3) := dk_of ((dk_bind (dk_u1 (h 0 _ rfl))).trans ((dk_bind (dk_u2 (h 1 _ rfl) (h 2 _ rfl))).trans rfl))
theorem dk_198 {code : ByteArray} {pc : Nat} (a b : UInt8) (h : DkAt code pc [198, a, b]) : decode code pc = .ok (.ifnull (Reader.signed 16 (a.toNat * 256 + b.toNat)), 3) := dk_of ((dk_bind (dk_u1 (h 0 _ rfl))).trans ((dk_bind (dk_map (dk_u2 (h 1 _ rfl) (h 2 _ rfl)))).trans rfl))
theorem dk_199 {code : ByteArray} {pc : Nat} (a b : UInt8) (h : DkAt code pc [199, a, b]) : decode code pc = .ok (.ifnonnull (Reader.signed 16 (a.toNat * 256 + b.toNat)), 3) := dk_of ((dk_bind (dk_u1 (h 0 _ rfl))).trans ((dk_bind (dk_map (dk_u2 (h 1 _ rfl) (h 2 _ rfl)))).trans rfl))
/-! StepDebtsLaw -/
set_option maxRecDepth 100000
def RX0 : String := "StepDebtsLaw"
abbrev cX0_people : ByteArray := method_3_code
def yX0_people : MethodName := ⟨RX0, "people", "(LStepDebts;[J)I"⟩
def dkwX0_people_0 : List UInt8 := [43, 3, 42, 182, 0, 7, 133, 80, 167, 0, 9, 77, 4, 172, 77, 5, 172, 3, 172]
abbrev dktX0_people_0 : List UInt8 := dkwX0_people_0 ++ []
theorem dksX0_people_0 : cX0_people.data.toList.drop 0 = dktX0_people_0 := by decide +kernel
theorem dX0_people_0 : decode cX0_people 0 = .ok (.aload_n 1, 1) := dk_43 (dk_at dksX0_people_0 0 rfl rfl)
theorem dX0_people_1 : decode cX0_people 1 = .ok (.iconst 0, 1) := dk_3 (dk_at dksX0_people_0 1 rfl rfl)
theorem dX0_people_2 : decode cX0_people 2 = .ok (.aload_n 0, 1) := dk_42 (dk_at dksX0_people_0 2 rfl rfl)
theorem dX0_people_3 : decode cX0_people 3 = .ok (.invokevirtual 7, 3) := dk_182 0 7 (dk_at dksX0_people_0 3 rfl rfl)
theorem dX0_people_6 : decode cX0_people 6 = .ok (.i2l, 1) := dk_133 (dk_at dksX0_people_0 6 rfl rfl)
theorem dX0_people_7 : decode cX0_people 7 = .ok (.lastore, 1) := dk_80 (dk_at dksX0_people_0 7 rfl rfl)
theorem dX0_people_8 : decode cX0_people 8 = .ok (.goto 9, 3) := dk_167 0 9 (dk_at dksX0_people_0 8 rfl rfl)
theorem dX0_people_11 : decode cX0_people 11 = .ok (.astore_n 2, 1) := dk_77 (dk_at dksX0_people_0 11 rfl rfl)
theorem dX0_people_12 : decode cX0_people 12 = .ok (.iconst 1, 1) := dk_4 (dk_at dksX0_people_0 12 rfl rfl)
theorem dX0_people_13 : decode cX0_people 13 = .ok (.ireturn, 1) := dk_172 (dk_at dksX0_people_0 13 rfl rfl)
theorem dX0_people_14 : decode cX0_people 14 = .ok (.astore_n 2, 1) := dk_77 (dk_at dksX0_people_0 14 rfl rfl)
theorem dX0_people_15 : decode cX0_people 15 = .ok (.iconst 2, 1) := dk_5 (dk_at dksX0_people_0 15 rfl rfl)
theorem dX0_people_16 : decode cX0_people 16 = .ok (.ireturn, 1) := dk_172 (dk_at dksX0_people_0 16 rfl rfl)
theorem dX0_people_17 : decode cX0_people 17 = .ok (.iconst 0, 1) := dk_3 (dk_at dksX0_people_0 17 rfl rfl)
theorem dX0_people_18 : decode cX0_people 18 = .ok (.ireturn, 1) := dk_172 (dk_at dksX0_people_0 18 rfl rfl)
abbrev cX0_law : ByteArray := method_4_code
def yX0_law : MethodName := ⟨RX0, "law", "(LStepDebts;[J)I"⟩
def dkwX0_law_0 : List UInt8 := [43, 3, 42, 182, 0, 17, 133, 80, 167, 0, 6, 77, 4, 172, 3, 172]
abbrev dktX0_law_0 : List UInt8 := dkwX0_law_0 ++ []
theorem dksX0_law_0 : cX0_law.data.toList.drop 0 = dktX0_law_0 := by decide +kernel
theorem dX0_law_0 : decode cX0_law 0 = .ok (.aload_n 1, 1) := dk_43 (dk_at dksX0_law_0 0 rfl rfl)
theorem dX0_law_1 : decode cX0_law 1 = .ok (.iconst 0, 1) := dk_3 (dk_at dksX0_law_0 1 rfl rfl)
theorem dX0_law_2 : decode cX0_law 2 = .ok (.aload_n 0, 1) := dk_42 (dk_at dksX0_law_0 2 rfl rfl)
theorem dX0_law_3 : decode cX0_law 3 = .ok (.invokevirtual 17, 3) := dk_182 0 17 (dk_at dksX0_law_0 3 rfl rfl)
theorem dX0_law_6 : decode cX0_law 6 = .ok (.i2l, 1) := dk_133 (dk_at dksX0_law_0 6 rfl rfl)
theorem dX0_law_7 : decode cX0_law 7 = .ok (.lastore, 1) := dk_80 (dk_at dksX0_law_0 7 rfl rfl)
theorem dX0_law_8 : decode cX0_law 8 = .ok (.goto 6, 3) := dk_167 0 6 (dk_at dksX0_law_0 8 rfl rfl)
theorem dX0_law_11 : decode cX0_law 11 = .ok (.astore_n 2, 1) := dk_77 (dk_at dksX0_law_0 11 rfl rfl)
theorem dX0_law_12 : decode cX0_law 12 = .ok (.iconst 1, 1) := dk_4 (dk_at dksX0_law_0 12 rfl rfl)
theorem dX0_law_13 : decode cX0_law 13 = .ok (.ireturn, 1) := dk_172 (dk_at dksX0_law_0 13 rfl rfl)
theorem dX0_law_14 : decode cX0_law 14 = .ok (.iconst 0, 1) := dk_3 (dk_at dksX0_law_0 14 rfl rfl)
theorem dX0_law_15 : decode cX0_law 15 = .ok (.ireturn, 1) := dk_172 (dk_at dksX0_law_0 15 rfl rfl)
abbrev cX0_house : ByteArray := method_5_code
def yX0_house : MethodName := ⟨RX0, "house", "(LStepDebts;II[J)I"⟩
def dkwX0_house_0 : List UInt8 := [45, 3, 42, 27, 28, 182, 0, 20, 133, 80, 167, 0, 11, 58, 4, 4, 172, 58, 4, 5, 172, 3, 172]
abbrev dktX0_house_0 : List UInt8 := dkwX0_house_0 ++ []
theorem dksX0_house_0 : cX0_house.data.toList.drop 0 = dktX0_house_0 := by decide +kernel
theorem dX0_house_0 : decode cX0_house 0 = .ok (.aload_n 3, 1) := dk_45 (dk_at dksX0_house_0 0 rfl rfl)
theorem dX0_house_1 : decode cX0_house 1 = .ok (.iconst 0, 1) := dk_3 (dk_at dksX0_house_0 1 rfl rfl)
theorem dX0_house_2 : decode cX0_house 2 = .ok (.aload_n 0, 1) := dk_42 (dk_at dksX0_house_0 2 rfl rfl)
theorem dX0_house_3 : decode cX0_house 3 = .ok (.iload_n 1, 1) := dk_27 (dk_at dksX0_house_0 3 rfl rfl)
theorem dX0_house_4 : decode cX0_house 4 = .ok (.iload_n 2, 1) := dk_28 (dk_at dksX0_house_0 4 rfl rfl)
theorem dX0_house_5 : decode cX0_house 5 = .ok (.invokevirtual 20, 3) := dk_182 0 20 (dk_at dksX0_house_0 5 rfl rfl)
theorem dX0_house_8 : decode cX0_house 8 = .ok (.i2l, 1) := dk_133 (dk_at dksX0_house_0 8 rfl rfl)
theorem dX0_house_9 : decode cX0_house 9 = .ok (.lastore, 1) := dk_80 (dk_at dksX0_house_0 9 rfl rfl)
theorem dX0_house_10 : decode cX0_house 10 = .ok (.goto 11, 3) := dk_167 0 11 (dk_at dksX0_house_0 10 rfl rfl)
theorem dX0_house_13 : decode cX0_house 13 = .ok (.astore 4, 2) := dk_58 4 (dk_at dksX0_house_0 13 rfl rfl)
theorem dX0_house_15 : decode cX0_house 15 = .ok (.iconst 1, 1) := dk_4 (dk_at dksX0_house_0 15 rfl rfl)
theorem dX0_house_16 : decode cX0_house 16 = .ok (.ireturn, 1) := dk_172 (dk_at dksX0_house_0 16 rfl rfl)
theorem dX0_house_17 : decode cX0_house 17 = .ok (.astore 4, 2) := dk_58 4 (dk_at dksX0_house_0 17 rfl rfl)
theorem dX0_house_19 : decode cX0_house 19 = .ok (.iconst 2, 1) := dk_5 (dk_at dksX0_house_0 19 rfl rfl)
theorem dX0_house_20 : decode cX0_house 20 = .ok (.ireturn, 1) := dk_172 (dk_at dksX0_house_0 20 rfl rfl)
theorem dX0_house_21 : decode cX0_house 21 = .ok (.iconst 0, 1) := dk_3 (dk_at dksX0_house_0 21 rfl rfl)
theorem dX0_house_22 : decode cX0_house 22 = .ok (.ireturn, 1) := dk_172 (dk_at dksX0_house_0 22 rfl rfl)
abbrev cX0_walker : ByteArray := method_6_code
def yX0_walker : MethodName := ⟨RX0, "walker", "(LStepDebts;II[J)I"⟩
def dkwX0_walker_0 : List UInt8 := [45, 3, 42, 27, 28, 182, 0, 28, 133, 80, 167, 0, 11, 58, 4, 4, 172, 58, 4, 5, 172, 3, 172]
abbrev dktX0_walker_0 : List UInt8 := dkwX0_walker_0 ++ []
theorem dksX0_walker_0 : cX0_walker.data.toList.drop 0 = dktX0_walker_0 := by decide +kernel
theorem dX0_walker_0 : decode cX0_walker 0 = .ok (.aload_n 3, 1) := dk_45 (dk_at dksX0_walker_0 0 rfl rfl)
theorem dX0_walker_1 : decode cX0_walker 1 = .ok (.iconst 0, 1) := dk_3 (dk_at dksX0_walker_0 1 rfl rfl)
theorem dX0_walker_2 : decode cX0_walker 2 = .ok (.aload_n 0, 1) := dk_42 (dk_at dksX0_walker_0 2 rfl rfl)
theorem dX0_walker_3 : decode cX0_walker 3 = .ok (.iload_n 1, 1) := dk_27 (dk_at dksX0_walker_0 3 rfl rfl)
theorem dX0_walker_4 : decode cX0_walker 4 = .ok (.iload_n 2, 1) := dk_28 (dk_at dksX0_walker_0 4 rfl rfl)
theorem dX0_walker_5 : decode cX0_walker 5 = .ok (.invokevirtual 28, 3) := dk_182 0 28 (dk_at dksX0_walker_0 5 rfl rfl)
theorem dX0_walker_8 : decode cX0_walker 8 = .ok (.i2l, 1) := dk_133 (dk_at dksX0_walker_0 8 rfl rfl)
theorem dX0_walker_9 : decode cX0_walker 9 = .ok (.lastore, 1) := dk_80 (dk_at dksX0_walker_0 9 rfl rfl)
theorem dX0_walker_10 : decode cX0_walker 10 = .ok (.goto 11, 3) := dk_167 0 11 (dk_at dksX0_walker_0 10 rfl rfl)
theorem dX0_walker_13 : decode cX0_walker 13 = .ok (.astore 4, 2) := dk_58 4 (dk_at dksX0_walker_0 13 rfl rfl)
theorem dX0_walker_15 : decode cX0_walker 15 = .ok (.iconst 1, 1) := dk_4 (dk_at dksX0_walker_0 15 rfl rfl)
theorem dX0_walker_16 : decode cX0_walker 16 = .ok (.ireturn, 1) := dk_172 (dk_at dksX0_walker_0 16 rfl rfl)
theorem dX0_walker_17 : decode cX0_walker 17 = .ok (.astore 4, 2) := dk_58 4 (dk_at dksX0_walker_0 17 rfl rfl)
theorem dX0_walker_19 : decode cX0_walker 19 = .ok (.iconst 2, 1) := dk_5 (dk_at dksX0_walker_0 19 rfl rfl)
theorem dX0_walker_20 : decode cX0_walker 20 = .ok (.ireturn, 1) := dk_172 (dk_at dksX0_walker_0 20 rfl rfl)
theorem dX0_walker_21 : decode cX0_walker 21 = .ok (.iconst 0, 1) := dk_3 (dk_at dksX0_walker_0 21 rfl rfl)
theorem dX0_walker_22 : decode cX0_walker 22 = .ok (.ireturn, 1) := dk_172 (dk_at dksX0_walker_0 22 rfl rfl)
abbrev cX0_turn : ByteArray := method_7_code
def yX0_turn : MethodName := ⟨RX0, "turn", "(LStepDebts;II[J)I"⟩
def dkwX0_turn_0 : List UInt8 := [45, 3, 42, 27, 28, 182, 0, 31, 133, 80, 167, 0, 11, 58, 4, 4, 172, 58, 4, 5, 172, 3, 172]
abbrev dktX0_turn_0 : List UInt8 := dkwX0_turn_0 ++ []
theorem dksX0_turn_0 : cX0_turn.data.toList.drop 0 = dktX0_turn_0 := by decide +kernel
theorem dX0_turn_0 : decode cX0_turn 0 = .ok (.aload_n 3, 1) := dk_45 (dk_at dksX0_turn_0 0 rfl rfl)
theorem dX0_turn_1 : decode cX0_turn 1 = .ok (.iconst 0, 1) := dk_3 (dk_at dksX0_turn_0 1 rfl rfl)
theorem dX0_turn_2 : decode cX0_turn 2 = .ok (.aload_n 0, 1) := dk_42 (dk_at dksX0_turn_0 2 rfl rfl)
theorem dX0_turn_3 : decode cX0_turn 3 = .ok (.iload_n 1, 1) := dk_27 (dk_at dksX0_turn_0 3 rfl rfl)
theorem dX0_turn_4 : decode cX0_turn 4 = .ok (.iload_n 2, 1) := dk_28 (dk_at dksX0_turn_0 4 rfl rfl)
theorem dX0_turn_5 : decode cX0_turn 5 = .ok (.invokevirtual 31, 3) := dk_182 0 31 (dk_at dksX0_turn_0 5 rfl rfl)
theorem dX0_turn_8 : decode cX0_turn 8 = .ok (.i2l, 1) := dk_133 (dk_at dksX0_turn_0 8 rfl rfl)
theorem dX0_turn_9 : decode cX0_turn 9 = .ok (.lastore, 1) := dk_80 (dk_at dksX0_turn_0 9 rfl rfl)
theorem dX0_turn_10 : decode cX0_turn 10 = .ok (.goto 11, 3) := dk_167 0 11 (dk_at dksX0_turn_0 10 rfl rfl)
theorem dX0_turn_13 : decode cX0_turn 13 = .ok (.astore 4, 2) := dk_58 4 (dk_at dksX0_turn_0 13 rfl rfl)
theorem dX0_turn_15 : decode cX0_turn 15 = .ok (.iconst 1, 1) := dk_4 (dk_at dksX0_turn_0 15 rfl rfl)
theorem dX0_turn_16 : decode cX0_turn 16 = .ok (.ireturn, 1) := dk_172 (dk_at dksX0_turn_0 16 rfl rfl)
theorem dX0_turn_17 : decode cX0_turn 17 = .ok (.astore 4, 2) := dk_58 4 (dk_at dksX0_turn_0 17 rfl rfl)
theorem dX0_turn_19 : decode cX0_turn 19 = .ok (.iconst 2, 1) := dk_5 (dk_at dksX0_turn_0 19 rfl rfl)
theorem dX0_turn_20 : decode cX0_turn 20 = .ok (.ireturn, 1) := dk_172 (dk_at dksX0_turn_0 20 rfl rfl)
theorem dX0_turn_21 : decode cX0_turn 21 = .ok (.iconst 0, 1) := dk_3 (dk_at dksX0_turn_0 21 rfl rfl)
theorem dX0_turn_22 : decode cX0_turn 22 = .ok (.ireturn, 1) := dk_172 (dk_at dksX0_turn_0 22 rfl rfl)
abbrev cX0_entry : ByteArray := method_8_code
def yX0_entry : MethodName := ⟨RX0, "entry", "(LStepDebts;II[J)I"⟩
def dkwX0_entry_0 : List UInt8 := [45, 3, 42, 27, 28, 182, 0, 34, 133, 80, 167, 0, 11, 58, 4, 4, 172, 58, 4, 5, 172, 3, 172]
abbrev dktX0_entry_0 : List UInt8 := dkwX0_entry_0 ++ []
theorem dksX0_entry_0 : cX0_entry.data.toList.drop 0 = dktX0_entry_0 := by decide +kernel
theorem dX0_entry_0 : decode cX0_entry 0 = .ok (.aload_n 3, 1) := dk_45 (dk_at dksX0_entry_0 0 rfl rfl)
theorem dX0_entry_1 : decode cX0_entry 1 = .ok (.iconst 0, 1) := dk_3 (dk_at dksX0_entry_0 1 rfl rfl)
theorem dX0_entry_2 : decode cX0_entry 2 = .ok (.aload_n 0, 1) := dk_42 (dk_at dksX0_entry_0 2 rfl rfl)
theorem dX0_entry_3 : decode cX0_entry 3 = .ok (.iload_n 1, 1) := dk_27 (dk_at dksX0_entry_0 3 rfl rfl)
theorem dX0_entry_4 : decode cX0_entry 4 = .ok (.iload_n 2, 1) := dk_28 (dk_at dksX0_entry_0 4 rfl rfl)
theorem dX0_entry_5 : decode cX0_entry 5 = .ok (.invokevirtual 34, 3) := dk_182 0 34 (dk_at dksX0_entry_0 5 rfl rfl)
theorem dX0_entry_8 : decode cX0_entry 8 = .ok (.i2l, 1) := dk_133 (dk_at dksX0_entry_0 8 rfl rfl)
theorem dX0_entry_9 : decode cX0_entry 9 = .ok (.lastore, 1) := dk_80 (dk_at dksX0_entry_0 9 rfl rfl)
theorem dX0_entry_10 : decode cX0_entry 10 = .ok (.goto 11, 3) := dk_167 0 11 (dk_at dksX0_entry_0 10 rfl rfl)
theorem dX0_entry_13 : decode cX0_entry 13 = .ok (.astore 4, 2) := dk_58 4 (dk_at dksX0_entry_0 13 rfl rfl)
theorem dX0_entry_15 : decode cX0_entry 15 = .ok (.iconst 1, 1) := dk_4 (dk_at dksX0_entry_0 15 rfl rfl)
theorem dX0_entry_16 : decode cX0_entry 16 = .ok (.ireturn, 1) := dk_172 (dk_at dksX0_entry_0 16 rfl rfl)
theorem dX0_entry_17 : decode cX0_entry 17 = .ok (.astore 4, 2) := dk_58 4 (dk_at dksX0_entry_0 17 rfl rfl)
theorem dX0_entry_19 : decode cX0_entry 19 = .ok (.iconst 2, 1) := dk_5 (dk_at dksX0_entry_0 19 rfl rfl)
theorem dX0_entry_20 : decode cX0_entry 20 = .ok (.ireturn, 1) := dk_172 (dk_at dksX0_entry_0 20 rfl rfl)
theorem dX0_entry_21 : decode cX0_entry 21 = .ok (.iconst 0, 1) := dk_3 (dk_at dksX0_entry_0 21 rfl rfl)
theorem dX0_entry_22 : decode cX0_entry 22 = .ok (.ireturn, 1) := dk_172 (dk_at dksX0_entry_0 22 rfl rfl)
abbrev cX0_counts : ByteArray := method_9_code
def yX0_counts : MethodName := ⟨RX0, "counts", "(LStepDebts;IIIZ[J)I"⟩
def dkwX0_counts_1 : List UInt8 := [172, 3, 172]
abbrev dktX0_counts_1 : List UInt8 := dkwX0_counts_1 ++ []
def dkwX0_counts_0 : List UInt8 := [25, 5, 3, 42, 27, 28, 29, 21, 4, 182, 0, 37, 133, 80, 167, 0, 11, 58, 6, 4, 172, 58, 6, 5]
abbrev dktX0_counts_0 : List UInt8 := dkwX0_counts_0 ++ dktX0_counts_1
theorem dksX0_counts_0 : cX0_counts.data.toList.drop 0 = dktX0_counts_0 := by decide +kernel
theorem dksX0_counts_1 : cX0_counts.data.toList.drop 24 = dktX0_counts_1 := dk_seg dksX0_counts_0 24 rfl rfl
theorem dX0_counts_0 : decode cX0_counts 0 = .ok (.aload 5, 2) := dk_25 5 (dk_at dksX0_counts_0 0 rfl rfl)
theorem dX0_counts_2 : decode cX0_counts 2 = .ok (.iconst 0, 1) := dk_3 (dk_at dksX0_counts_0 2 rfl rfl)
theorem dX0_counts_3 : decode cX0_counts 3 = .ok (.aload_n 0, 1) := dk_42 (dk_at dksX0_counts_0 3 rfl rfl)
theorem dX0_counts_4 : decode cX0_counts 4 = .ok (.iload_n 1, 1) := dk_27 (dk_at dksX0_counts_0 4 rfl rfl)
theorem dX0_counts_5 : decode cX0_counts 5 = .ok (.iload_n 2, 1) := dk_28 (dk_at dksX0_counts_0 5 rfl rfl)
theorem dX0_counts_6 : decode cX0_counts 6 = .ok (.iload_n 3, 1) := dk_29 (dk_at dksX0_counts_0 6 rfl rfl)
theorem dX0_counts_7 : decode cX0_counts 7 = .ok (.iload 4, 2) := dk_21 4 (dk_at dksX0_counts_0 7 rfl rfl)
theorem dX0_counts_9 : decode cX0_counts 9 = .ok (.invokevirtual 37, 3) := dk_182 0 37 (dk_at dksX0_counts_0 9 rfl rfl)
theorem dX0_counts_12 : decode cX0_counts 12 = .ok (.i2l, 1) := dk_133 (dk_at dksX0_counts_0 12 rfl rfl)
theorem dX0_counts_13 : decode cX0_counts 13 = .ok (.lastore, 1) := dk_80 (dk_at dksX0_counts_0 13 rfl rfl)
theorem dX0_counts_14 : decode cX0_counts 14 = .ok (.goto 11, 3) := dk_167 0 11 (dk_at dksX0_counts_0 14 rfl rfl)
theorem dX0_counts_17 : decode cX0_counts 17 = .ok (.astore 6, 2) := dk_58 6 (dk_at dksX0_counts_0 17 rfl rfl)
theorem dX0_counts_19 : decode cX0_counts 19 = .ok (.iconst 1, 1) := dk_4 (dk_at dksX0_counts_0 19 rfl rfl)
theorem dX0_counts_20 : decode cX0_counts 20 = .ok (.ireturn, 1) := dk_172 (dk_at dksX0_counts_0 20 rfl rfl)
theorem dX0_counts_21 : decode cX0_counts 21 = .ok (.astore 6, 2) := dk_58 6 (dk_at dksX0_counts_0 21 rfl rfl)
theorem dX0_counts_23 : decode cX0_counts 23 = .ok (.iconst 2, 1) := dk_5 (dk_at dksX0_counts_0 23 rfl rfl)
theorem dX0_counts_24 : decode cX0_counts 24 = .ok (.ireturn, 1) := dk_172 (dk_at dksX0_counts_1 0 rfl rfl)
theorem dX0_counts_25 : decode cX0_counts 25 = .ok (.iconst 0, 1) := dk_3 (dk_at dksX0_counts_1 1 rfl rfl)
theorem dX0_counts_26 : decode cX0_counts 26 = .ok (.ireturn, 1) := dk_172 (dk_at dksX0_counts_1 2 rfl rfl)
abbrev cX0_walk : ByteArray := method_10_code
def yX0_walk : MethodName := ⟨RX0, "walk", "(LStepDebts;IIIZ[J)I"⟩
def dkwX0_walk_1 : List UInt8 := [172, 58, 6, 6, 172, 3, 172]
abbrev dktX0_walk_1 : List UInt8 := dkwX0_walk_1 ++ []
def dkwX0_walk_0 : List UInt8 := [25, 5, 3, 42, 27, 28, 29, 21, 4, 182, 0, 41, 133, 80, 167, 0, 15, 58, 6, 4, 172, 58, 6, 5]
abbrev dktX0_walk_0 : List UInt8 := dkwX0_walk_0 ++ dktX0_walk_1
theorem dksX0_walk_0 : cX0_walk.data.toList.drop 0 = dktX0_walk_0 := by decide +kernel
theorem dksX0_walk_1 : cX0_walk.data.toList.drop 24 = dktX0_walk_1 := dk_seg dksX0_walk_0 24 rfl rfl
theorem dX0_walk_0 : decode cX0_walk 0 = .ok (.aload 5, 2) := dk_25 5 (dk_at dksX0_walk_0 0 rfl rfl)
theorem dX0_walk_2 : decode cX0_walk 2 = .ok (.iconst 0, 1) := dk_3 (dk_at dksX0_walk_0 2 rfl rfl)
theorem dX0_walk_3 : decode cX0_walk 3 = .ok (.aload_n 0, 1) := dk_42 (dk_at dksX0_walk_0 3 rfl rfl)
theorem dX0_walk_4 : decode cX0_walk 4 = .ok (.iload_n 1, 1) := dk_27 (dk_at dksX0_walk_0 4 rfl rfl)
theorem dX0_walk_5 : decode cX0_walk 5 = .ok (.iload_n 2, 1) := dk_28 (dk_at dksX0_walk_0 5 rfl rfl)
theorem dX0_walk_6 : decode cX0_walk 6 = .ok (.iload_n 3, 1) := dk_29 (dk_at dksX0_walk_0 6 rfl rfl)
theorem dX0_walk_7 : decode cX0_walk 7 = .ok (.iload 4, 2) := dk_21 4 (dk_at dksX0_walk_0 7 rfl rfl)
theorem dX0_walk_9 : decode cX0_walk 9 = .ok (.invokevirtual 41, 3) := dk_182 0 41 (dk_at dksX0_walk_0 9 rfl rfl)
theorem dX0_walk_12 : decode cX0_walk 12 = .ok (.i2l, 1) := dk_133 (dk_at dksX0_walk_0 12 rfl rfl)
theorem dX0_walk_13 : decode cX0_walk 13 = .ok (.lastore, 1) := dk_80 (dk_at dksX0_walk_0 13 rfl rfl)
theorem dX0_walk_14 : decode cX0_walk 14 = .ok (.goto 15, 3) := dk_167 0 15 (dk_at dksX0_walk_0 14 rfl rfl)
theorem dX0_walk_17 : decode cX0_walk 17 = .ok (.astore 6, 2) := dk_58 6 (dk_at dksX0_walk_0 17 rfl rfl)
theorem dX0_walk_19 : decode cX0_walk 19 = .ok (.iconst 1, 1) := dk_4 (dk_at dksX0_walk_0 19 rfl rfl)
theorem dX0_walk_20 : decode cX0_walk 20 = .ok (.ireturn, 1) := dk_172 (dk_at dksX0_walk_0 20 rfl rfl)
theorem dX0_walk_21 : decode cX0_walk 21 = .ok (.astore 6, 2) := dk_58 6 (dk_at dksX0_walk_0 21 rfl rfl)
theorem dX0_walk_23 : decode cX0_walk 23 = .ok (.iconst 2, 1) := dk_5 (dk_at dksX0_walk_0 23 rfl rfl)
theorem dX0_walk_24 : decode cX0_walk 24 = .ok (.ireturn, 1) := dk_172 (dk_at dksX0_walk_1 0 rfl rfl)
theorem dX0_walk_25 : decode cX0_walk 25 = .ok (.astore 6, 2) := dk_58 6 (dk_at dksX0_walk_1 1 rfl rfl)
theorem dX0_walk_27 : decode cX0_walk 27 = .ok (.iconst 3, 1) := dk_6 (dk_at dksX0_walk_1 3 rfl rfl)
theorem dX0_walk_28 : decode cX0_walk 28 = .ok (.ireturn, 1) := dk_172 (dk_at dksX0_walk_1 4 rfl rfl)
theorem dX0_walk_29 : decode cX0_walk 29 = .ok (.iconst 0, 1) := dk_3 (dk_at dksX0_walk_1 5 rfl rfl)
theorem dX0_walk_30 : decode cX0_walk 30 = .ok (.ireturn, 1) := dk_172 (dk_at dksX0_walk_1 6 rfl rfl)
abbrev cX0_days : ByteArray := method_11_code
def yX0_days : MethodName := ⟨RX0, "days", "(LStepDebts;I[J)I"⟩
def dkwX0_days_0 : List UInt8 := [44, 3, 42, 27, 182, 0, 46, 133, 80, 167, 0, 6, 78, 4, 172, 3, 172]
abbrev dktX0_days_0 : List UInt8 := dkwX0_days_0 ++ []
theorem dksX0_days_0 : cX0_days.data.toList.drop 0 = dktX0_days_0 := by decide +kernel
theorem dX0_days_0 : decode cX0_days 0 = .ok (.aload_n 2, 1) := dk_44 (dk_at dksX0_days_0 0 rfl rfl)
theorem dX0_days_1 : decode cX0_days 1 = .ok (.iconst 0, 1) := dk_3 (dk_at dksX0_days_0 1 rfl rfl)
theorem dX0_days_2 : decode cX0_days 2 = .ok (.aload_n 0, 1) := dk_42 (dk_at dksX0_days_0 2 rfl rfl)
theorem dX0_days_3 : decode cX0_days 3 = .ok (.iload_n 1, 1) := dk_27 (dk_at dksX0_days_0 3 rfl rfl)
theorem dX0_days_4 : decode cX0_days 4 = .ok (.invokevirtual 46, 3) := dk_182 0 46 (dk_at dksX0_days_0 4 rfl rfl)
theorem dX0_days_7 : decode cX0_days 7 = .ok (.i2l, 1) := dk_133 (dk_at dksX0_days_0 7 rfl rfl)
theorem dX0_days_8 : decode cX0_days 8 = .ok (.lastore, 1) := dk_80 (dk_at dksX0_days_0 8 rfl rfl)
theorem dX0_days_9 : decode cX0_days 9 = .ok (.goto 6, 3) := dk_167 0 6 (dk_at dksX0_days_0 9 rfl rfl)
theorem dX0_days_12 : decode cX0_days 12 = .ok (.astore_n 3, 1) := dk_78 (dk_at dksX0_days_0 12 rfl rfl)
theorem dX0_days_13 : decode cX0_days 13 = .ok (.iconst 1, 1) := dk_4 (dk_at dksX0_days_0 13 rfl rfl)
theorem dX0_days_14 : decode cX0_days 14 = .ok (.ireturn, 1) := dk_172 (dk_at dksX0_days_0 14 rfl rfl)
theorem dX0_days_15 : decode cX0_days 15 = .ok (.iconst 0, 1) := dk_3 (dk_at dksX0_days_0 15 rfl rfl)
theorem dX0_days_16 : decode cX0_days 16 = .ok (.ireturn, 1) := dk_172 (dk_at dksX0_days_0 16 rfl rfl)
abbrev cX0_pass : ByteArray := method_12_code
def yX0_pass : MethodName := ⟨RX0, "pass", "(LStepDebts;III[J)I"⟩
def dkwX0_pass_1 : List UInt8 := [58, 5, 6, 172, 3, 172]
abbrev dktX0_pass_1 : List UInt8 := dkwX0_pass_1 ++ []
def dkwX0_pass_0 : List UInt8 := [25, 4, 3, 42, 27, 28, 29, 182, 0, 50, 133, 80, 167, 0, 15, 58, 5, 4, 172, 58, 5, 5, 172]
abbrev dktX0_pass_0 : List UInt8 := dkwX0_pass_0 ++ dktX0_pass_1
theorem dksX0_pass_0 : cX0_pass.data.toList.drop 0 = dktX0_pass_0 := by decide +kernel
theorem dksX0_pass_1 : cX0_pass.data.toList.drop 23 = dktX0_pass_1 := dk_seg dksX0_pass_0 23 rfl rfl
theorem dX0_pass_0 : decode cX0_pass 0 = .ok (.aload 4, 2) := dk_25 4 (dk_at dksX0_pass_0 0 rfl rfl)
theorem dX0_pass_2 : decode cX0_pass 2 = .ok (.iconst 0, 1) := dk_3 (dk_at dksX0_pass_0 2 rfl rfl)
theorem dX0_pass_3 : decode cX0_pass 3 = .ok (.aload_n 0, 1) := dk_42 (dk_at dksX0_pass_0 3 rfl rfl)
theorem dX0_pass_4 : decode cX0_pass 4 = .ok (.iload_n 1, 1) := dk_27 (dk_at dksX0_pass_0 4 rfl rfl)
theorem dX0_pass_5 : decode cX0_pass 5 = .ok (.iload_n 2, 1) := dk_28 (dk_at dksX0_pass_0 5 rfl rfl)
theorem dX0_pass_6 : decode cX0_pass 6 = .ok (.iload_n 3, 1) := dk_29 (dk_at dksX0_pass_0 6 rfl rfl)
theorem dX0_pass_7 : decode cX0_pass 7 = .ok (.invokevirtual 50, 3) := dk_182 0 50 (dk_at dksX0_pass_0 7 rfl rfl)
theorem dX0_pass_10 : decode cX0_pass 10 = .ok (.i2l, 1) := dk_133 (dk_at dksX0_pass_0 10 rfl rfl)
theorem dX0_pass_11 : decode cX0_pass 11 = .ok (.lastore, 1) := dk_80 (dk_at dksX0_pass_0 11 rfl rfl)
theorem dX0_pass_12 : decode cX0_pass 12 = .ok (.goto 15, 3) := dk_167 0 15 (dk_at dksX0_pass_0 12 rfl rfl)
theorem dX0_pass_15 : decode cX0_pass 15 = .ok (.astore 5, 2) := dk_58 5 (dk_at dksX0_pass_0 15 rfl rfl)
theorem dX0_pass_17 : decode cX0_pass 17 = .ok (.iconst 1, 1) := dk_4 (dk_at dksX0_pass_0 17 rfl rfl)
theorem dX0_pass_18 : decode cX0_pass 18 = .ok (.ireturn, 1) := dk_172 (dk_at dksX0_pass_0 18 rfl rfl)
theorem dX0_pass_19 : decode cX0_pass 19 = .ok (.astore 5, 2) := dk_58 5 (dk_at dksX0_pass_0 19 rfl rfl)
theorem dX0_pass_21 : decode cX0_pass 21 = .ok (.iconst 2, 1) := dk_5 (dk_at dksX0_pass_0 21 rfl rfl)
theorem dX0_pass_22 : decode cX0_pass 22 = .ok (.ireturn, 1) := dk_172 (dk_at dksX0_pass_0 22 rfl rfl)
theorem dX0_pass_23 : decode cX0_pass 23 = .ok (.astore 5, 2) := dk_58 5 (dk_at dksX0_pass_1 0 rfl rfl)
theorem dX0_pass_25 : decode cX0_pass 25 = .ok (.iconst 3, 1) := dk_6 (dk_at dksX0_pass_1 2 rfl rfl)
theorem dX0_pass_26 : decode cX0_pass 26 = .ok (.ireturn, 1) := dk_172 (dk_at dksX0_pass_1 3 rfl rfl)
theorem dX0_pass_27 : decode cX0_pass 27 = .ok (.iconst 0, 1) := dk_3 (dk_at dksX0_pass_1 4 rfl rfl)
theorem dX0_pass_28 : decode cX0_pass 28 = .ok (.ireturn, 1) := dk_172 (dk_at dksX0_pass_1 5 rfl rfl)
abbrev cX0_marry : ByteArray := method_13_code
def yX0_marry : MethodName := ⟨RX0, "marry", "(LStepDebts;II[J)I"⟩
def dkwX0_marry_1 : List UInt8 := [172, 3, 172]
abbrev dktX0_marry_1 : List UInt8 := dkwX0_marry_1 ++ []
def dkwX0_marry_0 : List UInt8 := [45, 3, 42, 27, 28, 182, 0, 54, 133, 80, 167, 0, 15, 58, 4, 4, 172, 58, 4, 5, 172, 58, 4, 6]
abbrev dktX0_marry_0 : List UInt8 := dkwX0_marry_0 ++ dktX0_marry_1
theorem dksX0_marry_0 : cX0_marry.data.toList.drop 0 = dktX0_marry_0 := by decide +kernel
theorem dksX0_marry_1 : cX0_marry.data.toList.drop 24 = dktX0_marry_1 := dk_seg dksX0_marry_0 24 rfl rfl
theorem dX0_marry_0 : decode cX0_marry 0 = .ok (.aload_n 3, 1) := dk_45 (dk_at dksX0_marry_0 0 rfl rfl)
theorem dX0_marry_1 : decode cX0_marry 1 = .ok (.iconst 0, 1) := dk_3 (dk_at dksX0_marry_0 1 rfl rfl)
theorem dX0_marry_2 : decode cX0_marry 2 = .ok (.aload_n 0, 1) := dk_42 (dk_at dksX0_marry_0 2 rfl rfl)
theorem dX0_marry_3 : decode cX0_marry 3 = .ok (.iload_n 1, 1) := dk_27 (dk_at dksX0_marry_0 3 rfl rfl)
theorem dX0_marry_4 : decode cX0_marry 4 = .ok (.iload_n 2, 1) := dk_28 (dk_at dksX0_marry_0 4 rfl rfl)
theorem dX0_marry_5 : decode cX0_marry 5 = .ok (.invokevirtual 54, 3) := dk_182 0 54 (dk_at dksX0_marry_0 5 rfl rfl)
theorem dX0_marry_8 : decode cX0_marry 8 = .ok (.i2l, 1) := dk_133 (dk_at dksX0_marry_0 8 rfl rfl)
theorem dX0_marry_9 : decode cX0_marry 9 = .ok (.lastore, 1) := dk_80 (dk_at dksX0_marry_0 9 rfl rfl)
theorem dX0_marry_10 : decode cX0_marry 10 = .ok (.goto 15, 3) := dk_167 0 15 (dk_at dksX0_marry_0 10 rfl rfl)
theorem dX0_marry_13 : decode cX0_marry 13 = .ok (.astore 4, 2) := dk_58 4 (dk_at dksX0_marry_0 13 rfl rfl)
theorem dX0_marry_15 : decode cX0_marry 15 = .ok (.iconst 1, 1) := dk_4 (dk_at dksX0_marry_0 15 rfl rfl)
theorem dX0_marry_16 : decode cX0_marry 16 = .ok (.ireturn, 1) := dk_172 (dk_at dksX0_marry_0 16 rfl rfl)
theorem dX0_marry_17 : decode cX0_marry 17 = .ok (.astore 4, 2) := dk_58 4 (dk_at dksX0_marry_0 17 rfl rfl)
theorem dX0_marry_19 : decode cX0_marry 19 = .ok (.iconst 2, 1) := dk_5 (dk_at dksX0_marry_0 19 rfl rfl)
theorem dX0_marry_20 : decode cX0_marry 20 = .ok (.ireturn, 1) := dk_172 (dk_at dksX0_marry_0 20 rfl rfl)
theorem dX0_marry_21 : decode cX0_marry 21 = .ok (.astore 4, 2) := dk_58 4 (dk_at dksX0_marry_0 21 rfl rfl)
theorem dX0_marry_23 : decode cX0_marry 23 = .ok (.iconst 3, 1) := dk_6 (dk_at dksX0_marry_0 23 rfl rfl)
theorem dX0_marry_24 : decode cX0_marry 24 = .ok (.ireturn, 1) := dk_172 (dk_at dksX0_marry_1 0 rfl rfl)
theorem dX0_marry_25 : decode cX0_marry 25 = .ok (.iconst 0, 1) := dk_3 (dk_at dksX0_marry_1 1 rfl rfl)
theorem dX0_marry_26 : decode cX0_marry 26 = .ok (.ireturn, 1) := dk_172 (dk_at dksX0_marry_1 2 rfl rfl)
abbrev cX0_mend : ByteArray := method_14_code
def yX0_mend : MethodName := ⟨RX0, "mend", "(LStepDebts;I[J)I"⟩
def dkwX0_mend_0 : List UInt8 := [44, 3, 42, 27, 182, 0, 57, 133, 80, 167, 0, 6, 78, 4, 172, 3, 172]
abbrev dktX0_mend_0 : List UInt8 := dkwX0_mend_0 ++ []
theorem dksX0_mend_0 : cX0_mend.data.toList.drop 0 = dktX0_mend_0 := by decide +kernel
theorem dX0_mend_0 : decode cX0_mend 0 = .ok (.aload_n 2, 1) := dk_44 (dk_at dksX0_mend_0 0 rfl rfl)
theorem dX0_mend_1 : decode cX0_mend 1 = .ok (.iconst 0, 1) := dk_3 (dk_at dksX0_mend_0 1 rfl rfl)
theorem dX0_mend_2 : decode cX0_mend 2 = .ok (.aload_n 0, 1) := dk_42 (dk_at dksX0_mend_0 2 rfl rfl)
theorem dX0_mend_3 : decode cX0_mend 3 = .ok (.iload_n 1, 1) := dk_27 (dk_at dksX0_mend_0 3 rfl rfl)
theorem dX0_mend_4 : decode cX0_mend 4 = .ok (.invokevirtual 57, 3) := dk_182 0 57 (dk_at dksX0_mend_0 4 rfl rfl)
theorem dX0_mend_7 : decode cX0_mend 7 = .ok (.i2l, 1) := dk_133 (dk_at dksX0_mend_0 7 rfl rfl)
theorem dX0_mend_8 : decode cX0_mend 8 = .ok (.lastore, 1) := dk_80 (dk_at dksX0_mend_0 8 rfl rfl)
theorem dX0_mend_9 : decode cX0_mend 9 = .ok (.goto 6, 3) := dk_167 0 6 (dk_at dksX0_mend_0 9 rfl rfl)
theorem dX0_mend_12 : decode cX0_mend 12 = .ok (.astore_n 3, 1) := dk_78 (dk_at dksX0_mend_0 12 rfl rfl)
theorem dX0_mend_13 : decode cX0_mend 13 = .ok (.iconst 1, 1) := dk_4 (dk_at dksX0_mend_0 13 rfl rfl)
theorem dX0_mend_14 : decode cX0_mend 14 = .ok (.ireturn, 1) := dk_172 (dk_at dksX0_mend_0 14 rfl rfl)
theorem dX0_mend_15 : decode cX0_mend 15 = .ok (.iconst 0, 1) := dk_3 (dk_at dksX0_mend_0 15 rfl rfl)
theorem dX0_mend_16 : decode cX0_mend 16 = .ok (.ireturn, 1) := dk_172 (dk_at dksX0_mend_0 16 rfl rfl)
abbrev cX0_worn : ByteArray := method_15_code
def yX0_worn : MethodName := ⟨RX0, "worn", "(LStepDebts;II[J)I"⟩
def dkwX0_worn_0 : List UInt8 := [45, 3, 42, 27, 28, 182, 0, 60, 133, 80, 167, 0, 11, 58, 4, 4, 172, 58, 4, 5, 172, 3, 172]
abbrev dktX0_worn_0 : List UInt8 := dkwX0_worn_0 ++ []
theorem dksX0_worn_0 : cX0_worn.data.toList.drop 0 = dktX0_worn_0 := by decide +kernel
theorem dX0_worn_0 : decode cX0_worn 0 = .ok (.aload_n 3, 1) := dk_45 (dk_at dksX0_worn_0 0 rfl rfl)
theorem dX0_worn_1 : decode cX0_worn 1 = .ok (.iconst 0, 1) := dk_3 (dk_at dksX0_worn_0 1 rfl rfl)
theorem dX0_worn_2 : decode cX0_worn 2 = .ok (.aload_n 0, 1) := dk_42 (dk_at dksX0_worn_0 2 rfl rfl)
theorem dX0_worn_3 : decode cX0_worn 3 = .ok (.iload_n 1, 1) := dk_27 (dk_at dksX0_worn_0 3 rfl rfl)
theorem dX0_worn_4 : decode cX0_worn 4 = .ok (.iload_n 2, 1) := dk_28 (dk_at dksX0_worn_0 4 rfl rfl)
theorem dX0_worn_5 : decode cX0_worn 5 = .ok (.invokevirtual 60, 3) := dk_182 0 60 (dk_at dksX0_worn_0 5 rfl rfl)
theorem dX0_worn_8 : decode cX0_worn 8 = .ok (.i2l, 1) := dk_133 (dk_at dksX0_worn_0 8 rfl rfl)
theorem dX0_worn_9 : decode cX0_worn 9 = .ok (.lastore, 1) := dk_80 (dk_at dksX0_worn_0 9 rfl rfl)
theorem dX0_worn_10 : decode cX0_worn 10 = .ok (.goto 11, 3) := dk_167 0 11 (dk_at dksX0_worn_0 10 rfl rfl)
theorem dX0_worn_13 : decode cX0_worn 13 = .ok (.astore 4, 2) := dk_58 4 (dk_at dksX0_worn_0 13 rfl rfl)
theorem dX0_worn_15 : decode cX0_worn 15 = .ok (.iconst 1, 1) := dk_4 (dk_at dksX0_worn_0 15 rfl rfl)
theorem dX0_worn_16 : decode cX0_worn 16 = .ok (.ireturn, 1) := dk_172 (dk_at dksX0_worn_0 16 rfl rfl)
theorem dX0_worn_17 : decode cX0_worn 17 = .ok (.astore 4, 2) := dk_58 4 (dk_at dksX0_worn_0 17 rfl rfl)
theorem dX0_worn_19 : decode cX0_worn 19 = .ok (.iconst 2, 1) := dk_5 (dk_at dksX0_worn_0 19 rfl rfl)
theorem dX0_worn_20 : decode cX0_worn 20 = .ok (.ireturn, 1) := dk_172 (dk_at dksX0_worn_0 20 rfl rfl)
theorem dX0_worn_21 : decode cX0_worn 21 = .ok (.iconst 0, 1) := dk_3 (dk_at dksX0_worn_0 21 rfl rfl)
theorem dX0_worn_22 : decode cX0_worn 22 = .ok (.ireturn, 1) := dk_172 (dk_at dksX0_worn_0 22 rfl rfl)
abbrev cX0_deal : ByteArray := method_16_code
def yX0_deal : MethodName := ⟨RX0, "deal", "(LStepDebts;IZ[J)I"⟩
def dkwX0_deal_0 : List UInt8 := [45, 3, 42, 27, 28, 182, 0, 63, 133, 80, 167, 0, 7, 58, 4, 4, 172, 3, 172]
abbrev dktX0_deal_0 : List UInt8 := dkwX0_deal_0 ++ []
theorem dksX0_deal_0 : cX0_deal.data.toList.drop 0 = dktX0_deal_0 := by decide +kernel
theorem dX0_deal_0 : decode cX0_deal 0 = .ok (.aload_n 3, 1) := dk_45 (dk_at dksX0_deal_0 0 rfl rfl)
theorem dX0_deal_1 : decode cX0_deal 1 = .ok (.iconst 0, 1) := dk_3 (dk_at dksX0_deal_0 1 rfl rfl)
theorem dX0_deal_2 : decode cX0_deal 2 = .ok (.aload_n 0, 1) := dk_42 (dk_at dksX0_deal_0 2 rfl rfl)
theorem dX0_deal_3 : decode cX0_deal 3 = .ok (.iload_n 1, 1) := dk_27 (dk_at dksX0_deal_0 3 rfl rfl)
theorem dX0_deal_4 : decode cX0_deal 4 = .ok (.iload_n 2, 1) := dk_28 (dk_at dksX0_deal_0 4 rfl rfl)
theorem dX0_deal_5 : decode cX0_deal 5 = .ok (.invokevirtual 63, 3) := dk_182 0 63 (dk_at dksX0_deal_0 5 rfl rfl)
theorem dX0_deal_8 : decode cX0_deal 8 = .ok (.i2l, 1) := dk_133 (dk_at dksX0_deal_0 8 rfl rfl)
theorem dX0_deal_9 : decode cX0_deal 9 = .ok (.lastore, 1) := dk_80 (dk_at dksX0_deal_0 9 rfl rfl)
theorem dX0_deal_10 : decode cX0_deal 10 = .ok (.goto 7, 3) := dk_167 0 7 (dk_at dksX0_deal_0 10 rfl rfl)
theorem dX0_deal_13 : decode cX0_deal 13 = .ok (.astore 4, 2) := dk_58 4 (dk_at dksX0_deal_0 13 rfl rfl)
theorem dX0_deal_15 : decode cX0_deal 15 = .ok (.iconst 1, 1) := dk_4 (dk_at dksX0_deal_0 15 rfl rfl)
theorem dX0_deal_16 : decode cX0_deal 16 = .ok (.ireturn, 1) := dk_172 (dk_at dksX0_deal_0 16 rfl rfl)
theorem dX0_deal_17 : decode cX0_deal 17 = .ok (.iconst 0, 1) := dk_3 (dk_at dksX0_deal_0 17 rfl rfl)
theorem dX0_deal_18 : decode cX0_deal 18 = .ok (.ireturn, 1) := dk_172 (dk_at dksX0_deal_0 18 rfl rfl)
abbrev cX0_plan : ByteArray := method_17_code
def yX0_plan : MethodName := ⟨RX0, "plan", "(LStepDebts;IIZ[J)I"⟩
def dkwX0_plan_1 : List UInt8 := [172]
abbrev dktX0_plan_1 : List UInt8 := dkwX0_plan_1 ++ []
def dkwX0_plan_0 : List UInt8 := [25, 4, 3, 42, 27, 28, 29, 182, 0, 67, 133, 80, 167, 0, 11, 58, 5, 4, 172, 58, 5, 5, 172, 3]
abbrev dktX0_plan_0 : List UInt8 := dkwX0_plan_0 ++ dktX0_plan_1
theorem dksX0_plan_0 : cX0_plan.data.toList.drop 0 = dktX0_plan_0 := by decide +kernel
theorem dksX0_plan_1 : cX0_plan.data.toList.drop 24 = dktX0_plan_1 := dk_seg dksX0_plan_0 24 rfl rfl
theorem dX0_plan_0 : decode cX0_plan 0 = .ok (.aload 4, 2) := dk_25 4 (dk_at dksX0_plan_0 0 rfl rfl)
theorem dX0_plan_2 : decode cX0_plan 2 = .ok (.iconst 0, 1) := dk_3 (dk_at dksX0_plan_0 2 rfl rfl)
theorem dX0_plan_3 : decode cX0_plan 3 = .ok (.aload_n 0, 1) := dk_42 (dk_at dksX0_plan_0 3 rfl rfl)
theorem dX0_plan_4 : decode cX0_plan 4 = .ok (.iload_n 1, 1) := dk_27 (dk_at dksX0_plan_0 4 rfl rfl)
theorem dX0_plan_5 : decode cX0_plan 5 = .ok (.iload_n 2, 1) := dk_28 (dk_at dksX0_plan_0 5 rfl rfl)
theorem dX0_plan_6 : decode cX0_plan 6 = .ok (.iload_n 3, 1) := dk_29 (dk_at dksX0_plan_0 6 rfl rfl)
theorem dX0_plan_7 : decode cX0_plan 7 = .ok (.invokevirtual 67, 3) := dk_182 0 67 (dk_at dksX0_plan_0 7 rfl rfl)
theorem dX0_plan_10 : decode cX0_plan 10 = .ok (.i2l, 1) := dk_133 (dk_at dksX0_plan_0 10 rfl rfl)
theorem dX0_plan_11 : decode cX0_plan 11 = .ok (.lastore, 1) := dk_80 (dk_at dksX0_plan_0 11 rfl rfl)
theorem dX0_plan_12 : decode cX0_plan 12 = .ok (.goto 11, 3) := dk_167 0 11 (dk_at dksX0_plan_0 12 rfl rfl)
theorem dX0_plan_15 : decode cX0_plan 15 = .ok (.astore 5, 2) := dk_58 5 (dk_at dksX0_plan_0 15 rfl rfl)
theorem dX0_plan_17 : decode cX0_plan 17 = .ok (.iconst 1, 1) := dk_4 (dk_at dksX0_plan_0 17 rfl rfl)
theorem dX0_plan_18 : decode cX0_plan 18 = .ok (.ireturn, 1) := dk_172 (dk_at dksX0_plan_0 18 rfl rfl)
theorem dX0_plan_19 : decode cX0_plan 19 = .ok (.astore 5, 2) := dk_58 5 (dk_at dksX0_plan_0 19 rfl rfl)
theorem dX0_plan_21 : decode cX0_plan 21 = .ok (.iconst 2, 1) := dk_5 (dk_at dksX0_plan_0 21 rfl rfl)
theorem dX0_plan_22 : decode cX0_plan 22 = .ok (.ireturn, 1) := dk_172 (dk_at dksX0_plan_0 22 rfl rfl)
theorem dX0_plan_23 : decode cX0_plan 23 = .ok (.iconst 0, 1) := dk_3 (dk_at dksX0_plan_0 23 rfl rfl)
theorem dX0_plan_24 : decode cX0_plan 24 = .ok (.ireturn, 1) := dk_172 (dk_at dksX0_plan_1 0 rfl rfl)
abbrev cX0_burn : ByteArray := method_18_code
def yX0_burn : MethodName := ⟨RX0, "burn", "(LStepDebts;II[J)I"⟩
def dkwX0_burn_1 : List UInt8 := [172, 3, 172]
abbrev dktX0_burn_1 : List UInt8 := dkwX0_burn_1 ++ []
def dkwX0_burn_0 : List UInt8 := [45, 3, 42, 27, 28, 182, 0, 71, 133, 80, 167, 0, 15, 58, 4, 4, 172, 58, 4, 5, 172, 58, 4, 6]
abbrev dktX0_burn_0 : List UInt8 := dkwX0_burn_0 ++ dktX0_burn_1
theorem dksX0_burn_0 : cX0_burn.data.toList.drop 0 = dktX0_burn_0 := by decide +kernel
theorem dksX0_burn_1 : cX0_burn.data.toList.drop 24 = dktX0_burn_1 := dk_seg dksX0_burn_0 24 rfl rfl
theorem dX0_burn_0 : decode cX0_burn 0 = .ok (.aload_n 3, 1) := dk_45 (dk_at dksX0_burn_0 0 rfl rfl)
theorem dX0_burn_1 : decode cX0_burn 1 = .ok (.iconst 0, 1) := dk_3 (dk_at dksX0_burn_0 1 rfl rfl)
theorem dX0_burn_2 : decode cX0_burn 2 = .ok (.aload_n 0, 1) := dk_42 (dk_at dksX0_burn_0 2 rfl rfl)
theorem dX0_burn_3 : decode cX0_burn 3 = .ok (.iload_n 1, 1) := dk_27 (dk_at dksX0_burn_0 3 rfl rfl)
theorem dX0_burn_4 : decode cX0_burn 4 = .ok (.iload_n 2, 1) := dk_28 (dk_at dksX0_burn_0 4 rfl rfl)
theorem dX0_burn_5 : decode cX0_burn 5 = .ok (.invokevirtual 71, 3) := dk_182 0 71 (dk_at dksX0_burn_0 5 rfl rfl)
theorem dX0_burn_8 : decode cX0_burn 8 = .ok (.i2l, 1) := dk_133 (dk_at dksX0_burn_0 8 rfl rfl)
theorem dX0_burn_9 : decode cX0_burn 9 = .ok (.lastore, 1) := dk_80 (dk_at dksX0_burn_0 9 rfl rfl)
theorem dX0_burn_10 : decode cX0_burn 10 = .ok (.goto 15, 3) := dk_167 0 15 (dk_at dksX0_burn_0 10 rfl rfl)
theorem dX0_burn_13 : decode cX0_burn 13 = .ok (.astore 4, 2) := dk_58 4 (dk_at dksX0_burn_0 13 rfl rfl)
theorem dX0_burn_15 : decode cX0_burn 15 = .ok (.iconst 1, 1) := dk_4 (dk_at dksX0_burn_0 15 rfl rfl)
theorem dX0_burn_16 : decode cX0_burn 16 = .ok (.ireturn, 1) := dk_172 (dk_at dksX0_burn_0 16 rfl rfl)
theorem dX0_burn_17 : decode cX0_burn 17 = .ok (.astore 4, 2) := dk_58 4 (dk_at dksX0_burn_0 17 rfl rfl)
theorem dX0_burn_19 : decode cX0_burn 19 = .ok (.iconst 2, 1) := dk_5 (dk_at dksX0_burn_0 19 rfl rfl)
theorem dX0_burn_20 : decode cX0_burn 20 = .ok (.ireturn, 1) := dk_172 (dk_at dksX0_burn_0 20 rfl rfl)
theorem dX0_burn_21 : decode cX0_burn 21 = .ok (.astore 4, 2) := dk_58 4 (dk_at dksX0_burn_0 21 rfl rfl)
theorem dX0_burn_23 : decode cX0_burn 23 = .ok (.iconst 3, 1) := dk_6 (dk_at dksX0_burn_0 23 rfl rfl)
theorem dX0_burn_24 : decode cX0_burn 24 = .ok (.ireturn, 1) := dk_172 (dk_at dksX0_burn_1 0 rfl rfl)
theorem dX0_burn_25 : decode cX0_burn 25 = .ok (.iconst 0, 1) := dk_3 (dk_at dksX0_burn_1 1 rfl rfl)
theorem dX0_burn_26 : decode cX0_burn 26 = .ok (.ireturn, 1) := dk_172 (dk_at dksX0_burn_1 2 rfl rfl)
abbrev cX0_span : ByteArray := method_19_code
def yX0_span : MethodName := ⟨RX0, "span", "(LStepDebts;IZ[J)I"⟩
def dkwX0_span_0 : List UInt8 := [45, 3, 42, 27, 28, 182, 0, 74, 133, 80, 167, 0, 7, 58, 4, 4, 172, 3, 172]
abbrev dktX0_span_0 : List UInt8 := dkwX0_span_0 ++ []
theorem dksX0_span_0 : cX0_span.data.toList.drop 0 = dktX0_span_0 := by decide +kernel
theorem dX0_span_0 : decode cX0_span 0 = .ok (.aload_n 3, 1) := dk_45 (dk_at dksX0_span_0 0 rfl rfl)
theorem dX0_span_1 : decode cX0_span 1 = .ok (.iconst 0, 1) := dk_3 (dk_at dksX0_span_0 1 rfl rfl)
theorem dX0_span_2 : decode cX0_span 2 = .ok (.aload_n 0, 1) := dk_42 (dk_at dksX0_span_0 2 rfl rfl)
theorem dX0_span_3 : decode cX0_span 3 = .ok (.iload_n 1, 1) := dk_27 (dk_at dksX0_span_0 3 rfl rfl)
theorem dX0_span_4 : decode cX0_span 4 = .ok (.iload_n 2, 1) := dk_28 (dk_at dksX0_span_0 4 rfl rfl)
theorem dX0_span_5 : decode cX0_span 5 = .ok (.invokevirtual 74, 3) := dk_182 0 74 (dk_at dksX0_span_0 5 rfl rfl)
theorem dX0_span_8 : decode cX0_span 8 = .ok (.i2l, 1) := dk_133 (dk_at dksX0_span_0 8 rfl rfl)
theorem dX0_span_9 : decode cX0_span 9 = .ok (.lastore, 1) := dk_80 (dk_at dksX0_span_0 9 rfl rfl)
theorem dX0_span_10 : decode cX0_span 10 = .ok (.goto 7, 3) := dk_167 0 7 (dk_at dksX0_span_0 10 rfl rfl)
theorem dX0_span_13 : decode cX0_span 13 = .ok (.astore 4, 2) := dk_58 4 (dk_at dksX0_span_0 13 rfl rfl)
theorem dX0_span_15 : decode cX0_span 15 = .ok (.iconst 1, 1) := dk_4 (dk_at dksX0_span_0 15 rfl rfl)
theorem dX0_span_16 : decode cX0_span 16 = .ok (.ireturn, 1) := dk_172 (dk_at dksX0_span_0 16 rfl rfl)
theorem dX0_span_17 : decode cX0_span 17 = .ok (.iconst 0, 1) := dk_3 (dk_at dksX0_span_0 17 rfl rfl)
theorem dX0_span_18 : decode cX0_span 18 = .ok (.ireturn, 1) := dk_172 (dk_at dksX0_span_0 18 rfl rfl)
abbrev cX0_proof : ByteArray := method_20_code
def yX0_proof : MethodName := ⟨RX0, "proof", "(LStepDebts;II[J)I"⟩
def dkwX0_proof_0 : List UInt8 := [45, 3, 42, 27, 28, 182, 0, 77, 133, 80, 167, 0, 7, 58, 4, 4, 172, 3, 172]
abbrev dktX0_proof_0 : List UInt8 := dkwX0_proof_0 ++ []
theorem dksX0_proof_0 : cX0_proof.data.toList.drop 0 = dktX0_proof_0 := by decide +kernel
theorem dX0_proof_0 : decode cX0_proof 0 = .ok (.aload_n 3, 1) := dk_45 (dk_at dksX0_proof_0 0 rfl rfl)
theorem dX0_proof_1 : decode cX0_proof 1 = .ok (.iconst 0, 1) := dk_3 (dk_at dksX0_proof_0 1 rfl rfl)
theorem dX0_proof_2 : decode cX0_proof 2 = .ok (.aload_n 0, 1) := dk_42 (dk_at dksX0_proof_0 2 rfl rfl)
theorem dX0_proof_3 : decode cX0_proof 3 = .ok (.iload_n 1, 1) := dk_27 (dk_at dksX0_proof_0 3 rfl rfl)
theorem dX0_proof_4 : decode cX0_proof 4 = .ok (.iload_n 2, 1) := dk_28 (dk_at dksX0_proof_0 4 rfl rfl)
theorem dX0_proof_5 : decode cX0_proof 5 = .ok (.invokevirtual 77, 3) := dk_182 0 77 (dk_at dksX0_proof_0 5 rfl rfl)
theorem dX0_proof_8 : decode cX0_proof 8 = .ok (.i2l, 1) := dk_133 (dk_at dksX0_proof_0 8 rfl rfl)
theorem dX0_proof_9 : decode cX0_proof 9 = .ok (.lastore, 1) := dk_80 (dk_at dksX0_proof_0 9 rfl rfl)
theorem dX0_proof_10 : decode cX0_proof 10 = .ok (.goto 7, 3) := dk_167 0 7 (dk_at dksX0_proof_0 10 rfl rfl)
theorem dX0_proof_13 : decode cX0_proof 13 = .ok (.astore 4, 2) := dk_58 4 (dk_at dksX0_proof_0 13 rfl rfl)
theorem dX0_proof_15 : decode cX0_proof 15 = .ok (.iconst 1, 1) := dk_4 (dk_at dksX0_proof_0 15 rfl rfl)
theorem dX0_proof_16 : decode cX0_proof 16 = .ok (.ireturn, 1) := dk_172 (dk_at dksX0_proof_0 16 rfl rfl)
theorem dX0_proof_17 : decode cX0_proof 17 = .ok (.iconst 0, 1) := dk_3 (dk_at dksX0_proof_0 17 rfl rfl)
theorem dX0_proof_18 : decode cX0_proof 18 = .ok (.ireturn, 1) := dk_172 (dk_at dksX0_proof_0 18 rfl rfl)
abbrev cX0_live : ByteArray := method_21_code
def yX0_live : MethodName := ⟨RX0, "live", "(LStepDebts;I[J)I"⟩
def dkwX0_live_0 : List UInt8 := [44, 3, 42, 27, 182, 0, 80, 133, 80, 167, 0, 6, 78, 4, 172, 3, 172]
abbrev dktX0_live_0 : List UInt8 := dkwX0_live_0 ++ []
theorem dksX0_live_0 : cX0_live.data.toList.drop 0 = dktX0_live_0 := by decide +kernel
theorem dX0_live_0 : decode cX0_live 0 = .ok (.aload_n 2, 1) := dk_44 (dk_at dksX0_live_0 0 rfl rfl)
theorem dX0_live_1 : decode cX0_live 1 = .ok (.iconst 0, 1) := dk_3 (dk_at dksX0_live_0 1 rfl rfl)
theorem dX0_live_2 : decode cX0_live 2 = .ok (.aload_n 0, 1) := dk_42 (dk_at dksX0_live_0 2 rfl rfl)
theorem dX0_live_3 : decode cX0_live 3 = .ok (.iload_n 1, 1) := dk_27 (dk_at dksX0_live_0 3 rfl rfl)
theorem dX0_live_4 : decode cX0_live 4 = .ok (.invokevirtual 80, 3) := dk_182 0 80 (dk_at dksX0_live_0 4 rfl rfl)
theorem dX0_live_7 : decode cX0_live 7 = .ok (.i2l, 1) := dk_133 (dk_at dksX0_live_0 7 rfl rfl)
theorem dX0_live_8 : decode cX0_live 8 = .ok (.lastore, 1) := dk_80 (dk_at dksX0_live_0 8 rfl rfl)
theorem dX0_live_9 : decode cX0_live 9 = .ok (.goto 6, 3) := dk_167 0 6 (dk_at dksX0_live_0 9 rfl rfl)
theorem dX0_live_12 : decode cX0_live 12 = .ok (.astore_n 3, 1) := dk_78 (dk_at dksX0_live_0 12 rfl rfl)
theorem dX0_live_13 : decode cX0_live 13 = .ok (.iconst 1, 1) := dk_4 (dk_at dksX0_live_0 13 rfl rfl)
theorem dX0_live_14 : decode cX0_live 14 = .ok (.ireturn, 1) := dk_172 (dk_at dksX0_live_0 14 rfl rfl)
theorem dX0_live_15 : decode cX0_live 15 = .ok (.iconst 0, 1) := dk_3 (dk_at dksX0_live_0 15 rfl rfl)
theorem dX0_live_16 : decode cX0_live 16 = .ok (.ireturn, 1) := dk_172 (dk_at dksX0_live_0 16 rfl rfl)
theorem q75 : (Jvm.Cond.initialized "StepDebtsLaw") ∈ lw_all := lw_g (lw_at lw_m1 0 rfl) rfl
theorem q123 : (Jvm.Cond.classLink "StepDebtsLaw" (8 : Nat) "StepDebts") ∈ lw_all := lw_g (lw_at lw_m1 48 rfl) rfl
theorem q125 : (Jvm.Cond.methodLink "StepDebtsLaw" (83 : Nat) ({ cls := "StepDebts", name := "<init>", desc := "()V" } : Jvm.MethodName)) ∈ lw_all := lw_g (lw_at lw_m1 50 rfl) rfl
theorem q343 : (Jvm.Cond.methodLink "StepDebtsLaw" (87 : Nat) ({ cls := "StepDebts", name := "feed", desc := "(IIIII)I" } : Jvm.MethodName)) ∈ lw_all := lw_g (lw_at lw_m2 28 rfl) rfl
theorem q351 : (Jvm.Cond.methodLink "StepDebtsLaw" (92 : Nat) ({ cls := "StepDebts", name := "end", desc := "(I)Z" } : Jvm.MethodName)) ∈ lw_all := lw_g (lw_at lw_m2 36 rfl) rfl
theorem q359 : (Jvm.Cond.methodLink "StepDebtsLaw" (109 : Nat) ({ cls := "StepDebts", name := "fault", desc := "()I" } : Jvm.MethodName)) ∈ lw_all := lw_g (lw_at lw_m2 44 rfl) rfl
theorem q363 : (Jvm.Cond.methodLink "StepDebtsLaw" (133 : Nat) ({ cls := "StepDebts", name := "undo", desc := "()I" } : Jvm.MethodName)) ∈ lw_all := lw_g (lw_at lw_m2 48 rfl) rfl
theorem q401 : (Jvm.Cond.methodLink "StepDebtsLaw" (154 : Nat) ({ cls := "StepDebts", name := "missed", desc := "()I" } : Jvm.MethodName)) ∈ lw_all := lw_g (lw_at lw_m2 86 rfl) rfl
theorem q413 : (Jvm.Cond.methodLink "StepDebtsLaw" (175 : Nat) ({ cls := "StepDebts", name := "ways", desc := "()J" } : Jvm.MethodName)) ∈ lw_all := lw_g (lw_at lw_m2 98 rfl) rfl
theorem q421 : (Jvm.Cond.methodLink "StepDebtsLaw" (183 : Nat) ({ cls := "StepDebts", name := "seed", desc := "(I)I" } : Jvm.MethodName)) ∈ lw_all := lw_g (lw_at lw_m2 106 rfl) rfl
theorem q425 : (Jvm.Cond.methodLink "StepDebtsLaw" (187 : Nat) ({ cls := "StepDebts", name := "image", desc := "()V" } : Jvm.MethodName)) ∈ lw_all := lw_g (lw_at lw_m2 110 rfl) rfl
theorem q628 : (Jvm.Cond.methodLink "StepDebtsLaw" (191 : Nat) ({ cls := "StepDebts", name := "back", desc := "()Z" } : Jvm.MethodName)) ∈ lw_all := lw_g (lw_at lw_m3 73 rfl) rfl
theorem q632 : (Jvm.Cond.methodLink "StepDebtsLaw" (196 : Nat) ({ cls := "StepDebts", name := "count", desc := "(I)I" } : Jvm.MethodName)) ∈ lw_all := lw_g (lw_at lw_m3 77 rfl) rfl
theorem q644 : (Jvm.Cond.methodLink "StepDebtsLaw" (97 : Nat) ({ cls := "StepDebtsLaw", name := "people", desc := "(LStepDebts;[J)I" } : Jvm.MethodName)) ∈ lw_all := lw_g (lw_at lw_m3 89 rfl) rfl
theorem q645 : (Jvm.Cond.static ({ cls := "StepDebtsLaw", name := "people", desc := "(LStepDebts;[J)I" } : Jvm.MethodName)) ∈ lw_all := lw_g (lw_at lw_m3 90 rfl) rfl
theorem q646 : (Jvm.Cond.codeWith ({ cls := "StepDebtsLaw", name := "people", desc := "(LStepDebts;[J)I" } : Jvm.MethodName) method_3_code (3 : Nat) (Option.some Jvm.ClassFile.FieldType.int) [((0 : Nat), (8 : Nat), (11 : Nat), (13 : Nat)), ((0 : Nat), (8 : Nat), (14 : Nat), (15 : Nat))]) ∈ lw_all := lw_g (lw_at lw_m3 91 rfl) rfl
theorem q647 : (Jvm.Cond.classLink "StepDebtsLaw" (13 : Nat) "java/lang/IllegalArgumentException") ∈ lw_all := lw_g (lw_at lw_m3 92 rfl) rfl
theorem q648 : (Jvm.Cond.classLink "StepDebtsLaw" (15 : Nat) "java/lang/UnsupportedOperationException") ∈ lw_all := lw_g (lw_at lw_m3 93 rfl) rfl
theorem q649 : (Jvm.Cond.methodLink "StepDebtsLaw" (7 : Nat) ({ cls := "StepDebts", name := "people", desc := "()I" } : Jvm.MethodName)) ∈ lw_all := lw_g (lw_at lw_m3 94 rfl) rfl
theorem q1193 : (Jvm.Cond.methodLink "StepDebtsLaw" (106 : Nat) ({ cls := "StepDebtsLaw", name := "law", desc := "(LStepDebts;[J)I" } : Jvm.MethodName)) ∈ lw_all := lw_g (lw_at lw_m5 158 rfl) rfl
theorem q1194 : (Jvm.Cond.static ({ cls := "StepDebtsLaw", name := "law", desc := "(LStepDebts;[J)I" } : Jvm.MethodName)) ∈ lw_all := lw_g (lw_at lw_m5 159 rfl) rfl
theorem q1195 : (Jvm.Cond.codeWith ({ cls := "StepDebtsLaw", name := "law", desc := "(LStepDebts;[J)I" } : Jvm.MethodName) method_4_code (3 : Nat) (Option.some Jvm.ClassFile.FieldType.int) [((0 : Nat), (8 : Nat), (11 : Nat), (13 : Nat))]) ∈ lw_all := lw_g (lw_at lw_m5 160 rfl) rfl
theorem q1196 : (Jvm.Cond.methodLink "StepDebtsLaw" (17 : Nat) ({ cls := "StepDebts", name := "law", desc := "()I" } : Jvm.MethodName)) ∈ lw_all := lw_g (lw_at lw_m5 161 rfl) rfl
theorem q1378 : (Jvm.Cond.methodLink "StepDebtsLaw" (113 : Nat) ({ cls := "StepDebtsLaw", name := "house", desc := "(LStepDebts;II[J)I" } : Jvm.MethodName)) ∈ lw_all := lw_g (lw_at lw_m6 103 rfl) rfl
theorem q1379 : (Jvm.Cond.static ({ cls := "StepDebtsLaw", name := "house", desc := "(LStepDebts;II[J)I" } : Jvm.MethodName)) ∈ lw_all := lw_g (lw_at lw_m6 104 rfl) rfl
theorem q1380 : (Jvm.Cond.codeWith ({ cls := "StepDebtsLaw", name := "house", desc := "(LStepDebts;II[J)I" } : Jvm.MethodName) method_5_code (5 : Nat) (Option.some Jvm.ClassFile.FieldType.int) [((0 : Nat), (10 : Nat), (13 : Nat), (24 : Nat)), ((0 : Nat), (10 : Nat), (17 : Nat), (26 : Nat))]) ∈ lw_all := lw_g (lw_at lw_m6 105 rfl) rfl
theorem q1381 : (Jvm.Cond.classLink "StepDebtsLaw" (24 : Nat) "java/lang/IndexOutOfBoundsException") ∈ lw_all := lw_g (lw_at lw_m6 106 rfl) rfl
theorem q1400 : (Jvm.Cond.classLink "StepDebtsLaw" (26 : Nat) "java/util/NoSuchElementException") ∈ lw_all := lw_g (lw_at lw_m6 125 rfl) rfl
theorem q1401 : (Jvm.Cond.methodLink "StepDebtsLaw" (20 : Nat) ({ cls := "StepDebts", name := "house", desc := "(II)I" } : Jvm.MethodName)) ∈ lw_all := lw_g (lw_at lw_m6 126 rfl) rfl
theorem q1450 : (Jvm.Cond.methodLink "StepDebtsLaw" (117 : Nat) ({ cls := "StepDebtsLaw", name := "walker", desc := "(LStepDebts;II[J)I" } : Jvm.MethodName)) ∈ lw_all := lw_g (lw_at lw_m6 175 rfl) rfl
theorem q1451 : (Jvm.Cond.static ({ cls := "StepDebtsLaw", name := "walker", desc := "(LStepDebts;II[J)I" } : Jvm.MethodName)) ∈ lw_all := lw_g (lw_at lw_m6 176 rfl) rfl
theorem q1452 : (Jvm.Cond.codeWith ({ cls := "StepDebtsLaw", name := "walker", desc := "(LStepDebts;II[J)I" } : Jvm.MethodName) method_6_code (5 : Nat) (Option.some Jvm.ClassFile.FieldType.int) [((0 : Nat), (10 : Nat), (13 : Nat), (24 : Nat)), ((0 : Nat), (10 : Nat), (17 : Nat), (26 : Nat))]) ∈ lw_all := lw_g (lw_at lw_m6 177 rfl) rfl
theorem q1453 : (Jvm.Cond.methodLink "StepDebtsLaw" (28 : Nat) ({ cls := "StepDebts", name := "walker", desc := "(II)I" } : Jvm.MethodName)) ∈ lw_all := lw_g (lw_at lw_m6 178 rfl) rfl
theorem q1457 : (Jvm.Cond.methodLink "StepDebtsLaw" (120 : Nat) ({ cls := "StepDebtsLaw", name := "turn", desc := "(LStepDebts;II[J)I" } : Jvm.MethodName)) ∈ lw_all := lw_g (lw_at lw_m6 182 rfl) rfl
theorem q1458 : (Jvm.Cond.static ({ cls := "StepDebtsLaw", name := "turn", desc := "(LStepDebts;II[J)I" } : Jvm.MethodName)) ∈ lw_all := lw_g (lw_at lw_m6 183 rfl) rfl
theorem q1459 : (Jvm.Cond.codeWith ({ cls := "StepDebtsLaw", name := "turn", desc := "(LStepDebts;II[J)I" } : Jvm.MethodName) method_7_code (5 : Nat) (Option.some Jvm.ClassFile.FieldType.int) [((0 : Nat), (10 : Nat), (13 : Nat), (24 : Nat)), ((0 : Nat), (10 : Nat), (17 : Nat), (26 : Nat))]) ∈ lw_all := lw_g (lw_at lw_m6 184 rfl) rfl
theorem q1460 : (Jvm.Cond.methodLink "StepDebtsLaw" (31 : Nat) ({ cls := "StepDebts", name := "turn", desc := "(II)I" } : Jvm.MethodName)) ∈ lw_all := lw_g (lw_at lw_m6 185 rfl) rfl
theorem q1468 : (Jvm.Cond.methodLink "StepDebtsLaw" (123 : Nat) ({ cls := "StepDebtsLaw", name := "entry", desc := "(LStepDebts;II[J)I" } : Jvm.MethodName)) ∈ lw_all := lw_g (lw_at lw_m6 193 rfl) rfl
theorem q1469 : (Jvm.Cond.static ({ cls := "StepDebtsLaw", name := "entry", desc := "(LStepDebts;II[J)I" } : Jvm.MethodName)) ∈ lw_all := lw_g (lw_at lw_m6 194 rfl) rfl
theorem q1470 : (Jvm.Cond.codeWith ({ cls := "StepDebtsLaw", name := "entry", desc := "(LStepDebts;II[J)I" } : Jvm.MethodName) method_8_code (5 : Nat) (Option.some Jvm.ClassFile.FieldType.int) [((0 : Nat), (10 : Nat), (13 : Nat), (24 : Nat)), ((0 : Nat), (10 : Nat), (17 : Nat), (26 : Nat))]) ∈ lw_all := lw_g (lw_at lw_m6 195 rfl) rfl
theorem q1471 : (Jvm.Cond.methodLink "StepDebtsLaw" (34 : Nat) ({ cls := "StepDebts", name := "entry", desc := "(II)I" } : Jvm.MethodName)) ∈ lw_all := lw_g (lw_at lw_m6 196 rfl) rfl
theorem q1475 : (Jvm.Cond.methodLink "StepDebtsLaw" (126 : Nat) ({ cls := "StepDebtsLaw", name := "counts", desc := "(LStepDebts;IIIZ[J)I" } : Jvm.MethodName)) ∈ lw_all := lw_g (lw_at lw_m6 200 rfl) rfl
theorem q1476 : (Jvm.Cond.static ({ cls := "StepDebtsLaw", name := "counts", desc := "(LStepDebts;IIIZ[J)I" } : Jvm.MethodName)) ∈ lw_all := lw_g (lw_at lw_m6 201 rfl) rfl
theorem q1477 : (Jvm.Cond.codeWith ({ cls := "StepDebtsLaw", name := "counts", desc := "(LStepDebts;IIIZ[J)I" } : Jvm.MethodName) method_9_code (7 : Nat) (Option.some Jvm.ClassFile.FieldType.int) [((0 : Nat), (14 : Nat), (17 : Nat), (24 : Nat)), ((0 : Nat), (14 : Nat), (21 : Nat), (13 : Nat))]) ∈ lw_all := lw_g (lw_at lw_m6 202 rfl) rfl
theorem q1478 : (Jvm.Cond.methodLink "StepDebtsLaw" (37 : Nat) ({ cls := "StepDebts", name := "counts", desc := "(IIIZ)I" } : Jvm.MethodName)) ∈ lw_all := lw_g (lw_at lw_m6 203 rfl) rfl
theorem q1571 : (Jvm.Cond.methodLink "StepDebtsLaw" (130 : Nat) ({ cls := "StepDebtsLaw", name := "walk", desc := "(LStepDebts;IIIZ[J)I" } : Jvm.MethodName)) ∈ lw_all := lw_g (lw_at lw_m7 56 rfl) rfl
theorem q1572 : (Jvm.Cond.static ({ cls := "StepDebtsLaw", name := "walk", desc := "(LStepDebts;IIIZ[J)I" } : Jvm.MethodName)) ∈ lw_all := lw_g (lw_at lw_m7 57 rfl) rfl
theorem q1573 : (Jvm.Cond.codeWith ({ cls := "StepDebtsLaw", name := "walk", desc := "(LStepDebts;IIIZ[J)I" } : Jvm.MethodName) method_10_code (7 : Nat) (Option.some Jvm.ClassFile.FieldType.int) [((0 : Nat), (14 : Nat), (17 : Nat), (24 : Nat)), ((0 : Nat), (14 : Nat), (21 : Nat), (13 : Nat)), ((0 : Nat), (14 : Nat), (25 : Nat), (44 : Nat))]) ∈ lw_all := lw_g (lw_at lw_m7 58 rfl) rfl
theorem q1574 : (Jvm.Cond.classLink "StepDebtsLaw" (44 : Nat) "java/lang/IllegalStateException") ∈ lw_all := lw_g (lw_at lw_m7 59 rfl) rfl
theorem q1575 : (Jvm.Cond.methodLink "StepDebtsLaw" (41 : Nat) ({ cls := "StepDebts", name := "walk", desc := "(IIIZ)I" } : Jvm.MethodName)) ∈ lw_all := lw_g (lw_at lw_m7 60 rfl) rfl
theorem q1607 : (Jvm.Cond.methodLink "StepDebtsLaw" (137 : Nat) ({ cls := "StepDebtsLaw", name := "days", desc := "(LStepDebts;I[J)I" } : Jvm.MethodName)) ∈ lw_all := lw_g (lw_at lw_m7 92 rfl) rfl
theorem q1608 : (Jvm.Cond.static ({ cls := "StepDebtsLaw", name := "days", desc := "(LStepDebts;I[J)I" } : Jvm.MethodName)) ∈ lw_all := lw_g (lw_at lw_m7 93 rfl) rfl
theorem q1609 : (Jvm.Cond.codeWith ({ cls := "StepDebtsLaw", name := "days", desc := "(LStepDebts;I[J)I" } : Jvm.MethodName) method_11_code (4 : Nat) (Option.some Jvm.ClassFile.FieldType.int) [((0 : Nat), (9 : Nat), (12 : Nat), (13 : Nat))]) ∈ lw_all := lw_g (lw_at lw_m7 94 rfl) rfl
theorem q1610 : (Jvm.Cond.methodLink "StepDebtsLaw" (46 : Nat) ({ cls := "StepDebts", name := "days", desc := "(I)I" } : Jvm.MethodName)) ∈ lw_all := lw_g (lw_at lw_m7 95 rfl) rfl
theorem q1614 : (Jvm.Cond.methodLink "StepDebtsLaw" (141 : Nat) ({ cls := "StepDebtsLaw", name := "pass", desc := "(LStepDebts;III[J)I" } : Jvm.MethodName)) ∈ lw_all := lw_g (lw_at lw_m7 99 rfl) rfl
theorem q1615 : (Jvm.Cond.static ({ cls := "StepDebtsLaw", name := "pass", desc := "(LStepDebts;III[J)I" } : Jvm.MethodName)) ∈ lw_all := lw_g (lw_at lw_m7 100 rfl) rfl
theorem q1616 : (Jvm.Cond.codeWith ({ cls := "StepDebtsLaw", name := "pass", desc := "(LStepDebts;III[J)I" } : Jvm.MethodName) method_12_code (6 : Nat) (Option.some Jvm.ClassFile.FieldType.int) [((0 : Nat), (12 : Nat), (15 : Nat), (24 : Nat)), ((0 : Nat), (12 : Nat), (19 : Nat), (13 : Nat)), ((0 : Nat), (12 : Nat), (23 : Nat), (44 : Nat))]) ∈ lw_all := lw_g (lw_at lw_m7 101 rfl) rfl
theorem q1617 : (Jvm.Cond.methodLink "StepDebtsLaw" (50 : Nat) ({ cls := "StepDebts", name := "pass", desc := "(III)I" } : Jvm.MethodName)) ∈ lw_all := lw_g (lw_at lw_m7 102 rfl) rfl
theorem q1626 : (Jvm.Cond.methodLink "StepDebtsLaw" (145 : Nat) ({ cls := "StepDebtsLaw", name := "marry", desc := "(LStepDebts;II[J)I" } : Jvm.MethodName)) ∈ lw_all := lw_g (lw_at lw_m7 111 rfl) rfl
theorem q1627 : (Jvm.Cond.static ({ cls := "StepDebtsLaw", name := "marry", desc := "(LStepDebts;II[J)I" } : Jvm.MethodName)) ∈ lw_all := lw_g (lw_at lw_m7 112 rfl) rfl
theorem q1628 : (Jvm.Cond.codeWith ({ cls := "StepDebtsLaw", name := "marry", desc := "(LStepDebts;II[J)I" } : Jvm.MethodName) method_13_code (5 : Nat) (Option.some Jvm.ClassFile.FieldType.int) [((0 : Nat), (10 : Nat), (13 : Nat), (24 : Nat)), ((0 : Nat), (10 : Nat), (17 : Nat), (13 : Nat)), ((0 : Nat), (10 : Nat), (21 : Nat), (44 : Nat))]) ∈ lw_all := lw_g (lw_at lw_m7 113 rfl) rfl
theorem q1629 : (Jvm.Cond.methodLink "StepDebtsLaw" (54 : Nat) ({ cls := "StepDebts", name := "marry", desc := "(II)I" } : Jvm.MethodName)) ∈ lw_all := lw_g (lw_at lw_m7 114 rfl) rfl
theorem q1633 : (Jvm.Cond.methodLink "StepDebtsLaw" (148 : Nat) ({ cls := "StepDebtsLaw", name := "mend", desc := "(LStepDebts;I[J)I" } : Jvm.MethodName)) ∈ lw_all := lw_g (lw_at lw_m7 118 rfl) rfl
theorem q1634 : (Jvm.Cond.static ({ cls := "StepDebtsLaw", name := "mend", desc := "(LStepDebts;I[J)I" } : Jvm.MethodName)) ∈ lw_all := lw_g (lw_at lw_m7 119 rfl) rfl
theorem q1635 : (Jvm.Cond.codeWith ({ cls := "StepDebtsLaw", name := "mend", desc := "(LStepDebts;I[J)I" } : Jvm.MethodName) method_14_code (4 : Nat) (Option.some Jvm.ClassFile.FieldType.int) [((0 : Nat), (9 : Nat), (12 : Nat), (24 : Nat))]) ∈ lw_all := lw_g (lw_at lw_m7 120 rfl) rfl
theorem q1636 : (Jvm.Cond.methodLink "StepDebtsLaw" (57 : Nat) ({ cls := "StepDebts", name := "mend", desc := "(I)I" } : Jvm.MethodName)) ∈ lw_all := lw_g (lw_at lw_m7 121 rfl) rfl
theorem q1640 : (Jvm.Cond.methodLink "StepDebtsLaw" (151 : Nat) ({ cls := "StepDebtsLaw", name := "worn", desc := "(LStepDebts;II[J)I" } : Jvm.MethodName)) ∈ lw_all := lw_g (lw_at lw_m7 125 rfl) rfl
theorem q1641 : (Jvm.Cond.static ({ cls := "StepDebtsLaw", name := "worn", desc := "(LStepDebts;II[J)I" } : Jvm.MethodName)) ∈ lw_all := lw_g (lw_at lw_m7 126 rfl) rfl
theorem q1642 : (Jvm.Cond.codeWith ({ cls := "StepDebtsLaw", name := "worn", desc := "(LStepDebts;II[J)I" } : Jvm.MethodName) method_15_code (5 : Nat) (Option.some Jvm.ClassFile.FieldType.int) [((0 : Nat), (10 : Nat), (13 : Nat), (24 : Nat)), ((0 : Nat), (10 : Nat), (17 : Nat), (13 : Nat))]) ∈ lw_all := lw_g (lw_at lw_m7 127 rfl) rfl
theorem q1643 : (Jvm.Cond.methodLink "StepDebtsLaw" (60 : Nat) ({ cls := "StepDebts", name := "worn", desc := "(II)I" } : Jvm.MethodName)) ∈ lw_all := lw_g (lw_at lw_m7 128 rfl) rfl
theorem q1647 : (Jvm.Cond.methodLink "StepDebtsLaw" (158 : Nat) ({ cls := "StepDebtsLaw", name := "deal", desc := "(LStepDebts;IZ[J)I" } : Jvm.MethodName)) ∈ lw_all := lw_g (lw_at lw_m7 132 rfl) rfl
theorem q1648 : (Jvm.Cond.static ({ cls := "StepDebtsLaw", name := "deal", desc := "(LStepDebts;IZ[J)I" } : Jvm.MethodName)) ∈ lw_all := lw_g (lw_at lw_m7 133 rfl) rfl
theorem q1649 : (Jvm.Cond.codeWith ({ cls := "StepDebtsLaw", name := "deal", desc := "(LStepDebts;IZ[J)I" } : Jvm.MethodName) method_16_code (5 : Nat) (Option.some Jvm.ClassFile.FieldType.int) [((0 : Nat), (10 : Nat), (13 : Nat), (24 : Nat))]) ∈ lw_all := lw_g (lw_at lw_m7 134 rfl) rfl
theorem q1650 : (Jvm.Cond.methodLink "StepDebtsLaw" (63 : Nat) ({ cls := "StepDebts", name := "deal", desc := "(IZ)I" } : Jvm.MethodName)) ∈ lw_all := lw_g (lw_at lw_m7 135 rfl) rfl
theorem q1668 : (Jvm.Cond.methodLink "StepDebtsLaw" (162 : Nat) ({ cls := "StepDebtsLaw", name := "plan", desc := "(LStepDebts;IIZ[J)I" } : Jvm.MethodName)) ∈ lw_all := lw_g (lw_at lw_m7 153 rfl) rfl
theorem q1669 : (Jvm.Cond.static ({ cls := "StepDebtsLaw", name := "plan", desc := "(LStepDebts;IIZ[J)I" } : Jvm.MethodName)) ∈ lw_all := lw_g (lw_at lw_m7 154 rfl) rfl
theorem q1670 : (Jvm.Cond.codeWith ({ cls := "StepDebtsLaw", name := "plan", desc := "(LStepDebts;IIZ[J)I" } : Jvm.MethodName) method_17_code (6 : Nat) (Option.some Jvm.ClassFile.FieldType.int) [((0 : Nat), (12 : Nat), (15 : Nat), (24 : Nat)), ((0 : Nat), (12 : Nat), (19 : Nat), (13 : Nat))]) ∈ lw_all := lw_g (lw_at lw_m7 155 rfl) rfl
theorem q1671 : (Jvm.Cond.methodLink "StepDebtsLaw" (67 : Nat) ({ cls := "StepDebts", name := "plan", desc := "(IIZ)I" } : Jvm.MethodName)) ∈ lw_all := lw_g (lw_at lw_m7 156 rfl) rfl
theorem q1712 : (Jvm.Cond.methodLink "StepDebtsLaw" (166 : Nat) ({ cls := "StepDebtsLaw", name := "burn", desc := "(LStepDebts;II[J)I" } : Jvm.MethodName)) ∈ lw_all := lw_g (lw_at lw_m7 197 rfl) rfl
theorem q1713 : (Jvm.Cond.static ({ cls := "StepDebtsLaw", name := "burn", desc := "(LStepDebts;II[J)I" } : Jvm.MethodName)) ∈ lw_all := lw_g (lw_at lw_m7 198 rfl) rfl
theorem q1714 : (Jvm.Cond.codeWith ({ cls := "StepDebtsLaw", name := "burn", desc := "(LStepDebts;II[J)I" } : Jvm.MethodName) method_18_code (5 : Nat) (Option.some Jvm.ClassFile.FieldType.int) [((0 : Nat), (10 : Nat), (13 : Nat), (24 : Nat)), ((0 : Nat), (10 : Nat), (17 : Nat), (13 : Nat)), ((0 : Nat), (10 : Nat), (21 : Nat), (44 : Nat))]) ∈ lw_all := lw_g (lw_at lw_m7 199 rfl) rfl
theorem q1715 : (Jvm.Cond.methodLink "StepDebtsLaw" (71 : Nat) ({ cls := "StepDebts", name := "burn", desc := "(II)I" } : Jvm.MethodName)) ∈ lw_all := lw_g (lw_at lw_m7 200 rfl) rfl
theorem q1719 : (Jvm.Cond.methodLink "StepDebtsLaw" (169 : Nat) ({ cls := "StepDebtsLaw", name := "span", desc := "(LStepDebts;IZ[J)I" } : Jvm.MethodName)) ∈ lw_all := lw_g (lw_at lw_m7 204 rfl) rfl
theorem q1720 : (Jvm.Cond.static ({ cls := "StepDebtsLaw", name := "span", desc := "(LStepDebts;IZ[J)I" } : Jvm.MethodName)) ∈ lw_all := lw_g (lw_at lw_m7 205 rfl) rfl
theorem q1721 : (Jvm.Cond.codeWith ({ cls := "StepDebtsLaw", name := "span", desc := "(LStepDebts;IZ[J)I" } : Jvm.MethodName) method_19_code (5 : Nat) (Option.some Jvm.ClassFile.FieldType.int) [((0 : Nat), (10 : Nat), (13 : Nat), (24 : Nat))]) ∈ lw_all := lw_g (lw_at lw_m7 206 rfl) rfl
theorem q1722 : (Jvm.Cond.methodLink "StepDebtsLaw" (74 : Nat) ({ cls := "StepDebts", name := "span", desc := "(IZ)I" } : Jvm.MethodName)) ∈ lw_all := lw_g (lw_at lw_m7 207 rfl) rfl
theorem q1734 : (Jvm.Cond.methodLink "StepDebtsLaw" (172 : Nat) ({ cls := "StepDebtsLaw", name := "proof", desc := "(LStepDebts;II[J)I" } : Jvm.MethodName)) ∈ lw_all := lw_g (lw_at lw_m7 219 rfl) rfl
theorem q1735 : (Jvm.Cond.static ({ cls := "StepDebtsLaw", name := "proof", desc := "(LStepDebts;II[J)I" } : Jvm.MethodName)) ∈ lw_all := lw_g (lw_at lw_m7 220 rfl) rfl
theorem q1736 : (Jvm.Cond.codeWith ({ cls := "StepDebtsLaw", name := "proof", desc := "(LStepDebts;II[J)I" } : Jvm.MethodName) method_20_code (5 : Nat) (Option.some Jvm.ClassFile.FieldType.int) [((0 : Nat), (10 : Nat), (13 : Nat), (24 : Nat))]) ∈ lw_all := lw_g (lw_at lw_m7 221 rfl) rfl
theorem q1737 : (Jvm.Cond.methodLink "StepDebtsLaw" (77 : Nat) ({ cls := "StepDebts", name := "proof", desc := "(II)I" } : Jvm.MethodName)) ∈ lw_all := lw_g (lw_at lw_m7 222 rfl) rfl
theorem q1741 : (Jvm.Cond.methodLink "StepDebtsLaw" (180 : Nat) ({ cls := "StepDebtsLaw", name := "live", desc := "(LStepDebts;I[J)I" } : Jvm.MethodName)) ∈ lw_all := lw_g (lw_at lw_m7 226 rfl) rfl
theorem q1742 : (Jvm.Cond.static ({ cls := "StepDebtsLaw", name := "live", desc := "(LStepDebts;I[J)I" } : Jvm.MethodName)) ∈ lw_all := lw_g (lw_at lw_m7 227 rfl) rfl
theorem q1743 : (Jvm.Cond.codeWith ({ cls := "StepDebtsLaw", name := "live", desc := "(LStepDebts;I[J)I" } : Jvm.MethodName) method_21_code (4 : Nat) (Option.some Jvm.ClassFile.FieldType.int) [((0 : Nat), (9 : Nat), (12 : Nat), (13 : Nat))]) ∈ lw_all := lw_g (lw_at lw_m7 228 rfl) rfl
theorem q1744 : (Jvm.Cond.methodLink "StepDebtsLaw" (80 : Nat) ({ cls := "StepDebts", name := "live", desc := "(I)I" } : Jvm.MethodName)) ∈ lw_all := lw_g (lw_at lw_m7 229 rfl) rfl
theorem q1757 : (Jvm.Cond.classLink "StepDebtsLaw" (84 : Nat) "StepDebtsModel") ∈ lw_all := lw_g (lw_at lw_m8 2 rfl) rfl
theorem q1759 : (Jvm.Cond.methodLink "StepDebtsLaw" (86 : Nat) ({ cls := "StepDebtsModel", name := "<init>", desc := "()V" } : Jvm.MethodName)) ∈ lw_all := lw_g (lw_at lw_m8 4 rfl) rfl
theorem q1839 : (Jvm.Cond.methodLink "StepDebtsLaw" (103 : Nat) ({ cls := "StepDebtsModel", name := "thrown", desc := "()I" } : Jvm.MethodName)) ∈ lw_all := lw_g (lw_at lw_m8 84 rfl) rfl
theorem q1843 : (Jvm.Cond.methodLink "StepDebtsLaw" (91 : Nat) ({ cls := "StepDebtsModel", name := "feed", desc := "(IIIII)I" } : Jvm.MethodName)) ∈ lw_all := lw_g (lw_at lw_m8 88 rfl) rfl
theorem q1847 : (Jvm.Cond.methodLink "StepDebtsLaw" (96 : Nat) ({ cls := "StepDebtsModel", name := "end", desc := "(I)Z" } : Jvm.MethodName)) ∈ lw_all := lw_g (lw_at lw_m8 92 rfl) rfl
theorem q1854 : (Jvm.Cond.methodLink "StepDebtsLaw" (102 : Nat) ({ cls := "StepDebtsModel", name := "people", desc := "()I" } : Jvm.MethodName)) ∈ lw_all := lw_g (lw_at lw_m8 99 rfl) rfl
theorem q1966 : (Jvm.Cond.methodLink "StepDebtsLaw" (108 : Nat) ({ cls := "StepDebtsModel", name := "law", desc := "()I" } : Jvm.MethodName)) ∈ lw_all := lw_g (lw_at lw_m8 211 rfl) rfl
theorem q1970 : (Jvm.Cond.methodLink "StepDebtsLaw" (112 : Nat) ({ cls := "StepDebtsModel", name := "fault", desc := "()I" } : Jvm.MethodName)) ∈ lw_all := lw_g (lw_at lw_m8 215 rfl) rfl
theorem q1974 : (Jvm.Cond.methodLink "StepDebtsLaw" (116 : Nat) ({ cls := "StepDebtsModel", name := "house", desc := "(II)I" } : Jvm.MethodName)) ∈ lw_all := lw_g (lw_at lw_m8 219 rfl) rfl
theorem q1994 : (Jvm.Cond.methodLink "StepDebtsLaw" (119 : Nat) ({ cls := "StepDebtsModel", name := "walker", desc := "(II)I" } : Jvm.MethodName)) ∈ lw_all := lw_g (lw_at lw_m8 239 rfl) rfl
theorem q2002 : (Jvm.Cond.methodLink "StepDebtsLaw" (122 : Nat) ({ cls := "StepDebtsModel", name := "turn", desc := "(II)I" } : Jvm.MethodName)) ∈ lw_all := lw_g (lw_at lw_m9 7 rfl) rfl
theorem q2018 : (Jvm.Cond.methodLink "StepDebtsLaw" (125 : Nat) ({ cls := "StepDebtsModel", name := "entry", desc := "(II)I" } : Jvm.MethodName)) ∈ lw_all := lw_g (lw_at lw_m9 23 rfl) rfl
theorem q2026 : (Jvm.Cond.methodLink "StepDebtsLaw" (129 : Nat) ({ cls := "StepDebtsModel", name := "counts", desc := "(IIIZ)I" } : Jvm.MethodName)) ∈ lw_all := lw_g (lw_at lw_m9 31 rfl) rfl
theorem q2042 : (Jvm.Cond.methodLink "StepDebtsLaw" (132 : Nat) ({ cls := "StepDebtsModel", name := "walk", desc := "(IIIZ)I" } : Jvm.MethodName)) ∈ lw_all := lw_g (lw_at lw_m9 47 rfl) rfl
theorem q2054 : (Jvm.Cond.methodLink "StepDebtsLaw" (136 : Nat) ({ cls := "StepDebtsModel", name := "undo", desc := "()I" } : Jvm.MethodName)) ∈ lw_all := lw_g (lw_at lw_m9 59 rfl) rfl
theorem q2058 : (Jvm.Cond.methodLink "StepDebtsLaw" (140 : Nat) ({ cls := "StepDebtsModel", name := "days", desc := "(I)I" } : Jvm.MethodName)) ∈ lw_all := lw_g (lw_at lw_m9 63 rfl) rfl
theorem q2062 : (Jvm.Cond.methodLink "StepDebtsLaw" (144 : Nat) ({ cls := "StepDebtsModel", name := "pass", desc := "(III)I" } : Jvm.MethodName)) ∈ lw_all := lw_g (lw_at lw_m9 67 rfl) rfl
theorem q2066 : (Jvm.Cond.methodLink "StepDebtsLaw" (147 : Nat) ({ cls := "StepDebtsModel", name := "marry", desc := "(II)I" } : Jvm.MethodName)) ∈ lw_all := lw_g (lw_at lw_m9 71 rfl) rfl
theorem q2070 : (Jvm.Cond.methodLink "StepDebtsLaw" (150 : Nat) ({ cls := "StepDebtsModel", name := "mend", desc := "(I)I" } : Jvm.MethodName)) ∈ lw_all := lw_g (lw_at lw_m9 75 rfl) rfl
theorem q2074 : (Jvm.Cond.methodLink "StepDebtsLaw" (153 : Nat) ({ cls := "StepDebtsModel", name := "worn", desc := "(II)I" } : Jvm.MethodName)) ∈ lw_all := lw_g (lw_at lw_m9 79 rfl) rfl
theorem q2078 : (Jvm.Cond.methodLink "StepDebtsLaw" (157 : Nat) ({ cls := "StepDebtsModel", name := "missed", desc := "()I" } : Jvm.MethodName)) ∈ lw_all := lw_g (lw_at lw_m9 83 rfl) rfl
theorem q2082 : (Jvm.Cond.methodLink "StepDebtsLaw" (161 : Nat) ({ cls := "StepDebtsModel", name := "deal", desc := "(IZ)I" } : Jvm.MethodName)) ∈ lw_all := lw_g (lw_at lw_m9 87 rfl) rfl
theorem q2089 : (Jvm.Cond.methodLink "StepDebtsLaw" (165 : Nat) ({ cls := "StepDebtsModel", name := "plan", desc := "(IIZ)I" } : Jvm.MethodName)) ∈ lw_all := lw_g (lw_at lw_m9 94 rfl) rfl
theorem q2101 : (Jvm.Cond.methodLink "StepDebtsLaw" (168 : Nat) ({ cls := "StepDebtsModel", name := "burn", desc := "(II)I" } : Jvm.MethodName)) ∈ lw_all := lw_g (lw_at lw_m9 106 rfl) rfl
theorem q2109 : (Jvm.Cond.methodLink "StepDebtsLaw" (171 : Nat) ({ cls := "StepDebtsModel", name := "span", desc := "(IZ)I" } : Jvm.MethodName)) ∈ lw_all := lw_g (lw_at lw_m9 114 rfl) rfl
theorem q2121 : (Jvm.Cond.methodLink "StepDebtsLaw" (174 : Nat) ({ cls := "StepDebtsModel", name := "proof", desc := "(II)I" } : Jvm.MethodName)) ∈ lw_all := lw_g (lw_at lw_m9 126 rfl) rfl
theorem q2130 : (Jvm.Cond.methodLink "StepDebtsLaw" (179 : Nat) ({ cls := "StepDebtsModel", name := "ways", desc := "()J" } : Jvm.MethodName)) ∈ lw_all := lw_g (lw_at lw_m9 135 rfl) rfl
theorem q2134 : (Jvm.Cond.methodLink "StepDebtsLaw" (182 : Nat) ({ cls := "StepDebtsModel", name := "live", desc := "(I)I" } : Jvm.MethodName)) ∈ lw_all := lw_g (lw_at lw_m9 139 rfl) rfl
theorem q2143 : (Jvm.Cond.methodLink "StepDebtsLaw" (186 : Nat) ({ cls := "StepDebtsModel", name := "seed", desc := "(I)I" } : Jvm.MethodName)) ∈ lw_all := lw_g (lw_at lw_m9 148 rfl) rfl
theorem q2147 : (Jvm.Cond.methodLink "StepDebtsLaw" (190 : Nat) ({ cls := "StepDebtsModel", name := "image", desc := "()V" } : Jvm.MethodName)) ∈ lw_all := lw_g (lw_at lw_m9 152 rfl) rfl
theorem q2151 : (Jvm.Cond.methodLink "StepDebtsLaw" (195 : Nat) ({ cls := "StepDebtsModel", name := "back", desc := "()Z" } : Jvm.MethodName)) ∈ lw_all := lw_g (lw_at lw_m9 156 rfl) rfl
theorem q2155 : (Jvm.Cond.methodLink "StepDebtsLaw" (199 : Nat) ({ cls := "StepDebtsModel", name := "count", desc := "(I)I" } : Jvm.MethodName)) ∈ lw_all := lw_g (lw_at lw_m9 160 rfl) rfl
/-! StepDebts -/
set_option maxRecDepth 100000
def RX1 : String := "StepDebts"
def TX1 : u_T := fun k => match k with
  | 0 => ("StepDebts", "world", "LStepDebts$World;", false)
  | 1 => ("StepDebts", "image", "LStepDebts$World;", false)
  | 2 => ("StepDebts", "reader", "LStepDebts$Reader;", true)
  | 3 => ("StepDebts", "scene", "LStepDebts$Scene;", true)
  | 4 => ("StepDebts", "plan", "LStepDebts$Plan;", true)
  | 5 => ("StepDebts", "ashes", "[I", true)
  | _ => ("StepDebts", "many", "I", false)
def tyX1 : Nat → FieldType := fun k => match k with
  | 0 => .object "StepDebts$World"
  | 1 => .object "StepDebts$World"
  | 2 => .object "StepDebts$Reader"
  | 3 => .object "StepDebts$Scene"
  | 4 => .object "StepDebts$Plan"
  | 5 => .array .int
  | _ => .int
abbrev wsX10 : List Cond := u_ws RX1 TX1 7
theorem nmX1 : ∀ a, a < 7 → ∀ b, b < 7 → a ≠ b → (TX1 a).2.1 ≠ (TX1 b).2.1 := by decide +kernel
theorem tyX1_ok : ∀ k, k < 7 → parseFieldDescriptor (TX1 k).2.2.1 = some (tyX1 k) := by decide +kernel
abbrev cX1_init : ByteArray := prog_1_method_1_code
def yX1_init : MethodName := ⟨RX1, "<init>", "()V"⟩
def dkwX1_init_2 : List UInt8 := [181, 0, 35, 42, 16, 16, 188, 10, 181, 0, 39, 177]
abbrev dktX1_init_2 : List UInt8 := dkwX1_init_2 ++ []
def dkwX1_init_1 : List UInt8 := [181, 0, 19, 42, 187, 0, 23, 89, 183, 0, 25, 181, 0, 26, 42, 187, 0, 30, 89, 42, 183, 0, 32]
abbrev dktX1_init_1 : List UInt8 := dkwX1_init_1 ++ dktX1_init_2
def dkwX1_init_0 : List UInt8 := [42, 183, 0, 1, 42, 187, 0, 7, 89, 183, 0, 9, 181, 0, 10, 42, 187, 0, 16, 89, 183, 0, 18]
abbrev dktX1_init_0 : List UInt8 := dkwX1_init_0 ++ dktX1_init_1
theorem dksX1_init_0 : cX1_init.data.toList.drop 0 = dktX1_init_0 := by decide +kernel
theorem dksX1_init_1 : cX1_init.data.toList.drop 23 = dktX1_init_1 := dk_seg dksX1_init_0 23 rfl rfl
theorem dksX1_init_2 : cX1_init.data.toList.drop 46 = dktX1_init_2 := dk_seg dksX1_init_1 23 rfl rfl
theorem dX1_init_0 : decode cX1_init 0 = .ok (.aload_n 0, 1) := dk_42 (dk_at dksX1_init_0 0 rfl rfl)
theorem dX1_init_1 : decode cX1_init 1 = .ok (.invokespecial 1, 3) := dk_183 0 1 (dk_at dksX1_init_0 1 rfl rfl)
theorem dX1_init_4 : decode cX1_init 4 = .ok (.aload_n 0, 1) := dk_42 (dk_at dksX1_init_0 4 rfl rfl)
theorem dX1_init_5 : decode cX1_init 5 = .ok (.new 7, 3) := dk_187 0 7 (dk_at dksX1_init_0 5 rfl rfl)
theorem dX1_init_8 : decode cX1_init 8 = .ok (.dup, 1) := dk_89 (dk_at dksX1_init_0 8 rfl rfl)
theorem dX1_init_9 : decode cX1_init 9 = .ok (.invokespecial 9, 3) := dk_183 0 9 (dk_at dksX1_init_0 9 rfl rfl)
theorem dX1_init_12 : decode cX1_init 12 = .ok (.putfield 10, 3) := dk_181 0 10 (dk_at dksX1_init_0 12 rfl rfl)
theorem dX1_init_15 : decode cX1_init 15 = .ok (.aload_n 0, 1) := dk_42 (dk_at dksX1_init_0 15 rfl rfl)
theorem dX1_init_16 : decode cX1_init 16 = .ok (.new 16, 3) := dk_187 0 16 (dk_at dksX1_init_0 16 rfl rfl)
theorem dX1_init_19 : decode cX1_init 19 = .ok (.dup, 1) := dk_89 (dk_at dksX1_init_0 19 rfl rfl)
theorem dX1_init_20 : decode cX1_init 20 = .ok (.invokespecial 18, 3) := dk_183 0 18 (dk_at dksX1_init_0 20 rfl rfl)
theorem dX1_init_23 : decode cX1_init 23 = .ok (.putfield 19, 3) := dk_181 0 19 (dk_at dksX1_init_1 0 rfl rfl)
theorem dX1_init_26 : decode cX1_init 26 = .ok (.aload_n 0, 1) := dk_42 (dk_at dksX1_init_1 3 rfl rfl)
theorem dX1_init_27 : decode cX1_init 27 = .ok (.new 23, 3) := dk_187 0 23 (dk_at dksX1_init_1 4 rfl rfl)
theorem dX1_init_30 : decode cX1_init 30 = .ok (.dup, 1) := dk_89 (dk_at dksX1_init_1 7 rfl rfl)
theorem dX1_init_31 : decode cX1_init 31 = .ok (.invokespecial 25, 3) := dk_183 0 25 (dk_at dksX1_init_1 8 rfl rfl)
theorem dX1_init_34 : decode cX1_init 34 = .ok (.putfield 26, 3) := dk_181 0 26 (dk_at dksX1_init_1 11 rfl rfl)
theorem dX1_init_37 : decode cX1_init 37 = .ok (.aload_n 0, 1) := dk_42 (dk_at dksX1_init_1 14 rfl rfl)
theorem dX1_init_38 : decode cX1_init 38 = .ok (.new 30, 3) := dk_187 0 30 (dk_at dksX1_init_1 15 rfl rfl)
theorem dX1_init_41 : decode cX1_init 41 = .ok (.dup, 1) := dk_89 (dk_at dksX1_init_1 18 rfl rfl)
theorem dX1_init_42 : decode cX1_init 42 = .ok (.aload_n 0, 1) := dk_42 (dk_at dksX1_init_1 19 rfl rfl)
theorem dX1_init_43 : decode cX1_init 43 = .ok (.invokespecial 32, 3) := dk_183 0 32 (dk_at dksX1_init_1 20 rfl rfl)
theorem dX1_init_46 : decode cX1_init 46 = .ok (.putfield 35, 3) := dk_181 0 35 (dk_at dksX1_init_2 0 rfl rfl)
theorem dX1_init_49 : decode cX1_init 49 = .ok (.aload_n 0, 1) := dk_42 (dk_at dksX1_init_2 3 rfl rfl)
theorem dX1_init_50 : decode cX1_init 50 = .ok (.bipush 16, 2) := dk_16 16 (dk_at dksX1_init_2 4 rfl rfl)
theorem dX1_init_52 : decode cX1_init 52 = .ok (.newarray .int, 2) := dk_188_10 (dk_at dksX1_init_2 6 rfl rfl)
theorem dX1_init_54 : decode cX1_init 54 = .ok (.putfield 39, 3) := dk_181 0 39 (dk_at dksX1_init_2 8 rfl rfl)
theorem dX1_init_57 : decode cX1_init 57 = .ok (.return_, 1) := dk_177 (dk_at dksX1_init_2 11 rfl rfl)
abbrev cX1_feed : ByteArray := prog_1_method_3_code
def yX1_feed : MethodName := ⟨RX1, "feed", "(IIIII)I"⟩
def dkwX1_feed_1 : List UInt8 := [89, 7, 21, 5, 79, 182, 0, 43, 172]
abbrev dktX1_feed_1 : List UInt8 := dkwX1_feed_1 ++ []
def dkwX1_feed_0 : List UInt8 := [42, 180, 0, 19, 8, 188, 10, 89, 3, 27, 79, 89, 4, 28, 79, 89, 5, 29, 79, 89, 6, 21, 4, 79]
abbrev dktX1_feed_0 : List UInt8 := dkwX1_feed_0 ++ dktX1_feed_1
theorem dksX1_feed_0 : cX1_feed.data.toList.drop 0 = dktX1_feed_0 := by decide +kernel
theorem dksX1_feed_1 : cX1_feed.data.toList.drop 24 = dktX1_feed_1 := dk_seg dksX1_feed_0 24 rfl rfl
theorem dX1_feed_0 : decode cX1_feed 0 = .ok (.aload_n 0, 1) := dk_42 (dk_at dksX1_feed_0 0 rfl rfl)
theorem dX1_feed_1 : decode cX1_feed 1 = .ok (.getfield 19, 3) := dk_180 0 19 (dk_at dksX1_feed_0 1 rfl rfl)
theorem dX1_feed_4 : decode cX1_feed 4 = .ok (.iconst 5, 1) := dk_8 (dk_at dksX1_feed_0 4 rfl rfl)
theorem dX1_feed_5 : decode cX1_feed 5 = .ok (.newarray .int, 2) := dk_188_10 (dk_at dksX1_feed_0 5 rfl rfl)
theorem dX1_feed_7 : decode cX1_feed 7 = .ok (.dup, 1) := dk_89 (dk_at dksX1_feed_0 7 rfl rfl)
theorem dX1_feed_8 : decode cX1_feed 8 = .ok (.iconst 0, 1) := dk_3 (dk_at dksX1_feed_0 8 rfl rfl)
theorem dX1_feed_9 : decode cX1_feed 9 = .ok (.iload_n 1, 1) := dk_27 (dk_at dksX1_feed_0 9 rfl rfl)
theorem dX1_feed_10 : decode cX1_feed 10 = .ok (.iastore, 1) := dk_79 (dk_at dksX1_feed_0 10 rfl rfl)
theorem dX1_feed_11 : decode cX1_feed 11 = .ok (.dup, 1) := dk_89 (dk_at dksX1_feed_0 11 rfl rfl)
theorem dX1_feed_12 : decode cX1_feed 12 = .ok (.iconst 1, 1) := dk_4 (dk_at dksX1_feed_0 12 rfl rfl)
theorem dX1_feed_13 : decode cX1_feed 13 = .ok (.iload_n 2, 1) := dk_28 (dk_at dksX1_feed_0 13 rfl rfl)
theorem dX1_feed_14 : decode cX1_feed 14 = .ok (.iastore, 1) := dk_79 (dk_at dksX1_feed_0 14 rfl rfl)
theorem dX1_feed_15 : decode cX1_feed 15 = .ok (.dup, 1) := dk_89 (dk_at dksX1_feed_0 15 rfl rfl)
theorem dX1_feed_16 : decode cX1_feed 16 = .ok (.iconst 2, 1) := dk_5 (dk_at dksX1_feed_0 16 rfl rfl)
theorem dX1_feed_17 : decode cX1_feed 17 = .ok (.iload_n 3, 1) := dk_29 (dk_at dksX1_feed_0 17 rfl rfl)
theorem dX1_feed_18 : decode cX1_feed 18 = .ok (.iastore, 1) := dk_79 (dk_at dksX1_feed_0 18 rfl rfl)
theorem dX1_feed_19 : decode cX1_feed 19 = .ok (.dup, 1) := dk_89 (dk_at dksX1_feed_0 19 rfl rfl)
theorem dX1_feed_20 : decode cX1_feed 20 = .ok (.iconst 3, 1) := dk_6 (dk_at dksX1_feed_0 20 rfl rfl)
theorem dX1_feed_21 : decode cX1_feed 21 = .ok (.iload 4, 2) := dk_21 4 (dk_at dksX1_feed_0 21 rfl rfl)
theorem dX1_feed_23 : decode cX1_feed 23 = .ok (.iastore, 1) := dk_79 (dk_at dksX1_feed_0 23 rfl rfl)
theorem dX1_feed_24 : decode cX1_feed 24 = .ok (.dup, 1) := dk_89 (dk_at dksX1_feed_1 0 rfl rfl)
theorem dX1_feed_25 : decode cX1_feed 25 = .ok (.iconst 4, 1) := dk_7 (dk_at dksX1_feed_1 1 rfl rfl)
theorem dX1_feed_26 : decode cX1_feed 26 = .ok (.iload 5, 2) := dk_21 5 (dk_at dksX1_feed_1 2 rfl rfl)
theorem dX1_feed_28 : decode cX1_feed 28 = .ok (.iastore, 1) := dk_79 (dk_at dksX1_feed_1 4 rfl rfl)
theorem dX1_feed_29 : decode cX1_feed 29 = .ok (.invokevirtual 43, 3) := dk_182 0 43 (dk_at dksX1_feed_1 5 rfl rfl)
theorem dX1_feed_32 : decode cX1_feed 32 = .ok (.ireturn, 1) := dk_172 (dk_at dksX1_feed_1 8 rfl rfl)
abbrev cX1_end : ByteArray := prog_1_method_4_code
def yX1_end : MethodName := ⟨RX1, "end", "(I)Z"⟩
def dkwX1_end_0 : List UInt8 := [42, 180, 0, 19, 27, 182, 0, 47, 172]
abbrev dktX1_end_0 : List UInt8 := dkwX1_end_0 ++ []
theorem dksX1_end_0 : cX1_end.data.toList.drop 0 = dktX1_end_0 := by decide +kernel
theorem dX1_end_0 : decode cX1_end 0 = .ok (.aload_n 0, 1) := dk_42 (dk_at dksX1_end_0 0 rfl rfl)
theorem dX1_end_1 : decode cX1_end 1 = .ok (.getfield 19, 3) := dk_180 0 19 (dk_at dksX1_end_0 1 rfl rfl)
theorem dX1_end_4 : decode cX1_end 4 = .ok (.iload_n 1, 1) := dk_27 (dk_at dksX1_end_0 4 rfl rfl)
theorem dX1_end_5 : decode cX1_end 5 = .ok (.invokevirtual 47, 3) := dk_182 0 47 (dk_at dksX1_end_0 5 rfl rfl)
theorem dX1_end_8 : decode cX1_end 8 = .ok (.ireturn, 1) := dk_172 (dk_at dksX1_end_0 8 rfl rfl)
abbrev cX1_fault : ByteArray := prog_1_method_5_code
def yX1_fault : MethodName := ⟨RX1, "fault", "()I"⟩
def dkwX1_fault_0 : List UInt8 := [42, 180, 0, 19, 180, 0, 51, 172]
abbrev dktX1_fault_0 : List UInt8 := dkwX1_fault_0 ++ []
theorem dksX1_fault_0 : cX1_fault.data.toList.drop 0 = dktX1_fault_0 := by decide +kernel
theorem dX1_fault_0 : decode cX1_fault 0 = .ok (.aload_n 0, 1) := dk_42 (dk_at dksX1_fault_0 0 rfl rfl)
theorem dX1_fault_1 : decode cX1_fault 1 = .ok (.getfield 19, 3) := dk_180 0 19 (dk_at dksX1_fault_0 1 rfl rfl)
theorem dX1_fault_4 : decode cX1_fault 4 = .ok (.getfield 51, 3) := dk_180 0 51 (dk_at dksX1_fault_0 4 rfl rfl)
theorem dX1_fault_7 : decode cX1_fault 7 = .ok (.ireturn, 1) := dk_172 (dk_at dksX1_fault_0 7 rfl rfl)
abbrev cX1_undo : ByteArray := prog_1_method_36_code
def yX1_undo : MethodName := ⟨RX1, "undo", "()I"⟩
def dkwX1_undo_5 : List UInt8 := [184, 1, 172, 181, 1, 69, 132, 3, 1, 167, 255, 205, 27, 172]
abbrev dktX1_undo_5 : List UInt8 := dkwX1_undo_5 ++ []
def dkwX1_undo_4 : List UInt8 := [192, 0, 147, 3, 42, 180, 0, 10, 180, 0, 144, 29, 182, 1, 57, 192, 0, 147, 180, 1, 69, 4, 100]
abbrev dktX1_undo_4 : List UInt8 := dkwX1_undo_4 ++ dktX1_undo_5
def dkwX1_undo_3 : List UInt8 := [96, 79, 3, 62, 29, 44, 180, 1, 144, 162, 0, 49, 42, 180, 0, 10, 180, 0, 144, 29, 182, 1, 57]
abbrev dktX1_undo_3 : List UInt8 := dkwX1_undo_3 ++ dktX1_undo_4
def dkwX1_undo_2 : List UInt8 := [182, 1, 169, 192, 1, 121, 77, 42, 180, 0, 10, 180, 0, 137, 44, 180, 1, 143, 92, 46, 44, 180, 1, 137]
abbrev dktX1_undo_2 : List UInt8 := dkwX1_undo_2 ++ dktX1_undo_3
def dkwX1_undo_1 : List UInt8 := [27, 182, 1, 57, 192, 1, 121, 180, 1, 140, 153, 0, 5, 2, 172, 42, 180, 0, 10, 180, 1, 118, 27]
abbrev dktX1_undo_1 : List UInt8 := dkwX1_undo_1 ++ dktX1_undo_2
def dkwX1_undo_0 : List UInt8 := [42, 180, 0, 10, 180, 1, 118, 182, 0, 59, 4, 100, 60, 27, 155, 0, 23, 42, 180, 0, 10, 180, 1, 118]
abbrev dktX1_undo_0 : List UInt8 := dkwX1_undo_0 ++ dktX1_undo_1
theorem dksX1_undo_0 : cX1_undo.data.toList.drop 0 = dktX1_undo_0 := by decide +kernel
theorem dksX1_undo_1 : cX1_undo.data.toList.drop 24 = dktX1_undo_1 := dk_seg dksX1_undo_0 24 rfl rfl
theorem dksX1_undo_2 : cX1_undo.data.toList.drop 47 = dktX1_undo_2 := dk_seg dksX1_undo_1 23 rfl rfl
theorem dksX1_undo_3 : cX1_undo.data.toList.drop 71 = dktX1_undo_3 := dk_seg dksX1_undo_2 24 rfl rfl
theorem dksX1_undo_4 : cX1_undo.data.toList.drop 94 = dktX1_undo_4 := dk_seg dksX1_undo_3 23 rfl rfl
theorem dksX1_undo_5 : cX1_undo.data.toList.drop 117 = dktX1_undo_5 := dk_seg dksX1_undo_4 23 rfl rfl
theorem dX1_undo_0 : decode cX1_undo 0 = .ok (.aload_n 0, 1) := dk_42 (dk_at dksX1_undo_0 0 rfl rfl)
theorem dX1_undo_1 : decode cX1_undo 1 = .ok (.getfield 10, 3) := dk_180 0 10 (dk_at dksX1_undo_0 1 rfl rfl)
theorem dX1_undo_4 : decode cX1_undo 4 = .ok (.getfield 374, 3) := dk_180 1 118 (dk_at dksX1_undo_0 4 rfl rfl)
theorem dX1_undo_7 : decode cX1_undo 7 = .ok (.invokevirtual 59, 3) := dk_182 0 59 (dk_at dksX1_undo_0 7 rfl rfl)
theorem dX1_undo_10 : decode cX1_undo 10 = .ok (.iconst 1, 1) := dk_4 (dk_at dksX1_undo_0 10 rfl rfl)
theorem dX1_undo_11 : decode cX1_undo 11 = .ok (.isub, 1) := dk_100 (dk_at dksX1_undo_0 11 rfl rfl)
theorem dX1_undo_12 : decode cX1_undo 12 = .ok (.istore_n 1, 1) := dk_60 (dk_at dksX1_undo_0 12 rfl rfl)
theorem dX1_undo_13 : decode cX1_undo 13 = .ok (.iload_n 1, 1) := dk_27 (dk_at dksX1_undo_0 13 rfl rfl)
theorem dX1_undo_14 : decode cX1_undo 14 = .ok (.ifCond .lt 23, 3) := dk_155 0 23 (dk_at dksX1_undo_0 14 rfl rfl)
theorem dX1_undo_17 : decode cX1_undo 17 = .ok (.aload_n 0, 1) := dk_42 (dk_at dksX1_undo_0 17 rfl rfl)
theorem dX1_undo_18 : decode cX1_undo 18 = .ok (.getfield 10, 3) := dk_180 0 10 (dk_at dksX1_undo_0 18 rfl rfl)
theorem dX1_undo_21 : decode cX1_undo 21 = .ok (.getfield 374, 3) := dk_180 1 118 (dk_at dksX1_undo_0 21 rfl rfl)
theorem dX1_undo_24 : decode cX1_undo 24 = .ok (.iload_n 1, 1) := dk_27 (dk_at dksX1_undo_1 0 rfl rfl)
theorem dX1_undo_25 : decode cX1_undo 25 = .ok (.invokevirtual 313, 3) := dk_182 1 57 (dk_at dksX1_undo_1 1 rfl rfl)
theorem dX1_undo_28 : decode cX1_undo 28 = .ok (.checkcast 377, 3) := dk_192 1 121 (dk_at dksX1_undo_1 4 rfl rfl)
theorem dX1_undo_31 : decode cX1_undo 31 = .ok (.getfield 396, 3) := dk_180 1 140 (dk_at dksX1_undo_1 7 rfl rfl)
theorem dX1_undo_34 : decode cX1_undo 34 = .ok (.ifCond .eq 5, 3) := dk_153 0 5 (dk_at dksX1_undo_1 10 rfl rfl)
theorem dX1_undo_37 : decode cX1_undo 37 = .ok (.iconst (-1), 1) := dk_2 (dk_at dksX1_undo_1 13 rfl rfl)
theorem dX1_undo_38 : decode cX1_undo 38 = .ok (.ireturn, 1) := dk_172 (dk_at dksX1_undo_1 14 rfl rfl)
theorem dX1_undo_39 : decode cX1_undo 39 = .ok (.aload_n 0, 1) := dk_42 (dk_at dksX1_undo_1 15 rfl rfl)
theorem dX1_undo_40 : decode cX1_undo 40 = .ok (.getfield 10, 3) := dk_180 0 10 (dk_at dksX1_undo_1 16 rfl rfl)
theorem dX1_undo_43 : decode cX1_undo 43 = .ok (.getfield 374, 3) := dk_180 1 118 (dk_at dksX1_undo_1 19 rfl rfl)
theorem dX1_undo_46 : decode cX1_undo 46 = .ok (.iload_n 1, 1) := dk_27 (dk_at dksX1_undo_1 22 rfl rfl)
theorem dX1_undo_47 : decode cX1_undo 47 = .ok (.invokevirtual 425, 3) := dk_182 1 169 (dk_at dksX1_undo_2 0 rfl rfl)
theorem dX1_undo_50 : decode cX1_undo 50 = .ok (.checkcast 377, 3) := dk_192 1 121 (dk_at dksX1_undo_2 3 rfl rfl)
theorem dX1_undo_53 : decode cX1_undo 53 = .ok (.astore_n 2, 1) := dk_77 (dk_at dksX1_undo_2 6 rfl rfl)
theorem dX1_undo_54 : decode cX1_undo 54 = .ok (.aload_n 0, 1) := dk_42 (dk_at dksX1_undo_2 7 rfl rfl)
theorem dX1_undo_55 : decode cX1_undo 55 = .ok (.getfield 10, 3) := dk_180 0 10 (dk_at dksX1_undo_2 8 rfl rfl)
theorem dX1_undo_58 : decode cX1_undo 58 = .ok (.getfield 137, 3) := dk_180 0 137 (dk_at dksX1_undo_2 11 rfl rfl)
theorem dX1_undo_61 : decode cX1_undo 61 = .ok (.aload_n 2, 1) := dk_44 (dk_at dksX1_undo_2 14 rfl rfl)
theorem dX1_undo_62 : decode cX1_undo 62 = .ok (.getfield 399, 3) := dk_180 1 143 (dk_at dksX1_undo_2 15 rfl rfl)
theorem dX1_undo_65 : decode cX1_undo 65 = .ok (.dup2, 1) := dk_92 (dk_at dksX1_undo_2 18 rfl rfl)
theorem dX1_undo_66 : decode cX1_undo 66 = .ok (.iaload, 1) := dk_46 (dk_at dksX1_undo_2 19 rfl rfl)
theorem dX1_undo_67 : decode cX1_undo 67 = .ok (.aload_n 2, 1) := dk_44 (dk_at dksX1_undo_2 20 rfl rfl)
theorem dX1_undo_68 : decode cX1_undo 68 = .ok (.getfield 393, 3) := dk_180 1 137 (dk_at dksX1_undo_2 21 rfl rfl)
theorem dX1_undo_71 : decode cX1_undo 71 = .ok (.iadd, 1) := dk_96 (dk_at dksX1_undo_3 0 rfl rfl)
theorem dX1_undo_72 : decode cX1_undo 72 = .ok (.iastore, 1) := dk_79 (dk_at dksX1_undo_3 1 rfl rfl)
theorem dX1_undo_73 : decode cX1_undo 73 = .ok (.iconst 0, 1) := dk_3 (dk_at dksX1_undo_3 2 rfl rfl)
theorem dX1_undo_74 : decode cX1_undo 74 = .ok (.istore_n 3, 1) := dk_62 (dk_at dksX1_undo_3 3 rfl rfl)
theorem dX1_undo_75 : decode cX1_undo 75 = .ok (.iload_n 3, 1) := dk_29 (dk_at dksX1_undo_3 4 rfl rfl)
theorem dX1_undo_76 : decode cX1_undo 76 = .ok (.aload_n 2, 1) := dk_44 (dk_at dksX1_undo_3 5 rfl rfl)
theorem dX1_undo_77 : decode cX1_undo 77 = .ok (.getfield 400, 3) := dk_180 1 144 (dk_at dksX1_undo_3 6 rfl rfl)
theorem dX1_undo_80 : decode cX1_undo 80 = .ok (.if_icmp .ge 49, 3) := dk_162 0 49 (dk_at dksX1_undo_3 9 rfl rfl)
theorem dX1_undo_83 : decode cX1_undo 83 = .ok (.aload_n 0, 1) := dk_42 (dk_at dksX1_undo_3 12 rfl rfl)
theorem dX1_undo_84 : decode cX1_undo 84 = .ok (.getfield 10, 3) := dk_180 0 10 (dk_at dksX1_undo_3 13 rfl rfl)
theorem dX1_undo_87 : decode cX1_undo 87 = .ok (.getfield 144, 3) := dk_180 0 144 (dk_at dksX1_undo_3 16 rfl rfl)
theorem dX1_undo_90 : decode cX1_undo 90 = .ok (.iload_n 3, 1) := dk_29 (dk_at dksX1_undo_3 19 rfl rfl)
theorem dX1_undo_91 : decode cX1_undo 91 = .ok (.invokevirtual 313, 3) := dk_182 1 57 (dk_at dksX1_undo_3 20 rfl rfl)
theorem dX1_undo_94 : decode cX1_undo 94 = .ok (.checkcast 147, 3) := dk_192 0 147 (dk_at dksX1_undo_4 0 rfl rfl)
theorem dX1_undo_97 : decode cX1_undo 97 = .ok (.iconst 0, 1) := dk_3 (dk_at dksX1_undo_4 3 rfl rfl)
theorem dX1_undo_98 : decode cX1_undo 98 = .ok (.aload_n 0, 1) := dk_42 (dk_at dksX1_undo_4 4 rfl rfl)
theorem dX1_undo_99 : decode cX1_undo 99 = .ok (.getfield 10, 3) := dk_180 0 10 (dk_at dksX1_undo_4 5 rfl rfl)
theorem dX1_undo_102 : decode cX1_undo 102 = .ok (.getfield 144, 3) := dk_180 0 144 (dk_at dksX1_undo_4 8 rfl rfl)
theorem dX1_undo_105 : decode cX1_undo 105 = .ok (.iload_n 3, 1) := dk_29 (dk_at dksX1_undo_4 11 rfl rfl)
theorem dX1_undo_106 : decode cX1_undo 106 = .ok (.invokevirtual 313, 3) := dk_182 1 57 (dk_at dksX1_undo_4 12 rfl rfl)
theorem dX1_undo_109 : decode cX1_undo 109 = .ok (.checkcast 147, 3) := dk_192 0 147 (dk_at dksX1_undo_4 15 rfl rfl)
theorem dX1_undo_112 : decode cX1_undo 112 = .ok (.getfield 325, 3) := dk_180 1 69 (dk_at dksX1_undo_4 18 rfl rfl)
theorem dX1_undo_115 : decode cX1_undo 115 = .ok (.iconst 1, 1) := dk_4 (dk_at dksX1_undo_4 21 rfl rfl)
theorem dX1_undo_116 : decode cX1_undo 116 = .ok (.isub, 1) := dk_100 (dk_at dksX1_undo_4 22 rfl rfl)
theorem dX1_undo_117 : decode cX1_undo 117 = .ok (.invokestatic 428, 3) := dk_184 1 172 (dk_at dksX1_undo_5 0 rfl rfl)
theorem dX1_undo_120 : decode cX1_undo 120 = .ok (.putfield 325, 3) := dk_181 1 69 (dk_at dksX1_undo_5 3 rfl rfl)
theorem dX1_undo_123 : decode cX1_undo 123 = .ok (.iinc 3 1, 3) := dk_132 3 1 (dk_at dksX1_undo_5 6 rfl rfl)
theorem dX1_undo_126 : decode cX1_undo 126 = .ok (.goto (-51), 3) := dk_167 255 205 (dk_at dksX1_undo_5 9 rfl rfl)
theorem dX1_undo_129 : decode cX1_undo 129 = .ok (.iload_n 1, 1) := dk_27 (dk_at dksX1_undo_5 12 rfl rfl)
theorem dX1_undo_130 : decode cX1_undo 130 = .ok (.ireturn, 1) := dk_172 (dk_at dksX1_undo_5 13 rfl rfl)
abbrev cX1_missed : ByteArray := prog_1_method_43_code
def yX1_missed : MethodName := ⟨RX1, "missed", "()I"⟩
def dkwX1_missed_1 : List UInt8 := [153, 0, 5, 27, 172, 132, 1, 1, 167, 255, 226, 2, 172]
abbrev dktX1_missed_1 : List UInt8 := dkwX1_missed_1 ++ []
def dkwX1_missed_0 : List UInt8 := [3, 60, 27, 42, 180, 0, 10, 180, 0, 144, 182, 0, 59, 162, 0, 22, 42, 180, 0, 10, 27, 182, 1, 134]
abbrev dktX1_missed_0 : List UInt8 := dkwX1_missed_0 ++ dktX1_missed_1
theorem dksX1_missed_0 : cX1_missed.data.toList.drop 0 = dktX1_missed_0 := by decide +kernel
theorem dksX1_missed_1 : cX1_missed.data.toList.drop 24 = dktX1_missed_1 := dk_seg dksX1_missed_0 24 rfl rfl
theorem dX1_missed_0 : decode cX1_missed 0 = .ok (.iconst 0, 1) := dk_3 (dk_at dksX1_missed_0 0 rfl rfl)
theorem dX1_missed_1 : decode cX1_missed 1 = .ok (.istore_n 1, 1) := dk_60 (dk_at dksX1_missed_0 1 rfl rfl)
theorem dX1_missed_2 : decode cX1_missed 2 = .ok (.iload_n 1, 1) := dk_27 (dk_at dksX1_missed_0 2 rfl rfl)
theorem dX1_missed_3 : decode cX1_missed 3 = .ok (.aload_n 0, 1) := dk_42 (dk_at dksX1_missed_0 3 rfl rfl)
theorem dX1_missed_4 : decode cX1_missed 4 = .ok (.getfield 10, 3) := dk_180 0 10 (dk_at dksX1_missed_0 4 rfl rfl)
theorem dX1_missed_7 : decode cX1_missed 7 = .ok (.getfield 144, 3) := dk_180 0 144 (dk_at dksX1_missed_0 7 rfl rfl)
theorem dX1_missed_10 : decode cX1_missed 10 = .ok (.invokevirtual 59, 3) := dk_182 0 59 (dk_at dksX1_missed_0 10 rfl rfl)
theorem dX1_missed_13 : decode cX1_missed 13 = .ok (.if_icmp .ge 22, 3) := dk_162 0 22 (dk_at dksX1_missed_0 13 rfl rfl)
theorem dX1_missed_16 : decode cX1_missed 16 = .ok (.aload_n 0, 1) := dk_42 (dk_at dksX1_missed_0 16 rfl rfl)
theorem dX1_missed_17 : decode cX1_missed 17 = .ok (.getfield 10, 3) := dk_180 0 10 (dk_at dksX1_missed_0 17 rfl rfl)
theorem dX1_missed_20 : decode cX1_missed 20 = .ok (.iload_n 1, 1) := dk_27 (dk_at dksX1_missed_0 20 rfl rfl)
theorem dX1_missed_21 : decode cX1_missed 21 = .ok (.invokevirtual 390, 3) := dk_182 1 134 (dk_at dksX1_missed_0 21 rfl rfl)
theorem dX1_missed_24 : decode cX1_missed 24 = .ok (.ifCond .eq 5, 3) := dk_153 0 5 (dk_at dksX1_missed_1 0 rfl rfl)
theorem dX1_missed_27 : decode cX1_missed 27 = .ok (.iload_n 1, 1) := dk_27 (dk_at dksX1_missed_1 3 rfl rfl)
theorem dX1_missed_28 : decode cX1_missed 28 = .ok (.ireturn, 1) := dk_172 (dk_at dksX1_missed_1 4 rfl rfl)
theorem dX1_missed_29 : decode cX1_missed 29 = .ok (.iinc 1 1, 3) := dk_132 1 1 (dk_at dksX1_missed_1 5 rfl rfl)
theorem dX1_missed_32 : decode cX1_missed 32 = .ok (.goto (-30), 3) := dk_167 255 226 (dk_at dksX1_missed_1 8 rfl rfl)
theorem dX1_missed_35 : decode cX1_missed 35 = .ok (.iconst (-1), 1) := dk_2 (dk_at dksX1_missed_1 11 rfl rfl)
theorem dX1_missed_36 : decode cX1_missed 36 = .ok (.ireturn, 1) := dk_172 (dk_at dksX1_missed_1 12 rfl rfl)
abbrev cX1_ways : ByteArray := prog_1_method_54_code
def yX1_ways : MethodName := ⟨RX1, "ways", "()J"⟩
def dkwX1_ways_2 : List UInt8 := [167, 255, 230, 132, 4, 1, 167, 255, 209, 31, 173]
abbrev dktX1_ways_2 : List UInt8 := dkwX1_ways_2 ++ []
def dkwX1_ways_1 : List UInt8 := [42, 21, 4, 182, 1, 223, 163, 0, 21, 132, 3, 1, 31, 29, 133, 105, 21, 5, 133, 109, 64, 132, 5, 1]
abbrev dktX1_ways_1 : List UInt8 := dkwX1_ways_1 ++ dktX1_ways_2
def dkwX1_ways_0 : List UInt8 := [10, 64, 3, 62, 3, 54, 4, 21, 4, 42, 180, 0, 10, 180, 0, 85, 162, 0, 41, 4, 54, 5, 21, 5]
abbrev dktX1_ways_0 : List UInt8 := dkwX1_ways_0 ++ dktX1_ways_1
theorem dksX1_ways_0 : cX1_ways.data.toList.drop 0 = dktX1_ways_0 := by decide +kernel
theorem dksX1_ways_1 : cX1_ways.data.toList.drop 24 = dktX1_ways_1 := dk_seg dksX1_ways_0 24 rfl rfl
theorem dksX1_ways_2 : cX1_ways.data.toList.drop 48 = dktX1_ways_2 := dk_seg dksX1_ways_1 24 rfl rfl
theorem dX1_ways_0 : decode cX1_ways 0 = .ok (.lconst 1, 1) := dk_10 (dk_at dksX1_ways_0 0 rfl rfl)
theorem dX1_ways_1 : decode cX1_ways 1 = .ok (.lstore_n 1, 1) := dk_64 (dk_at dksX1_ways_0 1 rfl rfl)
theorem dX1_ways_2 : decode cX1_ways 2 = .ok (.iconst 0, 1) := dk_3 (dk_at dksX1_ways_0 2 rfl rfl)
theorem dX1_ways_3 : decode cX1_ways 3 = .ok (.istore_n 3, 1) := dk_62 (dk_at dksX1_ways_0 3 rfl rfl)
theorem dX1_ways_4 : decode cX1_ways 4 = .ok (.iconst 0, 1) := dk_3 (dk_at dksX1_ways_0 4 rfl rfl)
theorem dX1_ways_5 : decode cX1_ways 5 = .ok (.istore 4, 2) := dk_54 4 (dk_at dksX1_ways_0 5 rfl rfl)
theorem dX1_ways_7 : decode cX1_ways 7 = .ok (.iload 4, 2) := dk_21 4 (dk_at dksX1_ways_0 7 rfl rfl)
theorem dX1_ways_9 : decode cX1_ways 9 = .ok (.aload_n 0, 1) := dk_42 (dk_at dksX1_ways_0 9 rfl rfl)
theorem dX1_ways_10 : decode cX1_ways 10 = .ok (.getfield 10, 3) := dk_180 0 10 (dk_at dksX1_ways_0 10 rfl rfl)
theorem dX1_ways_13 : decode cX1_ways 13 = .ok (.getfield 85, 3) := dk_180 0 85 (dk_at dksX1_ways_0 13 rfl rfl)
theorem dX1_ways_16 : decode cX1_ways 16 = .ok (.if_icmp .ge 41, 3) := dk_162 0 41 (dk_at dksX1_ways_0 16 rfl rfl)
theorem dX1_ways_19 : decode cX1_ways 19 = .ok (.iconst 1, 1) := dk_4 (dk_at dksX1_ways_0 19 rfl rfl)
theorem dX1_ways_20 : decode cX1_ways 20 = .ok (.istore 5, 2) := dk_54 5 (dk_at dksX1_ways_0 20 rfl rfl)
theorem dX1_ways_22 : decode cX1_ways 22 = .ok (.iload 5, 2) := dk_21 5 (dk_at dksX1_ways_0 22 rfl rfl)
theorem dX1_ways_24 : decode cX1_ways 24 = .ok (.aload_n 0, 1) := dk_42 (dk_at dksX1_ways_1 0 rfl rfl)
theorem dX1_ways_25 : decode cX1_ways 25 = .ok (.iload 4, 2) := dk_21 4 (dk_at dksX1_ways_1 1 rfl rfl)
theorem dX1_ways_27 : decode cX1_ways 27 = .ok (.invokevirtual 479, 3) := dk_182 1 223 (dk_at dksX1_ways_1 3 rfl rfl)
theorem dX1_ways_30 : decode cX1_ways 30 = .ok (.if_icmp .gt 21, 3) := dk_163 0 21 (dk_at dksX1_ways_1 6 rfl rfl)
theorem dX1_ways_33 : decode cX1_ways 33 = .ok (.iinc 3 1, 3) := dk_132 3 1 (dk_at dksX1_ways_1 9 rfl rfl)
theorem dX1_ways_36 : decode cX1_ways 36 = .ok (.lload_n 1, 1) := dk_31 (dk_at dksX1_ways_1 12 rfl rfl)
theorem dX1_ways_37 : decode cX1_ways 37 = .ok (.iload_n 3, 1) := dk_29 (dk_at dksX1_ways_1 13 rfl rfl)
theorem dX1_ways_38 : decode cX1_ways 38 = .ok (.i2l, 1) := dk_133 (dk_at dksX1_ways_1 14 rfl rfl)
theorem dX1_ways_39 : decode cX1_ways 39 = .ok (.lmul, 1) := dk_105 (dk_at dksX1_ways_1 15 rfl rfl)
theorem dX1_ways_40 : decode cX1_ways 40 = .ok (.iload 5, 2) := dk_21 5 (dk_at dksX1_ways_1 16 rfl rfl)
theorem dX1_ways_42 : decode cX1_ways 42 = .ok (.i2l, 1) := dk_133 (dk_at dksX1_ways_1 18 rfl rfl)
theorem dX1_ways_43 : decode cX1_ways 43 = .ok (.ldiv, 1) := dk_109 (dk_at dksX1_ways_1 19 rfl rfl)
theorem dX1_ways_44 : decode cX1_ways 44 = .ok (.lstore_n 1, 1) := dk_64 (dk_at dksX1_ways_1 20 rfl rfl)
theorem dX1_ways_45 : decode cX1_ways 45 = .ok (.iinc 5 1, 3) := dk_132 5 1 (dk_at dksX1_ways_1 21 rfl rfl)
theorem dX1_ways_48 : decode cX1_ways 48 = .ok (.goto (-26), 3) := dk_167 255 230 (dk_at dksX1_ways_2 0 rfl rfl)
theorem dX1_ways_51 : decode cX1_ways 51 = .ok (.iinc 4 1, 3) := dk_132 4 1 (dk_at dksX1_ways_2 3 rfl rfl)
theorem dX1_ways_54 : decode cX1_ways 54 = .ok (.goto (-47), 3) := dk_167 255 209 (dk_at dksX1_ways_2 6 rfl rfl)
theorem dX1_ways_57 : decode cX1_ways 57 = .ok (.lload_n 1, 1) := dk_31 (dk_at dksX1_ways_2 9 rfl rfl)
theorem dX1_ways_58 : decode cX1_ways 58 = .ok (.lreturn, 1) := dk_173 (dk_at dksX1_ways_2 10 rfl rfl)
abbrev cX1_lost : ByteArray := prog_1_method_51_code
def yX1_lost : MethodName := ⟨RX1, "lost", "(I)I"⟩
def dkwX1_lost_3 : List UInt8 := [167, 255, 190, 28, 172]
abbrev dktX1_lost_3 : List UInt8 := dkwX1_lost_3 ++ []
def dkwX1_lost_2 : List UInt8 := [29, 182, 1, 57, 192, 1, 121, 180, 1, 140, 153, 0, 7, 4, 167, 0, 4, 3, 96, 61, 132, 3, 1]
abbrev dktX1_lost_2 : List UInt8 := dkwX1_lost_2 ++ dktX1_lost_3
def dkwX1_lost_1 : List UInt8 := [180, 1, 118, 29, 182, 1, 57, 192, 1, 121, 180, 1, 143, 27, 160, 0, 27, 42, 180, 0, 10, 180, 1, 118]
abbrev dktX1_lost_1 : List UInt8 := dkwX1_lost_1 ++ dktX1_lost_2
def dkwX1_lost_0 : List UInt8 := [3, 61, 3, 62, 29, 42, 180, 0, 10, 180, 1, 118, 182, 0, 59, 162, 0, 58, 28, 42, 180, 0, 10]
abbrev dktX1_lost_0 : List UInt8 := dkwX1_lost_0 ++ dktX1_lost_1
theorem dksX1_lost_0 : cX1_lost.data.toList.drop 0 = dktX1_lost_0 := by decide +kernel
theorem dksX1_lost_1 : cX1_lost.data.toList.drop 23 = dktX1_lost_1 := dk_seg dksX1_lost_0 23 rfl rfl
theorem dksX1_lost_2 : cX1_lost.data.toList.drop 47 = dktX1_lost_2 := dk_seg dksX1_lost_1 24 rfl rfl
theorem dksX1_lost_3 : cX1_lost.data.toList.drop 70 = dktX1_lost_3 := dk_seg dksX1_lost_2 23 rfl rfl
theorem dX1_lost_0 : decode cX1_lost 0 = .ok (.iconst 0, 1) := dk_3 (dk_at dksX1_lost_0 0 rfl rfl)
theorem dX1_lost_1 : decode cX1_lost 1 = .ok (.istore_n 2, 1) := dk_61 (dk_at dksX1_lost_0 1 rfl rfl)
theorem dX1_lost_2 : decode cX1_lost 2 = .ok (.iconst 0, 1) := dk_3 (dk_at dksX1_lost_0 2 rfl rfl)
theorem dX1_lost_3 : decode cX1_lost 3 = .ok (.istore_n 3, 1) := dk_62 (dk_at dksX1_lost_0 3 rfl rfl)
theorem dX1_lost_4 : decode cX1_lost 4 = .ok (.iload_n 3, 1) := dk_29 (dk_at dksX1_lost_0 4 rfl rfl)
theorem dX1_lost_5 : decode cX1_lost 5 = .ok (.aload_n 0, 1) := dk_42 (dk_at dksX1_lost_0 5 rfl rfl)
theorem dX1_lost_6 : decode cX1_lost 6 = .ok (.getfield 10, 3) := dk_180 0 10 (dk_at dksX1_lost_0 6 rfl rfl)
theorem dX1_lost_9 : decode cX1_lost 9 = .ok (.getfield 374, 3) := dk_180 1 118 (dk_at dksX1_lost_0 9 rfl rfl)
theorem dX1_lost_12 : decode cX1_lost 12 = .ok (.invokevirtual 59, 3) := dk_182 0 59 (dk_at dksX1_lost_0 12 rfl rfl)
theorem dX1_lost_15 : decode cX1_lost 15 = .ok (.if_icmp .ge 58, 3) := dk_162 0 58 (dk_at dksX1_lost_0 15 rfl rfl)
theorem dX1_lost_18 : decode cX1_lost 18 = .ok (.iload_n 2, 1) := dk_28 (dk_at dksX1_lost_0 18 rfl rfl)
theorem dX1_lost_19 : decode cX1_lost 19 = .ok (.aload_n 0, 1) := dk_42 (dk_at dksX1_lost_0 19 rfl rfl)
theorem dX1_lost_20 : decode cX1_lost 20 = .ok (.getfield 10, 3) := dk_180 0 10 (dk_at dksX1_lost_0 20 rfl rfl)
theorem dX1_lost_23 : decode cX1_lost 23 = .ok (.getfield 374, 3) := dk_180 1 118 (dk_at dksX1_lost_1 0 rfl rfl)
theorem dX1_lost_26 : decode cX1_lost 26 = .ok (.iload_n 3, 1) := dk_29 (dk_at dksX1_lost_1 3 rfl rfl)
theorem dX1_lost_27 : decode cX1_lost 27 = .ok (.invokevirtual 313, 3) := dk_182 1 57 (dk_at dksX1_lost_1 4 rfl rfl)
theorem dX1_lost_30 : decode cX1_lost 30 = .ok (.checkcast 377, 3) := dk_192 1 121 (dk_at dksX1_lost_1 7 rfl rfl)
theorem dX1_lost_33 : decode cX1_lost 33 = .ok (.getfield 399, 3) := dk_180 1 143 (dk_at dksX1_lost_1 10 rfl rfl)
theorem dX1_lost_36 : decode cX1_lost 36 = .ok (.iload_n 1, 1) := dk_27 (dk_at dksX1_lost_1 13 rfl rfl)
theorem dX1_lost_37 : decode cX1_lost 37 = .ok (.if_icmp .ne 27, 3) := dk_160 0 27 (dk_at dksX1_lost_1 14 rfl rfl)
theorem dX1_lost_40 : decode cX1_lost 40 = .ok (.aload_n 0, 1) := dk_42 (dk_at dksX1_lost_1 17 rfl rfl)
theorem dX1_lost_41 : decode cX1_lost 41 = .ok (.getfield 10, 3) := dk_180 0 10 (dk_at dksX1_lost_1 18 rfl rfl)
theorem dX1_lost_44 : decode cX1_lost 44 = .ok (.getfield 374, 3) := dk_180 1 118 (dk_at dksX1_lost_1 21 rfl rfl)
theorem dX1_lost_47 : decode cX1_lost 47 = .ok (.iload_n 3, 1) := dk_29 (dk_at dksX1_lost_2 0 rfl rfl)
theorem dX1_lost_48 : decode cX1_lost 48 = .ok (.invokevirtual 313, 3) := dk_182 1 57 (dk_at dksX1_lost_2 1 rfl rfl)
theorem dX1_lost_51 : decode cX1_lost 51 = .ok (.checkcast 377, 3) := dk_192 1 121 (dk_at dksX1_lost_2 4 rfl rfl)
theorem dX1_lost_54 : decode cX1_lost 54 = .ok (.getfield 396, 3) := dk_180 1 140 (dk_at dksX1_lost_2 7 rfl rfl)
theorem dX1_lost_57 : decode cX1_lost 57 = .ok (.ifCond .eq 7, 3) := dk_153 0 7 (dk_at dksX1_lost_2 10 rfl rfl)
theorem dX1_lost_60 : decode cX1_lost 60 = .ok (.iconst 1, 1) := dk_4 (dk_at dksX1_lost_2 13 rfl rfl)
theorem dX1_lost_61 : decode cX1_lost 61 = .ok (.goto 4, 3) := dk_167 0 4 (dk_at dksX1_lost_2 14 rfl rfl)
theorem dX1_lost_64 : decode cX1_lost 64 = .ok (.iconst 0, 1) := dk_3 (dk_at dksX1_lost_2 17 rfl rfl)
theorem dX1_lost_65 : decode cX1_lost 65 = .ok (.iadd, 1) := dk_96 (dk_at dksX1_lost_2 18 rfl rfl)
theorem dX1_lost_66 : decode cX1_lost 66 = .ok (.istore_n 2, 1) := dk_61 (dk_at dksX1_lost_2 19 rfl rfl)
theorem dX1_lost_67 : decode cX1_lost 67 = .ok (.iinc 3 1, 3) := dk_132 3 1 (dk_at dksX1_lost_2 20 rfl rfl)
theorem dX1_lost_70 : decode cX1_lost 70 = .ok (.goto (-66), 3) := dk_167 255 190 (dk_at dksX1_lost_3 0 rfl rfl)
theorem dX1_lost_73 : decode cX1_lost 73 = .ok (.iload_n 2, 1) := dk_28 (dk_at dksX1_lost_3 3 rfl rfl)
theorem dX1_lost_74 : decode cX1_lost 74 = .ok (.ireturn, 1) := dk_172 (dk_at dksX1_lost_3 4 rfl rfl)
abbrev cX1_seed : ByteArray := prog_1_method_57_code
def yX1_seed : MethodName := ⟨RX1, "seed", "(I)I"⟩
def dkwX1_seed_0 : List UInt8 := [42, 180, 0, 10, 180, 1, 226, 61, 42, 180, 0, 10, 27, 181, 1, 226, 28, 172]
abbrev dktX1_seed_0 : List UInt8 := dkwX1_seed_0 ++ []
theorem dksX1_seed_0 : cX1_seed.data.toList.drop 0 = dktX1_seed_0 := by decide +kernel
theorem dX1_seed_0 : decode cX1_seed 0 = .ok (.aload_n 0, 1) := dk_42 (dk_at dksX1_seed_0 0 rfl rfl)
theorem dX1_seed_1 : decode cX1_seed 1 = .ok (.getfield 10, 3) := dk_180 0 10 (dk_at dksX1_seed_0 1 rfl rfl)
theorem dX1_seed_4 : decode cX1_seed 4 = .ok (.getfield 482, 3) := dk_180 1 226 (dk_at dksX1_seed_0 4 rfl rfl)
theorem dX1_seed_7 : decode cX1_seed 7 = .ok (.istore_n 2, 1) := dk_61 (dk_at dksX1_seed_0 7 rfl rfl)
theorem dX1_seed_8 : decode cX1_seed 8 = .ok (.aload_n 0, 1) := dk_42 (dk_at dksX1_seed_0 8 rfl rfl)
theorem dX1_seed_9 : decode cX1_seed 9 = .ok (.getfield 10, 3) := dk_180 0 10 (dk_at dksX1_seed_0 9 rfl rfl)
theorem dX1_seed_12 : decode cX1_seed 12 = .ok (.iload_n 1, 1) := dk_27 (dk_at dksX1_seed_0 12 rfl rfl)
theorem dX1_seed_13 : decode cX1_seed 13 = .ok (.putfield 482, 3) := dk_181 1 226 (dk_at dksX1_seed_0 13 rfl rfl)
theorem dX1_seed_16 : decode cX1_seed 16 = .ok (.iload_n 2, 1) := dk_28 (dk_at dksX1_seed_0 16 rfl rfl)
theorem dX1_seed_17 : decode cX1_seed 17 = .ok (.ireturn, 1) := dk_172 (dk_at dksX1_seed_0 17 rfl rfl)
abbrev cX1_image : ByteArray := prog_1_method_58_code
def yX1_image : MethodName := ⟨RX1, "image", "()V"⟩
def dkwX1_image_0 : List UInt8 := [42, 42, 180, 0, 10, 182, 0, 185, 181, 1, 236, 177]
abbrev dktX1_image_0 : List UInt8 := dkwX1_image_0 ++ []
theorem dksX1_image_0 : cX1_image.data.toList.drop 0 = dktX1_image_0 := by decide +kernel
theorem dX1_image_0 : decode cX1_image 0 = .ok (.aload_n 0, 1) := dk_42 (dk_at dksX1_image_0 0 rfl rfl)
theorem dX1_image_1 : decode cX1_image 1 = .ok (.aload_n 0, 1) := dk_42 (dk_at dksX1_image_0 1 rfl rfl)
theorem dX1_image_2 : decode cX1_image 2 = .ok (.getfield 10, 3) := dk_180 0 10 (dk_at dksX1_image_0 2 rfl rfl)
theorem dX1_image_5 : decode cX1_image 5 = .ok (.invokevirtual 185, 3) := dk_182 0 185 (dk_at dksX1_image_0 5 rfl rfl)
theorem dX1_image_8 : decode cX1_image 8 = .ok (.putfield 492, 3) := dk_181 1 236 (dk_at dksX1_image_0 8 rfl rfl)
theorem dX1_image_11 : decode cX1_image 11 = .ok (.return_, 1) := dk_177 (dk_at dksX1_image_0 11 rfl rfl)
abbrev cX1_back : ByteArray := prog_1_method_59_code
def yX1_back : MethodName := ⟨RX1, "back", "()Z"⟩
def dkwX1_back_0 : List UInt8 := [42, 180, 1, 236, 199, 0, 5, 3, 172, 42, 42, 180, 1, 236, 182, 0, 185, 181, 0, 10, 4, 172]
abbrev dktX1_back_0 : List UInt8 := dkwX1_back_0 ++ []
theorem dksX1_back_0 : cX1_back.data.toList.drop 0 = dktX1_back_0 := by decide +kernel
theorem dX1_back_0 : decode cX1_back 0 = .ok (.aload_n 0, 1) := dk_42 (dk_at dksX1_back_0 0 rfl rfl)
theorem dX1_back_1 : decode cX1_back 1 = .ok (.getfield 492, 3) := dk_180 1 236 (dk_at dksX1_back_0 1 rfl rfl)
theorem dX1_back_4 : decode cX1_back 4 = .ok (.ifnonnull 5, 3) := dk_199 0 5 (dk_at dksX1_back_0 4 rfl rfl)
theorem dX1_back_7 : decode cX1_back 7 = .ok (.iconst 0, 1) := dk_3 (dk_at dksX1_back_0 7 rfl rfl)
theorem dX1_back_8 : decode cX1_back 8 = .ok (.ireturn, 1) := dk_172 (dk_at dksX1_back_0 8 rfl rfl)
theorem dX1_back_9 : decode cX1_back 9 = .ok (.aload_n 0, 1) := dk_42 (dk_at dksX1_back_0 9 rfl rfl)
theorem dX1_back_10 : decode cX1_back 10 = .ok (.aload_n 0, 1) := dk_42 (dk_at dksX1_back_0 10 rfl rfl)
theorem dX1_back_11 : decode cX1_back 11 = .ok (.getfield 492, 3) := dk_180 1 236 (dk_at dksX1_back_0 11 rfl rfl)
theorem dX1_back_14 : decode cX1_back 14 = .ok (.invokevirtual 185, 3) := dk_182 0 185 (dk_at dksX1_back_0 14 rfl rfl)
theorem dX1_back_17 : decode cX1_back 17 = .ok (.putfield 10, 3) := dk_181 0 10 (dk_at dksX1_back_0 17 rfl rfl)
theorem dX1_back_20 : decode cX1_back 20 = .ok (.iconst 1, 1) := dk_4 (dk_at dksX1_back_0 20 rfl rfl)
theorem dX1_back_21 : decode cX1_back 21 = .ok (.ireturn, 1) := dk_172 (dk_at dksX1_back_0 21 rfl rfl)
abbrev cX1_count : ByteArray := prog_1_method_61_code
def yX1_count : MethodName := ⟨RX1, "count", "(I)I"⟩
def dkwX1_count_6 : List UInt8 := [3, 182, 1, 239, 172, 2, 172]
abbrev dktX1_count_6 : List UInt8 := dkwX1_count_6 ++ []
def dkwX1_count_5 : List UInt8 := [180, 0, 152, 172, 44, 180, 0, 154, 172, 44, 180, 0, 101, 182, 0, 59, 172, 42, 4, 182, 1, 239, 172, 42]
abbrev dktX1_count_5 : List UInt8 := dkwX1_count_5 ++ dktX1_count_6
def dkwX1_count_4 : List UInt8 := [182, 0, 59, 172, 44, 180, 1, 118, 182, 0, 59, 172, 44, 182, 1, 212, 172, 44, 180, 1, 75, 172, 44]
abbrev dktX1_count_4 : List UInt8 := dkwX1_count_4 ++ dktX1_count_5
def dkwX1_count_3 : List UInt8 := [180, 0, 197, 172, 44, 180, 1, 49, 199, 0, 7, 2, 167, 0, 13, 44, 180, 1, 49, 180, 1, 38]
abbrev dktX1_count_3 : List UInt8 := dkwX1_count_3 ++ dktX1_count_4
def dkwX1_count_2 : List UInt8 := [44, 180, 0, 85, 172, 44, 180, 0, 55, 182, 0, 59, 172, 44, 180, 0, 144, 182, 0, 59, 172, 44]
abbrev dktX1_count_2 : List UInt8 := dkwX1_count_2 ++ dktX1_count_3
def dkwX1_count_1 : List UInt8 := [170, 0, 0, 0, 0, 162, 0, 0, 0, 0, 0, 0, 0, 12, 0, 0, 0, 66, 0, 0, 0, 71, 0, 0, 0, 79, 0, 0, 0, 87, 0, 0, 0, 92, 0, 0, 0, 114, 0, 0, 0, 122, 0, 0, 0, 127, 0, 0, 0, 132, 0, 0, 0, 137, 0, 0, 0, 142, 0, 0, 0, 150, 0, 0, 0, 156]
abbrev dktX1_count_1 : List UInt8 := dkwX1_count_1 ++ dktX1_count_2
def dkwX1_count_0 : List UInt8 := [42, 180, 0, 10, 77, 27]
abbrev dktX1_count_0 : List UInt8 := dkwX1_count_0 ++ dktX1_count_1
theorem dksX1_count_0 : cX1_count.data.toList.drop 0 = dktX1_count_0 := by decide +kernel
theorem dksX1_count_1 : cX1_count.data.toList.drop 6 = dktX1_count_1 := dk_seg dksX1_count_0 6 rfl rfl
theorem dksX1_count_2 : cX1_count.data.toList.drop 72 = dktX1_count_2 := dk_seg dksX1_count_1 66 rfl rfl
theorem dksX1_count_3 : cX1_count.data.toList.drop 94 = dktX1_count_3 := dk_seg dksX1_count_2 22 rfl rfl
theorem dksX1_count_4 : cX1_count.data.toList.drop 116 = dktX1_count_4 := dk_seg dksX1_count_3 22 rfl rfl
theorem dksX1_count_5 : cX1_count.data.toList.drop 139 = dktX1_count_5 := dk_seg dksX1_count_4 23 rfl rfl
theorem dksX1_count_6 : cX1_count.data.toList.drop 163 = dktX1_count_6 := dk_seg dksX1_count_5 24 rfl rfl
theorem dX1_count_0 : decode cX1_count 0 = .ok (.aload_n 0, 1) := dk_42 (dk_at dksX1_count_0 0 rfl rfl)
theorem dX1_count_1 : decode cX1_count 1 = .ok (.getfield 10, 3) := dk_180 0 10 (dk_at dksX1_count_0 1 rfl rfl)
theorem dX1_count_4 : decode cX1_count 4 = .ok (.astore_n 2, 1) := dk_77 (dk_at dksX1_count_0 4 rfl rfl)
theorem dX1_count_5 : decode cX1_count 5 = .ok (.iload_n 1, 1) := dk_27 (dk_at dksX1_count_0 5 rfl rfl)
theorem dX1_count_6 : decode cX1_count 6 = .ok (.tableswitch 162 0 12 #[66, 71, 79, 87, 92, 114, 122, 127, 132, 137, 142, 150, 156], 66) := by decide +kernel
theorem dX1_count_72 : decode cX1_count 72 = .ok (.aload_n 2, 1) := dk_44 (dk_at dksX1_count_2 0 rfl rfl)
theorem dX1_count_73 : decode cX1_count 73 = .ok (.getfield 85, 3) := dk_180 0 85 (dk_at dksX1_count_2 1 rfl rfl)
theorem dX1_count_76 : decode cX1_count 76 = .ok (.ireturn, 1) := dk_172 (dk_at dksX1_count_2 4 rfl rfl)
theorem dX1_count_77 : decode cX1_count 77 = .ok (.aload_n 2, 1) := dk_44 (dk_at dksX1_count_2 5 rfl rfl)
theorem dX1_count_78 : decode cX1_count 78 = .ok (.getfield 55, 3) := dk_180 0 55 (dk_at dksX1_count_2 6 rfl rfl)
theorem dX1_count_81 : decode cX1_count 81 = .ok (.invokevirtual 59, 3) := dk_182 0 59 (dk_at dksX1_count_2 9 rfl rfl)
theorem dX1_count_84 : decode cX1_count 84 = .ok (.ireturn, 1) := dk_172 (dk_at dksX1_count_2 12 rfl rfl)
theorem dX1_count_85 : decode cX1_count 85 = .ok (.aload_n 2, 1) := dk_44 (dk_at dksX1_count_2 13 rfl rfl)
theorem dX1_count_86 : decode cX1_count 86 = .ok (.getfield 144, 3) := dk_180 0 144 (dk_at dksX1_count_2 14 rfl rfl)
theorem dX1_count_89 : decode cX1_count 89 = .ok (.invokevirtual 59, 3) := dk_182 0 59 (dk_at dksX1_count_2 17 rfl rfl)
theorem dX1_count_92 : decode cX1_count 92 = .ok (.ireturn, 1) := dk_172 (dk_at dksX1_count_2 20 rfl rfl)
theorem dX1_count_93 : decode cX1_count 93 = .ok (.aload_n 2, 1) := dk_44 (dk_at dksX1_count_2 21 rfl rfl)
theorem dX1_count_94 : decode cX1_count 94 = .ok (.getfield 197, 3) := dk_180 0 197 (dk_at dksX1_count_3 0 rfl rfl)
theorem dX1_count_97 : decode cX1_count 97 = .ok (.ireturn, 1) := dk_172 (dk_at dksX1_count_3 3 rfl rfl)
theorem dX1_count_98 : decode cX1_count 98 = .ok (.aload_n 2, 1) := dk_44 (dk_at dksX1_count_3 4 rfl rfl)
theorem dX1_count_99 : decode cX1_count 99 = .ok (.getfield 305, 3) := dk_180 1 49 (dk_at dksX1_count_3 5 rfl rfl)
theorem dX1_count_102 : decode cX1_count 102 = .ok (.ifnonnull 7, 3) := dk_199 0 7 (dk_at dksX1_count_3 8 rfl rfl)
theorem dX1_count_105 : decode cX1_count 105 = .ok (.iconst (-1), 1) := dk_2 (dk_at dksX1_count_3 11 rfl rfl)
theorem dX1_count_106 : decode cX1_count 106 = .ok (.goto 13, 3) := dk_167 0 13 (dk_at dksX1_count_3 12 rfl rfl)
theorem dX1_count_109 : decode cX1_count 109 = .ok (.aload_n 2, 1) := dk_44 (dk_at dksX1_count_3 15 rfl rfl)
theorem dX1_count_110 : decode cX1_count 110 = .ok (.getfield 305, 3) := dk_180 1 49 (dk_at dksX1_count_3 16 rfl rfl)
theorem dX1_count_113 : decode cX1_count 113 = .ok (.getfield 294, 3) := dk_180 1 38 (dk_at dksX1_count_3 19 rfl rfl)
theorem dX1_count_116 : decode cX1_count 116 = .ok (.invokevirtual 59, 3) := dk_182 0 59 (dk_at dksX1_count_4 0 rfl rfl)
theorem dX1_count_119 : decode cX1_count 119 = .ok (.ireturn, 1) := dk_172 (dk_at dksX1_count_4 3 rfl rfl)
theorem dX1_count_120 : decode cX1_count 120 = .ok (.aload_n 2, 1) := dk_44 (dk_at dksX1_count_4 4 rfl rfl)
theorem dX1_count_121 : decode cX1_count 121 = .ok (.getfield 374, 3) := dk_180 1 118 (dk_at dksX1_count_4 5 rfl rfl)
theorem dX1_count_124 : decode cX1_count 124 = .ok (.invokevirtual 59, 3) := dk_182 0 59 (dk_at dksX1_count_4 8 rfl rfl)
theorem dX1_count_127 : decode cX1_count 127 = .ok (.ireturn, 1) := dk_172 (dk_at dksX1_count_4 11 rfl rfl)
theorem dX1_count_128 : decode cX1_count 128 = .ok (.aload_n 2, 1) := dk_44 (dk_at dksX1_count_4 12 rfl rfl)
theorem dX1_count_129 : decode cX1_count 129 = .ok (.invokevirtual 468, 3) := dk_182 1 212 (dk_at dksX1_count_4 13 rfl rfl)
theorem dX1_count_132 : decode cX1_count 132 = .ok (.ireturn, 1) := dk_172 (dk_at dksX1_count_4 16 rfl rfl)
theorem dX1_count_133 : decode cX1_count 133 = .ok (.aload_n 2, 1) := dk_44 (dk_at dksX1_count_4 17 rfl rfl)
theorem dX1_count_134 : decode cX1_count 134 = .ok (.getfield 331, 3) := dk_180 1 75 (dk_at dksX1_count_4 18 rfl rfl)
theorem dX1_count_137 : decode cX1_count 137 = .ok (.ireturn, 1) := dk_172 (dk_at dksX1_count_4 21 rfl rfl)
theorem dX1_count_138 : decode cX1_count 138 = .ok (.aload_n 2, 1) := dk_44 (dk_at dksX1_count_4 22 rfl rfl)
theorem dX1_count_139 : decode cX1_count 139 = .ok (.getfield 152, 3) := dk_180 0 152 (dk_at dksX1_count_5 0 rfl rfl)
theorem dX1_count_142 : decode cX1_count 142 = .ok (.ireturn, 1) := dk_172 (dk_at dksX1_count_5 3 rfl rfl)
theorem dX1_count_143 : decode cX1_count 143 = .ok (.aload_n 2, 1) := dk_44 (dk_at dksX1_count_5 4 rfl rfl)
theorem dX1_count_144 : decode cX1_count 144 = .ok (.getfield 154, 3) := dk_180 0 154 (dk_at dksX1_count_5 5 rfl rfl)
theorem dX1_count_147 : decode cX1_count 147 = .ok (.ireturn, 1) := dk_172 (dk_at dksX1_count_5 8 rfl rfl)
theorem dX1_count_148 : decode cX1_count 148 = .ok (.aload_n 2, 1) := dk_44 (dk_at dksX1_count_5 9 rfl rfl)
theorem dX1_count_149 : decode cX1_count 149 = .ok (.getfield 101, 3) := dk_180 0 101 (dk_at dksX1_count_5 10 rfl rfl)
theorem dX1_count_152 : decode cX1_count 152 = .ok (.invokevirtual 59, 3) := dk_182 0 59 (dk_at dksX1_count_5 13 rfl rfl)
theorem dX1_count_155 : decode cX1_count 155 = .ok (.ireturn, 1) := dk_172 (dk_at dksX1_count_5 16 rfl rfl)
theorem dX1_count_156 : decode cX1_count 156 = .ok (.aload_n 0, 1) := dk_42 (dk_at dksX1_count_5 17 rfl rfl)
theorem dX1_count_157 : decode cX1_count 157 = .ok (.iconst 1, 1) := dk_4 (dk_at dksX1_count_5 18 rfl rfl)
theorem dX1_count_158 : decode cX1_count 158 = .ok (.invokevirtual 495, 3) := dk_182 1 239 (dk_at dksX1_count_5 19 rfl rfl)
theorem dX1_count_161 : decode cX1_count 161 = .ok (.ireturn, 1) := dk_172 (dk_at dksX1_count_5 22 rfl rfl)
theorem dX1_count_162 : decode cX1_count 162 = .ok (.aload_n 0, 1) := dk_42 (dk_at dksX1_count_5 23 rfl rfl)
theorem dX1_count_163 : decode cX1_count 163 = .ok (.iconst 0, 1) := dk_3 (dk_at dksX1_count_6 0 rfl rfl)
theorem dX1_count_164 : decode cX1_count 164 = .ok (.invokevirtual 495, 3) := dk_182 1 239 (dk_at dksX1_count_6 1 rfl rfl)
theorem dX1_count_167 : decode cX1_count 167 = .ok (.ireturn, 1) := dk_172 (dk_at dksX1_count_6 4 rfl rfl)
theorem dX1_count_168 : decode cX1_count 168 = .ok (.iconst (-1), 1) := dk_2 (dk_at dksX1_count_6 5 rfl rfl)
theorem dX1_count_169 : decode cX1_count 169 = .ok (.ireturn, 1) := dk_172 (dk_at dksX1_count_6 6 rfl rfl)
abbrev cX1_sum : ByteArray := prog_1_method_60_code
def yX1_sum : MethodName := ⟨RX1, "sum", "(Z)I"⟩
def dkwX1_sum_3 : List UInt8 := [192, 1, 121, 180, 1, 137, 96, 61, 132, 3, 1, 167, 255, 215, 28, 172]
abbrev dktX1_sum_3 : List UInt8 := dkwX1_sum_3 ++ []
def dkwX1_sum_2 : List UInt8 := [182, 0, 59, 162, 0, 33, 27, 154, 0, 29, 28, 42, 180, 0, 10, 180, 1, 118, 29, 182, 1, 57]
abbrev dktX1_sum_2 : List UInt8 := dkwX1_sum_2 ++ dktX1_sum_3
def dkwX1_sum_1 : List UInt8 := [180, 0, 137, 29, 46, 96, 61, 132, 3, 1, 167, 255, 226, 3, 62, 29, 42, 180, 0, 10, 180, 1, 118]
abbrev dktX1_sum_1 : List UInt8 := dkwX1_sum_1 ++ dktX1_sum_2
def dkwX1_sum_0 : List UInt8 := [3, 61, 3, 62, 29, 42, 180, 0, 10, 180, 0, 85, 162, 0, 25, 27, 153, 0, 21, 28, 42, 180, 0, 10]
abbrev dktX1_sum_0 : List UInt8 := dkwX1_sum_0 ++ dktX1_sum_1
theorem dksX1_sum_0 : cX1_sum.data.toList.drop 0 = dktX1_sum_0 := by decide +kernel
theorem dksX1_sum_1 : cX1_sum.data.toList.drop 24 = dktX1_sum_1 := dk_seg dksX1_sum_0 24 rfl rfl
theorem dksX1_sum_2 : cX1_sum.data.toList.drop 47 = dktX1_sum_2 := dk_seg dksX1_sum_1 23 rfl rfl
theorem dksX1_sum_3 : cX1_sum.data.toList.drop 69 = dktX1_sum_3 := dk_seg dksX1_sum_2 22 rfl rfl
theorem dX1_sum_0 : decode cX1_sum 0 = .ok (.iconst 0, 1) := dk_3 (dk_at dksX1_sum_0 0 rfl rfl)
theorem dX1_sum_1 : decode cX1_sum 1 = .ok (.istore_n 2, 1) := dk_61 (dk_at dksX1_sum_0 1 rfl rfl)
theorem dX1_sum_2 : decode cX1_sum 2 = .ok (.iconst 0, 1) := dk_3 (dk_at dksX1_sum_0 2 rfl rfl)
theorem dX1_sum_3 : decode cX1_sum 3 = .ok (.istore_n 3, 1) := dk_62 (dk_at dksX1_sum_0 3 rfl rfl)
theorem dX1_sum_4 : decode cX1_sum 4 = .ok (.iload_n 3, 1) := dk_29 (dk_at dksX1_sum_0 4 rfl rfl)
theorem dX1_sum_5 : decode cX1_sum 5 = .ok (.aload_n 0, 1) := dk_42 (dk_at dksX1_sum_0 5 rfl rfl)
theorem dX1_sum_6 : decode cX1_sum 6 = .ok (.getfield 10, 3) := dk_180 0 10 (dk_at dksX1_sum_0 6 rfl rfl)
theorem dX1_sum_9 : decode cX1_sum 9 = .ok (.getfield 85, 3) := dk_180 0 85 (dk_at dksX1_sum_0 9 rfl rfl)
theorem dX1_sum_12 : decode cX1_sum 12 = .ok (.if_icmp .ge 25, 3) := dk_162 0 25 (dk_at dksX1_sum_0 12 rfl rfl)
theorem dX1_sum_15 : decode cX1_sum 15 = .ok (.iload_n 1, 1) := dk_27 (dk_at dksX1_sum_0 15 rfl rfl)
theorem dX1_sum_16 : decode cX1_sum 16 = .ok (.ifCond .eq 21, 3) := dk_153 0 21 (dk_at dksX1_sum_0 16 rfl rfl)
theorem dX1_sum_19 : decode cX1_sum 19 = .ok (.iload_n 2, 1) := dk_28 (dk_at dksX1_sum_0 19 rfl rfl)
theorem dX1_sum_20 : decode cX1_sum 20 = .ok (.aload_n 0, 1) := dk_42 (dk_at dksX1_sum_0 20 rfl rfl)
theorem dX1_sum_21 : decode cX1_sum 21 = .ok (.getfield 10, 3) := dk_180 0 10 (dk_at dksX1_sum_0 21 rfl rfl)
theorem dX1_sum_24 : decode cX1_sum 24 = .ok (.getfield 137, 3) := dk_180 0 137 (dk_at dksX1_sum_1 0 rfl rfl)
theorem dX1_sum_27 : decode cX1_sum 27 = .ok (.iload_n 3, 1) := dk_29 (dk_at dksX1_sum_1 3 rfl rfl)
theorem dX1_sum_28 : decode cX1_sum 28 = .ok (.iaload, 1) := dk_46 (dk_at dksX1_sum_1 4 rfl rfl)
theorem dX1_sum_29 : decode cX1_sum 29 = .ok (.iadd, 1) := dk_96 (dk_at dksX1_sum_1 5 rfl rfl)
theorem dX1_sum_30 : decode cX1_sum 30 = .ok (.istore_n 2, 1) := dk_61 (dk_at dksX1_sum_1 6 rfl rfl)
theorem dX1_sum_31 : decode cX1_sum 31 = .ok (.iinc 3 1, 3) := dk_132 3 1 (dk_at dksX1_sum_1 7 rfl rfl)
theorem dX1_sum_34 : decode cX1_sum 34 = .ok (.goto (-30), 3) := dk_167 255 226 (dk_at dksX1_sum_1 10 rfl rfl)
theorem dX1_sum_37 : decode cX1_sum 37 = .ok (.iconst 0, 1) := dk_3 (dk_at dksX1_sum_1 13 rfl rfl)
theorem dX1_sum_38 : decode cX1_sum 38 = .ok (.istore_n 3, 1) := dk_62 (dk_at dksX1_sum_1 14 rfl rfl)
theorem dX1_sum_39 : decode cX1_sum 39 = .ok (.iload_n 3, 1) := dk_29 (dk_at dksX1_sum_1 15 rfl rfl)
theorem dX1_sum_40 : decode cX1_sum 40 = .ok (.aload_n 0, 1) := dk_42 (dk_at dksX1_sum_1 16 rfl rfl)
theorem dX1_sum_41 : decode cX1_sum 41 = .ok (.getfield 10, 3) := dk_180 0 10 (dk_at dksX1_sum_1 17 rfl rfl)
theorem dX1_sum_44 : decode cX1_sum 44 = .ok (.getfield 374, 3) := dk_180 1 118 (dk_at dksX1_sum_1 20 rfl rfl)
theorem dX1_sum_47 : decode cX1_sum 47 = .ok (.invokevirtual 59, 3) := dk_182 0 59 (dk_at dksX1_sum_2 0 rfl rfl)
theorem dX1_sum_50 : decode cX1_sum 50 = .ok (.if_icmp .ge 33, 3) := dk_162 0 33 (dk_at dksX1_sum_2 3 rfl rfl)
theorem dX1_sum_53 : decode cX1_sum 53 = .ok (.iload_n 1, 1) := dk_27 (dk_at dksX1_sum_2 6 rfl rfl)
theorem dX1_sum_54 : decode cX1_sum 54 = .ok (.ifCond .ne 29, 3) := dk_154 0 29 (dk_at dksX1_sum_2 7 rfl rfl)
theorem dX1_sum_57 : decode cX1_sum 57 = .ok (.iload_n 2, 1) := dk_28 (dk_at dksX1_sum_2 10 rfl rfl)
theorem dX1_sum_58 : decode cX1_sum 58 = .ok (.aload_n 0, 1) := dk_42 (dk_at dksX1_sum_2 11 rfl rfl)
theorem dX1_sum_59 : decode cX1_sum 59 = .ok (.getfield 10, 3) := dk_180 0 10 (dk_at dksX1_sum_2 12 rfl rfl)
theorem dX1_sum_62 : decode cX1_sum 62 = .ok (.getfield 374, 3) := dk_180 1 118 (dk_at dksX1_sum_2 15 rfl rfl)
theorem dX1_sum_65 : decode cX1_sum 65 = .ok (.iload_n 3, 1) := dk_29 (dk_at dksX1_sum_2 18 rfl rfl)
theorem dX1_sum_66 : decode cX1_sum 66 = .ok (.invokevirtual 313, 3) := dk_182 1 57 (dk_at dksX1_sum_2 19 rfl rfl)
theorem dX1_sum_69 : decode cX1_sum 69 = .ok (.checkcast 377, 3) := dk_192 1 121 (dk_at dksX1_sum_3 0 rfl rfl)
theorem dX1_sum_72 : decode cX1_sum 72 = .ok (.getfield 393, 3) := dk_180 1 137 (dk_at dksX1_sum_3 3 rfl rfl)
theorem dX1_sum_75 : decode cX1_sum 75 = .ok (.iadd, 1) := dk_96 (dk_at dksX1_sum_3 6 rfl rfl)
theorem dX1_sum_76 : decode cX1_sum 76 = .ok (.istore_n 2, 1) := dk_61 (dk_at dksX1_sum_3 7 rfl rfl)
theorem dX1_sum_77 : decode cX1_sum 77 = .ok (.iinc 3 1, 3) := dk_132 3 1 (dk_at dksX1_sum_3 8 rfl rfl)
theorem dX1_sum_80 : decode cX1_sum 80 = .ok (.goto (-41), 3) := dk_167 255 215 (dk_at dksX1_sum_3 11 rfl rfl)
theorem dX1_sum_83 : decode cX1_sum 83 = .ok (.iload_n 2, 1) := dk_28 (dk_at dksX1_sum_3 14 rfl rfl)
theorem dX1_sum_84 : decode cX1_sum 84 = .ok (.ireturn, 1) := dk_172 (dk_at dksX1_sum_3 15 rfl rfl)
abbrev cX1_people : ByteArray := prog_1_method_13_code
def yX1_people : MethodName := ⟨RX1, "people", "()I"⟩
def dkwX1_people_3 : List UInt8 := [180, 0, 10, 180, 0, 197, 172]
abbrev dktX1_people_3 : List UInt8 := dkwX1_people_3 ++ []
def dkwX1_people_2 : List UInt8 := [187, 0, 200, 89, 183, 0, 202, 191, 43, 89, 180, 0, 197, 4, 96, 181, 0, 197, 42, 43, 181, 0, 10, 42]
abbrev dktX1_people_2 : List UInt8 := dkwX1_people_2 ++ dktX1_people_3
def dkwX1_people_1 : List UInt8 := [2, 181, 0, 51, 167, 0, 8, 77, 42, 182, 0, 194, 42, 180, 0, 10, 180, 0, 197, 16, 10, 160, 0, 11]
abbrev dktX1_people_1 : List UInt8 := dkwX1_people_1 ++ dktX1_people_2
def dkwX1_people_0 : List UInt8 := [42, 180, 0, 19, 182, 0, 182, 42, 180, 0, 10, 182, 0, 185, 76, 42, 43, 182, 0, 189, 42, 180, 0, 19]
abbrev dktX1_people_0 : List UInt8 := dkwX1_people_0 ++ dktX1_people_1
theorem dksX1_people_0 : cX1_people.data.toList.drop 0 = dktX1_people_0 := by decide +kernel
theorem dksX1_people_1 : cX1_people.data.toList.drop 24 = dktX1_people_1 := dk_seg dksX1_people_0 24 rfl rfl
theorem dksX1_people_2 : cX1_people.data.toList.drop 48 = dktX1_people_2 := dk_seg dksX1_people_1 24 rfl rfl
theorem dksX1_people_3 : cX1_people.data.toList.drop 72 = dktX1_people_3 := dk_seg dksX1_people_2 24 rfl rfl
theorem dX1_people_0 : decode cX1_people 0 = .ok (.aload_n 0, 1) := dk_42 (dk_at dksX1_people_0 0 rfl rfl)
theorem dX1_people_1 : decode cX1_people 1 = .ok (.getfield 19, 3) := dk_180 0 19 (dk_at dksX1_people_0 1 rfl rfl)
theorem dX1_people_4 : decode cX1_people 4 = .ok (.invokevirtual 182, 3) := dk_182 0 182 (dk_at dksX1_people_0 4 rfl rfl)
theorem dX1_people_7 : decode cX1_people 7 = .ok (.aload_n 0, 1) := dk_42 (dk_at dksX1_people_0 7 rfl rfl)
theorem dX1_people_8 : decode cX1_people 8 = .ok (.getfield 10, 3) := dk_180 0 10 (dk_at dksX1_people_0 8 rfl rfl)
theorem dX1_people_11 : decode cX1_people 11 = .ok (.invokevirtual 185, 3) := dk_182 0 185 (dk_at dksX1_people_0 11 rfl rfl)
theorem dX1_people_14 : decode cX1_people 14 = .ok (.astore_n 1, 1) := dk_76 (dk_at dksX1_people_0 14 rfl rfl)
theorem dX1_people_15 : decode cX1_people 15 = .ok (.aload_n 0, 1) := dk_42 (dk_at dksX1_people_0 15 rfl rfl)
theorem dX1_people_16 : decode cX1_people 16 = .ok (.aload_n 1, 1) := dk_43 (dk_at dksX1_people_0 16 rfl rfl)
theorem dX1_people_17 : decode cX1_people 17 = .ok (.invokevirtual 189, 3) := dk_182 0 189 (dk_at dksX1_people_0 17 rfl rfl)
theorem dX1_people_20 : decode cX1_people 20 = .ok (.aload_n 0, 1) := dk_42 (dk_at dksX1_people_0 20 rfl rfl)
theorem dX1_people_21 : decode cX1_people 21 = .ok (.getfield 19, 3) := dk_180 0 19 (dk_at dksX1_people_0 21 rfl rfl)
theorem dX1_people_24 : decode cX1_people 24 = .ok (.iconst (-1), 1) := dk_2 (dk_at dksX1_people_1 0 rfl rfl)
theorem dX1_people_25 : decode cX1_people 25 = .ok (.putfield 51, 3) := dk_181 0 51 (dk_at dksX1_people_1 1 rfl rfl)
theorem dX1_people_28 : decode cX1_people 28 = .ok (.goto 8, 3) := dk_167 0 8 (dk_at dksX1_people_1 4 rfl rfl)
theorem dX1_people_31 : decode cX1_people 31 = .ok (.astore_n 2, 1) := dk_77 (dk_at dksX1_people_1 7 rfl rfl)
theorem dX1_people_32 : decode cX1_people 32 = .ok (.aload_n 0, 1) := dk_42 (dk_at dksX1_people_1 8 rfl rfl)
theorem dX1_people_33 : decode cX1_people 33 = .ok (.invokevirtual 194, 3) := dk_182 0 194 (dk_at dksX1_people_1 9 rfl rfl)
theorem dX1_people_36 : decode cX1_people 36 = .ok (.aload_n 0, 1) := dk_42 (dk_at dksX1_people_1 12 rfl rfl)
theorem dX1_people_37 : decode cX1_people 37 = .ok (.getfield 10, 3) := dk_180 0 10 (dk_at dksX1_people_1 13 rfl rfl)
theorem dX1_people_40 : decode cX1_people 40 = .ok (.getfield 197, 3) := dk_180 0 197 (dk_at dksX1_people_1 16 rfl rfl)
theorem dX1_people_43 : decode cX1_people 43 = .ok (.bipush 10, 2) := dk_16 10 (dk_at dksX1_people_1 19 rfl rfl)
theorem dX1_people_45 : decode cX1_people 45 = .ok (.if_icmp .ne 11, 3) := dk_160 0 11 (dk_at dksX1_people_1 21 rfl rfl)
theorem dX1_people_48 : decode cX1_people 48 = .ok (.new 200, 3) := dk_187 0 200 (dk_at dksX1_people_2 0 rfl rfl)
theorem dX1_people_51 : decode cX1_people 51 = .ok (.dup, 1) := dk_89 (dk_at dksX1_people_2 3 rfl rfl)
theorem dX1_people_52 : decode cX1_people 52 = .ok (.invokespecial 202, 3) := dk_183 0 202 (dk_at dksX1_people_2 4 rfl rfl)
theorem dX1_people_55 : decode cX1_people 55 = .ok (.athrow, 1) := dk_191 (dk_at dksX1_people_2 7 rfl rfl)
theorem dX1_people_56 : decode cX1_people 56 = .ok (.aload_n 1, 1) := dk_43 (dk_at dksX1_people_2 8 rfl rfl)
theorem dX1_people_57 : decode cX1_people 57 = .ok (.dup, 1) := dk_89 (dk_at dksX1_people_2 9 rfl rfl)
theorem dX1_people_58 : decode cX1_people 58 = .ok (.getfield 197, 3) := dk_180 0 197 (dk_at dksX1_people_2 10 rfl rfl)
theorem dX1_people_61 : decode cX1_people 61 = .ok (.iconst 1, 1) := dk_4 (dk_at dksX1_people_2 13 rfl rfl)
theorem dX1_people_62 : decode cX1_people 62 = .ok (.iadd, 1) := dk_96 (dk_at dksX1_people_2 14 rfl rfl)
theorem dX1_people_63 : decode cX1_people 63 = .ok (.putfield 197, 3) := dk_181 0 197 (dk_at dksX1_people_2 15 rfl rfl)
theorem dX1_people_66 : decode cX1_people 66 = .ok (.aload_n 0, 1) := dk_42 (dk_at dksX1_people_2 18 rfl rfl)
theorem dX1_people_67 : decode cX1_people 67 = .ok (.aload_n 1, 1) := dk_43 (dk_at dksX1_people_2 19 rfl rfl)
theorem dX1_people_68 : decode cX1_people 68 = .ok (.putfield 10, 3) := dk_181 0 10 (dk_at dksX1_people_2 20 rfl rfl)
theorem dX1_people_71 : decode cX1_people 71 = .ok (.aload_n 0, 1) := dk_42 (dk_at dksX1_people_2 23 rfl rfl)
theorem dX1_people_72 : decode cX1_people 72 = .ok (.getfield 10, 3) := dk_180 0 10 (dk_at dksX1_people_3 0 rfl rfl)
theorem dX1_people_75 : decode cX1_people 75 = .ok (.getfield 197, 3) := dk_180 0 197 (dk_at dksX1_people_3 3 rfl rfl)
theorem dX1_people_78 : decode cX1_people 78 = .ok (.ireturn, 1) := dk_172 (dk_at dksX1_people_3 6 rfl rfl)
abbrev cX1_peopleText : ByteArray := prog_1_method_9_code
def yX1_peopleText : MethodName := ⟨RX1, "peopleText", "(LStepDebts$World;)V"⟩
def dkwX1_peopleText_1 : List UInt8 := [182, 0, 167, 132, 2, 1, 42, 182, 0, 170, 154, 255, 237, 177]
abbrev dktX1_peopleText_1 : List UInt8 := dkwX1_peopleText_1 ++ []
def dkwX1_peopleText_0 : List UInt8 := [42, 180, 0, 19, 182, 0, 160, 153, 0, 4, 177, 3, 61, 42, 28, 16, 14, 182, 0, 164, 42, 43]
abbrev dktX1_peopleText_0 : List UInt8 := dkwX1_peopleText_0 ++ dktX1_peopleText_1
theorem dksX1_peopleText_0 : cX1_peopleText.data.toList.drop 0 = dktX1_peopleText_0 := by decide +kernel
theorem dksX1_peopleText_1 : cX1_peopleText.data.toList.drop 22 = dktX1_peopleText_1 := dk_seg dksX1_peopleText_0 22 rfl rfl
theorem dX1_peopleText_0 : decode cX1_peopleText 0 = .ok (.aload_n 0, 1) := dk_42 (dk_at dksX1_peopleText_0 0 rfl rfl)
theorem dX1_peopleText_1 : decode cX1_peopleText 1 = .ok (.getfield 19, 3) := dk_180 0 19 (dk_at dksX1_peopleText_0 1 rfl rfl)
theorem dX1_peopleText_4 : decode cX1_peopleText 4 = .ok (.invokevirtual 160, 3) := dk_182 0 160 (dk_at dksX1_peopleText_0 4 rfl rfl)
theorem dX1_peopleText_7 : decode cX1_peopleText 7 = .ok (.ifCond .eq 4, 3) := dk_153 0 4 (dk_at dksX1_peopleText_0 7 rfl rfl)
theorem dX1_peopleText_10 : decode cX1_peopleText 10 = .ok (.return_, 1) := dk_177 (dk_at dksX1_peopleText_0 10 rfl rfl)
theorem dX1_peopleText_11 : decode cX1_peopleText 11 = .ok (.iconst 0, 1) := dk_3 (dk_at dksX1_peopleText_0 11 rfl rfl)
theorem dX1_peopleText_12 : decode cX1_peopleText 12 = .ok (.istore_n 2, 1) := dk_61 (dk_at dksX1_peopleText_0 12 rfl rfl)
theorem dX1_peopleText_13 : decode cX1_peopleText 13 = .ok (.aload_n 0, 1) := dk_42 (dk_at dksX1_peopleText_0 13 rfl rfl)
theorem dX1_peopleText_14 : decode cX1_peopleText 14 = .ok (.iload_n 2, 1) := dk_28 (dk_at dksX1_peopleText_0 14 rfl rfl)
theorem dX1_peopleText_15 : decode cX1_peopleText 15 = .ok (.bipush 14, 2) := dk_16 14 (dk_at dksX1_peopleText_0 15 rfl rfl)
theorem dX1_peopleText_17 : decode cX1_peopleText 17 = .ok (.invokevirtual 164, 3) := dk_182 0 164 (dk_at dksX1_peopleText_0 17 rfl rfl)
theorem dX1_peopleText_20 : decode cX1_peopleText 20 = .ok (.aload_n 0, 1) := dk_42 (dk_at dksX1_peopleText_0 20 rfl rfl)
theorem dX1_peopleText_21 : decode cX1_peopleText 21 = .ok (.aload_n 1, 1) := dk_43 (dk_at dksX1_peopleText_0 21 rfl rfl)
theorem dX1_peopleText_22 : decode cX1_peopleText 22 = .ok (.invokevirtual 167, 3) := dk_182 0 167 (dk_at dksX1_peopleText_1 0 rfl rfl)
theorem dX1_peopleText_25 : decode cX1_peopleText 25 = .ok (.iinc 2 1, 3) := dk_132 2 1 (dk_at dksX1_peopleText_1 3 rfl rfl)
theorem dX1_peopleText_28 : decode cX1_peopleText 28 = .ok (.aload_n 0, 1) := dk_42 (dk_at dksX1_peopleText_1 6 rfl rfl)
theorem dX1_peopleText_29 : decode cX1_peopleText 29 = .ok (.invokevirtual 170, 3) := dk_182 0 170 (dk_at dksX1_peopleText_1 7 rfl rfl)
theorem dX1_peopleText_32 : decode cX1_peopleText 32 = .ok (.ifCond .ne (-19), 3) := dk_154 255 237 (dk_at dksX1_peopleText_1 10 rfl rfl)
theorem dX1_peopleText_35 : decode cX1_peopleText 35 = .ok (.return_, 1) := dk_177 (dk_at dksX1_peopleText_1 13 rfl rfl)
abbrev cX1_noMore : ByteArray := prog_1_method_10_code
def yX1_noMore : MethodName := ⟨RX1, "noMore", "(II)V"⟩
def dkwX1_noMore_0 : List UInt8 := [27, 28, 162, 0, 4, 177, 42, 180, 0, 19, 182, 0, 73, 87, 42, 180, 0, 19, 182, 0, 65, 191]
abbrev dktX1_noMore_0 : List UInt8 := dkwX1_noMore_0 ++ []
theorem dksX1_noMore_0 : cX1_noMore.data.toList.drop 0 = dktX1_noMore_0 := by decide +kernel
theorem dX1_noMore_0 : decode cX1_noMore 0 = .ok (.iload_n 1, 1) := dk_27 (dk_at dksX1_noMore_0 0 rfl rfl)
theorem dX1_noMore_1 : decode cX1_noMore 1 = .ok (.iload_n 2, 1) := dk_28 (dk_at dksX1_noMore_0 1 rfl rfl)
theorem dX1_noMore_2 : decode cX1_noMore 2 = .ok (.if_icmp .ge 4, 3) := dk_162 0 4 (dk_at dksX1_noMore_0 2 rfl rfl)
theorem dX1_noMore_5 : decode cX1_noMore 5 = .ok (.return_, 1) := dk_177 (dk_at dksX1_noMore_0 5 rfl rfl)
theorem dX1_noMore_6 : decode cX1_noMore 6 = .ok (.aload_n 0, 1) := dk_42 (dk_at dksX1_noMore_0 6 rfl rfl)
theorem dX1_noMore_7 : decode cX1_noMore 7 = .ok (.getfield 19, 3) := dk_180 0 19 (dk_at dksX1_noMore_0 7 rfl rfl)
theorem dX1_noMore_10 : decode cX1_noMore 10 = .ok (.invokevirtual 73, 3) := dk_182 0 73 (dk_at dksX1_noMore_0 10 rfl rfl)
theorem dX1_noMore_13 : decode cX1_noMore 13 = .ok (.pop, 1) := dk_87 (dk_at dksX1_noMore_0 13 rfl rfl)
theorem dX1_noMore_14 : decode cX1_noMore 14 = .ok (.aload_n 0, 1) := dk_42 (dk_at dksX1_noMore_0 14 rfl rfl)
theorem dX1_noMore_15 : decode cX1_noMore 15 = .ok (.getfield 19, 3) := dk_180 0 19 (dk_at dksX1_noMore_0 15 rfl rfl)
theorem dX1_noMore_18 : decode cX1_noMore 18 = .ok (.invokevirtual 65, 3) := dk_182 0 65 (dk_at dksX1_noMore_0 18 rfl rfl)
theorem dX1_noMore_21 : decode cX1_noMore 21 = .ok (.athrow, 1) := dk_191 (dk_at dksX1_noMore_0 21 rfl rfl)
abbrev cX1_in : ByteArray := prog_1_method_2_code
def yX1_in : MethodName := ⟨RX1, "in", "(III)Z"⟩
def dkwX1_in_0 : List UInt8 := [26, 27, 161, 0, 12, 26, 28, 163, 0, 7, 4, 167, 0, 4, 3, 172]
abbrev dktX1_in_0 : List UInt8 := dkwX1_in_0 ++ []
theorem dksX1_in_0 : cX1_in.data.toList.drop 0 = dktX1_in_0 := by decide +kernel
theorem dX1_in_0 : decode cX1_in 0 = .ok (.iload_n 0, 1) := dk_26 (dk_at dksX1_in_0 0 rfl rfl)
theorem dX1_in_1 : decode cX1_in 1 = .ok (.iload_n 1, 1) := dk_27 (dk_at dksX1_in_0 1 rfl rfl)
theorem dX1_in_2 : decode cX1_in 2 = .ok (.if_icmp .lt 12, 3) := dk_161 0 12 (dk_at dksX1_in_0 2 rfl rfl)
theorem dX1_in_5 : decode cX1_in 5 = .ok (.iload_n 0, 1) := dk_26 (dk_at dksX1_in_0 5 rfl rfl)
theorem dX1_in_6 : decode cX1_in 6 = .ok (.iload_n 2, 1) := dk_28 (dk_at dksX1_in_0 6 rfl rfl)
theorem dX1_in_7 : decode cX1_in 7 = .ok (.if_icmp .gt 7, 3) := dk_163 0 7 (dk_at dksX1_in_0 7 rfl rfl)
theorem dX1_in_10 : decode cX1_in 10 = .ok (.iconst 1, 1) := dk_4 (dk_at dksX1_in_0 10 rfl rfl)
theorem dX1_in_11 : decode cX1_in 11 = .ok (.goto 4, 3) := dk_167 0 4 (dk_at dksX1_in_0 11 rfl rfl)
theorem dX1_in_14 : decode cX1_in 14 = .ok (.iconst 0, 1) := dk_3 (dk_at dksX1_in_0 14 rfl rfl)
theorem dX1_in_15 : decode cX1_in 15 = .ok (.ireturn, 1) := dk_172 (dk_at dksX1_in_0 15 rfl rfl)
abbrev cX1_peopleLine : ByteArray := prog_1_method_8_code
def yX1_peopleLine : MethodName := ⟨RX1, "peopleLine", "(LStepDebts$World;)V"⟩
def dkwX1_peopleLine_15 : List UInt8 := [182, 0, 65, 191]
abbrev dktX1_peopleLine_15 : List UInt8 := dkwX1_peopleLine_15 ++ []
def dkwX1_peopleLine_14 : List UInt8 := [181, 0, 152, 177, 43, 44, 3, 6, 182, 0, 69, 181, 0, 154, 177, 42, 43, 182, 0, 156, 177, 44]
abbrev dktX1_peopleLine_14 : List UInt8 := dkwX1_peopleLine_14 ++ dktX1_peopleLine_15
def dkwX1_peopleLine_13 : List UInt8 := [44, 4, 16, 99, 182, 0, 69, 183, 0, 149, 182, 0, 99, 87, 177, 43, 44, 4, 17, 3, 231, 182, 0, 69]
abbrev dktX1_peopleLine_13 : List UInt8 := dkwX1_peopleLine_13 ++ dktX1_peopleLine_14
def dkwX1_peopleLine_12 : List UInt8 := [180, 0, 144, 182, 0, 59, 16, 10, 160, 0, 8, 44, 182, 0, 65, 191, 43, 180, 0, 144, 187, 0, 147, 89]
abbrev dktX1_peopleLine_12 : List UInt8 := dkwX1_peopleLine_12 ++ dktX1_peopleLine_13
def dkwX1_peopleLine_11 : List UInt8 := [177, 42, 43, 4, 182, 0, 140, 177, 42, 43, 5, 182, 0, 140, 177, 42, 43, 6, 182, 0, 140, 177, 43]
abbrev dktX1_peopleLine_11 : List UInt8 := dkwX1_peopleLine_11 ++ dktX1_peopleLine_12
def dkwX1_peopleLine_10 : List UInt8 := [18, 104, 8, 182, 0, 105, 79, 43, 89, 180, 0, 85, 4, 96, 181, 0, 85, 177, 42, 43, 3, 182, 0, 140]
abbrev dktX1_peopleLine_10 : List UInt8 := dkwX1_peopleLine_10 ++ dktX1_peopleLine_11
def dkwX1_peopleLine_9 : List UInt8 := [43, 180, 0, 85, 16, 8, 160, 0, 8, 44, 182, 0, 65, 191, 43, 180, 0, 137, 43, 180, 0, 85, 44, 3]
abbrev dktX1_peopleLine_9 : List UInt8 := dkwX1_peopleLine_9 ++ dktX1_peopleLine_10
def dkwX1_peopleLine_8 : List UInt8 := [170, 0, 0, 0, 0, 0, 191, 0, 0, 0, 0, 0, 0, 0, 8, 0, 0, 0, 51, 0, 0, 0, 93, 0, 0, 0, 100, 0, 0, 0, 107, 0, 0, 0, 114, 0, 0, 0, 121, 0, 0, 0, 161, 0, 0, 0, 174, 0, 0, 0, 185]
abbrev dktX1_peopleLine_8 : List UInt8 := dkwX1_peopleLine_8 ++ dktX1_peopleLine_9
def dkwX1_peopleLine_7 : List UInt8 := [167, 0, 16, 45, 18, 135, 182, 0, 79, 153, 0, 7, 16, 8, 54, 4, 21, 4]
abbrev dktX1_peopleLine_7 : List UInt8 := dkwX1_peopleLine_7 ++ dktX1_peopleLine_8
def dkwX1_peopleLine_6 : List UInt8 := [153, 0, 39, 16, 6, 54, 4, 167, 0, 32, 45, 18, 133, 182, 0, 79, 153, 0, 23, 16, 7, 54, 4]
abbrev dktX1_peopleLine_6 : List UInt8 := dkwX1_peopleLine_6 ++ dktX1_peopleLine_7
def dkwX1_peopleLine_5 : List UInt8 := [167, 0, 63, 45, 18, 129, 182, 0, 79, 153, 0, 54, 8, 54, 4, 167, 0, 48, 45, 18, 131, 182, 0, 79]
abbrev dktX1_peopleLine_5 : List UInt8 := dkwX1_peopleLine_5 ++ dktX1_peopleLine_6
def dkwX1_peopleLine_4 : List UInt8 := [182, 0, 79, 153, 0, 84, 6, 54, 4, 167, 0, 78, 45, 18, 127, 182, 0, 79, 153, 0, 69, 7, 54, 4]
abbrev dktX1_peopleLine_4 : List UInt8 := dkwX1_peopleLine_4 ++ dktX1_peopleLine_5
def dkwX1_peopleLine_3 : List UInt8 := [4, 54, 4, 167, 0, 108, 45, 18, 123, 182, 0, 79, 153, 0, 99, 5, 54, 4, 167, 0, 93, 45, 18, 125]
abbrev dktX1_peopleLine_3 : List UInt8 := dkwX1_peopleLine_3 ++ dktX1_peopleLine_4
def dkwX1_peopleLine_2 : List UInt8 := [45, 18, 119, 182, 0, 79, 153, 0, 129, 3, 54, 4, 167, 0, 123, 45, 18, 121, 182, 0, 79, 153, 0, 114]
abbrev dktX1_peopleLine_2 : List UInt8 := dkwX1_peopleLine_2 ++ dktX1_peopleLine_3
def dkwX1_peopleLine_1 : List UInt8 := [171, 0, 0, 0, 0, 0, 218, 0, 0, 0, 9, 176, 244, 110, 60, 0, 0, 0, 128, 0, 1, 165, 90, 0, 0, 0, 98, 0, 53, 91, 212, 0, 0, 0, 189, 0, 54, 128, 125, 0, 0, 0, 158, 5, 163, 245, 28, 0, 0, 0, 113, 5, 237, 199, 32, 0, 0, 0, 83, 6, 35, 75, 187, 0, 0, 0, 173, 6, 76, 26, 92, 0, 0, 0, 205, 61, 141, 160, 83, 0, 0, 0, 143]
abbrev dktX1_peopleLine_1 : List UInt8 := dkwX1_peopleLine_1 ++ dktX1_peopleLine_2
def dkwX1_peopleLine_0 : List UInt8 := [42, 180, 0, 19, 77, 44, 182, 0, 73, 78, 2, 54, 4, 45, 182, 0, 116]
abbrev dktX1_peopleLine_0 : List UInt8 := dkwX1_peopleLine_0 ++ dktX1_peopleLine_1
theorem dksX1_peopleLine_0 : cX1_peopleLine.data.toList.drop 0 = dktX1_peopleLine_0 := by decide +kernel
theorem dksX1_peopleLine_1 : cX1_peopleLine.data.toList.drop 17 = dktX1_peopleLine_1 := dk_seg dksX1_peopleLine_0 17 rfl rfl
theorem dksX1_peopleLine_2 : cX1_peopleLine.data.toList.drop 100 = dktX1_peopleLine_2 := dk_seg dksX1_peopleLine_1 83 rfl rfl
theorem dksX1_peopleLine_3 : cX1_peopleLine.data.toList.drop 124 = dktX1_peopleLine_3 := dk_seg dksX1_peopleLine_2 24 rfl rfl
theorem dksX1_peopleLine_4 : cX1_peopleLine.data.toList.drop 148 = dktX1_peopleLine_4 := dk_seg dksX1_peopleLine_3 24 rfl rfl
theorem dksX1_peopleLine_5 : cX1_peopleLine.data.toList.drop 172 = dktX1_peopleLine_5 := dk_seg dksX1_peopleLine_4 24 rfl rfl
theorem dksX1_peopleLine_6 : cX1_peopleLine.data.toList.drop 196 = dktX1_peopleLine_6 := dk_seg dksX1_peopleLine_5 24 rfl rfl
theorem dksX1_peopleLine_7 : cX1_peopleLine.data.toList.drop 219 = dktX1_peopleLine_7 := dk_seg dksX1_peopleLine_6 23 rfl rfl
theorem dksX1_peopleLine_8 : cX1_peopleLine.data.toList.drop 237 = dktX1_peopleLine_8 := dk_seg dksX1_peopleLine_7 18 rfl rfl
theorem dksX1_peopleLine_9 : cX1_peopleLine.data.toList.drop 288 = dktX1_peopleLine_9 := dk_seg dksX1_peopleLine_8 51 rfl rfl
theorem dksX1_peopleLine_10 : cX1_peopleLine.data.toList.drop 312 = dktX1_peopleLine_10 := dk_seg dksX1_peopleLine_9 24 rfl rfl
theorem dksX1_peopleLine_11 : cX1_peopleLine.data.toList.drop 336 = dktX1_peopleLine_11 := dk_seg dksX1_peopleLine_10 24 rfl rfl
theorem dksX1_peopleLine_12 : cX1_peopleLine.data.toList.drop 359 = dktX1_peopleLine_12 := dk_seg dksX1_peopleLine_11 23 rfl rfl
theorem dksX1_peopleLine_13 : cX1_peopleLine.data.toList.drop 383 = dktX1_peopleLine_13 := dk_seg dksX1_peopleLine_12 24 rfl rfl
theorem dksX1_peopleLine_14 : cX1_peopleLine.data.toList.drop 407 = dktX1_peopleLine_14 := dk_seg dksX1_peopleLine_13 24 rfl rfl
theorem dksX1_peopleLine_15 : cX1_peopleLine.data.toList.drop 429 = dktX1_peopleLine_15 := dk_seg dksX1_peopleLine_14 22 rfl rfl
theorem dX1_peopleLine_0 : decode cX1_peopleLine 0 = .ok (.aload_n 0, 1) := dk_42 (dk_at dksX1_peopleLine_0 0 rfl rfl)
theorem dX1_peopleLine_1 : decode cX1_peopleLine 1 = .ok (.getfield 19, 3) := dk_180 0 19 (dk_at dksX1_peopleLine_0 1 rfl rfl)
theorem dX1_peopleLine_4 : decode cX1_peopleLine 4 = .ok (.astore_n 2, 1) := dk_77 (dk_at dksX1_peopleLine_0 4 rfl rfl)
theorem dX1_peopleLine_5 : decode cX1_peopleLine 5 = .ok (.aload_n 2, 1) := dk_44 (dk_at dksX1_peopleLine_0 5 rfl rfl)
theorem dX1_peopleLine_6 : decode cX1_peopleLine 6 = .ok (.invokevirtual 73, 3) := dk_182 0 73 (dk_at dksX1_peopleLine_0 6 rfl rfl)
theorem dX1_peopleLine_9 : decode cX1_peopleLine 9 = .ok (.astore_n 3, 1) := dk_78 (dk_at dksX1_peopleLine_0 9 rfl rfl)
theorem dX1_peopleLine_10 : decode cX1_peopleLine 10 = .ok (.iconst (-1), 1) := dk_2 (dk_at dksX1_peopleLine_0 10 rfl rfl)
theorem dX1_peopleLine_11 : decode cX1_peopleLine 11 = .ok (.istore 4, 2) := dk_54 4 (dk_at dksX1_peopleLine_0 11 rfl rfl)
theorem dX1_peopleLine_13 : decode cX1_peopleLine 13 = .ok (.aload_n 3, 1) := dk_45 (dk_at dksX1_peopleLine_0 13 rfl rfl)
theorem dX1_peopleLine_14 : decode cX1_peopleLine 14 = .ok (.invokevirtual 116, 3) := dk_182 0 116 (dk_at dksX1_peopleLine_0 14 rfl rfl)
theorem dX1_peopleLine_17 : decode cX1_peopleLine 17 = .ok (.lookupswitch 218 #[(-1326158276, 128), (107866, 98), (3496916, 189), (3571837, 158), (94631196, 113), (99469088, 83), (102976443, 173), (105650780, 205), (1032691795, 143)], 83) := by decide +kernel
theorem dX1_peopleLine_100 : decode cX1_peopleLine 100 = .ok (.aload_n 3, 1) := dk_45 (dk_at dksX1_peopleLine_2 0 rfl rfl)
theorem dX1_peopleLine_101 : decode cX1_peopleLine 101 = .ok (.ldc 119, 2) := dk_18 119 (dk_at dksX1_peopleLine_2 1 rfl rfl)
theorem dX1_peopleLine_103 : decode cX1_peopleLine 103 = .ok (.invokevirtual 79, 3) := dk_182 0 79 (dk_at dksX1_peopleLine_2 3 rfl rfl)
theorem dX1_peopleLine_106 : decode cX1_peopleLine 106 = .ok (.ifCond .eq 129, 3) := dk_153 0 129 (dk_at dksX1_peopleLine_2 6 rfl rfl)
theorem dX1_peopleLine_109 : decode cX1_peopleLine 109 = .ok (.iconst 0, 1) := dk_3 (dk_at dksX1_peopleLine_2 9 rfl rfl)
theorem dX1_peopleLine_110 : decode cX1_peopleLine 110 = .ok (.istore 4, 2) := dk_54 4 (dk_at dksX1_peopleLine_2 10 rfl rfl)
theorem dX1_peopleLine_112 : decode cX1_peopleLine 112 = .ok (.goto 123, 3) := dk_167 0 123 (dk_at dksX1_peopleLine_2 12 rfl rfl)
theorem dX1_peopleLine_115 : decode cX1_peopleLine 115 = .ok (.aload_n 3, 1) := dk_45 (dk_at dksX1_peopleLine_2 15 rfl rfl)
theorem dX1_peopleLine_116 : decode cX1_peopleLine 116 = .ok (.ldc 121, 2) := dk_18 121 (dk_at dksX1_peopleLine_2 16 rfl rfl)
theorem dX1_peopleLine_118 : decode cX1_peopleLine 118 = .ok (.invokevirtual 79, 3) := dk_182 0 79 (dk_at dksX1_peopleLine_2 18 rfl rfl)
theorem dX1_peopleLine_121 : decode cX1_peopleLine 121 = .ok (.ifCond .eq 114, 3) := dk_153 0 114 (dk_at dksX1_peopleLine_2 21 rfl rfl)
theorem dX1_peopleLine_124 : decode cX1_peopleLine 124 = .ok (.iconst 1, 1) := dk_4 (dk_at dksX1_peopleLine_3 0 rfl rfl)
theorem dX1_peopleLine_125 : decode cX1_peopleLine 125 = .ok (.istore 4, 2) := dk_54 4 (dk_at dksX1_peopleLine_3 1 rfl rfl)
theorem dX1_peopleLine_127 : decode cX1_peopleLine 127 = .ok (.goto 108, 3) := dk_167 0 108 (dk_at dksX1_peopleLine_3 3 rfl rfl)
theorem dX1_peopleLine_130 : decode cX1_peopleLine 130 = .ok (.aload_n 3, 1) := dk_45 (dk_at dksX1_peopleLine_3 6 rfl rfl)
theorem dX1_peopleLine_131 : decode cX1_peopleLine 131 = .ok (.ldc 123, 2) := dk_18 123 (dk_at dksX1_peopleLine_3 7 rfl rfl)
theorem dX1_peopleLine_133 : decode cX1_peopleLine 133 = .ok (.invokevirtual 79, 3) := dk_182 0 79 (dk_at dksX1_peopleLine_3 9 rfl rfl)
theorem dX1_peopleLine_136 : decode cX1_peopleLine 136 = .ok (.ifCond .eq 99, 3) := dk_153 0 99 (dk_at dksX1_peopleLine_3 12 rfl rfl)
theorem dX1_peopleLine_139 : decode cX1_peopleLine 139 = .ok (.iconst 2, 1) := dk_5 (dk_at dksX1_peopleLine_3 15 rfl rfl)
theorem dX1_peopleLine_140 : decode cX1_peopleLine 140 = .ok (.istore 4, 2) := dk_54 4 (dk_at dksX1_peopleLine_3 16 rfl rfl)
theorem dX1_peopleLine_142 : decode cX1_peopleLine 142 = .ok (.goto 93, 3) := dk_167 0 93 (dk_at dksX1_peopleLine_3 18 rfl rfl)
theorem dX1_peopleLine_145 : decode cX1_peopleLine 145 = .ok (.aload_n 3, 1) := dk_45 (dk_at dksX1_peopleLine_3 21 rfl rfl)
theorem dX1_peopleLine_146 : decode cX1_peopleLine 146 = .ok (.ldc 125, 2) := dk_18 125 (dk_at dksX1_peopleLine_3 22 rfl rfl)
theorem dX1_peopleLine_148 : decode cX1_peopleLine 148 = .ok (.invokevirtual 79, 3) := dk_182 0 79 (dk_at dksX1_peopleLine_4 0 rfl rfl)
theorem dX1_peopleLine_151 : decode cX1_peopleLine 151 = .ok (.ifCond .eq 84, 3) := dk_153 0 84 (dk_at dksX1_peopleLine_4 3 rfl rfl)
theorem dX1_peopleLine_154 : decode cX1_peopleLine 154 = .ok (.iconst 3, 1) := dk_6 (dk_at dksX1_peopleLine_4 6 rfl rfl)
theorem dX1_peopleLine_155 : decode cX1_peopleLine 155 = .ok (.istore 4, 2) := dk_54 4 (dk_at dksX1_peopleLine_4 7 rfl rfl)
theorem dX1_peopleLine_157 : decode cX1_peopleLine 157 = .ok (.goto 78, 3) := dk_167 0 78 (dk_at dksX1_peopleLine_4 9 rfl rfl)
theorem dX1_peopleLine_160 : decode cX1_peopleLine 160 = .ok (.aload_n 3, 1) := dk_45 (dk_at dksX1_peopleLine_4 12 rfl rfl)
theorem dX1_peopleLine_161 : decode cX1_peopleLine 161 = .ok (.ldc 127, 2) := dk_18 127 (dk_at dksX1_peopleLine_4 13 rfl rfl)
theorem dX1_peopleLine_163 : decode cX1_peopleLine 163 = .ok (.invokevirtual 79, 3) := dk_182 0 79 (dk_at dksX1_peopleLine_4 15 rfl rfl)
theorem dX1_peopleLine_166 : decode cX1_peopleLine 166 = .ok (.ifCond .eq 69, 3) := dk_153 0 69 (dk_at dksX1_peopleLine_4 18 rfl rfl)
theorem dX1_peopleLine_169 : decode cX1_peopleLine 169 = .ok (.iconst 4, 1) := dk_7 (dk_at dksX1_peopleLine_4 21 rfl rfl)
theorem dX1_peopleLine_170 : decode cX1_peopleLine 170 = .ok (.istore 4, 2) := dk_54 4 (dk_at dksX1_peopleLine_4 22 rfl rfl)
theorem dX1_peopleLine_172 : decode cX1_peopleLine 172 = .ok (.goto 63, 3) := dk_167 0 63 (dk_at dksX1_peopleLine_5 0 rfl rfl)
theorem dX1_peopleLine_175 : decode cX1_peopleLine 175 = .ok (.aload_n 3, 1) := dk_45 (dk_at dksX1_peopleLine_5 3 rfl rfl)
theorem dX1_peopleLine_176 : decode cX1_peopleLine 176 = .ok (.ldc 129, 2) := dk_18 129 (dk_at dksX1_peopleLine_5 4 rfl rfl)
theorem dX1_peopleLine_178 : decode cX1_peopleLine 178 = .ok (.invokevirtual 79, 3) := dk_182 0 79 (dk_at dksX1_peopleLine_5 6 rfl rfl)
theorem dX1_peopleLine_181 : decode cX1_peopleLine 181 = .ok (.ifCond .eq 54, 3) := dk_153 0 54 (dk_at dksX1_peopleLine_5 9 rfl rfl)
theorem dX1_peopleLine_184 : decode cX1_peopleLine 184 = .ok (.iconst 5, 1) := dk_8 (dk_at dksX1_peopleLine_5 12 rfl rfl)
theorem dX1_peopleLine_185 : decode cX1_peopleLine 185 = .ok (.istore 4, 2) := dk_54 4 (dk_at dksX1_peopleLine_5 13 rfl rfl)
theorem dX1_peopleLine_187 : decode cX1_peopleLine 187 = .ok (.goto 48, 3) := dk_167 0 48 (dk_at dksX1_peopleLine_5 15 rfl rfl)
theorem dX1_peopleLine_190 : decode cX1_peopleLine 190 = .ok (.aload_n 3, 1) := dk_45 (dk_at dksX1_peopleLine_5 18 rfl rfl)
theorem dX1_peopleLine_191 : decode cX1_peopleLine 191 = .ok (.ldc 131, 2) := dk_18 131 (dk_at dksX1_peopleLine_5 19 rfl rfl)
theorem dX1_peopleLine_193 : decode cX1_peopleLine 193 = .ok (.invokevirtual 79, 3) := dk_182 0 79 (dk_at dksX1_peopleLine_5 21 rfl rfl)
theorem dX1_peopleLine_196 : decode cX1_peopleLine 196 = .ok (.ifCond .eq 39, 3) := dk_153 0 39 (dk_at dksX1_peopleLine_6 0 rfl rfl)
theorem dX1_peopleLine_199 : decode cX1_peopleLine 199 = .ok (.bipush 6, 2) := dk_16 6 (dk_at dksX1_peopleLine_6 3 rfl rfl)
theorem dX1_peopleLine_201 : decode cX1_peopleLine 201 = .ok (.istore 4, 2) := dk_54 4 (dk_at dksX1_peopleLine_6 5 rfl rfl)
theorem dX1_peopleLine_203 : decode cX1_peopleLine 203 = .ok (.goto 32, 3) := dk_167 0 32 (dk_at dksX1_peopleLine_6 7 rfl rfl)
theorem dX1_peopleLine_206 : decode cX1_peopleLine 206 = .ok (.aload_n 3, 1) := dk_45 (dk_at dksX1_peopleLine_6 10 rfl rfl)
theorem dX1_peopleLine_207 : decode cX1_peopleLine 207 = .ok (.ldc 133, 2) := dk_18 133 (dk_at dksX1_peopleLine_6 11 rfl rfl)
theorem dX1_peopleLine_209 : decode cX1_peopleLine 209 = .ok (.invokevirtual 79, 3) := dk_182 0 79 (dk_at dksX1_peopleLine_6 13 rfl rfl)
theorem dX1_peopleLine_212 : decode cX1_peopleLine 212 = .ok (.ifCond .eq 23, 3) := dk_153 0 23 (dk_at dksX1_peopleLine_6 16 rfl rfl)
theorem dX1_peopleLine_215 : decode cX1_peopleLine 215 = .ok (.bipush 7, 2) := dk_16 7 (dk_at dksX1_peopleLine_6 19 rfl rfl)
theorem dX1_peopleLine_217 : decode cX1_peopleLine 217 = .ok (.istore 4, 2) := dk_54 4 (dk_at dksX1_peopleLine_6 21 rfl rfl)
theorem dX1_peopleLine_219 : decode cX1_peopleLine 219 = .ok (.goto 16, 3) := dk_167 0 16 (dk_at dksX1_peopleLine_7 0 rfl rfl)
theorem dX1_peopleLine_222 : decode cX1_peopleLine 222 = .ok (.aload_n 3, 1) := dk_45 (dk_at dksX1_peopleLine_7 3 rfl rfl)
theorem dX1_peopleLine_223 : decode cX1_peopleLine 223 = .ok (.ldc 135, 2) := dk_18 135 (dk_at dksX1_peopleLine_7 4 rfl rfl)
theorem dX1_peopleLine_225 : decode cX1_peopleLine 225 = .ok (.invokevirtual 79, 3) := dk_182 0 79 (dk_at dksX1_peopleLine_7 6 rfl rfl)
theorem dX1_peopleLine_228 : decode cX1_peopleLine 228 = .ok (.ifCond .eq 7, 3) := dk_153 0 7 (dk_at dksX1_peopleLine_7 9 rfl rfl)
theorem dX1_peopleLine_231 : decode cX1_peopleLine 231 = .ok (.bipush 8, 2) := dk_16 8 (dk_at dksX1_peopleLine_7 12 rfl rfl)
theorem dX1_peopleLine_233 : decode cX1_peopleLine 233 = .ok (.istore 4, 2) := dk_54 4 (dk_at dksX1_peopleLine_7 14 rfl rfl)
theorem dX1_peopleLine_235 : decode cX1_peopleLine 235 = .ok (.iload 4, 2) := dk_21 4 (dk_at dksX1_peopleLine_7 16 rfl rfl)
theorem dX1_peopleLine_237 : decode cX1_peopleLine 237 = .ok (.tableswitch 191 0 8 #[51, 93, 100, 107, 114, 121, 161, 174, 185], 51) := by decide +kernel
theorem dX1_peopleLine_288 : decode cX1_peopleLine 288 = .ok (.aload_n 1, 1) := dk_43 (dk_at dksX1_peopleLine_9 0 rfl rfl)
theorem dX1_peopleLine_289 : decode cX1_peopleLine 289 = .ok (.getfield 85, 3) := dk_180 0 85 (dk_at dksX1_peopleLine_9 1 rfl rfl)
theorem dX1_peopleLine_292 : decode cX1_peopleLine 292 = .ok (.bipush 8, 2) := dk_16 8 (dk_at dksX1_peopleLine_9 4 rfl rfl)
theorem dX1_peopleLine_294 : decode cX1_peopleLine 294 = .ok (.if_icmp .ne 8, 3) := dk_160 0 8 (dk_at dksX1_peopleLine_9 6 rfl rfl)
theorem dX1_peopleLine_297 : decode cX1_peopleLine 297 = .ok (.aload_n 2, 1) := dk_44 (dk_at dksX1_peopleLine_9 9 rfl rfl)
theorem dX1_peopleLine_298 : decode cX1_peopleLine 298 = .ok (.invokevirtual 65, 3) := dk_182 0 65 (dk_at dksX1_peopleLine_9 10 rfl rfl)
theorem dX1_peopleLine_301 : decode cX1_peopleLine 301 = .ok (.athrow, 1) := dk_191 (dk_at dksX1_peopleLine_9 13 rfl rfl)
theorem dX1_peopleLine_302 : decode cX1_peopleLine 302 = .ok (.aload_n 1, 1) := dk_43 (dk_at dksX1_peopleLine_9 14 rfl rfl)
theorem dX1_peopleLine_303 : decode cX1_peopleLine 303 = .ok (.getfield 137, 3) := dk_180 0 137 (dk_at dksX1_peopleLine_9 15 rfl rfl)
theorem dX1_peopleLine_306 : decode cX1_peopleLine 306 = .ok (.aload_n 1, 1) := dk_43 (dk_at dksX1_peopleLine_9 18 rfl rfl)
theorem dX1_peopleLine_307 : decode cX1_peopleLine 307 = .ok (.getfield 85, 3) := dk_180 0 85 (dk_at dksX1_peopleLine_9 19 rfl rfl)
theorem dX1_peopleLine_310 : decode cX1_peopleLine 310 = .ok (.aload_n 2, 1) := dk_44 (dk_at dksX1_peopleLine_9 22 rfl rfl)
theorem dX1_peopleLine_311 : decode cX1_peopleLine 311 = .ok (.iconst 0, 1) := dk_3 (dk_at dksX1_peopleLine_9 23 rfl rfl)
theorem dX1_peopleLine_312 : decode cX1_peopleLine 312 = .ok (.ldc 104, 2) := dk_18 104 (dk_at dksX1_peopleLine_10 0 rfl rfl)
theorem dX1_peopleLine_314 : decode cX1_peopleLine 314 = .ok (.iconst 5, 1) := dk_8 (dk_at dksX1_peopleLine_10 2 rfl rfl)
theorem dX1_peopleLine_315 : decode cX1_peopleLine 315 = .ok (.invokevirtual 105, 3) := dk_182 0 105 (dk_at dksX1_peopleLine_10 3 rfl rfl)
theorem dX1_peopleLine_318 : decode cX1_peopleLine 318 = .ok (.iastore, 1) := dk_79 (dk_at dksX1_peopleLine_10 6 rfl rfl)
theorem dX1_peopleLine_319 : decode cX1_peopleLine 319 = .ok (.aload_n 1, 1) := dk_43 (dk_at dksX1_peopleLine_10 7 rfl rfl)
theorem dX1_peopleLine_320 : decode cX1_peopleLine 320 = .ok (.dup, 1) := dk_89 (dk_at dksX1_peopleLine_10 8 rfl rfl)
theorem dX1_peopleLine_321 : decode cX1_peopleLine 321 = .ok (.getfield 85, 3) := dk_180 0 85 (dk_at dksX1_peopleLine_10 9 rfl rfl)
theorem dX1_peopleLine_324 : decode cX1_peopleLine 324 = .ok (.iconst 1, 1) := dk_4 (dk_at dksX1_peopleLine_10 12 rfl rfl)
theorem dX1_peopleLine_325 : decode cX1_peopleLine 325 = .ok (.iadd, 1) := dk_96 (dk_at dksX1_peopleLine_10 13 rfl rfl)
theorem dX1_peopleLine_326 : decode cX1_peopleLine 326 = .ok (.putfield 85, 3) := dk_181 0 85 (dk_at dksX1_peopleLine_10 14 rfl rfl)
theorem dX1_peopleLine_329 : decode cX1_peopleLine 329 = .ok (.return_, 1) := dk_177 (dk_at dksX1_peopleLine_10 17 rfl rfl)
theorem dX1_peopleLine_330 : decode cX1_peopleLine 330 = .ok (.aload_n 0, 1) := dk_42 (dk_at dksX1_peopleLine_10 18 rfl rfl)
theorem dX1_peopleLine_331 : decode cX1_peopleLine 331 = .ok (.aload_n 1, 1) := dk_43 (dk_at dksX1_peopleLine_10 19 rfl rfl)
theorem dX1_peopleLine_332 : decode cX1_peopleLine 332 = .ok (.iconst 0, 1) := dk_3 (dk_at dksX1_peopleLine_10 20 rfl rfl)
theorem dX1_peopleLine_333 : decode cX1_peopleLine 333 = .ok (.invokevirtual 140, 3) := dk_182 0 140 (dk_at dksX1_peopleLine_10 21 rfl rfl)
theorem dX1_peopleLine_336 : decode cX1_peopleLine 336 = .ok (.return_, 1) := dk_177 (dk_at dksX1_peopleLine_11 0 rfl rfl)
theorem dX1_peopleLine_337 : decode cX1_peopleLine 337 = .ok (.aload_n 0, 1) := dk_42 (dk_at dksX1_peopleLine_11 1 rfl rfl)
theorem dX1_peopleLine_338 : decode cX1_peopleLine 338 = .ok (.aload_n 1, 1) := dk_43 (dk_at dksX1_peopleLine_11 2 rfl rfl)
theorem dX1_peopleLine_339 : decode cX1_peopleLine 339 = .ok (.iconst 1, 1) := dk_4 (dk_at dksX1_peopleLine_11 3 rfl rfl)
theorem dX1_peopleLine_340 : decode cX1_peopleLine 340 = .ok (.invokevirtual 140, 3) := dk_182 0 140 (dk_at dksX1_peopleLine_11 4 rfl rfl)
theorem dX1_peopleLine_343 : decode cX1_peopleLine 343 = .ok (.return_, 1) := dk_177 (dk_at dksX1_peopleLine_11 7 rfl rfl)
theorem dX1_peopleLine_344 : decode cX1_peopleLine 344 = .ok (.aload_n 0, 1) := dk_42 (dk_at dksX1_peopleLine_11 8 rfl rfl)
theorem dX1_peopleLine_345 : decode cX1_peopleLine 345 = .ok (.aload_n 1, 1) := dk_43 (dk_at dksX1_peopleLine_11 9 rfl rfl)
theorem dX1_peopleLine_346 : decode cX1_peopleLine 346 = .ok (.iconst 2, 1) := dk_5 (dk_at dksX1_peopleLine_11 10 rfl rfl)
theorem dX1_peopleLine_347 : decode cX1_peopleLine 347 = .ok (.invokevirtual 140, 3) := dk_182 0 140 (dk_at dksX1_peopleLine_11 11 rfl rfl)
theorem dX1_peopleLine_350 : decode cX1_peopleLine 350 = .ok (.return_, 1) := dk_177 (dk_at dksX1_peopleLine_11 14 rfl rfl)
theorem dX1_peopleLine_351 : decode cX1_peopleLine 351 = .ok (.aload_n 0, 1) := dk_42 (dk_at dksX1_peopleLine_11 15 rfl rfl)
theorem dX1_peopleLine_352 : decode cX1_peopleLine 352 = .ok (.aload_n 1, 1) := dk_43 (dk_at dksX1_peopleLine_11 16 rfl rfl)
theorem dX1_peopleLine_353 : decode cX1_peopleLine 353 = .ok (.iconst 3, 1) := dk_6 (dk_at dksX1_peopleLine_11 17 rfl rfl)
theorem dX1_peopleLine_354 : decode cX1_peopleLine 354 = .ok (.invokevirtual 140, 3) := dk_182 0 140 (dk_at dksX1_peopleLine_11 18 rfl rfl)
theorem dX1_peopleLine_357 : decode cX1_peopleLine 357 = .ok (.return_, 1) := dk_177 (dk_at dksX1_peopleLine_11 21 rfl rfl)
theorem dX1_peopleLine_358 : decode cX1_peopleLine 358 = .ok (.aload_n 1, 1) := dk_43 (dk_at dksX1_peopleLine_11 22 rfl rfl)
theorem dX1_peopleLine_359 : decode cX1_peopleLine 359 = .ok (.getfield 144, 3) := dk_180 0 144 (dk_at dksX1_peopleLine_12 0 rfl rfl)
theorem dX1_peopleLine_362 : decode cX1_peopleLine 362 = .ok (.invokevirtual 59, 3) := dk_182 0 59 (dk_at dksX1_peopleLine_12 3 rfl rfl)
theorem dX1_peopleLine_365 : decode cX1_peopleLine 365 = .ok (.bipush 10, 2) := dk_16 10 (dk_at dksX1_peopleLine_12 6 rfl rfl)
theorem dX1_peopleLine_367 : decode cX1_peopleLine 367 = .ok (.if_icmp .ne 8, 3) := dk_160 0 8 (dk_at dksX1_peopleLine_12 8 rfl rfl)
theorem dX1_peopleLine_370 : decode cX1_peopleLine 370 = .ok (.aload_n 2, 1) := dk_44 (dk_at dksX1_peopleLine_12 11 rfl rfl)
theorem dX1_peopleLine_371 : decode cX1_peopleLine 371 = .ok (.invokevirtual 65, 3) := dk_182 0 65 (dk_at dksX1_peopleLine_12 12 rfl rfl)
theorem dX1_peopleLine_374 : decode cX1_peopleLine 374 = .ok (.athrow, 1) := dk_191 (dk_at dksX1_peopleLine_12 15 rfl rfl)
theorem dX1_peopleLine_375 : decode cX1_peopleLine 375 = .ok (.aload_n 1, 1) := dk_43 (dk_at dksX1_peopleLine_12 16 rfl rfl)
theorem dX1_peopleLine_376 : decode cX1_peopleLine 376 = .ok (.getfield 144, 3) := dk_180 0 144 (dk_at dksX1_peopleLine_12 17 rfl rfl)
theorem dX1_peopleLine_379 : decode cX1_peopleLine 379 = .ok (.new 147, 3) := dk_187 0 147 (dk_at dksX1_peopleLine_12 20 rfl rfl)
theorem dX1_peopleLine_382 : decode cX1_peopleLine 382 = .ok (.dup, 1) := dk_89 (dk_at dksX1_peopleLine_12 23 rfl rfl)
theorem dX1_peopleLine_383 : decode cX1_peopleLine 383 = .ok (.aload_n 2, 1) := dk_44 (dk_at dksX1_peopleLine_13 0 rfl rfl)
theorem dX1_peopleLine_384 : decode cX1_peopleLine 384 = .ok (.iconst 1, 1) := dk_4 (dk_at dksX1_peopleLine_13 1 rfl rfl)
theorem dX1_peopleLine_385 : decode cX1_peopleLine 385 = .ok (.bipush 99, 2) := dk_16 99 (dk_at dksX1_peopleLine_13 2 rfl rfl)
theorem dX1_peopleLine_387 : decode cX1_peopleLine 387 = .ok (.invokevirtual 69, 3) := dk_182 0 69 (dk_at dksX1_peopleLine_13 4 rfl rfl)
theorem dX1_peopleLine_390 : decode cX1_peopleLine 390 = .ok (.invokespecial 149, 3) := dk_183 0 149 (dk_at dksX1_peopleLine_13 7 rfl rfl)
theorem dX1_peopleLine_393 : decode cX1_peopleLine 393 = .ok (.invokevirtual 99, 3) := dk_182 0 99 (dk_at dksX1_peopleLine_13 10 rfl rfl)
theorem dX1_peopleLine_396 : decode cX1_peopleLine 396 = .ok (.pop, 1) := dk_87 (dk_at dksX1_peopleLine_13 13 rfl rfl)
theorem dX1_peopleLine_397 : decode cX1_peopleLine 397 = .ok (.return_, 1) := dk_177 (dk_at dksX1_peopleLine_13 14 rfl rfl)
theorem dX1_peopleLine_398 : decode cX1_peopleLine 398 = .ok (.aload_n 1, 1) := dk_43 (dk_at dksX1_peopleLine_13 15 rfl rfl)
theorem dX1_peopleLine_399 : decode cX1_peopleLine 399 = .ok (.aload_n 2, 1) := dk_44 (dk_at dksX1_peopleLine_13 16 rfl rfl)
theorem dX1_peopleLine_400 : decode cX1_peopleLine 400 = .ok (.iconst 1, 1) := dk_4 (dk_at dksX1_peopleLine_13 17 rfl rfl)
theorem dX1_peopleLine_401 : decode cX1_peopleLine 401 = .ok (.sipush 999, 3) := dk_17 3 231 (dk_at dksX1_peopleLine_13 18 rfl rfl)
theorem dX1_peopleLine_404 : decode cX1_peopleLine 404 = .ok (.invokevirtual 69, 3) := dk_182 0 69 (dk_at dksX1_peopleLine_13 21 rfl rfl)
theorem dX1_peopleLine_407 : decode cX1_peopleLine 407 = .ok (.putfield 152, 3) := dk_181 0 152 (dk_at dksX1_peopleLine_14 0 rfl rfl)
theorem dX1_peopleLine_410 : decode cX1_peopleLine 410 = .ok (.return_, 1) := dk_177 (dk_at dksX1_peopleLine_14 3 rfl rfl)
theorem dX1_peopleLine_411 : decode cX1_peopleLine 411 = .ok (.aload_n 1, 1) := dk_43 (dk_at dksX1_peopleLine_14 4 rfl rfl)
theorem dX1_peopleLine_412 : decode cX1_peopleLine 412 = .ok (.aload_n 2, 1) := dk_44 (dk_at dksX1_peopleLine_14 5 rfl rfl)
theorem dX1_peopleLine_413 : decode cX1_peopleLine 413 = .ok (.iconst 0, 1) := dk_3 (dk_at dksX1_peopleLine_14 6 rfl rfl)
theorem dX1_peopleLine_414 : decode cX1_peopleLine 414 = .ok (.iconst 3, 1) := dk_6 (dk_at dksX1_peopleLine_14 7 rfl rfl)
theorem dX1_peopleLine_415 : decode cX1_peopleLine 415 = .ok (.invokevirtual 69, 3) := dk_182 0 69 (dk_at dksX1_peopleLine_14 8 rfl rfl)
theorem dX1_peopleLine_418 : decode cX1_peopleLine 418 = .ok (.putfield 154, 3) := dk_181 0 154 (dk_at dksX1_peopleLine_14 11 rfl rfl)
theorem dX1_peopleLine_421 : decode cX1_peopleLine 421 = .ok (.return_, 1) := dk_177 (dk_at dksX1_peopleLine_14 14 rfl rfl)
theorem dX1_peopleLine_422 : decode cX1_peopleLine 422 = .ok (.aload_n 0, 1) := dk_42 (dk_at dksX1_peopleLine_14 15 rfl rfl)
theorem dX1_peopleLine_423 : decode cX1_peopleLine 423 = .ok (.aload_n 1, 1) := dk_43 (dk_at dksX1_peopleLine_14 16 rfl rfl)
theorem dX1_peopleLine_424 : decode cX1_peopleLine 424 = .ok (.invokevirtual 156, 3) := dk_182 0 156 (dk_at dksX1_peopleLine_14 17 rfl rfl)
theorem dX1_peopleLine_427 : decode cX1_peopleLine 427 = .ok (.return_, 1) := dk_177 (dk_at dksX1_peopleLine_14 20 rfl rfl)
theorem dX1_peopleLine_428 : decode cX1_peopleLine 428 = .ok (.aload_n 2, 1) := dk_44 (dk_at dksX1_peopleLine_14 21 rfl rfl)
theorem dX1_peopleLine_429 : decode cX1_peopleLine 429 = .ok (.invokevirtual 65, 3) := dk_182 0 65 (dk_at dksX1_peopleLine_15 0 rfl rfl)
theorem dX1_peopleLine_432 : decode cX1_peopleLine 432 = .ok (.athrow, 1) := dk_191 (dk_at dksX1_peopleLine_15 3 rfl rfl)
abbrev cX1_walkerTold : ByteArray := prog_1_method_6_code
def yX1_walkerTold : MethodName := ⟨RX1, "walkerTold", "(LStepDebts$World;I)V"⟩
def dkwX1_walkerTold_4 : List UInt8 := [183, 0, 96, 182, 0, 99, 87, 177]
abbrev dktX1_walkerTold_4 : List UInt8 := dkwX1_walkerTold_4 ++ []
def dkwX1_walkerTold_3 : List UInt8 := [21, 5, 45, 18, 90, 182, 0, 92, 153, 0, 13, 45, 3, 16, 100, 182, 0, 69, 167, 0, 5, 16, 50]
abbrev dktX1_walkerTold_3 : List UInt8 := dkwX1_walkerTold_3 ++ dktX1_walkerTold_4
def dkwX1_walkerTold_2 : List UInt8 := [45, 3, 43, 180, 0, 85, 4, 100, 182, 0, 69, 54, 5, 43, 180, 0, 55, 187, 0, 88, 89, 28, 21, 4]
abbrev dktX1_walkerTold_2 : List UInt8 := dkwX1_walkerTold_2 ++ dktX1_walkerTold_3
def dkwX1_walkerTold_1 : List UInt8 := [16, 99, 182, 0, 69, 54, 4, 45, 182, 0, 73, 18, 77, 182, 0, 79, 154, 0, 8, 45, 182, 0, 65, 191]
abbrev dktX1_walkerTold_1 : List UInt8 := dkwX1_walkerTold_1 ++ dktX1_walkerTold_2
def dkwX1_walkerTold_0 : List UInt8 := [42, 180, 0, 19, 78, 43, 180, 0, 55, 182, 0, 59, 16, 12, 160, 0, 8, 45, 182, 0, 65, 191, 45, 3]
abbrev dktX1_walkerTold_0 : List UInt8 := dkwX1_walkerTold_0 ++ dktX1_walkerTold_1
theorem dksX1_walkerTold_0 : cX1_walkerTold.data.toList.drop 0 = dktX1_walkerTold_0 := by decide +kernel
theorem dksX1_walkerTold_1 : cX1_walkerTold.data.toList.drop 24 = dktX1_walkerTold_1 := dk_seg dksX1_walkerTold_0 24 rfl rfl
theorem dksX1_walkerTold_2 : cX1_walkerTold.data.toList.drop 48 = dktX1_walkerTold_2 := dk_seg dksX1_walkerTold_1 24 rfl rfl
theorem dksX1_walkerTold_3 : cX1_walkerTold.data.toList.drop 72 = dktX1_walkerTold_3 := dk_seg dksX1_walkerTold_2 24 rfl rfl
theorem dksX1_walkerTold_4 : cX1_walkerTold.data.toList.drop 95 = dktX1_walkerTold_4 := dk_seg dksX1_walkerTold_3 23 rfl rfl
theorem dX1_walkerTold_0 : decode cX1_walkerTold 0 = .ok (.aload_n 0, 1) := dk_42 (dk_at dksX1_walkerTold_0 0 rfl rfl)
theorem dX1_walkerTold_1 : decode cX1_walkerTold 1 = .ok (.getfield 19, 3) := dk_180 0 19 (dk_at dksX1_walkerTold_0 1 rfl rfl)
theorem dX1_walkerTold_4 : decode cX1_walkerTold 4 = .ok (.astore_n 3, 1) := dk_78 (dk_at dksX1_walkerTold_0 4 rfl rfl)
theorem dX1_walkerTold_5 : decode cX1_walkerTold 5 = .ok (.aload_n 1, 1) := dk_43 (dk_at dksX1_walkerTold_0 5 rfl rfl)
theorem dX1_walkerTold_6 : decode cX1_walkerTold 6 = .ok (.getfield 55, 3) := dk_180 0 55 (dk_at dksX1_walkerTold_0 6 rfl rfl)
theorem dX1_walkerTold_9 : decode cX1_walkerTold 9 = .ok (.invokevirtual 59, 3) := dk_182 0 59 (dk_at dksX1_walkerTold_0 9 rfl rfl)
theorem dX1_walkerTold_12 : decode cX1_walkerTold 12 = .ok (.bipush 12, 2) := dk_16 12 (dk_at dksX1_walkerTold_0 12 rfl rfl)
theorem dX1_walkerTold_14 : decode cX1_walkerTold 14 = .ok (.if_icmp .ne 8, 3) := dk_160 0 8 (dk_at dksX1_walkerTold_0 14 rfl rfl)
theorem dX1_walkerTold_17 : decode cX1_walkerTold 17 = .ok (.aload_n 3, 1) := dk_45 (dk_at dksX1_walkerTold_0 17 rfl rfl)
theorem dX1_walkerTold_18 : decode cX1_walkerTold 18 = .ok (.invokevirtual 65, 3) := dk_182 0 65 (dk_at dksX1_walkerTold_0 18 rfl rfl)
theorem dX1_walkerTold_21 : decode cX1_walkerTold 21 = .ok (.athrow, 1) := dk_191 (dk_at dksX1_walkerTold_0 21 rfl rfl)
theorem dX1_walkerTold_22 : decode cX1_walkerTold 22 = .ok (.aload_n 3, 1) := dk_45 (dk_at dksX1_walkerTold_0 22 rfl rfl)
theorem dX1_walkerTold_23 : decode cX1_walkerTold 23 = .ok (.iconst 0, 1) := dk_3 (dk_at dksX1_walkerTold_0 23 rfl rfl)
theorem dX1_walkerTold_24 : decode cX1_walkerTold 24 = .ok (.bipush 99, 2) := dk_16 99 (dk_at dksX1_walkerTold_1 0 rfl rfl)
theorem dX1_walkerTold_26 : decode cX1_walkerTold 26 = .ok (.invokevirtual 69, 3) := dk_182 0 69 (dk_at dksX1_walkerTold_1 2 rfl rfl)
theorem dX1_walkerTold_29 : decode cX1_walkerTold 29 = .ok (.istore 4, 2) := dk_54 4 (dk_at dksX1_walkerTold_1 5 rfl rfl)
theorem dX1_walkerTold_31 : decode cX1_walkerTold 31 = .ok (.aload_n 3, 1) := dk_45 (dk_at dksX1_walkerTold_1 7 rfl rfl)
theorem dX1_walkerTold_32 : decode cX1_walkerTold 32 = .ok (.invokevirtual 73, 3) := dk_182 0 73 (dk_at dksX1_walkerTold_1 8 rfl rfl)
theorem dX1_walkerTold_35 : decode cX1_walkerTold 35 = .ok (.ldc 77, 2) := dk_18 77 (dk_at dksX1_walkerTold_1 11 rfl rfl)
theorem dX1_walkerTold_37 : decode cX1_walkerTold 37 = .ok (.invokevirtual 79, 3) := dk_182 0 79 (dk_at dksX1_walkerTold_1 13 rfl rfl)
theorem dX1_walkerTold_40 : decode cX1_walkerTold 40 = .ok (.ifCond .ne 8, 3) := dk_154 0 8 (dk_at dksX1_walkerTold_1 16 rfl rfl)
theorem dX1_walkerTold_43 : decode cX1_walkerTold 43 = .ok (.aload_n 3, 1) := dk_45 (dk_at dksX1_walkerTold_1 19 rfl rfl)
theorem dX1_walkerTold_44 : decode cX1_walkerTold 44 = .ok (.invokevirtual 65, 3) := dk_182 0 65 (dk_at dksX1_walkerTold_1 20 rfl rfl)
theorem dX1_walkerTold_47 : decode cX1_walkerTold 47 = .ok (.athrow, 1) := dk_191 (dk_at dksX1_walkerTold_1 23 rfl rfl)
theorem dX1_walkerTold_48 : decode cX1_walkerTold 48 = .ok (.aload_n 3, 1) := dk_45 (dk_at dksX1_walkerTold_2 0 rfl rfl)
theorem dX1_walkerTold_49 : decode cX1_walkerTold 49 = .ok (.iconst 0, 1) := dk_3 (dk_at dksX1_walkerTold_2 1 rfl rfl)
theorem dX1_walkerTold_50 : decode cX1_walkerTold 50 = .ok (.aload_n 1, 1) := dk_43 (dk_at dksX1_walkerTold_2 2 rfl rfl)
theorem dX1_walkerTold_51 : decode cX1_walkerTold 51 = .ok (.getfield 85, 3) := dk_180 0 85 (dk_at dksX1_walkerTold_2 3 rfl rfl)
theorem dX1_walkerTold_54 : decode cX1_walkerTold 54 = .ok (.iconst 1, 1) := dk_4 (dk_at dksX1_walkerTold_2 6 rfl rfl)
theorem dX1_walkerTold_55 : decode cX1_walkerTold 55 = .ok (.isub, 1) := dk_100 (dk_at dksX1_walkerTold_2 7 rfl rfl)
theorem dX1_walkerTold_56 : decode cX1_walkerTold 56 = .ok (.invokevirtual 69, 3) := dk_182 0 69 (dk_at dksX1_walkerTold_2 8 rfl rfl)
theorem dX1_walkerTold_59 : decode cX1_walkerTold 59 = .ok (.istore 5, 2) := dk_54 5 (dk_at dksX1_walkerTold_2 11 rfl rfl)
theorem dX1_walkerTold_61 : decode cX1_walkerTold 61 = .ok (.aload_n 1, 1) := dk_43 (dk_at dksX1_walkerTold_2 13 rfl rfl)
theorem dX1_walkerTold_62 : decode cX1_walkerTold 62 = .ok (.getfield 55, 3) := dk_180 0 55 (dk_at dksX1_walkerTold_2 14 rfl rfl)
theorem dX1_walkerTold_65 : decode cX1_walkerTold 65 = .ok (.new 88, 3) := dk_187 0 88 (dk_at dksX1_walkerTold_2 17 rfl rfl)
theorem dX1_walkerTold_68 : decode cX1_walkerTold 68 = .ok (.dup, 1) := dk_89 (dk_at dksX1_walkerTold_2 20 rfl rfl)
theorem dX1_walkerTold_69 : decode cX1_walkerTold 69 = .ok (.iload_n 2, 1) := dk_28 (dk_at dksX1_walkerTold_2 21 rfl rfl)
theorem dX1_walkerTold_70 : decode cX1_walkerTold 70 = .ok (.iload 4, 2) := dk_21 4 (dk_at dksX1_walkerTold_2 22 rfl rfl)
theorem dX1_walkerTold_72 : decode cX1_walkerTold 72 = .ok (.iload 5, 2) := dk_21 5 (dk_at dksX1_walkerTold_3 0 rfl rfl)
theorem dX1_walkerTold_74 : decode cX1_walkerTold 74 = .ok (.aload_n 3, 1) := dk_45 (dk_at dksX1_walkerTold_3 2 rfl rfl)
theorem dX1_walkerTold_75 : decode cX1_walkerTold 75 = .ok (.ldc 90, 2) := dk_18 90 (dk_at dksX1_walkerTold_3 3 rfl rfl)
theorem dX1_walkerTold_77 : decode cX1_walkerTold 77 = .ok (.invokevirtual 92, 3) := dk_182 0 92 (dk_at dksX1_walkerTold_3 5 rfl rfl)
theorem dX1_walkerTold_80 : decode cX1_walkerTold 80 = .ok (.ifCond .eq 13, 3) := dk_153 0 13 (dk_at dksX1_walkerTold_3 8 rfl rfl)
theorem dX1_walkerTold_83 : decode cX1_walkerTold 83 = .ok (.aload_n 3, 1) := dk_45 (dk_at dksX1_walkerTold_3 11 rfl rfl)
theorem dX1_walkerTold_84 : decode cX1_walkerTold 84 = .ok (.iconst 0, 1) := dk_3 (dk_at dksX1_walkerTold_3 12 rfl rfl)
theorem dX1_walkerTold_85 : decode cX1_walkerTold 85 = .ok (.bipush 100, 2) := dk_16 100 (dk_at dksX1_walkerTold_3 13 rfl rfl)
theorem dX1_walkerTold_87 : decode cX1_walkerTold 87 = .ok (.invokevirtual 69, 3) := dk_182 0 69 (dk_at dksX1_walkerTold_3 15 rfl rfl)
theorem dX1_walkerTold_90 : decode cX1_walkerTold 90 = .ok (.goto 5, 3) := dk_167 0 5 (dk_at dksX1_walkerTold_3 18 rfl rfl)
theorem dX1_walkerTold_93 : decode cX1_walkerTold 93 = .ok (.bipush 50, 2) := dk_16 50 (dk_at dksX1_walkerTold_3 21 rfl rfl)
theorem dX1_walkerTold_95 : decode cX1_walkerTold 95 = .ok (.invokespecial 96, 3) := dk_183 0 96 (dk_at dksX1_walkerTold_4 0 rfl rfl)
theorem dX1_walkerTold_98 : decode cX1_walkerTold 98 = .ok (.invokevirtual 99, 3) := dk_182 0 99 (dk_at dksX1_walkerTold_4 3 rfl rfl)
theorem dX1_walkerTold_101 : decode cX1_walkerTold 101 = .ok (.pop, 1) := dk_87 (dk_at dksX1_walkerTold_4 6 rfl rfl)
theorem dX1_walkerTold_102 : decode cX1_walkerTold 102 = .ok (.return_, 1) := dk_177 (dk_at dksX1_walkerTold_4 7 rfl rfl)
abbrev cX1_offerTold : ByteArray := prog_1_method_7_code
def yX1_offerTold : MethodName := ⟨RX1, "offerTold", "(LStepDebts$World;)V"⟩
def dkwX1_offerTold_3 : List UInt8 := [177]
abbrev dktX1_offerTold_3 : List UInt8 := dkwX1_offerTold_3 ++ []
def dkwX1_offerTold_2 : List UInt8 := [43, 180, 0, 101, 187, 0, 111, 89, 29, 44, 3, 17, 3, 231, 182, 0, 69, 183, 0, 113, 182, 0, 99, 87]
abbrev dktX1_offerTold_2 : List UInt8 := dkwX1_offerTold_2 ++ dktX1_offerTold_3
def dkwX1_offerTold_1 : List UInt8 := [18, 104, 8, 182, 0, 105, 62, 44, 182, 0, 73, 18, 109, 182, 0, 79, 154, 0, 8, 44, 182, 0, 65, 191]
abbrev dktX1_offerTold_1 : List UInt8 := dkwX1_offerTold_1 ++ dktX1_offerTold_2
def dkwX1_offerTold_0 : List UInt8 := [42, 180, 0, 19, 77, 43, 180, 0, 101, 182, 0, 59, 16, 12, 160, 0, 8, 44, 182, 0, 65, 191, 44, 4]
abbrev dktX1_offerTold_0 : List UInt8 := dkwX1_offerTold_0 ++ dktX1_offerTold_1
theorem dksX1_offerTold_0 : cX1_offerTold.data.toList.drop 0 = dktX1_offerTold_0 := by decide +kernel
theorem dksX1_offerTold_1 : cX1_offerTold.data.toList.drop 24 = dktX1_offerTold_1 := dk_seg dksX1_offerTold_0 24 rfl rfl
theorem dksX1_offerTold_2 : cX1_offerTold.data.toList.drop 48 = dktX1_offerTold_2 := dk_seg dksX1_offerTold_1 24 rfl rfl
theorem dksX1_offerTold_3 : cX1_offerTold.data.toList.drop 72 = dktX1_offerTold_3 := dk_seg dksX1_offerTold_2 24 rfl rfl
theorem dX1_offerTold_0 : decode cX1_offerTold 0 = .ok (.aload_n 0, 1) := dk_42 (dk_at dksX1_offerTold_0 0 rfl rfl)
theorem dX1_offerTold_1 : decode cX1_offerTold 1 = .ok (.getfield 19, 3) := dk_180 0 19 (dk_at dksX1_offerTold_0 1 rfl rfl)
theorem dX1_offerTold_4 : decode cX1_offerTold 4 = .ok (.astore_n 2, 1) := dk_77 (dk_at dksX1_offerTold_0 4 rfl rfl)
theorem dX1_offerTold_5 : decode cX1_offerTold 5 = .ok (.aload_n 1, 1) := dk_43 (dk_at dksX1_offerTold_0 5 rfl rfl)
theorem dX1_offerTold_6 : decode cX1_offerTold 6 = .ok (.getfield 101, 3) := dk_180 0 101 (dk_at dksX1_offerTold_0 6 rfl rfl)
theorem dX1_offerTold_9 : decode cX1_offerTold 9 = .ok (.invokevirtual 59, 3) := dk_182 0 59 (dk_at dksX1_offerTold_0 9 rfl rfl)
theorem dX1_offerTold_12 : decode cX1_offerTold 12 = .ok (.bipush 12, 2) := dk_16 12 (dk_at dksX1_offerTold_0 12 rfl rfl)
theorem dX1_offerTold_14 : decode cX1_offerTold 14 = .ok (.if_icmp .ne 8, 3) := dk_160 0 8 (dk_at dksX1_offerTold_0 14 rfl rfl)
theorem dX1_offerTold_17 : decode cX1_offerTold 17 = .ok (.aload_n 2, 1) := dk_44 (dk_at dksX1_offerTold_0 17 rfl rfl)
theorem dX1_offerTold_18 : decode cX1_offerTold 18 = .ok (.invokevirtual 65, 3) := dk_182 0 65 (dk_at dksX1_offerTold_0 18 rfl rfl)
theorem dX1_offerTold_21 : decode cX1_offerTold 21 = .ok (.athrow, 1) := dk_191 (dk_at dksX1_offerTold_0 21 rfl rfl)
theorem dX1_offerTold_22 : decode cX1_offerTold 22 = .ok (.aload_n 2, 1) := dk_44 (dk_at dksX1_offerTold_0 22 rfl rfl)
theorem dX1_offerTold_23 : decode cX1_offerTold 23 = .ok (.iconst 1, 1) := dk_4 (dk_at dksX1_offerTold_0 23 rfl rfl)
theorem dX1_offerTold_24 : decode cX1_offerTold 24 = .ok (.ldc 104, 2) := dk_18 104 (dk_at dksX1_offerTold_1 0 rfl rfl)
theorem dX1_offerTold_26 : decode cX1_offerTold 26 = .ok (.iconst 5, 1) := dk_8 (dk_at dksX1_offerTold_1 2 rfl rfl)
theorem dX1_offerTold_27 : decode cX1_offerTold 27 = .ok (.invokevirtual 105, 3) := dk_182 0 105 (dk_at dksX1_offerTold_1 3 rfl rfl)
theorem dX1_offerTold_30 : decode cX1_offerTold 30 = .ok (.istore_n 3, 1) := dk_62 (dk_at dksX1_offerTold_1 6 rfl rfl)
theorem dX1_offerTold_31 : decode cX1_offerTold 31 = .ok (.aload_n 2, 1) := dk_44 (dk_at dksX1_offerTold_1 7 rfl rfl)
theorem dX1_offerTold_32 : decode cX1_offerTold 32 = .ok (.invokevirtual 73, 3) := dk_182 0 73 (dk_at dksX1_offerTold_1 8 rfl rfl)
theorem dX1_offerTold_35 : decode cX1_offerTold 35 = .ok (.ldc 109, 2) := dk_18 109 (dk_at dksX1_offerTold_1 11 rfl rfl)
theorem dX1_offerTold_37 : decode cX1_offerTold 37 = .ok (.invokevirtual 79, 3) := dk_182 0 79 (dk_at dksX1_offerTold_1 13 rfl rfl)
theorem dX1_offerTold_40 : decode cX1_offerTold 40 = .ok (.ifCond .ne 8, 3) := dk_154 0 8 (dk_at dksX1_offerTold_1 16 rfl rfl)
theorem dX1_offerTold_43 : decode cX1_offerTold 43 = .ok (.aload_n 2, 1) := dk_44 (dk_at dksX1_offerTold_1 19 rfl rfl)
theorem dX1_offerTold_44 : decode cX1_offerTold 44 = .ok (.invokevirtual 65, 3) := dk_182 0 65 (dk_at dksX1_offerTold_1 20 rfl rfl)
theorem dX1_offerTold_47 : decode cX1_offerTold 47 = .ok (.athrow, 1) := dk_191 (dk_at dksX1_offerTold_1 23 rfl rfl)
theorem dX1_offerTold_48 : decode cX1_offerTold 48 = .ok (.aload_n 1, 1) := dk_43 (dk_at dksX1_offerTold_2 0 rfl rfl)
theorem dX1_offerTold_49 : decode cX1_offerTold 49 = .ok (.getfield 101, 3) := dk_180 0 101 (dk_at dksX1_offerTold_2 1 rfl rfl)
theorem dX1_offerTold_52 : decode cX1_offerTold 52 = .ok (.new 111, 3) := dk_187 0 111 (dk_at dksX1_offerTold_2 4 rfl rfl)
theorem dX1_offerTold_55 : decode cX1_offerTold 55 = .ok (.dup, 1) := dk_89 (dk_at dksX1_offerTold_2 7 rfl rfl)
theorem dX1_offerTold_56 : decode cX1_offerTold 56 = .ok (.iload_n 3, 1) := dk_29 (dk_at dksX1_offerTold_2 8 rfl rfl)
theorem dX1_offerTold_57 : decode cX1_offerTold 57 = .ok (.aload_n 2, 1) := dk_44 (dk_at dksX1_offerTold_2 9 rfl rfl)
theorem dX1_offerTold_58 : decode cX1_offerTold 58 = .ok (.iconst 0, 1) := dk_3 (dk_at dksX1_offerTold_2 10 rfl rfl)
theorem dX1_offerTold_59 : decode cX1_offerTold 59 = .ok (.sipush 999, 3) := dk_17 3 231 (dk_at dksX1_offerTold_2 11 rfl rfl)
theorem dX1_offerTold_62 : decode cX1_offerTold 62 = .ok (.invokevirtual 69, 3) := dk_182 0 69 (dk_at dksX1_offerTold_2 14 rfl rfl)
theorem dX1_offerTold_65 : decode cX1_offerTold 65 = .ok (.invokespecial 113, 3) := dk_183 0 113 (dk_at dksX1_offerTold_2 17 rfl rfl)
theorem dX1_offerTold_68 : decode cX1_offerTold 68 = .ok (.invokevirtual 99, 3) := dk_182 0 99 (dk_at dksX1_offerTold_2 20 rfl rfl)
theorem dX1_offerTold_71 : decode cX1_offerTold 71 = .ok (.pop, 1) := dk_87 (dk_at dksX1_offerTold_2 23 rfl rfl)
theorem dX1_offerTold_72 : decode cX1_offerTold 72 = .ok (.return_, 1) := dk_177 (dk_at dksX1_offerTold_3 0 rfl rfl)
abbrev cX1_goesOn : ByteArray := prog_1_method_11_code
def yX1_goesOn : MethodName := ⟨RX1, "goesOn", "()Z"⟩
def dkwX1_goesOn_1 : List UInt8 := [4, 172, 42, 180, 0, 19, 182, 0, 65, 191]
abbrev dktX1_goesOn_1 : List UInt8 := dkwX1_goesOn_1 ++ []
def dkwX1_goesOn_0 : List UInt8 := [42, 180, 0, 19, 182, 0, 160, 153, 0, 5, 3, 172, 42, 180, 0, 19, 16, 59, 182, 0, 173, 153, 0, 5]
abbrev dktX1_goesOn_0 : List UInt8 := dkwX1_goesOn_0 ++ dktX1_goesOn_1
theorem dksX1_goesOn_0 : cX1_goesOn.data.toList.drop 0 = dktX1_goesOn_0 := by decide +kernel
theorem dksX1_goesOn_1 : cX1_goesOn.data.toList.drop 24 = dktX1_goesOn_1 := dk_seg dksX1_goesOn_0 24 rfl rfl
theorem dX1_goesOn_0 : decode cX1_goesOn 0 = .ok (.aload_n 0, 1) := dk_42 (dk_at dksX1_goesOn_0 0 rfl rfl)
theorem dX1_goesOn_1 : decode cX1_goesOn 1 = .ok (.getfield 19, 3) := dk_180 0 19 (dk_at dksX1_goesOn_0 1 rfl rfl)
theorem dX1_goesOn_4 : decode cX1_goesOn 4 = .ok (.invokevirtual 160, 3) := dk_182 0 160 (dk_at dksX1_goesOn_0 4 rfl rfl)
theorem dX1_goesOn_7 : decode cX1_goesOn 7 = .ok (.ifCond .eq 5, 3) := dk_153 0 5 (dk_at dksX1_goesOn_0 7 rfl rfl)
theorem dX1_goesOn_10 : decode cX1_goesOn 10 = .ok (.iconst 0, 1) := dk_3 (dk_at dksX1_goesOn_0 10 rfl rfl)
theorem dX1_goesOn_11 : decode cX1_goesOn 11 = .ok (.ireturn, 1) := dk_172 (dk_at dksX1_goesOn_0 11 rfl rfl)
theorem dX1_goesOn_12 : decode cX1_goesOn 12 = .ok (.aload_n 0, 1) := dk_42 (dk_at dksX1_goesOn_0 12 rfl rfl)
theorem dX1_goesOn_13 : decode cX1_goesOn 13 = .ok (.getfield 19, 3) := dk_180 0 19 (dk_at dksX1_goesOn_0 13 rfl rfl)
theorem dX1_goesOn_16 : decode cX1_goesOn 16 = .ok (.bipush 59, 2) := dk_16 59 (dk_at dksX1_goesOn_0 16 rfl rfl)
theorem dX1_goesOn_18 : decode cX1_goesOn 18 = .ok (.invokevirtual 173, 3) := dk_182 0 173 (dk_at dksX1_goesOn_0 18 rfl rfl)
theorem dX1_goesOn_21 : decode cX1_goesOn 21 = .ok (.ifCond .eq 5, 3) := dk_153 0 5 (dk_at dksX1_goesOn_0 21 rfl rfl)
theorem dX1_goesOn_24 : decode cX1_goesOn 24 = .ok (.iconst 1, 1) := dk_4 (dk_at dksX1_goesOn_1 0 rfl rfl)
theorem dX1_goesOn_25 : decode cX1_goesOn 25 = .ok (.ireturn, 1) := dk_172 (dk_at dksX1_goesOn_1 1 rfl rfl)
theorem dX1_goesOn_26 : decode cX1_goesOn 26 = .ok (.aload_n 0, 1) := dk_42 (dk_at dksX1_goesOn_1 2 rfl rfl)
theorem dX1_goesOn_27 : decode cX1_goesOn 27 = .ok (.getfield 19, 3) := dk_180 0 19 (dk_at dksX1_goesOn_1 3 rfl rfl)
theorem dX1_goesOn_30 : decode cX1_goesOn 30 = .ok (.invokevirtual 65, 3) := dk_182 0 65 (dk_at dksX1_goesOn_1 6 rfl rfl)
theorem dX1_goesOn_33 : decode cX1_goesOn 33 = .ok (.athrow, 1) := dk_191 (dk_at dksX1_goesOn_1 9 rfl rfl)
abbrev cX1_fails : ByteArray := prog_1_method_12_code
def yX1_fails : MethodName := ⟨RX1, "fails", "()V"⟩
def dkwX1_fails_0 : List UInt8 := [42, 180, 0, 19, 42, 180, 0, 19, 180, 0, 176, 181, 0, 51, 187, 0, 179, 89, 183, 0, 181, 191]
abbrev dktX1_fails_0 : List UInt8 := dkwX1_fails_0 ++ []
theorem dksX1_fails_0 : cX1_fails.data.toList.drop 0 = dktX1_fails_0 := by decide +kernel
theorem dX1_fails_0 : decode cX1_fails 0 = .ok (.aload_n 0, 1) := dk_42 (dk_at dksX1_fails_0 0 rfl rfl)
theorem dX1_fails_1 : decode cX1_fails 1 = .ok (.getfield 19, 3) := dk_180 0 19 (dk_at dksX1_fails_0 1 rfl rfl)
theorem dX1_fails_4 : decode cX1_fails 4 = .ok (.aload_n 0, 1) := dk_42 (dk_at dksX1_fails_0 4 rfl rfl)
theorem dX1_fails_5 : decode cX1_fails 5 = .ok (.getfield 19, 3) := dk_180 0 19 (dk_at dksX1_fails_0 5 rfl rfl)
theorem dX1_fails_8 : decode cX1_fails 8 = .ok (.getfield 176, 3) := dk_180 0 176 (dk_at dksX1_fails_0 8 rfl rfl)
theorem dX1_fails_11 : decode cX1_fails 11 = .ok (.putfield 51, 3) := dk_181 0 51 (dk_at dksX1_fails_0 11 rfl rfl)
theorem dX1_fails_14 : decode cX1_fails 14 = .ok (.new 179, 3) := dk_187 0 179 (dk_at dksX1_fails_0 14 rfl rfl)
theorem dX1_fails_17 : decode cX1_fails 17 = .ok (.dup, 1) := dk_89 (dk_at dksX1_fails_0 17 rfl rfl)
theorem dX1_fails_18 : decode cX1_fails 18 = .ok (.invokespecial 181, 3) := dk_183 0 181 (dk_at dksX1_fails_0 18 rfl rfl)
theorem dX1_fails_21 : decode cX1_fails 21 = .ok (.athrow, 1) := dk_191 (dk_at dksX1_fails_0 21 rfl rfl)
abbrev cX1_law : ByteArray := prog_1_method_21_code
def yX1_law : MethodName := ⟨RX1, "law", "()I"⟩
def dkwX1_law_2 : List UInt8 := [172]
abbrev dktX1_law_2 : List UInt8 := dkwX1_law_2 ++ []
def dkwX1_law_1 : List UInt8 := [181, 0, 51, 167, 0, 8, 76, 42, 182, 0, 194, 42, 180, 0, 10, 180, 1, 49, 180, 1, 38, 182, 0, 59]
abbrev dktX1_law_1 : List UInt8 := dkwX1_law_1 ++ dktX1_law_2
def dkwX1_law_0 : List UInt8 := [42, 180, 0, 19, 182, 0, 182, 42, 180, 0, 10, 42, 182, 1, 45, 181, 1, 49, 42, 180, 0, 19, 2]
abbrev dktX1_law_0 : List UInt8 := dkwX1_law_0 ++ dktX1_law_1
theorem dksX1_law_0 : cX1_law.data.toList.drop 0 = dktX1_law_0 := by decide +kernel
theorem dksX1_law_1 : cX1_law.data.toList.drop 23 = dktX1_law_1 := dk_seg dksX1_law_0 23 rfl rfl
theorem dksX1_law_2 : cX1_law.data.toList.drop 47 = dktX1_law_2 := dk_seg dksX1_law_1 24 rfl rfl
theorem dX1_law_0 : decode cX1_law 0 = .ok (.aload_n 0, 1) := dk_42 (dk_at dksX1_law_0 0 rfl rfl)
theorem dX1_law_1 : decode cX1_law 1 = .ok (.getfield 19, 3) := dk_180 0 19 (dk_at dksX1_law_0 1 rfl rfl)
theorem dX1_law_4 : decode cX1_law 4 = .ok (.invokevirtual 182, 3) := dk_182 0 182 (dk_at dksX1_law_0 4 rfl rfl)
theorem dX1_law_7 : decode cX1_law 7 = .ok (.aload_n 0, 1) := dk_42 (dk_at dksX1_law_0 7 rfl rfl)
theorem dX1_law_8 : decode cX1_law 8 = .ok (.getfield 10, 3) := dk_180 0 10 (dk_at dksX1_law_0 8 rfl rfl)
theorem dX1_law_11 : decode cX1_law 11 = .ok (.aload_n 0, 1) := dk_42 (dk_at dksX1_law_0 11 rfl rfl)
theorem dX1_law_12 : decode cX1_law 12 = .ok (.invokevirtual 301, 3) := dk_182 1 45 (dk_at dksX1_law_0 12 rfl rfl)
theorem dX1_law_15 : decode cX1_law 15 = .ok (.putfield 305, 3) := dk_181 1 49 (dk_at dksX1_law_0 15 rfl rfl)
theorem dX1_law_18 : decode cX1_law 18 = .ok (.aload_n 0, 1) := dk_42 (dk_at dksX1_law_0 18 rfl rfl)
theorem dX1_law_19 : decode cX1_law 19 = .ok (.getfield 19, 3) := dk_180 0 19 (dk_at dksX1_law_0 19 rfl rfl)
theorem dX1_law_22 : decode cX1_law 22 = .ok (.iconst (-1), 1) := dk_2 (dk_at dksX1_law_0 22 rfl rfl)
theorem dX1_law_23 : decode cX1_law 23 = .ok (.putfield 51, 3) := dk_181 0 51 (dk_at dksX1_law_1 0 rfl rfl)
theorem dX1_law_26 : decode cX1_law 26 = .ok (.goto 8, 3) := dk_167 0 8 (dk_at dksX1_law_1 3 rfl rfl)
theorem dX1_law_29 : decode cX1_law 29 = .ok (.astore_n 1, 1) := dk_76 (dk_at dksX1_law_1 6 rfl rfl)
theorem dX1_law_30 : decode cX1_law 30 = .ok (.aload_n 0, 1) := dk_42 (dk_at dksX1_law_1 7 rfl rfl)
theorem dX1_law_31 : decode cX1_law 31 = .ok (.invokevirtual 194, 3) := dk_182 0 194 (dk_at dksX1_law_1 8 rfl rfl)
theorem dX1_law_34 : decode cX1_law 34 = .ok (.aload_n 0, 1) := dk_42 (dk_at dksX1_law_1 11 rfl rfl)
theorem dX1_law_35 : decode cX1_law 35 = .ok (.getfield 10, 3) := dk_180 0 10 (dk_at dksX1_law_1 12 rfl rfl)
theorem dX1_law_38 : decode cX1_law 38 = .ok (.getfield 305, 3) := dk_180 1 49 (dk_at dksX1_law_1 15 rfl rfl)
theorem dX1_law_41 : decode cX1_law 41 = .ok (.getfield 294, 3) := dk_180 1 38 (dk_at dksX1_law_1 18 rfl rfl)
theorem dX1_law_44 : decode cX1_law 44 = .ok (.invokevirtual 59, 3) := dk_182 0 59 (dk_at dksX1_law_1 21 rfl rfl)
theorem dX1_law_47 : decode cX1_law 47 = .ok (.ireturn, 1) := dk_172 (dk_at dksX1_law_2 0 rfl rfl)
abbrev cX1_lawText : ByteArray := prog_1_method_20_code
def yX1_lawText : MethodName := ⟨RX1, "lawText", "()LStepDebts$Law;"⟩
def dkwX1_lawText_2 : List UInt8 := [182, 0, 170, 154, 255, 227, 43, 176]
abbrev dktX1_lawText_2 : List UInt8 := dkwX1_lawText_2 ++ []
def dkwX1_lawText_1 : List UInt8 := [180, 1, 38, 182, 0, 59, 16, 12, 182, 0, 164, 43, 180, 1, 38, 42, 182, 1, 41, 182, 0, 99, 87, 42]
abbrev dktX1_lawText_1 : List UInt8 := dkwX1_lawText_1 ++ dktX1_lawText_2
def dkwX1_lawText_0 : List UInt8 := [187, 1, 35, 89, 183, 1, 37, 76, 42, 180, 0, 19, 182, 0, 160, 153, 0, 5, 43, 176, 42, 43]
abbrev dktX1_lawText_0 : List UInt8 := dkwX1_lawText_0 ++ dktX1_lawText_1
theorem dksX1_lawText_0 : cX1_lawText.data.toList.drop 0 = dktX1_lawText_0 := by decide +kernel
theorem dksX1_lawText_1 : cX1_lawText.data.toList.drop 22 = dktX1_lawText_1 := dk_seg dksX1_lawText_0 22 rfl rfl
theorem dksX1_lawText_2 : cX1_lawText.data.toList.drop 46 = dktX1_lawText_2 := dk_seg dksX1_lawText_1 24 rfl rfl
theorem dX1_lawText_0 : decode cX1_lawText 0 = .ok (.new 291, 3) := dk_187 1 35 (dk_at dksX1_lawText_0 0 rfl rfl)
theorem dX1_lawText_3 : decode cX1_lawText 3 = .ok (.dup, 1) := dk_89 (dk_at dksX1_lawText_0 3 rfl rfl)
theorem dX1_lawText_4 : decode cX1_lawText 4 = .ok (.invokespecial 293, 3) := dk_183 1 37 (dk_at dksX1_lawText_0 4 rfl rfl)
theorem dX1_lawText_7 : decode cX1_lawText 7 = .ok (.astore_n 1, 1) := dk_76 (dk_at dksX1_lawText_0 7 rfl rfl)
theorem dX1_lawText_8 : decode cX1_lawText 8 = .ok (.aload_n 0, 1) := dk_42 (dk_at dksX1_lawText_0 8 rfl rfl)
theorem dX1_lawText_9 : decode cX1_lawText 9 = .ok (.getfield 19, 3) := dk_180 0 19 (dk_at dksX1_lawText_0 9 rfl rfl)
theorem dX1_lawText_12 : decode cX1_lawText 12 = .ok (.invokevirtual 160, 3) := dk_182 0 160 (dk_at dksX1_lawText_0 12 rfl rfl)
theorem dX1_lawText_15 : decode cX1_lawText 15 = .ok (.ifCond .eq 5, 3) := dk_153 0 5 (dk_at dksX1_lawText_0 15 rfl rfl)
theorem dX1_lawText_18 : decode cX1_lawText 18 = .ok (.aload_n 1, 1) := dk_43 (dk_at dksX1_lawText_0 18 rfl rfl)
theorem dX1_lawText_19 : decode cX1_lawText 19 = .ok (.areturn, 1) := dk_176 (dk_at dksX1_lawText_0 19 rfl rfl)
theorem dX1_lawText_20 : decode cX1_lawText 20 = .ok (.aload_n 0, 1) := dk_42 (dk_at dksX1_lawText_0 20 rfl rfl)
theorem dX1_lawText_21 : decode cX1_lawText 21 = .ok (.aload_n 1, 1) := dk_43 (dk_at dksX1_lawText_0 21 rfl rfl)
theorem dX1_lawText_22 : decode cX1_lawText 22 = .ok (.getfield 294, 3) := dk_180 1 38 (dk_at dksX1_lawText_1 0 rfl rfl)
theorem dX1_lawText_25 : decode cX1_lawText 25 = .ok (.invokevirtual 59, 3) := dk_182 0 59 (dk_at dksX1_lawText_1 3 rfl rfl)
theorem dX1_lawText_28 : decode cX1_lawText 28 = .ok (.bipush 12, 2) := dk_16 12 (dk_at dksX1_lawText_1 6 rfl rfl)
theorem dX1_lawText_30 : decode cX1_lawText 30 = .ok (.invokevirtual 164, 3) := dk_182 0 164 (dk_at dksX1_lawText_1 8 rfl rfl)
theorem dX1_lawText_33 : decode cX1_lawText 33 = .ok (.aload_n 1, 1) := dk_43 (dk_at dksX1_lawText_1 11 rfl rfl)
theorem dX1_lawText_34 : decode cX1_lawText 34 = .ok (.getfield 294, 3) := dk_180 1 38 (dk_at dksX1_lawText_1 12 rfl rfl)
theorem dX1_lawText_37 : decode cX1_lawText 37 = .ok (.aload_n 0, 1) := dk_42 (dk_at dksX1_lawText_1 15 rfl rfl)
theorem dX1_lawText_38 : decode cX1_lawText 38 = .ok (.invokevirtual 297, 3) := dk_182 1 41 (dk_at dksX1_lawText_1 16 rfl rfl)
theorem dX1_lawText_41 : decode cX1_lawText 41 = .ok (.invokevirtual 99, 3) := dk_182 0 99 (dk_at dksX1_lawText_1 19 rfl rfl)
theorem dX1_lawText_44 : decode cX1_lawText 44 = .ok (.pop, 1) := dk_87 (dk_at dksX1_lawText_1 22 rfl rfl)
theorem dX1_lawText_45 : decode cX1_lawText 45 = .ok (.aload_n 0, 1) := dk_42 (dk_at dksX1_lawText_1 23 rfl rfl)
theorem dX1_lawText_46 : decode cX1_lawText 46 = .ok (.invokevirtual 170, 3) := dk_182 0 170 (dk_at dksX1_lawText_2 0 rfl rfl)
theorem dX1_lawText_49 : decode cX1_lawText 49 = .ok (.ifCond .ne (-29), 3) := dk_154 255 227 (dk_at dksX1_lawText_2 3 rfl rfl)
theorem dX1_lawText_52 : decode cX1_lawText 52 = .ok (.aload_n 1, 1) := dk_43 (dk_at dksX1_lawText_2 6 rfl rfl)
theorem dX1_lawText_53 : decode cX1_lawText 53 = .ok (.areturn, 1) := dk_176 (dk_at dksX1_lawText_2 7 rfl rfl)
abbrev cX1_lawLine : ByteArray := prog_1_method_19_code
def yX1_lawLine : MethodName := ⟨RX1, "lawLine", "()LStepDebts$Line;"⟩
def dkwX1_lawLine_2 : List UInt8 := [182, 0, 92, 153, 0, 10, 42, 182, 0, 229, 167, 0, 4, 1, 183, 1, 32, 176]
abbrev dktX1_lawLine_2 : List UInt8 := dkwX1_lawLine_2 ++ []
def dkwX1_lawLine_1 : List UInt8 := [42, 180, 0, 19, 3, 16, 99, 182, 0, 69, 60, 187, 1, 28, 89, 27, 42, 180, 0, 19, 19, 1, 30]
abbrev dktX1_lawLine_1 : List UInt8 := dkwX1_lawLine_1 ++ dktX1_lawLine_2
def dkwX1_lawLine_0 : List UInt8 := [42, 180, 0, 19, 182, 0, 73, 19, 1, 26, 182, 0, 79, 154, 0, 11, 42, 180, 0, 19, 182, 0, 65, 191]
abbrev dktX1_lawLine_0 : List UInt8 := dkwX1_lawLine_0 ++ dktX1_lawLine_1
theorem dksX1_lawLine_0 : cX1_lawLine.data.toList.drop 0 = dktX1_lawLine_0 := by decide +kernel
theorem dksX1_lawLine_1 : cX1_lawLine.data.toList.drop 24 = dktX1_lawLine_1 := dk_seg dksX1_lawLine_0 24 rfl rfl
theorem dksX1_lawLine_2 : cX1_lawLine.data.toList.drop 47 = dktX1_lawLine_2 := dk_seg dksX1_lawLine_1 23 rfl rfl
theorem dX1_lawLine_0 : decode cX1_lawLine 0 = .ok (.aload_n 0, 1) := dk_42 (dk_at dksX1_lawLine_0 0 rfl rfl)
theorem dX1_lawLine_1 : decode cX1_lawLine 1 = .ok (.getfield 19, 3) := dk_180 0 19 (dk_at dksX1_lawLine_0 1 rfl rfl)
theorem dX1_lawLine_4 : decode cX1_lawLine 4 = .ok (.invokevirtual 73, 3) := dk_182 0 73 (dk_at dksX1_lawLine_0 4 rfl rfl)
theorem dX1_lawLine_7 : decode cX1_lawLine 7 = .ok (.ldc_w 282, 3) := dk_19 1 26 (dk_at dksX1_lawLine_0 7 rfl rfl)
theorem dX1_lawLine_10 : decode cX1_lawLine 10 = .ok (.invokevirtual 79, 3) := dk_182 0 79 (dk_at dksX1_lawLine_0 10 rfl rfl)
theorem dX1_lawLine_13 : decode cX1_lawLine 13 = .ok (.ifCond .ne 11, 3) := dk_154 0 11 (dk_at dksX1_lawLine_0 13 rfl rfl)
theorem dX1_lawLine_16 : decode cX1_lawLine 16 = .ok (.aload_n 0, 1) := dk_42 (dk_at dksX1_lawLine_0 16 rfl rfl)
theorem dX1_lawLine_17 : decode cX1_lawLine 17 = .ok (.getfield 19, 3) := dk_180 0 19 (dk_at dksX1_lawLine_0 17 rfl rfl)
theorem dX1_lawLine_20 : decode cX1_lawLine 20 = .ok (.invokevirtual 65, 3) := dk_182 0 65 (dk_at dksX1_lawLine_0 20 rfl rfl)
theorem dX1_lawLine_23 : decode cX1_lawLine 23 = .ok (.athrow, 1) := dk_191 (dk_at dksX1_lawLine_0 23 rfl rfl)
theorem dX1_lawLine_24 : decode cX1_lawLine 24 = .ok (.aload_n 0, 1) := dk_42 (dk_at dksX1_lawLine_1 0 rfl rfl)
theorem dX1_lawLine_25 : decode cX1_lawLine 25 = .ok (.getfield 19, 3) := dk_180 0 19 (dk_at dksX1_lawLine_1 1 rfl rfl)
theorem dX1_lawLine_28 : decode cX1_lawLine 28 = .ok (.iconst 0, 1) := dk_3 (dk_at dksX1_lawLine_1 4 rfl rfl)
theorem dX1_lawLine_29 : decode cX1_lawLine 29 = .ok (.bipush 99, 2) := dk_16 99 (dk_at dksX1_lawLine_1 5 rfl rfl)
theorem dX1_lawLine_31 : decode cX1_lawLine 31 = .ok (.invokevirtual 69, 3) := dk_182 0 69 (dk_at dksX1_lawLine_1 7 rfl rfl)
theorem dX1_lawLine_34 : decode cX1_lawLine 34 = .ok (.istore_n 1, 1) := dk_60 (dk_at dksX1_lawLine_1 10 rfl rfl)
theorem dX1_lawLine_35 : decode cX1_lawLine 35 = .ok (.new 284, 3) := dk_187 1 28 (dk_at dksX1_lawLine_1 11 rfl rfl)
theorem dX1_lawLine_38 : decode cX1_lawLine 38 = .ok (.dup, 1) := dk_89 (dk_at dksX1_lawLine_1 14 rfl rfl)
theorem dX1_lawLine_39 : decode cX1_lawLine 39 = .ok (.iload_n 1, 1) := dk_27 (dk_at dksX1_lawLine_1 15 rfl rfl)
theorem dX1_lawLine_40 : decode cX1_lawLine 40 = .ok (.aload_n 0, 1) := dk_42 (dk_at dksX1_lawLine_1 16 rfl rfl)
theorem dX1_lawLine_41 : decode cX1_lawLine 41 = .ok (.getfield 19, 3) := dk_180 0 19 (dk_at dksX1_lawLine_1 17 rfl rfl)
theorem dX1_lawLine_44 : decode cX1_lawLine 44 = .ok (.ldc_w 286, 3) := dk_19 1 30 (dk_at dksX1_lawLine_1 20 rfl rfl)
theorem dX1_lawLine_47 : decode cX1_lawLine 47 = .ok (.invokevirtual 92, 3) := dk_182 0 92 (dk_at dksX1_lawLine_2 0 rfl rfl)
theorem dX1_lawLine_50 : decode cX1_lawLine 50 = .ok (.ifCond .eq 10, 3) := dk_153 0 10 (dk_at dksX1_lawLine_2 3 rfl rfl)
theorem dX1_lawLine_53 : decode cX1_lawLine 53 = .ok (.aload_n 0, 1) := dk_42 (dk_at dksX1_lawLine_2 6 rfl rfl)
theorem dX1_lawLine_54 : decode cX1_lawLine 54 = .ok (.invokevirtual 229, 3) := dk_182 0 229 (dk_at dksX1_lawLine_2 7 rfl rfl)
theorem dX1_lawLine_57 : decode cX1_lawLine 57 = .ok (.goto 4, 3) := dk_167 0 4 (dk_at dksX1_lawLine_2 10 rfl rfl)
theorem dX1_lawLine_60 : decode cX1_lawLine 60 = .ok (.aconst_null, 1) := dk_1 (dk_at dksX1_lawLine_2 13 rfl rfl)
theorem dX1_lawLine_61 : decode cX1_lawLine 61 = .ok (.invokespecial 288, 3) := dk_183 1 32 (dk_at dksX1_lawLine_2 14 rfl rfl)
theorem dX1_lawLine_64 : decode cX1_lawLine 64 = .ok (.areturn, 1) := dk_176 (dk_at dksX1_lawLine_2 17 rfl rfl)
abbrev cX1_cond : ByteArray := prog_1_method_18_code
def yX1_cond : MethodName := ⟨RX1, "cond", "()LStepDebts$Cond;"⟩
def dkwX1_cond_1 : List UInt8 := [180, 0, 19, 19, 1, 24, 182, 0, 92, 154, 255, 234, 43, 176]
abbrev dktX1_cond_1 : List UInt8 := dkwX1_cond_1 ++ []
def dkwX1_cond_0 : List UInt8 := [187, 1, 11, 89, 3, 183, 1, 13, 76, 43, 180, 1, 16, 42, 182, 1, 21, 182, 0, 99, 87, 42]
abbrev dktX1_cond_0 : List UInt8 := dkwX1_cond_0 ++ dktX1_cond_1
theorem dksX1_cond_0 : cX1_cond.data.toList.drop 0 = dktX1_cond_0 := by decide +kernel
theorem dksX1_cond_1 : cX1_cond.data.toList.drop 22 = dktX1_cond_1 := dk_seg dksX1_cond_0 22 rfl rfl
theorem dX1_cond_0 : decode cX1_cond 0 = .ok (.new 267, 3) := dk_187 1 11 (dk_at dksX1_cond_0 0 rfl rfl)
theorem dX1_cond_3 : decode cX1_cond 3 = .ok (.dup, 1) := dk_89 (dk_at dksX1_cond_0 3 rfl rfl)
theorem dX1_cond_4 : decode cX1_cond 4 = .ok (.iconst 0, 1) := dk_3 (dk_at dksX1_cond_0 4 rfl rfl)
theorem dX1_cond_5 : decode cX1_cond 5 = .ok (.invokespecial 269, 3) := dk_183 1 13 (dk_at dksX1_cond_0 5 rfl rfl)
theorem dX1_cond_8 : decode cX1_cond 8 = .ok (.astore_n 1, 1) := dk_76 (dk_at dksX1_cond_0 8 rfl rfl)
theorem dX1_cond_9 : decode cX1_cond 9 = .ok (.aload_n 1, 1) := dk_43 (dk_at dksX1_cond_0 9 rfl rfl)
theorem dX1_cond_10 : decode cX1_cond 10 = .ok (.getfield 272, 3) := dk_180 1 16 (dk_at dksX1_cond_0 10 rfl rfl)
theorem dX1_cond_13 : decode cX1_cond 13 = .ok (.aload_n 0, 1) := dk_42 (dk_at dksX1_cond_0 13 rfl rfl)
theorem dX1_cond_14 : decode cX1_cond 14 = .ok (.invokevirtual 277, 3) := dk_182 1 21 (dk_at dksX1_cond_0 14 rfl rfl)
theorem dX1_cond_17 : decode cX1_cond 17 = .ok (.invokevirtual 99, 3) := dk_182 0 99 (dk_at dksX1_cond_0 17 rfl rfl)
theorem dX1_cond_20 : decode cX1_cond 20 = .ok (.pop, 1) := dk_87 (dk_at dksX1_cond_0 20 rfl rfl)
theorem dX1_cond_21 : decode cX1_cond 21 = .ok (.aload_n 0, 1) := dk_42 (dk_at dksX1_cond_0 21 rfl rfl)
theorem dX1_cond_22 : decode cX1_cond 22 = .ok (.getfield 19, 3) := dk_180 0 19 (dk_at dksX1_cond_1 0 rfl rfl)
theorem dX1_cond_25 : decode cX1_cond 25 = .ok (.ldc_w 280, 3) := dk_19 1 24 (dk_at dksX1_cond_1 3 rfl rfl)
theorem dX1_cond_28 : decode cX1_cond 28 = .ok (.invokevirtual 92, 3) := dk_182 0 92 (dk_at dksX1_cond_1 6 rfl rfl)
theorem dX1_cond_31 : decode cX1_cond 31 = .ok (.ifCond .ne (-22), 3) := dk_154 255 234 (dk_at dksX1_cond_1 9 rfl rfl)
theorem dX1_cond_34 : decode cX1_cond 34 = .ok (.aload_n 1, 1) := dk_43 (dk_at dksX1_cond_1 12 rfl rfl)
theorem dX1_cond_35 : decode cX1_cond 35 = .ok (.areturn, 1) := dk_176 (dk_at dksX1_cond_1 13 rfl rfl)
abbrev cX1_allOf : ByteArray := prog_1_method_17_code
def yX1_allOf : MethodName := ⟨RX1, "allOf", "()LStepDebts$Cond;"⟩
def dkwX1_allOf_1 : List UInt8 := [180, 0, 19, 19, 1, 19, 182, 0, 92, 154, 255, 234, 43, 176]
abbrev dktX1_allOf_1 : List UInt8 := dkwX1_allOf_1 ++ []
def dkwX1_allOf_0 : List UInt8 := [187, 1, 11, 89, 4, 183, 1, 13, 76, 43, 180, 1, 16, 42, 182, 0, 238, 182, 0, 99, 87, 42]
abbrev dktX1_allOf_0 : List UInt8 := dkwX1_allOf_0 ++ dktX1_allOf_1
theorem dksX1_allOf_0 : cX1_allOf.data.toList.drop 0 = dktX1_allOf_0 := by decide +kernel
theorem dksX1_allOf_1 : cX1_allOf.data.toList.drop 22 = dktX1_allOf_1 := dk_seg dksX1_allOf_0 22 rfl rfl
theorem dX1_allOf_0 : decode cX1_allOf 0 = .ok (.new 267, 3) := dk_187 1 11 (dk_at dksX1_allOf_0 0 rfl rfl)
theorem dX1_allOf_3 : decode cX1_allOf 3 = .ok (.dup, 1) := dk_89 (dk_at dksX1_allOf_0 3 rfl rfl)
theorem dX1_allOf_4 : decode cX1_allOf 4 = .ok (.iconst 1, 1) := dk_4 (dk_at dksX1_allOf_0 4 rfl rfl)
theorem dX1_allOf_5 : decode cX1_allOf 5 = .ok (.invokespecial 269, 3) := dk_183 1 13 (dk_at dksX1_allOf_0 5 rfl rfl)
theorem dX1_allOf_8 : decode cX1_allOf 8 = .ok (.astore_n 1, 1) := dk_76 (dk_at dksX1_allOf_0 8 rfl rfl)
theorem dX1_allOf_9 : decode cX1_allOf 9 = .ok (.aload_n 1, 1) := dk_43 (dk_at dksX1_allOf_0 9 rfl rfl)
theorem dX1_allOf_10 : decode cX1_allOf 10 = .ok (.getfield 272, 3) := dk_180 1 16 (dk_at dksX1_allOf_0 10 rfl rfl)
theorem dX1_allOf_13 : decode cX1_allOf 13 = .ok (.aload_n 0, 1) := dk_42 (dk_at dksX1_allOf_0 13 rfl rfl)
theorem dX1_allOf_14 : decode cX1_allOf 14 = .ok (.invokevirtual 238, 3) := dk_182 0 238 (dk_at dksX1_allOf_0 14 rfl rfl)
theorem dX1_allOf_17 : decode cX1_allOf 17 = .ok (.invokevirtual 99, 3) := dk_182 0 99 (dk_at dksX1_allOf_0 17 rfl rfl)
theorem dX1_allOf_20 : decode cX1_allOf 20 = .ok (.pop, 1) := dk_87 (dk_at dksX1_allOf_0 20 rfl rfl)
theorem dX1_allOf_21 : decode cX1_allOf 21 = .ok (.aload_n 0, 1) := dk_42 (dk_at dksX1_allOf_0 21 rfl rfl)
theorem dX1_allOf_22 : decode cX1_allOf 22 = .ok (.getfield 19, 3) := dk_180 0 19 (dk_at dksX1_allOf_1 0 rfl rfl)
theorem dX1_allOf_25 : decode cX1_allOf 25 = .ok (.ldc_w 275, 3) := dk_19 1 19 (dk_at dksX1_allOf_1 3 rfl rfl)
theorem dX1_allOf_28 : decode cX1_allOf 28 = .ok (.invokevirtual 92, 3) := dk_182 0 92 (dk_at dksX1_allOf_1 6 rfl rfl)
theorem dX1_allOf_31 : decode cX1_allOf 31 = .ok (.ifCond .ne (-22), 3) := dk_154 255 234 (dk_at dksX1_allOf_1 9 rfl rfl)
theorem dX1_allOf_34 : decode cX1_allOf 34 = .ok (.aload_n 1, 1) := dk_43 (dk_at dksX1_allOf_1 12 rfl rfl)
theorem dX1_allOf_35 : decode cX1_allOf 35 = .ok (.areturn, 1) := dk_176 (dk_at dksX1_allOf_1 13 rfl rfl)
abbrev cX1_atom : ByteArray := prog_1_method_16_code
def yX1_atom : MethodName := ⟨RX1, "atom", "()LStepDebts$Cond;"⟩
def dkwX1_atom_7 : List UInt8 := [187, 1, 6, 89, 42, 182, 1, 2, 44, 183, 1, 8, 176]
abbrev dktX1_atom_7 : List UInt8 := dkwX1_atom_7 ++ []
def dkwX1_atom_6 : List UInt8 := [44, 42, 182, 1, 2, 183, 1, 8, 176, 43, 16, 62, 182, 0, 173, 154, 0, 8, 43, 182, 0, 65, 191]
abbrev dktX1_atom_6 : List UInt8 := dkwX1_atom_6 ++ dktX1_atom_7
def dkwX1_atom_5 : List UInt8 := [132, 4, 1, 167, 255, 219, 42, 182, 1, 2, 77, 43, 16, 60, 182, 0, 173, 153, 0, 16, 187, 1, 6, 89]
abbrev dktX1_atom_5 : List UInt8 := dkwX1_atom_5 ++ dktX1_atom_6
def dkwX1_atom_4 : List UInt8 := [58, 5, 43, 25, 5, 182, 0, 252, 182, 0, 92, 153, 0, 13, 187, 0, 253, 89, 25, 5, 183, 0, 255, 176]
abbrev dktX1_atom_4 : List UInt8 := dkwX1_atom_4 ++ dktX1_atom_5
def dkwX1_atom_3 : List UInt8 := [183, 0, 243, 176, 184, 0, 246, 77, 44, 190, 62, 3, 54, 4, 21, 4, 29, 162, 0, 37, 44, 21, 4, 50]
abbrev dktX1_atom_3 : List UInt8 := dkwX1_atom_3 ++ dktX1_atom_4
def dkwX1_atom_2 : List UInt8 := [182, 0, 92, 153, 0, 25, 43, 182, 0, 226, 42, 182, 0, 238, 77, 43, 182, 0, 233, 187, 0, 241, 89, 44]
abbrev dktX1_atom_2 : List UInt8 := dkwX1_atom_2 ++ dktX1_atom_3
def dkwX1_atom_1 : List UInt8 := [182, 0, 233, 43, 16, 41, 182, 0, 173, 154, 0, 8, 43, 182, 0, 65, 191, 44, 176, 43, 18, 236]
abbrev dktX1_atom_1 : List UInt8 := dkwX1_atom_1 ++ dktX1_atom_2
def dkwX1_atom_0 : List UInt8 := [42, 180, 0, 19, 76, 43, 16, 40, 182, 0, 173, 153, 0, 32, 43, 182, 0, 226, 42, 182, 0, 229, 77, 43]
abbrev dktX1_atom_0 : List UInt8 := dkwX1_atom_0 ++ dktX1_atom_1
theorem dksX1_atom_0 : cX1_atom.data.toList.drop 0 = dktX1_atom_0 := by decide +kernel
theorem dksX1_atom_1 : cX1_atom.data.toList.drop 24 = dktX1_atom_1 := dk_seg dksX1_atom_0 24 rfl rfl
theorem dksX1_atom_2 : cX1_atom.data.toList.drop 46 = dktX1_atom_2 := dk_seg dksX1_atom_1 22 rfl rfl
theorem dksX1_atom_3 : cX1_atom.data.toList.drop 70 = dktX1_atom_3 := dk_seg dksX1_atom_2 24 rfl rfl
theorem dksX1_atom_4 : cX1_atom.data.toList.drop 94 = dktX1_atom_4 := dk_seg dksX1_atom_3 24 rfl rfl
theorem dksX1_atom_5 : cX1_atom.data.toList.drop 118 = dktX1_atom_5 := dk_seg dksX1_atom_4 24 rfl rfl
theorem dksX1_atom_6 : cX1_atom.data.toList.drop 142 = dktX1_atom_6 := dk_seg dksX1_atom_5 24 rfl rfl
theorem dksX1_atom_7 : cX1_atom.data.toList.drop 165 = dktX1_atom_7 := dk_seg dksX1_atom_6 23 rfl rfl
theorem dX1_atom_0 : decode cX1_atom 0 = .ok (.aload_n 0, 1) := dk_42 (dk_at dksX1_atom_0 0 rfl rfl)
theorem dX1_atom_1 : decode cX1_atom 1 = .ok (.getfield 19, 3) := dk_180 0 19 (dk_at dksX1_atom_0 1 rfl rfl)
theorem dX1_atom_4 : decode cX1_atom 4 = .ok (.astore_n 1, 1) := dk_76 (dk_at dksX1_atom_0 4 rfl rfl)
theorem dX1_atom_5 : decode cX1_atom 5 = .ok (.aload_n 1, 1) := dk_43 (dk_at dksX1_atom_0 5 rfl rfl)
theorem dX1_atom_6 : decode cX1_atom 6 = .ok (.bipush 40, 2) := dk_16 40 (dk_at dksX1_atom_0 6 rfl rfl)
theorem dX1_atom_8 : decode cX1_atom 8 = .ok (.invokevirtual 173, 3) := dk_182 0 173 (dk_at dksX1_atom_0 8 rfl rfl)
theorem dX1_atom_11 : decode cX1_atom 11 = .ok (.ifCond .eq 32, 3) := dk_153 0 32 (dk_at dksX1_atom_0 11 rfl rfl)
theorem dX1_atom_14 : decode cX1_atom 14 = .ok (.aload_n 1, 1) := dk_43 (dk_at dksX1_atom_0 14 rfl rfl)
theorem dX1_atom_15 : decode cX1_atom 15 = .ok (.invokevirtual 226, 3) := dk_182 0 226 (dk_at dksX1_atom_0 15 rfl rfl)
theorem dX1_atom_18 : decode cX1_atom 18 = .ok (.aload_n 0, 1) := dk_42 (dk_at dksX1_atom_0 18 rfl rfl)
theorem dX1_atom_19 : decode cX1_atom 19 = .ok (.invokevirtual 229, 3) := dk_182 0 229 (dk_at dksX1_atom_0 19 rfl rfl)
theorem dX1_atom_22 : decode cX1_atom 22 = .ok (.astore_n 2, 1) := dk_77 (dk_at dksX1_atom_0 22 rfl rfl)
theorem dX1_atom_23 : decode cX1_atom 23 = .ok (.aload_n 1, 1) := dk_43 (dk_at dksX1_atom_0 23 rfl rfl)
theorem dX1_atom_24 : decode cX1_atom 24 = .ok (.invokevirtual 233, 3) := dk_182 0 233 (dk_at dksX1_atom_1 0 rfl rfl)
theorem dX1_atom_27 : decode cX1_atom 27 = .ok (.aload_n 1, 1) := dk_43 (dk_at dksX1_atom_1 3 rfl rfl)
theorem dX1_atom_28 : decode cX1_atom 28 = .ok (.bipush 41, 2) := dk_16 41 (dk_at dksX1_atom_1 4 rfl rfl)
theorem dX1_atom_30 : decode cX1_atom 30 = .ok (.invokevirtual 173, 3) := dk_182 0 173 (dk_at dksX1_atom_1 6 rfl rfl)
theorem dX1_atom_33 : decode cX1_atom 33 = .ok (.ifCond .ne 8, 3) := dk_154 0 8 (dk_at dksX1_atom_1 9 rfl rfl)
theorem dX1_atom_36 : decode cX1_atom 36 = .ok (.aload_n 1, 1) := dk_43 (dk_at dksX1_atom_1 12 rfl rfl)
theorem dX1_atom_37 : decode cX1_atom 37 = .ok (.invokevirtual 65, 3) := dk_182 0 65 (dk_at dksX1_atom_1 13 rfl rfl)
theorem dX1_atom_40 : decode cX1_atom 40 = .ok (.athrow, 1) := dk_191 (dk_at dksX1_atom_1 16 rfl rfl)
theorem dX1_atom_41 : decode cX1_atom 41 = .ok (.aload_n 2, 1) := dk_44 (dk_at dksX1_atom_1 17 rfl rfl)
theorem dX1_atom_42 : decode cX1_atom 42 = .ok (.areturn, 1) := dk_176 (dk_at dksX1_atom_1 18 rfl rfl)
theorem dX1_atom_43 : decode cX1_atom 43 = .ok (.aload_n 1, 1) := dk_43 (dk_at dksX1_atom_1 19 rfl rfl)
theorem dX1_atom_44 : decode cX1_atom 44 = .ok (.ldc 236, 2) := dk_18 236 (dk_at dksX1_atom_1 20 rfl rfl)
theorem dX1_atom_46 : decode cX1_atom 46 = .ok (.invokevirtual 92, 3) := dk_182 0 92 (dk_at dksX1_atom_2 0 rfl rfl)
theorem dX1_atom_49 : decode cX1_atom 49 = .ok (.ifCond .eq 25, 3) := dk_153 0 25 (dk_at dksX1_atom_2 3 rfl rfl)
theorem dX1_atom_52 : decode cX1_atom 52 = .ok (.aload_n 1, 1) := dk_43 (dk_at dksX1_atom_2 6 rfl rfl)
theorem dX1_atom_53 : decode cX1_atom 53 = .ok (.invokevirtual 226, 3) := dk_182 0 226 (dk_at dksX1_atom_2 7 rfl rfl)
theorem dX1_atom_56 : decode cX1_atom 56 = .ok (.aload_n 0, 1) := dk_42 (dk_at dksX1_atom_2 10 rfl rfl)
theorem dX1_atom_57 : decode cX1_atom 57 = .ok (.invokevirtual 238, 3) := dk_182 0 238 (dk_at dksX1_atom_2 11 rfl rfl)
theorem dX1_atom_60 : decode cX1_atom 60 = .ok (.astore_n 2, 1) := dk_77 (dk_at dksX1_atom_2 14 rfl rfl)
theorem dX1_atom_61 : decode cX1_atom 61 = .ok (.aload_n 1, 1) := dk_43 (dk_at dksX1_atom_2 15 rfl rfl)
theorem dX1_atom_62 : decode cX1_atom 62 = .ok (.invokevirtual 233, 3) := dk_182 0 233 (dk_at dksX1_atom_2 16 rfl rfl)
theorem dX1_atom_65 : decode cX1_atom 65 = .ok (.new 241, 3) := dk_187 0 241 (dk_at dksX1_atom_2 19 rfl rfl)
theorem dX1_atom_68 : decode cX1_atom 68 = .ok (.dup, 1) := dk_89 (dk_at dksX1_atom_2 22 rfl rfl)
theorem dX1_atom_69 : decode cX1_atom 69 = .ok (.aload_n 2, 1) := dk_44 (dk_at dksX1_atom_2 23 rfl rfl)
theorem dX1_atom_70 : decode cX1_atom 70 = .ok (.invokespecial 243, 3) := dk_183 0 243 (dk_at dksX1_atom_3 0 rfl rfl)
theorem dX1_atom_73 : decode cX1_atom 73 = .ok (.areturn, 1) := dk_176 (dk_at dksX1_atom_3 3 rfl rfl)
theorem dX1_atom_74 : decode cX1_atom 74 = .ok (.invokestatic 246, 3) := dk_184 0 246 (dk_at dksX1_atom_3 4 rfl rfl)
theorem dX1_atom_77 : decode cX1_atom 77 = .ok (.astore_n 2, 1) := dk_77 (dk_at dksX1_atom_3 7 rfl rfl)
theorem dX1_atom_78 : decode cX1_atom 78 = .ok (.aload_n 2, 1) := dk_44 (dk_at dksX1_atom_3 8 rfl rfl)
theorem dX1_atom_79 : decode cX1_atom 79 = .ok (.arraylength, 1) := dk_190 (dk_at dksX1_atom_3 9 rfl rfl)
theorem dX1_atom_80 : decode cX1_atom 80 = .ok (.istore_n 3, 1) := dk_62 (dk_at dksX1_atom_3 10 rfl rfl)
theorem dX1_atom_81 : decode cX1_atom 81 = .ok (.iconst 0, 1) := dk_3 (dk_at dksX1_atom_3 11 rfl rfl)
theorem dX1_atom_82 : decode cX1_atom 82 = .ok (.istore 4, 2) := dk_54 4 (dk_at dksX1_atom_3 12 rfl rfl)
theorem dX1_atom_84 : decode cX1_atom 84 = .ok (.iload 4, 2) := dk_21 4 (dk_at dksX1_atom_3 14 rfl rfl)
theorem dX1_atom_86 : decode cX1_atom 86 = .ok (.iload_n 3, 1) := dk_29 (dk_at dksX1_atom_3 16 rfl rfl)
theorem dX1_atom_87 : decode cX1_atom 87 = .ok (.if_icmp .ge 37, 3) := dk_162 0 37 (dk_at dksX1_atom_3 17 rfl rfl)
theorem dX1_atom_90 : decode cX1_atom 90 = .ok (.aload_n 2, 1) := dk_44 (dk_at dksX1_atom_3 20 rfl rfl)
theorem dX1_atom_91 : decode cX1_atom 91 = .ok (.iload 4, 2) := dk_21 4 (dk_at dksX1_atom_3 21 rfl rfl)
theorem dX1_atom_93 : decode cX1_atom 93 = .ok (.aaload, 1) := dk_50 (dk_at dksX1_atom_3 23 rfl rfl)
theorem dX1_atom_94 : decode cX1_atom 94 = .ok (.astore 5, 2) := dk_58 5 (dk_at dksX1_atom_4 0 rfl rfl)
theorem dX1_atom_96 : decode cX1_atom 96 = .ok (.aload_n 1, 1) := dk_43 (dk_at dksX1_atom_4 2 rfl rfl)
theorem dX1_atom_97 : decode cX1_atom 97 = .ok (.aload 5, 2) := dk_25 5 (dk_at dksX1_atom_4 3 rfl rfl)
theorem dX1_atom_99 : decode cX1_atom 99 = .ok (.invokevirtual 252, 3) := dk_182 0 252 (dk_at dksX1_atom_4 5 rfl rfl)
theorem dX1_atom_102 : decode cX1_atom 102 = .ok (.invokevirtual 92, 3) := dk_182 0 92 (dk_at dksX1_atom_4 8 rfl rfl)
theorem dX1_atom_105 : decode cX1_atom 105 = .ok (.ifCond .eq 13, 3) := dk_153 0 13 (dk_at dksX1_atom_4 11 rfl rfl)
theorem dX1_atom_108 : decode cX1_atom 108 = .ok (.new 253, 3) := dk_187 0 253 (dk_at dksX1_atom_4 14 rfl rfl)
theorem dX1_atom_111 : decode cX1_atom 111 = .ok (.dup, 1) := dk_89 (dk_at dksX1_atom_4 17 rfl rfl)
theorem dX1_atom_112 : decode cX1_atom 112 = .ok (.aload 5, 2) := dk_25 5 (dk_at dksX1_atom_4 18 rfl rfl)
theorem dX1_atom_114 : decode cX1_atom 114 = .ok (.invokespecial 255, 3) := dk_183 0 255 (dk_at dksX1_atom_4 20 rfl rfl)
theorem dX1_atom_117 : decode cX1_atom 117 = .ok (.areturn, 1) := dk_176 (dk_at dksX1_atom_4 23 rfl rfl)
theorem dX1_atom_118 : decode cX1_atom 118 = .ok (.iinc 4 1, 3) := dk_132 4 1 (dk_at dksX1_atom_5 0 rfl rfl)
theorem dX1_atom_121 : decode cX1_atom 121 = .ok (.goto (-37), 3) := dk_167 255 219 (dk_at dksX1_atom_5 3 rfl rfl)
theorem dX1_atom_124 : decode cX1_atom 124 = .ok (.aload_n 0, 1) := dk_42 (dk_at dksX1_atom_5 6 rfl rfl)
theorem dX1_atom_125 : decode cX1_atom 125 = .ok (.invokevirtual 258, 3) := dk_182 1 2 (dk_at dksX1_atom_5 7 rfl rfl)
theorem dX1_atom_128 : decode cX1_atom 128 = .ok (.astore_n 2, 1) := dk_77 (dk_at dksX1_atom_5 10 rfl rfl)
theorem dX1_atom_129 : decode cX1_atom 129 = .ok (.aload_n 1, 1) := dk_43 (dk_at dksX1_atom_5 11 rfl rfl)
theorem dX1_atom_130 : decode cX1_atom 130 = .ok (.bipush 60, 2) := dk_16 60 (dk_at dksX1_atom_5 12 rfl rfl)
theorem dX1_atom_132 : decode cX1_atom 132 = .ok (.invokevirtual 173, 3) := dk_182 0 173 (dk_at dksX1_atom_5 14 rfl rfl)
theorem dX1_atom_135 : decode cX1_atom 135 = .ok (.ifCond .eq 16, 3) := dk_153 0 16 (dk_at dksX1_atom_5 17 rfl rfl)
theorem dX1_atom_138 : decode cX1_atom 138 = .ok (.new 262, 3) := dk_187 1 6 (dk_at dksX1_atom_5 20 rfl rfl)
theorem dX1_atom_141 : decode cX1_atom 141 = .ok (.dup, 1) := dk_89 (dk_at dksX1_atom_5 23 rfl rfl)
theorem dX1_atom_142 : decode cX1_atom 142 = .ok (.aload_n 2, 1) := dk_44 (dk_at dksX1_atom_6 0 rfl rfl)
theorem dX1_atom_143 : decode cX1_atom 143 = .ok (.aload_n 0, 1) := dk_42 (dk_at dksX1_atom_6 1 rfl rfl)
theorem dX1_atom_144 : decode cX1_atom 144 = .ok (.invokevirtual 258, 3) := dk_182 1 2 (dk_at dksX1_atom_6 2 rfl rfl)
theorem dX1_atom_147 : decode cX1_atom 147 = .ok (.invokespecial 264, 3) := dk_183 1 8 (dk_at dksX1_atom_6 5 rfl rfl)
theorem dX1_atom_150 : decode cX1_atom 150 = .ok (.areturn, 1) := dk_176 (dk_at dksX1_atom_6 8 rfl rfl)
theorem dX1_atom_151 : decode cX1_atom 151 = .ok (.aload_n 1, 1) := dk_43 (dk_at dksX1_atom_6 9 rfl rfl)
theorem dX1_atom_152 : decode cX1_atom 152 = .ok (.bipush 62, 2) := dk_16 62 (dk_at dksX1_atom_6 10 rfl rfl)
theorem dX1_atom_154 : decode cX1_atom 154 = .ok (.invokevirtual 173, 3) := dk_182 0 173 (dk_at dksX1_atom_6 12 rfl rfl)
theorem dX1_atom_157 : decode cX1_atom 157 = .ok (.ifCond .ne 8, 3) := dk_154 0 8 (dk_at dksX1_atom_6 15 rfl rfl)
theorem dX1_atom_160 : decode cX1_atom 160 = .ok (.aload_n 1, 1) := dk_43 (dk_at dksX1_atom_6 18 rfl rfl)
theorem dX1_atom_161 : decode cX1_atom 161 = .ok (.invokevirtual 65, 3) := dk_182 0 65 (dk_at dksX1_atom_6 19 rfl rfl)
theorem dX1_atom_164 : decode cX1_atom 164 = .ok (.athrow, 1) := dk_191 (dk_at dksX1_atom_6 22 rfl rfl)
theorem dX1_atom_165 : decode cX1_atom 165 = .ok (.new 262, 3) := dk_187 1 6 (dk_at dksX1_atom_7 0 rfl rfl)
theorem dX1_atom_168 : decode cX1_atom 168 = .ok (.dup, 1) := dk_89 (dk_at dksX1_atom_7 3 rfl rfl)
theorem dX1_atom_169 : decode cX1_atom 169 = .ok (.aload_n 0, 1) := dk_42 (dk_at dksX1_atom_7 4 rfl rfl)
theorem dX1_atom_170 : decode cX1_atom 170 = .ok (.invokevirtual 258, 3) := dk_182 1 2 (dk_at dksX1_atom_7 5 rfl rfl)
theorem dX1_atom_173 : decode cX1_atom 173 = .ok (.aload_n 2, 1) := dk_44 (dk_at dksX1_atom_7 8 rfl rfl)
theorem dX1_atom_174 : decode cX1_atom 174 = .ok (.invokespecial 264, 3) := dk_183 1 8 (dk_at dksX1_atom_7 9 rfl rfl)
theorem dX1_atom_177 : decode cX1_atom 177 = .ok (.areturn, 1) := dk_176 (dk_at dksX1_atom_7 12 rfl rfl)
abbrev cX1_sum_2 : ByteArray := prog_1_method_15_code
def yX1_sum_2 : MethodName := ⟨RX1, "sum", "()LStepDebts$Sum;"⟩
def dkwX1_sum_2_1 : List UInt8 := [16, 43, 182, 0, 173, 154, 255, 235, 43, 176]
abbrev dktX1_sum_2_1 : List UInt8 := dkwX1_sum_2_1 ++ []
def dkwX1_sum_2_0 : List UInt8 := [187, 0, 216, 89, 183, 0, 218, 76, 43, 180, 0, 219, 42, 182, 0, 222, 182, 0, 99, 87, 42, 180, 0, 19]
abbrev dktX1_sum_2_0 : List UInt8 := dkwX1_sum_2_0 ++ dktX1_sum_2_1
theorem dksX1_sum_2_0 : cX1_sum_2.data.toList.drop 0 = dktX1_sum_2_0 := by decide +kernel
theorem dksX1_sum_2_1 : cX1_sum_2.data.toList.drop 24 = dktX1_sum_2_1 := dk_seg dksX1_sum_2_0 24 rfl rfl
theorem dX1_sum_2_0 : decode cX1_sum_2 0 = .ok (.new 216, 3) := dk_187 0 216 (dk_at dksX1_sum_2_0 0 rfl rfl)
theorem dX1_sum_2_3 : decode cX1_sum_2 3 = .ok (.dup, 1) := dk_89 (dk_at dksX1_sum_2_0 3 rfl rfl)
theorem dX1_sum_2_4 : decode cX1_sum_2 4 = .ok (.invokespecial 218, 3) := dk_183 0 218 (dk_at dksX1_sum_2_0 4 rfl rfl)
theorem dX1_sum_2_7 : decode cX1_sum_2 7 = .ok (.astore_n 1, 1) := dk_76 (dk_at dksX1_sum_2_0 7 rfl rfl)
theorem dX1_sum_2_8 : decode cX1_sum_2 8 = .ok (.aload_n 1, 1) := dk_43 (dk_at dksX1_sum_2_0 8 rfl rfl)
theorem dX1_sum_2_9 : decode cX1_sum_2 9 = .ok (.getfield 219, 3) := dk_180 0 219 (dk_at dksX1_sum_2_0 9 rfl rfl)
theorem dX1_sum_2_12 : decode cX1_sum_2 12 = .ok (.aload_n 0, 1) := dk_42 (dk_at dksX1_sum_2_0 12 rfl rfl)
theorem dX1_sum_2_13 : decode cX1_sum_2 13 = .ok (.invokevirtual 222, 3) := dk_182 0 222 (dk_at dksX1_sum_2_0 13 rfl rfl)
theorem dX1_sum_2_16 : decode cX1_sum_2 16 = .ok (.invokevirtual 99, 3) := dk_182 0 99 (dk_at dksX1_sum_2_0 16 rfl rfl)
theorem dX1_sum_2_19 : decode cX1_sum_2 19 = .ok (.pop, 1) := dk_87 (dk_at dksX1_sum_2_0 19 rfl rfl)
theorem dX1_sum_2_20 : decode cX1_sum_2 20 = .ok (.aload_n 0, 1) := dk_42 (dk_at dksX1_sum_2_0 20 rfl rfl)
theorem dX1_sum_2_21 : decode cX1_sum_2 21 = .ok (.getfield 19, 3) := dk_180 0 19 (dk_at dksX1_sum_2_0 21 rfl rfl)
theorem dX1_sum_2_24 : decode cX1_sum_2 24 = .ok (.bipush 43, 2) := dk_16 43 (dk_at dksX1_sum_2_1 0 rfl rfl)
theorem dX1_sum_2_26 : decode cX1_sum_2 26 = .ok (.invokevirtual 173, 3) := dk_182 0 173 (dk_at dksX1_sum_2_1 2 rfl rfl)
theorem dX1_sum_2_29 : decode cX1_sum_2 29 = .ok (.ifCond .ne (-21), 3) := dk_154 255 235 (dk_at dksX1_sum_2_1 5 rfl rfl)
theorem dX1_sum_2_32 : decode cX1_sum_2 32 = .ok (.aload_n 1, 1) := dk_43 (dk_at dksX1_sum_2_1 8 rfl rfl)
theorem dX1_sum_2_33 : decode cX1_sum_2 33 = .ok (.areturn, 1) := dk_176 (dk_at dksX1_sum_2_1 9 rfl rfl)
abbrev cX1_onePart : ByteArray := prog_1_method_14_code
def yX1_onePart : MethodName := ⟨RX1, "onePart", "()LStepDebts$Part;"⟩
def dkwX1_onePart_2 : List UInt8 := [180, 0, 19, 182, 0, 65, 191, 187, 0, 206, 89, 3, 43, 183, 0, 208, 176]
abbrev dktX1_onePart_2 : List UInt8 := dkwX1_onePart_2 ++ []
def dkwX1_onePart_1 : List UInt8 := [182, 0, 69, 1, 183, 0, 208, 176, 42, 180, 0, 19, 182, 0, 73, 184, 0, 211, 76, 43, 199, 0, 11, 42]
abbrev dktX1_onePart_1 : List UInt8 := dkwX1_onePart_1 ++ dktX1_onePart_2
def dkwX1_onePart_0 : List UInt8 := [42, 180, 0, 19, 182, 0, 203, 153, 0, 23, 187, 0, 206, 89, 42, 180, 0, 19, 3, 17, 3, 231]
abbrev dktX1_onePart_0 : List UInt8 := dkwX1_onePart_0 ++ dktX1_onePart_1
theorem dksX1_onePart_0 : cX1_onePart.data.toList.drop 0 = dktX1_onePart_0 := by decide +kernel
theorem dksX1_onePart_1 : cX1_onePart.data.toList.drop 22 = dktX1_onePart_1 := dk_seg dksX1_onePart_0 22 rfl rfl
theorem dksX1_onePart_2 : cX1_onePart.data.toList.drop 46 = dktX1_onePart_2 := dk_seg dksX1_onePart_1 24 rfl rfl
theorem dX1_onePart_0 : decode cX1_onePart 0 = .ok (.aload_n 0, 1) := dk_42 (dk_at dksX1_onePart_0 0 rfl rfl)
theorem dX1_onePart_1 : decode cX1_onePart 1 = .ok (.getfield 19, 3) := dk_180 0 19 (dk_at dksX1_onePart_0 1 rfl rfl)
theorem dX1_onePart_4 : decode cX1_onePart 4 = .ok (.invokevirtual 203, 3) := dk_182 0 203 (dk_at dksX1_onePart_0 4 rfl rfl)
theorem dX1_onePart_7 : decode cX1_onePart 7 = .ok (.ifCond .eq 23, 3) := dk_153 0 23 (dk_at dksX1_onePart_0 7 rfl rfl)
theorem dX1_onePart_10 : decode cX1_onePart 10 = .ok (.new 206, 3) := dk_187 0 206 (dk_at dksX1_onePart_0 10 rfl rfl)
theorem dX1_onePart_13 : decode cX1_onePart 13 = .ok (.dup, 1) := dk_89 (dk_at dksX1_onePart_0 13 rfl rfl)
theorem dX1_onePart_14 : decode cX1_onePart 14 = .ok (.aload_n 0, 1) := dk_42 (dk_at dksX1_onePart_0 14 rfl rfl)
theorem dX1_onePart_15 : decode cX1_onePart 15 = .ok (.getfield 19, 3) := dk_180 0 19 (dk_at dksX1_onePart_0 15 rfl rfl)
theorem dX1_onePart_18 : decode cX1_onePart 18 = .ok (.iconst 0, 1) := dk_3 (dk_at dksX1_onePart_0 18 rfl rfl)
theorem dX1_onePart_19 : decode cX1_onePart 19 = .ok (.sipush 999, 3) := dk_17 3 231 (dk_at dksX1_onePart_0 19 rfl rfl)
theorem dX1_onePart_22 : decode cX1_onePart 22 = .ok (.invokevirtual 69, 3) := dk_182 0 69 (dk_at dksX1_onePart_1 0 rfl rfl)
theorem dX1_onePart_25 : decode cX1_onePart 25 = .ok (.aconst_null, 1) := dk_1 (dk_at dksX1_onePart_1 3 rfl rfl)
theorem dX1_onePart_26 : decode cX1_onePart 26 = .ok (.invokespecial 208, 3) := dk_183 0 208 (dk_at dksX1_onePart_1 4 rfl rfl)
theorem dX1_onePart_29 : decode cX1_onePart 29 = .ok (.areturn, 1) := dk_176 (dk_at dksX1_onePart_1 7 rfl rfl)
theorem dX1_onePart_30 : decode cX1_onePart 30 = .ok (.aload_n 0, 1) := dk_42 (dk_at dksX1_onePart_1 8 rfl rfl)
theorem dX1_onePart_31 : decode cX1_onePart 31 = .ok (.getfield 19, 3) := dk_180 0 19 (dk_at dksX1_onePart_1 9 rfl rfl)
theorem dX1_onePart_34 : decode cX1_onePart 34 = .ok (.invokevirtual 73, 3) := dk_182 0 73 (dk_at dksX1_onePart_1 12 rfl rfl)
theorem dX1_onePart_37 : decode cX1_onePart 37 = .ok (.invokestatic 211, 3) := dk_184 0 211 (dk_at dksX1_onePart_1 15 rfl rfl)
theorem dX1_onePart_40 : decode cX1_onePart 40 = .ok (.astore_n 1, 1) := dk_76 (dk_at dksX1_onePart_1 18 rfl rfl)
theorem dX1_onePart_41 : decode cX1_onePart 41 = .ok (.aload_n 1, 1) := dk_43 (dk_at dksX1_onePart_1 19 rfl rfl)
theorem dX1_onePart_42 : decode cX1_onePart 42 = .ok (.ifnonnull 11, 3) := dk_199 0 11 (dk_at dksX1_onePart_1 20 rfl rfl)
theorem dX1_onePart_45 : decode cX1_onePart 45 = .ok (.aload_n 0, 1) := dk_42 (dk_at dksX1_onePart_1 23 rfl rfl)
theorem dX1_onePart_46 : decode cX1_onePart 46 = .ok (.getfield 19, 3) := dk_180 0 19 (dk_at dksX1_onePart_2 0 rfl rfl)
theorem dX1_onePart_49 : decode cX1_onePart 49 = .ok (.invokevirtual 65, 3) := dk_182 0 65 (dk_at dksX1_onePart_2 3 rfl rfl)
theorem dX1_onePart_52 : decode cX1_onePart 52 = .ok (.athrow, 1) := dk_191 (dk_at dksX1_onePart_2 6 rfl rfl)
theorem dX1_onePart_53 : decode cX1_onePart 53 = .ok (.new 206, 3) := dk_187 0 206 (dk_at dksX1_onePart_2 7 rfl rfl)
theorem dX1_onePart_56 : decode cX1_onePart 56 = .ok (.dup, 1) := dk_89 (dk_at dksX1_onePart_2 10 rfl rfl)
theorem dX1_onePart_57 : decode cX1_onePart 57 = .ok (.iconst 0, 1) := dk_3 (dk_at dksX1_onePart_2 11 rfl rfl)
theorem dX1_onePart_58 : decode cX1_onePart 58 = .ok (.aload_n 1, 1) := dk_43 (dk_at dksX1_onePart_2 12 rfl rfl)
theorem dX1_onePart_59 : decode cX1_onePart 59 = .ok (.invokespecial 208, 3) := dk_183 0 208 (dk_at dksX1_onePart_2 13 rfl rfl)
theorem dX1_onePart_62 : decode cX1_onePart 62 = .ok (.areturn, 1) := dk_176 (dk_at dksX1_onePart_2 16 rfl rfl)
abbrev cX1_house : ByteArray := prog_1_method_28_code
def yX1_house : MethodName := ⟨RX1, "house", "(II)I"⟩
def dkwX1_house_4 : List UInt8 := [167, 255, 208, 29, 172]
abbrev dktX1_house_4 : List UInt8 := dkwX1_house_4 ++ []
def dkwX1_house_3 : List UInt8 := [182, 1, 57, 192, 0, 88, 180, 1, 83, 27, 160, 0, 7, 4, 167, 0, 4, 3, 96, 62, 132, 4, 1]
abbrev dktX1_house_3 : List UInt8 := dkwX1_house_3 ++ dktX1_house_4
def dkwX1_house_2 : List UInt8 := [180, 0, 10, 180, 0, 55, 182, 0, 59, 162, 0, 39, 29, 42, 180, 0, 10, 180, 0, 55, 21, 4]
abbrev dktX1_house_2 : List UInt8 := dkwX1_house_2 ++ dktX1_house_3
def dkwX1_house_1 : List UInt8 := [28, 5, 160, 0, 12, 42, 180, 0, 10, 27, 182, 1, 113, 172, 3, 62, 3, 54, 4, 21, 4, 42]
abbrev dktX1_house_1 : List UInt8 := dkwX1_house_1 ++ dktX1_house_2
def dkwX1_house_0 : List UInt8 := [42, 27, 182, 1, 107, 28, 5, 184, 1, 110, 28, 154, 0, 13, 42, 180, 0, 10, 180, 0, 137, 27, 46, 172]
abbrev dktX1_house_0 : List UInt8 := dkwX1_house_0 ++ dktX1_house_1
theorem dksX1_house_0 : cX1_house.data.toList.drop 0 = dktX1_house_0 := by decide +kernel
theorem dksX1_house_1 : cX1_house.data.toList.drop 24 = dktX1_house_1 := dk_seg dksX1_house_0 24 rfl rfl
theorem dksX1_house_2 : cX1_house.data.toList.drop 46 = dktX1_house_2 := dk_seg dksX1_house_1 22 rfl rfl
theorem dksX1_house_3 : cX1_house.data.toList.drop 68 = dktX1_house_3 := dk_seg dksX1_house_2 22 rfl rfl
theorem dksX1_house_4 : cX1_house.data.toList.drop 91 = dktX1_house_4 := dk_seg dksX1_house_3 23 rfl rfl
theorem dX1_house_0 : decode cX1_house 0 = .ok (.aload_n 0, 1) := dk_42 (dk_at dksX1_house_0 0 rfl rfl)
theorem dX1_house_1 : decode cX1_house 1 = .ok (.iload_n 1, 1) := dk_27 (dk_at dksX1_house_0 1 rfl rfl)
theorem dX1_house_2 : decode cX1_house 2 = .ok (.invokevirtual 363, 3) := dk_182 1 107 (dk_at dksX1_house_0 2 rfl rfl)
theorem dX1_house_5 : decode cX1_house 5 = .ok (.iload_n 2, 1) := dk_28 (dk_at dksX1_house_0 5 rfl rfl)
theorem dX1_house_6 : decode cX1_house 6 = .ok (.iconst 2, 1) := dk_5 (dk_at dksX1_house_0 6 rfl rfl)
theorem dX1_house_7 : decode cX1_house 7 = .ok (.invokestatic 366, 3) := dk_184 1 110 (dk_at dksX1_house_0 7 rfl rfl)
theorem dX1_house_10 : decode cX1_house 10 = .ok (.iload_n 2, 1) := dk_28 (dk_at dksX1_house_0 10 rfl rfl)
theorem dX1_house_11 : decode cX1_house 11 = .ok (.ifCond .ne 13, 3) := dk_154 0 13 (dk_at dksX1_house_0 11 rfl rfl)
theorem dX1_house_14 : decode cX1_house 14 = .ok (.aload_n 0, 1) := dk_42 (dk_at dksX1_house_0 14 rfl rfl)
theorem dX1_house_15 : decode cX1_house 15 = .ok (.getfield 10, 3) := dk_180 0 10 (dk_at dksX1_house_0 15 rfl rfl)
theorem dX1_house_18 : decode cX1_house 18 = .ok (.getfield 137, 3) := dk_180 0 137 (dk_at dksX1_house_0 18 rfl rfl)
theorem dX1_house_21 : decode cX1_house 21 = .ok (.iload_n 1, 1) := dk_27 (dk_at dksX1_house_0 21 rfl rfl)
theorem dX1_house_22 : decode cX1_house 22 = .ok (.iaload, 1) := dk_46 (dk_at dksX1_house_0 22 rfl rfl)
theorem dX1_house_23 : decode cX1_house 23 = .ok (.ireturn, 1) := dk_172 (dk_at dksX1_house_0 23 rfl rfl)
theorem dX1_house_24 : decode cX1_house 24 = .ok (.iload_n 2, 1) := dk_28 (dk_at dksX1_house_1 0 rfl rfl)
theorem dX1_house_25 : decode cX1_house 25 = .ok (.iconst 2, 1) := dk_5 (dk_at dksX1_house_1 1 rfl rfl)
theorem dX1_house_26 : decode cX1_house 26 = .ok (.if_icmp .ne 12, 3) := dk_160 0 12 (dk_at dksX1_house_1 2 rfl rfl)
theorem dX1_house_29 : decode cX1_house 29 = .ok (.aload_n 0, 1) := dk_42 (dk_at dksX1_house_1 5 rfl rfl)
theorem dX1_house_30 : decode cX1_house 30 = .ok (.getfield 10, 3) := dk_180 0 10 (dk_at dksX1_house_1 6 rfl rfl)
theorem dX1_house_33 : decode cX1_house 33 = .ok (.iload_n 1, 1) := dk_27 (dk_at dksX1_house_1 9 rfl rfl)
theorem dX1_house_34 : decode cX1_house 34 = .ok (.invokevirtual 369, 3) := dk_182 1 113 (dk_at dksX1_house_1 10 rfl rfl)
theorem dX1_house_37 : decode cX1_house 37 = .ok (.ireturn, 1) := dk_172 (dk_at dksX1_house_1 13 rfl rfl)
theorem dX1_house_38 : decode cX1_house 38 = .ok (.iconst 0, 1) := dk_3 (dk_at dksX1_house_1 14 rfl rfl)
theorem dX1_house_39 : decode cX1_house 39 = .ok (.istore_n 3, 1) := dk_62 (dk_at dksX1_house_1 15 rfl rfl)
theorem dX1_house_40 : decode cX1_house 40 = .ok (.iconst 0, 1) := dk_3 (dk_at dksX1_house_1 16 rfl rfl)
theorem dX1_house_41 : decode cX1_house 41 = .ok (.istore 4, 2) := dk_54 4 (dk_at dksX1_house_1 17 rfl rfl)
theorem dX1_house_43 : decode cX1_house 43 = .ok (.iload 4, 2) := dk_21 4 (dk_at dksX1_house_1 19 rfl rfl)
theorem dX1_house_45 : decode cX1_house 45 = .ok (.aload_n 0, 1) := dk_42 (dk_at dksX1_house_1 21 rfl rfl)
theorem dX1_house_46 : decode cX1_house 46 = .ok (.getfield 10, 3) := dk_180 0 10 (dk_at dksX1_house_2 0 rfl rfl)
theorem dX1_house_49 : decode cX1_house 49 = .ok (.getfield 55, 3) := dk_180 0 55 (dk_at dksX1_house_2 3 rfl rfl)
theorem dX1_house_52 : decode cX1_house 52 = .ok (.invokevirtual 59, 3) := dk_182 0 59 (dk_at dksX1_house_2 6 rfl rfl)
theorem dX1_house_55 : decode cX1_house 55 = .ok (.if_icmp .ge 39, 3) := dk_162 0 39 (dk_at dksX1_house_2 9 rfl rfl)
theorem dX1_house_58 : decode cX1_house 58 = .ok (.iload_n 3, 1) := dk_29 (dk_at dksX1_house_2 12 rfl rfl)
theorem dX1_house_59 : decode cX1_house 59 = .ok (.aload_n 0, 1) := dk_42 (dk_at dksX1_house_2 13 rfl rfl)
theorem dX1_house_60 : decode cX1_house 60 = .ok (.getfield 10, 3) := dk_180 0 10 (dk_at dksX1_house_2 14 rfl rfl)
theorem dX1_house_63 : decode cX1_house 63 = .ok (.getfield 55, 3) := dk_180 0 55 (dk_at dksX1_house_2 17 rfl rfl)
theorem dX1_house_66 : decode cX1_house 66 = .ok (.iload 4, 2) := dk_21 4 (dk_at dksX1_house_2 20 rfl rfl)
theorem dX1_house_68 : decode cX1_house 68 = .ok (.invokevirtual 313, 3) := dk_182 1 57 (dk_at dksX1_house_3 0 rfl rfl)
theorem dX1_house_71 : decode cX1_house 71 = .ok (.checkcast 88, 3) := dk_192 0 88 (dk_at dksX1_house_3 3 rfl rfl)
theorem dX1_house_74 : decode cX1_house 74 = .ok (.getfield 339, 3) := dk_180 1 83 (dk_at dksX1_house_3 6 rfl rfl)
theorem dX1_house_77 : decode cX1_house 77 = .ok (.iload_n 1, 1) := dk_27 (dk_at dksX1_house_3 9 rfl rfl)
theorem dX1_house_78 : decode cX1_house 78 = .ok (.if_icmp .ne 7, 3) := dk_160 0 7 (dk_at dksX1_house_3 10 rfl rfl)
theorem dX1_house_81 : decode cX1_house 81 = .ok (.iconst 1, 1) := dk_4 (dk_at dksX1_house_3 13 rfl rfl)
theorem dX1_house_82 : decode cX1_house 82 = .ok (.goto 4, 3) := dk_167 0 4 (dk_at dksX1_house_3 14 rfl rfl)
theorem dX1_house_85 : decode cX1_house 85 = .ok (.iconst 0, 1) := dk_3 (dk_at dksX1_house_3 17 rfl rfl)
theorem dX1_house_86 : decode cX1_house 86 = .ok (.iadd, 1) := dk_96 (dk_at dksX1_house_3 18 rfl rfl)
theorem dX1_house_87 : decode cX1_house 87 = .ok (.istore_n 3, 1) := dk_62 (dk_at dksX1_house_3 19 rfl rfl)
theorem dX1_house_88 : decode cX1_house 88 = .ok (.iinc 4 1, 3) := dk_132 4 1 (dk_at dksX1_house_3 20 rfl rfl)
theorem dX1_house_91 : decode cX1_house 91 = .ok (.goto (-48), 3) := dk_167 255 208 (dk_at dksX1_house_4 0 rfl rfl)
theorem dX1_house_94 : decode cX1_house 94 = .ok (.iload_n 3, 1) := dk_29 (dk_at dksX1_house_4 3 rfl rfl)
theorem dX1_house_95 : decode cX1_house 95 = .ok (.ireturn, 1) := dk_172 (dk_at dksX1_house_4 4 rfl rfl)
abbrev cX1_houseAt : ByteArray := prog_1_method_27_code
def yX1_houseAt : MethodName := ⟨RX1, "houseAt", "(I)V"⟩
def dkwX1_houseAt_0 : List UInt8 := [27, 42, 180, 0, 10, 180, 0, 85, 184, 1, 104, 177]
abbrev dktX1_houseAt_0 : List UInt8 := dkwX1_houseAt_0 ++ []
theorem dksX1_houseAt_0 : cX1_houseAt.data.toList.drop 0 = dktX1_houseAt_0 := by decide +kernel
theorem dX1_houseAt_0 : decode cX1_houseAt 0 = .ok (.iload_n 1, 1) := dk_27 (dk_at dksX1_houseAt_0 0 rfl rfl)
theorem dX1_houseAt_1 : decode cX1_houseAt 1 = .ok (.aload_n 0, 1) := dk_42 (dk_at dksX1_houseAt_0 1 rfl rfl)
theorem dX1_houseAt_2 : decode cX1_houseAt 2 = .ok (.getfield 10, 3) := dk_180 0 10 (dk_at dksX1_houseAt_0 2 rfl rfl)
theorem dX1_houseAt_5 : decode cX1_houseAt 5 = .ok (.getfield 85, 3) := dk_180 0 85 (dk_at dksX1_houseAt_0 5 rfl rfl)
theorem dX1_houseAt_8 : decode cX1_houseAt 8 = .ok (.invokestatic 360, 3) := dk_184 1 104 (dk_at dksX1_houseAt_0 8 rfl rfl)
theorem dX1_houseAt_11 : decode cX1_houseAt 11 = .ok (.return_, 1) := dk_177 (dk_at dksX1_houseAt_0 11 rfl rfl)
abbrev cX1_there : ByteArray := prog_1_method_23_code
def yX1_there : MethodName := ⟨RX1, "there", "(II)V"⟩
def dkwX1_there_0 : List UInt8 := [26, 3, 27, 4, 100, 184, 1, 91, 154, 0, 11, 187, 1, 95, 89, 183, 1, 97, 191, 177]
abbrev dktX1_there_0 : List UInt8 := dkwX1_there_0 ++ []
theorem dksX1_there_0 : cX1_there.data.toList.drop 0 = dktX1_there_0 := by decide +kernel
theorem dX1_there_0 : decode cX1_there 0 = .ok (.iload_n 0, 1) := dk_26 (dk_at dksX1_there_0 0 rfl rfl)
theorem dX1_there_1 : decode cX1_there 1 = .ok (.iconst 0, 1) := dk_3 (dk_at dksX1_there_0 1 rfl rfl)
theorem dX1_there_2 : decode cX1_there 2 = .ok (.iload_n 1, 1) := dk_27 (dk_at dksX1_there_0 2 rfl rfl)
theorem dX1_there_3 : decode cX1_there 3 = .ok (.iconst 1, 1) := dk_4 (dk_at dksX1_there_0 3 rfl rfl)
theorem dX1_there_4 : decode cX1_there 4 = .ok (.isub, 1) := dk_100 (dk_at dksX1_there_0 4 rfl rfl)
theorem dX1_there_5 : decode cX1_there 5 = .ok (.invokestatic 347, 3) := dk_184 1 91 (dk_at dksX1_there_0 5 rfl rfl)
theorem dX1_there_8 : decode cX1_there 8 = .ok (.ifCond .ne 11, 3) := dk_154 0 11 (dk_at dksX1_there_0 8 rfl rfl)
theorem dX1_there_11 : decode cX1_there 11 = .ok (.new 351, 3) := dk_187 1 95 (dk_at dksX1_there_0 11 rfl rfl)
theorem dX1_there_14 : decode cX1_there 14 = .ok (.dup, 1) := dk_89 (dk_at dksX1_there_0 14 rfl rfl)
theorem dX1_there_15 : decode cX1_there 15 = .ok (.invokespecial 353, 3) := dk_183 1 97 (dk_at dksX1_there_0 15 rfl rfl)
theorem dX1_there_18 : decode cX1_there 18 = .ok (.athrow, 1) := dk_191 (dk_at dksX1_there_0 18 rfl rfl)
theorem dX1_there_19 : decode cX1_there 19 = .ok (.return_, 1) := dk_177 (dk_at dksX1_there_0 19 rfl rfl)
abbrev cX1_asked : ByteArray := prog_1_method_26_code
def yX1_asked : MethodName := ⟨RX1, "asked", "(II)V"⟩
def dkwX1_asked_0 : List UInt8 := [26, 3, 27, 184, 1, 91, 154, 0, 11, 187, 1, 101, 89, 183, 1, 103, 191, 177]
abbrev dktX1_asked_0 : List UInt8 := dkwX1_asked_0 ++ []
theorem dksX1_asked_0 : cX1_asked.data.toList.drop 0 = dktX1_asked_0 := by decide +kernel
theorem dX1_asked_0 : decode cX1_asked 0 = .ok (.iload_n 0, 1) := dk_26 (dk_at dksX1_asked_0 0 rfl rfl)
theorem dX1_asked_1 : decode cX1_asked 1 = .ok (.iconst 0, 1) := dk_3 (dk_at dksX1_asked_0 1 rfl rfl)
theorem dX1_asked_2 : decode cX1_asked 2 = .ok (.iload_n 1, 1) := dk_27 (dk_at dksX1_asked_0 2 rfl rfl)
theorem dX1_asked_3 : decode cX1_asked 3 = .ok (.invokestatic 347, 3) := dk_184 1 91 (dk_at dksX1_asked_0 3 rfl rfl)
theorem dX1_asked_6 : decode cX1_asked 6 = .ok (.ifCond .ne 11, 3) := dk_154 0 11 (dk_at dksX1_asked_0 6 rfl rfl)
theorem dX1_asked_9 : decode cX1_asked 9 = .ok (.new 357, 3) := dk_187 1 101 (dk_at dksX1_asked_0 9 rfl rfl)
theorem dX1_asked_12 : decode cX1_asked 12 = .ok (.dup, 1) := dk_89 (dk_at dksX1_asked_0 12 rfl rfl)
theorem dX1_asked_13 : decode cX1_asked 13 = .ok (.invokespecial 359, 3) := dk_183 1 103 (dk_at dksX1_asked_0 13 rfl rfl)
theorem dX1_asked_16 : decode cX1_asked 16 = .ok (.athrow, 1) := dk_191 (dk_at dksX1_asked_0 16 rfl rfl)
theorem dX1_asked_17 : decode cX1_asked 17 = .ok (.return_, 1) := dk_177 (dk_at dksX1_asked_0 17 rfl rfl)
abbrev cX1_walker : ByteArray := prog_1_method_29_code
def yX1_walker : MethodName := ⟨RX1, "walker", "(II)I"⟩
def dkwX1_walker_6 : List UInt8 := [182, 1, 57, 192, 1, 121, 180, 1, 126, 172, 132, 4, 255, 167, 255, 207, 2, 172]
abbrev dktX1_walker_6 : List UInt8 := dkwX1_walker_6 ++ []
def dkwX1_walker_5 : List UInt8 := [182, 1, 57, 192, 1, 121, 180, 1, 123, 27, 160, 0, 22, 42, 180, 0, 10, 180, 1, 118, 21, 4]
abbrev dktX1_walker_5 : List UInt8 := dkwX1_walker_5 ++ dktX1_walker_6
def dkwX1_walker_4 : List UInt8 := [180, 1, 118, 182, 0, 59, 4, 100, 54, 4, 21, 4, 155, 0, 50, 42, 180, 0, 10, 180, 1, 118, 21, 4]
abbrev dktX1_walker_4 : List UInt8 := dkwX1_walker_4 ++ dktX1_walker_5
def dkwX1_walker_3 : List UInt8 := [45, 180, 1, 61, 172, 45, 180, 1, 65, 172, 45, 180, 1, 83, 172, 45, 180, 1, 116, 172, 42, 180, 0, 10]
abbrev dktX1_walker_3 : List UInt8 := dkwX1_walker_3 ++ dktX1_walker_4
def dkwX1_walker_2 : List UInt8 := [170, 0, 0, 0, 49, 0, 0, 0, 0, 0, 0, 0, 3, 0, 0, 0, 29, 0, 0, 0, 34, 0, 0, 0, 39, 0, 0, 0, 44]
abbrev dktX1_walker_2 : List UInt8 := dkwX1_walker_2 ++ dktX1_walker_3
def dkwX1_walker_1 : List UInt8 := [180, 0, 55, 27, 182, 1, 57, 192, 0, 88, 78, 28]
abbrev dktX1_walker_1 : List UInt8 := dkwX1_walker_1 ++ dktX1_walker_2
def dkwX1_walker_0 : List UInt8 := [27, 42, 180, 0, 10, 180, 0, 55, 182, 0, 59, 184, 1, 104, 28, 7, 184, 1, 110, 42, 180, 0, 10]
abbrev dktX1_walker_0 : List UInt8 := dkwX1_walker_0 ++ dktX1_walker_1
theorem dksX1_walker_0 : cX1_walker.data.toList.drop 0 = dktX1_walker_0 := by decide +kernel
theorem dksX1_walker_1 : cX1_walker.data.toList.drop 23 = dktX1_walker_1 := dk_seg dksX1_walker_0 23 rfl rfl
theorem dksX1_walker_2 : cX1_walker.data.toList.drop 35 = dktX1_walker_2 := dk_seg dksX1_walker_1 12 rfl rfl
theorem dksX1_walker_3 : cX1_walker.data.toList.drop 64 = dktX1_walker_3 := dk_seg dksX1_walker_2 29 rfl rfl
theorem dksX1_walker_4 : cX1_walker.data.toList.drop 88 = dktX1_walker_4 := dk_seg dksX1_walker_3 24 rfl rfl
theorem dksX1_walker_5 : cX1_walker.data.toList.drop 112 = dktX1_walker_5 := dk_seg dksX1_walker_4 24 rfl rfl
theorem dksX1_walker_6 : cX1_walker.data.toList.drop 134 = dktX1_walker_6 := dk_seg dksX1_walker_5 22 rfl rfl
theorem dX1_walker_0 : decode cX1_walker 0 = .ok (.iload_n 1, 1) := dk_27 (dk_at dksX1_walker_0 0 rfl rfl)
theorem dX1_walker_1 : decode cX1_walker 1 = .ok (.aload_n 0, 1) := dk_42 (dk_at dksX1_walker_0 1 rfl rfl)
theorem dX1_walker_2 : decode cX1_walker 2 = .ok (.getfield 10, 3) := dk_180 0 10 (dk_at dksX1_walker_0 2 rfl rfl)
theorem dX1_walker_5 : decode cX1_walker 5 = .ok (.getfield 55, 3) := dk_180 0 55 (dk_at dksX1_walker_0 5 rfl rfl)
theorem dX1_walker_8 : decode cX1_walker 8 = .ok (.invokevirtual 59, 3) := dk_182 0 59 (dk_at dksX1_walker_0 8 rfl rfl)
theorem dX1_walker_11 : decode cX1_walker 11 = .ok (.invokestatic 360, 3) := dk_184 1 104 (dk_at dksX1_walker_0 11 rfl rfl)
theorem dX1_walker_14 : decode cX1_walker 14 = .ok (.iload_n 2, 1) := dk_28 (dk_at dksX1_walker_0 14 rfl rfl)
theorem dX1_walker_15 : decode cX1_walker 15 = .ok (.iconst 4, 1) := dk_7 (dk_at dksX1_walker_0 15 rfl rfl)
theorem dX1_walker_16 : decode cX1_walker 16 = .ok (.invokestatic 366, 3) := dk_184 1 110 (dk_at dksX1_walker_0 16 rfl rfl)
theorem dX1_walker_19 : decode cX1_walker 19 = .ok (.aload_n 0, 1) := dk_42 (dk_at dksX1_walker_0 19 rfl rfl)
theorem dX1_walker_20 : decode cX1_walker 20 = .ok (.getfield 10, 3) := dk_180 0 10 (dk_at dksX1_walker_0 20 rfl rfl)
theorem dX1_walker_23 : decode cX1_walker 23 = .ok (.getfield 55, 3) := dk_180 0 55 (dk_at dksX1_walker_1 0 rfl rfl)
theorem dX1_walker_26 : decode cX1_walker 26 = .ok (.iload_n 1, 1) := dk_27 (dk_at dksX1_walker_1 3 rfl rfl)
theorem dX1_walker_27 : decode cX1_walker 27 = .ok (.invokevirtual 313, 3) := dk_182 1 57 (dk_at dksX1_walker_1 4 rfl rfl)
theorem dX1_walker_30 : decode cX1_walker 30 = .ok (.checkcast 88, 3) := dk_192 0 88 (dk_at dksX1_walker_1 7 rfl rfl)
theorem dX1_walker_33 : decode cX1_walker 33 = .ok (.astore_n 3, 1) := dk_78 (dk_at dksX1_walker_1 10 rfl rfl)
theorem dX1_walker_34 : decode cX1_walker 34 = .ok (.iload_n 2, 1) := dk_28 (dk_at dksX1_walker_1 11 rfl rfl)
theorem dX1_walker_35 : decode cX1_walker 35 = .ok (.tableswitch 49 0 3 #[29, 34, 39, 44], 29) := by decide +kernel
theorem dX1_walker_64 : decode cX1_walker 64 = .ok (.aload_n 3, 1) := dk_45 (dk_at dksX1_walker_3 0 rfl rfl)
theorem dX1_walker_65 : decode cX1_walker 65 = .ok (.getfield 317, 3) := dk_180 1 61 (dk_at dksX1_walker_3 1 rfl rfl)
theorem dX1_walker_68 : decode cX1_walker 68 = .ok (.ireturn, 1) := dk_172 (dk_at dksX1_walker_3 4 rfl rfl)
theorem dX1_walker_69 : decode cX1_walker 69 = .ok (.aload_n 3, 1) := dk_45 (dk_at dksX1_walker_3 5 rfl rfl)
theorem dX1_walker_70 : decode cX1_walker 70 = .ok (.getfield 321, 3) := dk_180 1 65 (dk_at dksX1_walker_3 6 rfl rfl)
theorem dX1_walker_73 : decode cX1_walker 73 = .ok (.ireturn, 1) := dk_172 (dk_at dksX1_walker_3 9 rfl rfl)
theorem dX1_walker_74 : decode cX1_walker 74 = .ok (.aload_n 3, 1) := dk_45 (dk_at dksX1_walker_3 10 rfl rfl)
theorem dX1_walker_75 : decode cX1_walker 75 = .ok (.getfield 339, 3) := dk_180 1 83 (dk_at dksX1_walker_3 11 rfl rfl)
theorem dX1_walker_78 : decode cX1_walker 78 = .ok (.ireturn, 1) := dk_172 (dk_at dksX1_walker_3 14 rfl rfl)
theorem dX1_walker_79 : decode cX1_walker 79 = .ok (.aload_n 3, 1) := dk_45 (dk_at dksX1_walker_3 15 rfl rfl)
theorem dX1_walker_80 : decode cX1_walker 80 = .ok (.getfield 372, 3) := dk_180 1 116 (dk_at dksX1_walker_3 16 rfl rfl)
theorem dX1_walker_83 : decode cX1_walker 83 = .ok (.ireturn, 1) := dk_172 (dk_at dksX1_walker_3 19 rfl rfl)
theorem dX1_walker_84 : decode cX1_walker 84 = .ok (.aload_n 0, 1) := dk_42 (dk_at dksX1_walker_3 20 rfl rfl)
theorem dX1_walker_85 : decode cX1_walker 85 = .ok (.getfield 10, 3) := dk_180 0 10 (dk_at dksX1_walker_3 21 rfl rfl)
theorem dX1_walker_88 : decode cX1_walker 88 = .ok (.getfield 374, 3) := dk_180 1 118 (dk_at dksX1_walker_4 0 rfl rfl)
theorem dX1_walker_91 : decode cX1_walker 91 = .ok (.invokevirtual 59, 3) := dk_182 0 59 (dk_at dksX1_walker_4 3 rfl rfl)
theorem dX1_walker_94 : decode cX1_walker 94 = .ok (.iconst 1, 1) := dk_4 (dk_at dksX1_walker_4 6 rfl rfl)
theorem dX1_walker_95 : decode cX1_walker 95 = .ok (.isub, 1) := dk_100 (dk_at dksX1_walker_4 7 rfl rfl)
theorem dX1_walker_96 : decode cX1_walker 96 = .ok (.istore 4, 2) := dk_54 4 (dk_at dksX1_walker_4 8 rfl rfl)
theorem dX1_walker_98 : decode cX1_walker 98 = .ok (.iload 4, 2) := dk_21 4 (dk_at dksX1_walker_4 10 rfl rfl)
theorem dX1_walker_100 : decode cX1_walker 100 = .ok (.ifCond .lt 50, 3) := dk_155 0 50 (dk_at dksX1_walker_4 12 rfl rfl)
theorem dX1_walker_103 : decode cX1_walker 103 = .ok (.aload_n 0, 1) := dk_42 (dk_at dksX1_walker_4 15 rfl rfl)
theorem dX1_walker_104 : decode cX1_walker 104 = .ok (.getfield 10, 3) := dk_180 0 10 (dk_at dksX1_walker_4 16 rfl rfl)
theorem dX1_walker_107 : decode cX1_walker 107 = .ok (.getfield 374, 3) := dk_180 1 118 (dk_at dksX1_walker_4 19 rfl rfl)
theorem dX1_walker_110 : decode cX1_walker 110 = .ok (.iload 4, 2) := dk_21 4 (dk_at dksX1_walker_4 22 rfl rfl)
theorem dX1_walker_112 : decode cX1_walker 112 = .ok (.invokevirtual 313, 3) := dk_182 1 57 (dk_at dksX1_walker_5 0 rfl rfl)
theorem dX1_walker_115 : decode cX1_walker 115 = .ok (.checkcast 377, 3) := dk_192 1 121 (dk_at dksX1_walker_5 3 rfl rfl)
theorem dX1_walker_118 : decode cX1_walker 118 = .ok (.getfield 379, 3) := dk_180 1 123 (dk_at dksX1_walker_5 6 rfl rfl)
theorem dX1_walker_121 : decode cX1_walker 121 = .ok (.iload_n 1, 1) := dk_27 (dk_at dksX1_walker_5 9 rfl rfl)
theorem dX1_walker_122 : decode cX1_walker 122 = .ok (.if_icmp .ne 22, 3) := dk_160 0 22 (dk_at dksX1_walker_5 10 rfl rfl)
theorem dX1_walker_125 : decode cX1_walker 125 = .ok (.aload_n 0, 1) := dk_42 (dk_at dksX1_walker_5 13 rfl rfl)
theorem dX1_walker_126 : decode cX1_walker 126 = .ok (.getfield 10, 3) := dk_180 0 10 (dk_at dksX1_walker_5 14 rfl rfl)
theorem dX1_walker_129 : decode cX1_walker 129 = .ok (.getfield 374, 3) := dk_180 1 118 (dk_at dksX1_walker_5 17 rfl rfl)
theorem dX1_walker_132 : decode cX1_walker 132 = .ok (.iload 4, 2) := dk_21 4 (dk_at dksX1_walker_5 20 rfl rfl)
theorem dX1_walker_134 : decode cX1_walker 134 = .ok (.invokevirtual 313, 3) := dk_182 1 57 (dk_at dksX1_walker_6 0 rfl rfl)
theorem dX1_walker_137 : decode cX1_walker 137 = .ok (.checkcast 377, 3) := dk_192 1 121 (dk_at dksX1_walker_6 3 rfl rfl)
theorem dX1_walker_140 : decode cX1_walker 140 = .ok (.getfield 382, 3) := dk_180 1 126 (dk_at dksX1_walker_6 6 rfl rfl)
theorem dX1_walker_143 : decode cX1_walker 143 = .ok (.ireturn, 1) := dk_172 (dk_at dksX1_walker_6 9 rfl rfl)
theorem dX1_walker_144 : decode cX1_walker 144 = .ok (.iinc 4 (-1), 3) := dk_132 4 255 (dk_at dksX1_walker_6 10 rfl rfl)
theorem dX1_walker_147 : decode cX1_walker 147 = .ok (.goto (-49), 3) := dk_167 255 207 (dk_at dksX1_walker_6 13 rfl rfl)
theorem dX1_walker_150 : decode cX1_walker 150 = .ok (.iconst (-1), 1) := dk_2 (dk_at dksX1_walker_6 16 rfl rfl)
theorem dX1_walker_151 : decode cX1_walker 151 = .ok (.ireturn, 1) := dk_172 (dk_at dksX1_walker_6 17 rfl rfl)
abbrev cX1_turn : ByteArray := prog_1_method_31_code
def yX1_turn : MethodName := ⟨RX1, "turn", "(II)I"⟩
def dkwX1_turn_1 : List UInt8 := [160, 0, 10, 45, 180, 1, 69, 167, 0, 11, 42, 180, 0, 10, 27, 182, 1, 134, 172]
abbrev dktX1_turn_1 : List UInt8 := dkwX1_turn_1 ++ []
def dkwX1_turn_0 : List UInt8 := [42, 27, 182, 1, 127, 78, 28, 5, 184, 1, 110, 28, 154, 0, 10, 45, 180, 1, 131, 167, 0, 23, 28, 4]
abbrev dktX1_turn_0 : List UInt8 := dkwX1_turn_0 ++ dktX1_turn_1
theorem dksX1_turn_0 : cX1_turn.data.toList.drop 0 = dktX1_turn_0 := by decide +kernel
theorem dksX1_turn_1 : cX1_turn.data.toList.drop 24 = dktX1_turn_1 := dk_seg dksX1_turn_0 24 rfl rfl
theorem dX1_turn_0 : decode cX1_turn 0 = .ok (.aload_n 0, 1) := dk_42 (dk_at dksX1_turn_0 0 rfl rfl)
theorem dX1_turn_1 : decode cX1_turn 1 = .ok (.iload_n 1, 1) := dk_27 (dk_at dksX1_turn_0 1 rfl rfl)
theorem dX1_turn_2 : decode cX1_turn 2 = .ok (.invokevirtual 383, 3) := dk_182 1 127 (dk_at dksX1_turn_0 2 rfl rfl)
theorem dX1_turn_5 : decode cX1_turn 5 = .ok (.astore_n 3, 1) := dk_78 (dk_at dksX1_turn_0 5 rfl rfl)
theorem dX1_turn_6 : decode cX1_turn 6 = .ok (.iload_n 2, 1) := dk_28 (dk_at dksX1_turn_0 6 rfl rfl)
theorem dX1_turn_7 : decode cX1_turn 7 = .ok (.iconst 2, 1) := dk_5 (dk_at dksX1_turn_0 7 rfl rfl)
theorem dX1_turn_8 : decode cX1_turn 8 = .ok (.invokestatic 366, 3) := dk_184 1 110 (dk_at dksX1_turn_0 8 rfl rfl)
theorem dX1_turn_11 : decode cX1_turn 11 = .ok (.iload_n 2, 1) := dk_28 (dk_at dksX1_turn_0 11 rfl rfl)
theorem dX1_turn_12 : decode cX1_turn 12 = .ok (.ifCond .ne 10, 3) := dk_154 0 10 (dk_at dksX1_turn_0 12 rfl rfl)
theorem dX1_turn_15 : decode cX1_turn 15 = .ok (.aload_n 3, 1) := dk_45 (dk_at dksX1_turn_0 15 rfl rfl)
theorem dX1_turn_16 : decode cX1_turn 16 = .ok (.getfield 387, 3) := dk_180 1 131 (dk_at dksX1_turn_0 16 rfl rfl)
theorem dX1_turn_19 : decode cX1_turn 19 = .ok (.goto 23, 3) := dk_167 0 23 (dk_at dksX1_turn_0 19 rfl rfl)
theorem dX1_turn_22 : decode cX1_turn 22 = .ok (.iload_n 2, 1) := dk_28 (dk_at dksX1_turn_0 22 rfl rfl)
theorem dX1_turn_23 : decode cX1_turn 23 = .ok (.iconst 1, 1) := dk_4 (dk_at dksX1_turn_0 23 rfl rfl)
theorem dX1_turn_24 : decode cX1_turn 24 = .ok (.if_icmp .ne 10, 3) := dk_160 0 10 (dk_at dksX1_turn_1 0 rfl rfl)
theorem dX1_turn_27 : decode cX1_turn 27 = .ok (.aload_n 3, 1) := dk_45 (dk_at dksX1_turn_1 3 rfl rfl)
theorem dX1_turn_28 : decode cX1_turn 28 = .ok (.getfield 325, 3) := dk_180 1 69 (dk_at dksX1_turn_1 4 rfl rfl)
theorem dX1_turn_31 : decode cX1_turn 31 = .ok (.goto 11, 3) := dk_167 0 11 (dk_at dksX1_turn_1 7 rfl rfl)
theorem dX1_turn_34 : decode cX1_turn 34 = .ok (.aload_n 0, 1) := dk_42 (dk_at dksX1_turn_1 10 rfl rfl)
theorem dX1_turn_35 : decode cX1_turn 35 = .ok (.getfield 10, 3) := dk_180 0 10 (dk_at dksX1_turn_1 11 rfl rfl)
theorem dX1_turn_38 : decode cX1_turn 38 = .ok (.iload_n 1, 1) := dk_27 (dk_at dksX1_turn_1 14 rfl rfl)
theorem dX1_turn_39 : decode cX1_turn 39 = .ok (.invokevirtual 390, 3) := dk_182 1 134 (dk_at dksX1_turn_1 15 rfl rfl)
theorem dX1_turn_42 : decode cX1_turn 42 = .ok (.ireturn, 1) := dk_172 (dk_at dksX1_turn_1 18 rfl rfl)
abbrev cX1_turnAt : ByteArray := prog_1_method_30_code
def yX1_turnAt : MethodName := ⟨RX1, "turnAt", "(I)LStepDebts$Turn;"⟩
def dkwX1_turnAt_1 : List UInt8 := [182, 1, 57, 192, 0, 147, 176]
abbrev dktX1_turnAt_1 : List UInt8 := dkwX1_turnAt_1 ++ []
def dkwX1_turnAt_0 : List UInt8 := [27, 42, 180, 0, 10, 180, 0, 144, 182, 0, 59, 184, 1, 104, 42, 180, 0, 10, 180, 0, 144, 27]
abbrev dktX1_turnAt_0 : List UInt8 := dkwX1_turnAt_0 ++ dktX1_turnAt_1
theorem dksX1_turnAt_0 : cX1_turnAt.data.toList.drop 0 = dktX1_turnAt_0 := by decide +kernel
theorem dksX1_turnAt_1 : cX1_turnAt.data.toList.drop 22 = dktX1_turnAt_1 := dk_seg dksX1_turnAt_0 22 rfl rfl
theorem dX1_turnAt_0 : decode cX1_turnAt 0 = .ok (.iload_n 1, 1) := dk_27 (dk_at dksX1_turnAt_0 0 rfl rfl)
theorem dX1_turnAt_1 : decode cX1_turnAt 1 = .ok (.aload_n 0, 1) := dk_42 (dk_at dksX1_turnAt_0 1 rfl rfl)
theorem dX1_turnAt_2 : decode cX1_turnAt 2 = .ok (.getfield 10, 3) := dk_180 0 10 (dk_at dksX1_turnAt_0 2 rfl rfl)
theorem dX1_turnAt_5 : decode cX1_turnAt 5 = .ok (.getfield 144, 3) := dk_180 0 144 (dk_at dksX1_turnAt_0 5 rfl rfl)
theorem dX1_turnAt_8 : decode cX1_turnAt 8 = .ok (.invokevirtual 59, 3) := dk_182 0 59 (dk_at dksX1_turnAt_0 8 rfl rfl)
theorem dX1_turnAt_11 : decode cX1_turnAt 11 = .ok (.invokestatic 360, 3) := dk_184 1 104 (dk_at dksX1_turnAt_0 11 rfl rfl)
theorem dX1_turnAt_14 : decode cX1_turnAt 14 = .ok (.aload_n 0, 1) := dk_42 (dk_at dksX1_turnAt_0 14 rfl rfl)
theorem dX1_turnAt_15 : decode cX1_turnAt 15 = .ok (.getfield 10, 3) := dk_180 0 10 (dk_at dksX1_turnAt_0 15 rfl rfl)
theorem dX1_turnAt_18 : decode cX1_turnAt 18 = .ok (.getfield 144, 3) := dk_180 0 144 (dk_at dksX1_turnAt_0 18 rfl rfl)
theorem dX1_turnAt_21 : decode cX1_turnAt 21 = .ok (.iload_n 1, 1) := dk_27 (dk_at dksX1_turnAt_0 21 rfl rfl)
theorem dX1_turnAt_22 : decode cX1_turnAt 22 = .ok (.invokevirtual 313, 3) := dk_182 1 57 (dk_at dksX1_turnAt_1 0 rfl rfl)
theorem dX1_turnAt_25 : decode cX1_turnAt 25 = .ok (.checkcast 147, 3) := dk_192 0 147 (dk_at dksX1_turnAt_1 3 rfl rfl)
theorem dX1_turnAt_28 : decode cX1_turnAt 28 = .ok (.areturn, 1) := dk_176 (dk_at dksX1_turnAt_1 6 rfl rfl)
abbrev cX1_entry : ByteArray := prog_1_method_32_code
def yX1_entry : MethodName := ⟨RX1, "entry", "(II)I"⟩
def dkwX1_entry_5 : List UInt8 := [153, 0, 7, 4, 167, 0, 4, 3, 172]
abbrev dktX1_entry_5 : List UInt8 := dkwX1_entry_5 ++ []
def dkwX1_entry_4 : List UInt8 := [45, 180, 1, 126, 172, 45, 180, 1, 123, 172, 45, 180, 1, 143, 172, 45, 180, 1, 144, 172, 45, 180, 1, 146]
abbrev dktX1_entry_4 : List UInt8 := dkwX1_entry_4 ++ dktX1_entry_5
def dkwX1_entry_3 : List UInt8 := [170, 0, 0, 0, 0, 50, 0, 0, 0, 0, 0, 0, 0, 3, 0, 0, 0, 30, 0, 0, 0, 35, 0, 0, 0, 40, 0, 0, 0, 45]
abbrev dktX1_entry_3 : List UInt8 := dkwX1_entry_3 ++ dktX1_entry_4
def dkwX1_entry_2 : List UInt8 := [180, 1, 140, 153, 0, 5, 2, 172, 28]
abbrev dktX1_entry_2 : List UInt8 := dkwX1_entry_2 ++ dktX1_entry_3
def dkwX1_entry_1 : List UInt8 := [180, 1, 118, 27, 182, 1, 57, 192, 1, 121, 78, 28, 8, 160, 0, 8, 45, 180, 1, 137, 172, 45]
abbrev dktX1_entry_1 : List UInt8 := dkwX1_entry_1 ++ dktX1_entry_2
def dkwX1_entry_0 : List UInt8 := [27, 42, 180, 0, 10, 180, 1, 118, 182, 0, 59, 184, 1, 104, 28, 8, 184, 1, 110, 42, 180, 0, 10]
abbrev dktX1_entry_0 : List UInt8 := dkwX1_entry_0 ++ dktX1_entry_1
theorem dksX1_entry_0 : cX1_entry.data.toList.drop 0 = dktX1_entry_0 := by decide +kernel
theorem dksX1_entry_1 : cX1_entry.data.toList.drop 23 = dktX1_entry_1 := dk_seg dksX1_entry_0 23 rfl rfl
theorem dksX1_entry_2 : cX1_entry.data.toList.drop 45 = dktX1_entry_2 := dk_seg dksX1_entry_1 22 rfl rfl
theorem dksX1_entry_3 : cX1_entry.data.toList.drop 54 = dktX1_entry_3 := dk_seg dksX1_entry_2 9 rfl rfl
theorem dksX1_entry_4 : cX1_entry.data.toList.drop 84 = dktX1_entry_4 := dk_seg dksX1_entry_3 30 rfl rfl
theorem dksX1_entry_5 : cX1_entry.data.toList.drop 108 = dktX1_entry_5 := dk_seg dksX1_entry_4 24 rfl rfl
theorem dX1_entry_0 : decode cX1_entry 0 = .ok (.iload_n 1, 1) := dk_27 (dk_at dksX1_entry_0 0 rfl rfl)
theorem dX1_entry_1 : decode cX1_entry 1 = .ok (.aload_n 0, 1) := dk_42 (dk_at dksX1_entry_0 1 rfl rfl)
theorem dX1_entry_2 : decode cX1_entry 2 = .ok (.getfield 10, 3) := dk_180 0 10 (dk_at dksX1_entry_0 2 rfl rfl)
theorem dX1_entry_5 : decode cX1_entry 5 = .ok (.getfield 374, 3) := dk_180 1 118 (dk_at dksX1_entry_0 5 rfl rfl)
theorem dX1_entry_8 : decode cX1_entry 8 = .ok (.invokevirtual 59, 3) := dk_182 0 59 (dk_at dksX1_entry_0 8 rfl rfl)
theorem dX1_entry_11 : decode cX1_entry 11 = .ok (.invokestatic 360, 3) := dk_184 1 104 (dk_at dksX1_entry_0 11 rfl rfl)
theorem dX1_entry_14 : decode cX1_entry 14 = .ok (.iload_n 2, 1) := dk_28 (dk_at dksX1_entry_0 14 rfl rfl)
theorem dX1_entry_15 : decode cX1_entry 15 = .ok (.iconst 5, 1) := dk_8 (dk_at dksX1_entry_0 15 rfl rfl)
theorem dX1_entry_16 : decode cX1_entry 16 = .ok (.invokestatic 366, 3) := dk_184 1 110 (dk_at dksX1_entry_0 16 rfl rfl)
theorem dX1_entry_19 : decode cX1_entry 19 = .ok (.aload_n 0, 1) := dk_42 (dk_at dksX1_entry_0 19 rfl rfl)
theorem dX1_entry_20 : decode cX1_entry 20 = .ok (.getfield 10, 3) := dk_180 0 10 (dk_at dksX1_entry_0 20 rfl rfl)
theorem dX1_entry_23 : decode cX1_entry 23 = .ok (.getfield 374, 3) := dk_180 1 118 (dk_at dksX1_entry_1 0 rfl rfl)
theorem dX1_entry_26 : decode cX1_entry 26 = .ok (.iload_n 1, 1) := dk_27 (dk_at dksX1_entry_1 3 rfl rfl)
theorem dX1_entry_27 : decode cX1_entry 27 = .ok (.invokevirtual 313, 3) := dk_182 1 57 (dk_at dksX1_entry_1 4 rfl rfl)
theorem dX1_entry_30 : decode cX1_entry 30 = .ok (.checkcast 377, 3) := dk_192 1 121 (dk_at dksX1_entry_1 7 rfl rfl)
theorem dX1_entry_33 : decode cX1_entry 33 = .ok (.astore_n 3, 1) := dk_78 (dk_at dksX1_entry_1 10 rfl rfl)
theorem dX1_entry_34 : decode cX1_entry 34 = .ok (.iload_n 2, 1) := dk_28 (dk_at dksX1_entry_1 11 rfl rfl)
theorem dX1_entry_35 : decode cX1_entry 35 = .ok (.iconst 5, 1) := dk_8 (dk_at dksX1_entry_1 12 rfl rfl)
theorem dX1_entry_36 : decode cX1_entry 36 = .ok (.if_icmp .ne 8, 3) := dk_160 0 8 (dk_at dksX1_entry_1 13 rfl rfl)
theorem dX1_entry_39 : decode cX1_entry 39 = .ok (.aload_n 3, 1) := dk_45 (dk_at dksX1_entry_1 16 rfl rfl)
theorem dX1_entry_40 : decode cX1_entry 40 = .ok (.getfield 393, 3) := dk_180 1 137 (dk_at dksX1_entry_1 17 rfl rfl)
theorem dX1_entry_43 : decode cX1_entry 43 = .ok (.ireturn, 1) := dk_172 (dk_at dksX1_entry_1 20 rfl rfl)
theorem dX1_entry_44 : decode cX1_entry 44 = .ok (.aload_n 3, 1) := dk_45 (dk_at dksX1_entry_1 21 rfl rfl)
theorem dX1_entry_45 : decode cX1_entry 45 = .ok (.getfield 396, 3) := dk_180 1 140 (dk_at dksX1_entry_2 0 rfl rfl)
theorem dX1_entry_48 : decode cX1_entry 48 = .ok (.ifCond .eq 5, 3) := dk_153 0 5 (dk_at dksX1_entry_2 3 rfl rfl)
theorem dX1_entry_51 : decode cX1_entry 51 = .ok (.iconst (-1), 1) := dk_2 (dk_at dksX1_entry_2 6 rfl rfl)
theorem dX1_entry_52 : decode cX1_entry 52 = .ok (.ireturn, 1) := dk_172 (dk_at dksX1_entry_2 7 rfl rfl)
theorem dX1_entry_53 : decode cX1_entry 53 = .ok (.iload_n 2, 1) := dk_28 (dk_at dksX1_entry_2 8 rfl rfl)
theorem dX1_entry_54 : decode cX1_entry 54 = .ok (.tableswitch 50 0 3 #[30, 35, 40, 45], 30) := by decide +kernel
theorem dX1_entry_84 : decode cX1_entry 84 = .ok (.aload_n 3, 1) := dk_45 (dk_at dksX1_entry_4 0 rfl rfl)
theorem dX1_entry_85 : decode cX1_entry 85 = .ok (.getfield 382, 3) := dk_180 1 126 (dk_at dksX1_entry_4 1 rfl rfl)
theorem dX1_entry_88 : decode cX1_entry 88 = .ok (.ireturn, 1) := dk_172 (dk_at dksX1_entry_4 4 rfl rfl)
theorem dX1_entry_89 : decode cX1_entry 89 = .ok (.aload_n 3, 1) := dk_45 (dk_at dksX1_entry_4 5 rfl rfl)
theorem dX1_entry_90 : decode cX1_entry 90 = .ok (.getfield 379, 3) := dk_180 1 123 (dk_at dksX1_entry_4 6 rfl rfl)
theorem dX1_entry_93 : decode cX1_entry 93 = .ok (.ireturn, 1) := dk_172 (dk_at dksX1_entry_4 9 rfl rfl)
theorem dX1_entry_94 : decode cX1_entry 94 = .ok (.aload_n 3, 1) := dk_45 (dk_at dksX1_entry_4 10 rfl rfl)
theorem dX1_entry_95 : decode cX1_entry 95 = .ok (.getfield 399, 3) := dk_180 1 143 (dk_at dksX1_entry_4 11 rfl rfl)
theorem dX1_entry_98 : decode cX1_entry 98 = .ok (.ireturn, 1) := dk_172 (dk_at dksX1_entry_4 14 rfl rfl)
theorem dX1_entry_99 : decode cX1_entry 99 = .ok (.aload_n 3, 1) := dk_45 (dk_at dksX1_entry_4 15 rfl rfl)
theorem dX1_entry_100 : decode cX1_entry 100 = .ok (.getfield 400, 3) := dk_180 1 144 (dk_at dksX1_entry_4 16 rfl rfl)
theorem dX1_entry_103 : decode cX1_entry 103 = .ok (.ireturn, 1) := dk_172 (dk_at dksX1_entry_4 19 rfl rfl)
theorem dX1_entry_104 : decode cX1_entry 104 = .ok (.aload_n 3, 1) := dk_45 (dk_at dksX1_entry_4 20 rfl rfl)
theorem dX1_entry_105 : decode cX1_entry 105 = .ok (.getfield 402, 3) := dk_180 1 146 (dk_at dksX1_entry_4 21 rfl rfl)
theorem dX1_entry_108 : decode cX1_entry 108 = .ok (.ifCond .eq 7, 3) := dk_153 0 7 (dk_at dksX1_entry_5 0 rfl rfl)
theorem dX1_entry_111 : decode cX1_entry 111 = .ok (.iconst 1, 1) := dk_4 (dk_at dksX1_entry_5 3 rfl rfl)
theorem dX1_entry_112 : decode cX1_entry 112 = .ok (.goto 4, 3) := dk_167 0 4 (dk_at dksX1_entry_5 4 rfl rfl)
theorem dX1_entry_115 : decode cX1_entry 115 = .ok (.iconst 0, 1) := dk_3 (dk_at dksX1_entry_5 7 rfl rfl)
theorem dX1_entry_116 : decode cX1_entry 116 = .ok (.ireturn, 1) := dk_172 (dk_at dksX1_entry_5 8 rfl rfl)
abbrev cX1_counts : ByteArray := prog_1_method_34_code
def yX1_counts : MethodName := ⟨RX1, "counts", "(IIIZ)I"⟩
def dkwX1_counts_0 : List UInt8 := [42, 27, 28, 29, 182, 1, 150, 42, 27, 28, 29, 21, 4, 182, 1, 154, 172]
abbrev dktX1_counts_0 : List UInt8 := dkwX1_counts_0 ++ []
theorem dksX1_counts_0 : cX1_counts.data.toList.drop 0 = dktX1_counts_0 := by decide +kernel
theorem dX1_counts_0 : decode cX1_counts 0 = .ok (.aload_n 0, 1) := dk_42 (dk_at dksX1_counts_0 0 rfl rfl)
theorem dX1_counts_1 : decode cX1_counts 1 = .ok (.iload_n 1, 1) := dk_27 (dk_at dksX1_counts_0 1 rfl rfl)
theorem dX1_counts_2 : decode cX1_counts 2 = .ok (.iload_n 2, 1) := dk_28 (dk_at dksX1_counts_0 2 rfl rfl)
theorem dX1_counts_3 : decode cX1_counts 3 = .ok (.iload_n 3, 1) := dk_29 (dk_at dksX1_counts_0 3 rfl rfl)
theorem dX1_counts_4 : decode cX1_counts 4 = .ok (.invokevirtual 406, 3) := dk_182 1 150 (dk_at dksX1_counts_0 4 rfl rfl)
theorem dX1_counts_7 : decode cX1_counts 7 = .ok (.aload_n 0, 1) := dk_42 (dk_at dksX1_counts_0 7 rfl rfl)
theorem dX1_counts_8 : decode cX1_counts 8 = .ok (.iload_n 1, 1) := dk_27 (dk_at dksX1_counts_0 8 rfl rfl)
theorem dX1_counts_9 : decode cX1_counts 9 = .ok (.iload_n 2, 1) := dk_28 (dk_at dksX1_counts_0 9 rfl rfl)
theorem dX1_counts_10 : decode cX1_counts 10 = .ok (.iload_n 3, 1) := dk_29 (dk_at dksX1_counts_0 10 rfl rfl)
theorem dX1_counts_11 : decode cX1_counts 11 = .ok (.iload 4, 2) := dk_21 4 (dk_at dksX1_counts_0 11 rfl rfl)
theorem dX1_counts_13 : decode cX1_counts 13 = .ok (.invokevirtual 410, 3) := dk_182 1 154 (dk_at dksX1_counts_0 13 rfl rfl)
theorem dX1_counts_16 : decode cX1_counts 16 = .ok (.ireturn, 1) := dk_172 (dk_at dksX1_counts_0 16 rfl rfl)
abbrev cX1_aWalk : ByteArray := prog_1_method_33_code
def yX1_aWalk : MethodName := ⟨RX1, "aWalk", "(III)V"⟩
def dkwX1_aWalk_1 : List UInt8 := [180, 0, 10, 180, 0, 144, 182, 0, 59, 184, 1, 91, 184, 1, 147, 177]
abbrev dktX1_aWalk_1 : List UInt8 := dkwX1_aWalk_1 ++ []
def dkwX1_aWalk_0 : List UInt8 := [27, 42, 180, 0, 10, 180, 0, 55, 182, 0, 59, 184, 1, 104, 42, 28, 182, 1, 107, 29, 4, 42]
abbrev dktX1_aWalk_0 : List UInt8 := dkwX1_aWalk_0 ++ dktX1_aWalk_1
theorem dksX1_aWalk_0 : cX1_aWalk.data.toList.drop 0 = dktX1_aWalk_0 := by decide +kernel
theorem dksX1_aWalk_1 : cX1_aWalk.data.toList.drop 22 = dktX1_aWalk_1 := dk_seg dksX1_aWalk_0 22 rfl rfl
theorem dX1_aWalk_0 : decode cX1_aWalk 0 = .ok (.iload_n 1, 1) := dk_27 (dk_at dksX1_aWalk_0 0 rfl rfl)
theorem dX1_aWalk_1 : decode cX1_aWalk 1 = .ok (.aload_n 0, 1) := dk_42 (dk_at dksX1_aWalk_0 1 rfl rfl)
theorem dX1_aWalk_2 : decode cX1_aWalk 2 = .ok (.getfield 10, 3) := dk_180 0 10 (dk_at dksX1_aWalk_0 2 rfl rfl)
theorem dX1_aWalk_5 : decode cX1_aWalk 5 = .ok (.getfield 55, 3) := dk_180 0 55 (dk_at dksX1_aWalk_0 5 rfl rfl)
theorem dX1_aWalk_8 : decode cX1_aWalk 8 = .ok (.invokevirtual 59, 3) := dk_182 0 59 (dk_at dksX1_aWalk_0 8 rfl rfl)
theorem dX1_aWalk_11 : decode cX1_aWalk 11 = .ok (.invokestatic 360, 3) := dk_184 1 104 (dk_at dksX1_aWalk_0 11 rfl rfl)
theorem dX1_aWalk_14 : decode cX1_aWalk 14 = .ok (.aload_n 0, 1) := dk_42 (dk_at dksX1_aWalk_0 14 rfl rfl)
theorem dX1_aWalk_15 : decode cX1_aWalk 15 = .ok (.iload_n 2, 1) := dk_28 (dk_at dksX1_aWalk_0 15 rfl rfl)
theorem dX1_aWalk_16 : decode cX1_aWalk 16 = .ok (.invokevirtual 363, 3) := dk_182 1 107 (dk_at dksX1_aWalk_0 16 rfl rfl)
theorem dX1_aWalk_19 : decode cX1_aWalk 19 = .ok (.iload_n 3, 1) := dk_29 (dk_at dksX1_aWalk_0 19 rfl rfl)
theorem dX1_aWalk_20 : decode cX1_aWalk 20 = .ok (.iconst 1, 1) := dk_4 (dk_at dksX1_aWalk_0 20 rfl rfl)
theorem dX1_aWalk_21 : decode cX1_aWalk 21 = .ok (.aload_n 0, 1) := dk_42 (dk_at dksX1_aWalk_0 21 rfl rfl)
theorem dX1_aWalk_22 : decode cX1_aWalk 22 = .ok (.getfield 10, 3) := dk_180 0 10 (dk_at dksX1_aWalk_1 0 rfl rfl)
theorem dX1_aWalk_25 : decode cX1_aWalk 25 = .ok (.getfield 144, 3) := dk_180 0 144 (dk_at dksX1_aWalk_1 3 rfl rfl)
theorem dX1_aWalk_28 : decode cX1_aWalk 28 = .ok (.invokevirtual 59, 3) := dk_182 0 59 (dk_at dksX1_aWalk_1 6 rfl rfl)
theorem dX1_aWalk_31 : decode cX1_aWalk 31 = .ok (.invokestatic 347, 3) := dk_184 1 91 (dk_at dksX1_aWalk_1 9 rfl rfl)
theorem dX1_aWalk_34 : decode cX1_aWalk 34 = .ok (.invokestatic 403, 3) := dk_184 1 147 (dk_at dksX1_aWalk_1 12 rfl rfl)
theorem dX1_aWalk_37 : decode cX1_aWalk 37 = .ok (.return_, 1) := dk_177 (dk_at dksX1_aWalk_1 15 rfl rfl)
abbrev cX1_demand : ByteArray := prog_1_method_24_code
def yX1_demand : MethodName := ⟨RX1, "demand", "(Z)V"⟩
def dkwX1_demand_0 : List UInt8 := [26, 154, 0, 11, 187, 0, 179, 89, 183, 0, 181, 191, 177]
abbrev dktX1_demand_0 : List UInt8 := dkwX1_demand_0 ++ []
theorem dksX1_demand_0 : cX1_demand.data.toList.drop 0 = dktX1_demand_0 := by decide +kernel
theorem dX1_demand_0 : decode cX1_demand 0 = .ok (.iload_n 0, 1) := dk_26 (dk_at dksX1_demand_0 0 rfl rfl)
theorem dX1_demand_1 : decode cX1_demand 1 = .ok (.ifCond .ne 11, 3) := dk_154 0 11 (dk_at dksX1_demand_0 1 rfl rfl)
theorem dX1_demand_4 : decode cX1_demand 4 = .ok (.new 179, 3) := dk_187 0 179 (dk_at dksX1_demand_0 4 rfl rfl)
theorem dX1_demand_7 : decode cX1_demand 7 = .ok (.dup, 1) := dk_89 (dk_at dksX1_demand_0 7 rfl rfl)
theorem dX1_demand_8 : decode cX1_demand 8 = .ok (.invokespecial 181, 3) := dk_183 0 181 (dk_at dksX1_demand_0 8 rfl rfl)
theorem dX1_demand_11 : decode cX1_demand 11 = .ok (.athrow, 1) := dk_191 (dk_at dksX1_demand_0 11 rfl rfl)
theorem dX1_demand_12 : decode cX1_demand 12 = .ok (.return_, 1) := dk_177 (dk_at dksX1_demand_0 12 rfl rfl)
abbrev cX1_counted : ByteArray := prog_1_method_22_code
def yX1_counted : MethodName := ⟨RX1, "counted", "(IIIZ)I"⟩
def dkwX1_counted_6 : List UInt8 := [181, 1, 85, 21, 6, 25, 5, 180, 1, 49, 42, 180, 0, 26, 182, 1, 88, 104, 16, 10, 108, 172]
abbrev dktX1_counted_6 : List UInt8 := dkwX1_counted_6 ++ []
def dkwX1_counted_5 : List UInt8 := [21, 4, 181, 1, 79, 42, 180, 0, 26, 25, 7, 180, 1, 83, 28, 160, 0, 7, 4, 167, 0, 4, 3]
abbrev dktX1_counted_5 : List UInt8 := dkwX1_counted_5 ++ dktX1_counted_6
def dkwX1_counted_4 : List UInt8 := [21, 6, 181, 1, 73, 42, 180, 0, 26, 25, 5, 180, 1, 75, 16, 7, 112, 181, 1, 78, 42, 180, 0, 26]
abbrev dktX1_counted_4 : List UInt8 := dkwX1_counted_4 ++ dktX1_counted_5
def dkwX1_counted_3 : List UInt8 := [25, 5, 180, 0, 144, 29, 4, 100, 182, 1, 57, 192, 0, 147, 180, 1, 69, 181, 1, 72, 42, 180, 0, 26]
abbrev dktX1_counted_3 : List UInt8 := dkwX1_counted_3 ++ dktX1_counted_4
def dkwX1_counted_2 : List UInt8 := [25, 7, 180, 1, 61, 181, 1, 64, 42, 180, 0, 26, 25, 7, 180, 1, 65, 181, 1, 68, 42, 180, 0, 26]
abbrev dktX1_counted_2 : List UInt8 := dkwX1_counted_2 ++ dktX1_counted_3
def dkwX1_counted_1 : List UInt8 := [154, 0, 6, 21, 6, 172, 25, 5, 180, 0, 55, 27, 182, 1, 57, 192, 0, 88, 58, 7, 42, 180, 0, 26]
abbrev dktX1_counted_1 : List UInt8 := dkwX1_counted_1 ++ dktX1_counted_2
def dkwX1_counted_0 : List UInt8 := [42, 180, 0, 10, 58, 5, 25, 5, 29, 182, 1, 53, 54, 6, 25, 5, 180, 1, 49, 198, 0, 7, 29]
abbrev dktX1_counted_0 : List UInt8 := dkwX1_counted_0 ++ dktX1_counted_1
theorem dksX1_counted_0 : cX1_counted.data.toList.drop 0 = dktX1_counted_0 := by decide +kernel
theorem dksX1_counted_1 : cX1_counted.data.toList.drop 23 = dktX1_counted_1 := dk_seg dksX1_counted_0 23 rfl rfl
theorem dksX1_counted_2 : cX1_counted.data.toList.drop 47 = dktX1_counted_2 := dk_seg dksX1_counted_1 24 rfl rfl
theorem dksX1_counted_3 : cX1_counted.data.toList.drop 71 = dktX1_counted_3 := dk_seg dksX1_counted_2 24 rfl rfl
theorem dksX1_counted_4 : cX1_counted.data.toList.drop 95 = dktX1_counted_4 := dk_seg dksX1_counted_3 24 rfl rfl
theorem dksX1_counted_5 : cX1_counted.data.toList.drop 119 = dktX1_counted_5 := dk_seg dksX1_counted_4 24 rfl rfl
theorem dksX1_counted_6 : cX1_counted.data.toList.drop 142 = dktX1_counted_6 := dk_seg dksX1_counted_5 23 rfl rfl
theorem dX1_counted_0 : decode cX1_counted 0 = .ok (.aload_n 0, 1) := dk_42 (dk_at dksX1_counted_0 0 rfl rfl)
theorem dX1_counted_1 : decode cX1_counted 1 = .ok (.getfield 10, 3) := dk_180 0 10 (dk_at dksX1_counted_0 1 rfl rfl)
theorem dX1_counted_4 : decode cX1_counted 4 = .ok (.astore 5, 2) := dk_58 5 (dk_at dksX1_counted_0 4 rfl rfl)
theorem dX1_counted_6 : decode cX1_counted 6 = .ok (.aload 5, 2) := dk_25 5 (dk_at dksX1_counted_0 6 rfl rfl)
theorem dX1_counted_8 : decode cX1_counted 8 = .ok (.iload_n 3, 1) := dk_29 (dk_at dksX1_counted_0 8 rfl rfl)
theorem dX1_counted_9 : decode cX1_counted 9 = .ok (.invokevirtual 309, 3) := dk_182 1 53 (dk_at dksX1_counted_0 9 rfl rfl)
theorem dX1_counted_12 : decode cX1_counted 12 = .ok (.istore 6, 2) := dk_54 6 (dk_at dksX1_counted_0 12 rfl rfl)
theorem dX1_counted_14 : decode cX1_counted 14 = .ok (.aload 5, 2) := dk_25 5 (dk_at dksX1_counted_0 14 rfl rfl)
theorem dX1_counted_16 : decode cX1_counted 16 = .ok (.getfield 305, 3) := dk_180 1 49 (dk_at dksX1_counted_0 16 rfl rfl)
theorem dX1_counted_19 : decode cX1_counted 19 = .ok (.ifnull 7, 3) := dk_198 0 7 (dk_at dksX1_counted_0 19 rfl rfl)
theorem dX1_counted_22 : decode cX1_counted 22 = .ok (.iload_n 3, 1) := dk_29 (dk_at dksX1_counted_0 22 rfl rfl)
theorem dX1_counted_23 : decode cX1_counted 23 = .ok (.ifCond .ne 6, 3) := dk_154 0 6 (dk_at dksX1_counted_1 0 rfl rfl)
theorem dX1_counted_26 : decode cX1_counted 26 = .ok (.iload 6, 2) := dk_21 6 (dk_at dksX1_counted_1 3 rfl rfl)
theorem dX1_counted_28 : decode cX1_counted 28 = .ok (.ireturn, 1) := dk_172 (dk_at dksX1_counted_1 5 rfl rfl)
theorem dX1_counted_29 : decode cX1_counted 29 = .ok (.aload 5, 2) := dk_25 5 (dk_at dksX1_counted_1 6 rfl rfl)
theorem dX1_counted_31 : decode cX1_counted 31 = .ok (.getfield 55, 3) := dk_180 0 55 (dk_at dksX1_counted_1 8 rfl rfl)
theorem dX1_counted_34 : decode cX1_counted 34 = .ok (.iload_n 1, 1) := dk_27 (dk_at dksX1_counted_1 11 rfl rfl)
theorem dX1_counted_35 : decode cX1_counted 35 = .ok (.invokevirtual 313, 3) := dk_182 1 57 (dk_at dksX1_counted_1 12 rfl rfl)
theorem dX1_counted_38 : decode cX1_counted 38 = .ok (.checkcast 88, 3) := dk_192 0 88 (dk_at dksX1_counted_1 15 rfl rfl)
theorem dX1_counted_41 : decode cX1_counted 41 = .ok (.astore 7, 2) := dk_58 7 (dk_at dksX1_counted_1 18 rfl rfl)
theorem dX1_counted_43 : decode cX1_counted 43 = .ok (.aload_n 0, 1) := dk_42 (dk_at dksX1_counted_1 20 rfl rfl)
theorem dX1_counted_44 : decode cX1_counted 44 = .ok (.getfield 26, 3) := dk_180 0 26 (dk_at dksX1_counted_1 21 rfl rfl)
theorem dX1_counted_47 : decode cX1_counted 47 = .ok (.aload 7, 2) := dk_25 7 (dk_at dksX1_counted_2 0 rfl rfl)
theorem dX1_counted_49 : decode cX1_counted 49 = .ok (.getfield 317, 3) := dk_180 1 61 (dk_at dksX1_counted_2 2 rfl rfl)
theorem dX1_counted_52 : decode cX1_counted 52 = .ok (.putfield 320, 3) := dk_181 1 64 (dk_at dksX1_counted_2 5 rfl rfl)
theorem dX1_counted_55 : decode cX1_counted 55 = .ok (.aload_n 0, 1) := dk_42 (dk_at dksX1_counted_2 8 rfl rfl)
theorem dX1_counted_56 : decode cX1_counted 56 = .ok (.getfield 26, 3) := dk_180 0 26 (dk_at dksX1_counted_2 9 rfl rfl)
theorem dX1_counted_59 : decode cX1_counted 59 = .ok (.aload 7, 2) := dk_25 7 (dk_at dksX1_counted_2 12 rfl rfl)
theorem dX1_counted_61 : decode cX1_counted 61 = .ok (.getfield 321, 3) := dk_180 1 65 (dk_at dksX1_counted_2 14 rfl rfl)
theorem dX1_counted_64 : decode cX1_counted 64 = .ok (.putfield 324, 3) := dk_181 1 68 (dk_at dksX1_counted_2 17 rfl rfl)
theorem dX1_counted_67 : decode cX1_counted 67 = .ok (.aload_n 0, 1) := dk_42 (dk_at dksX1_counted_2 20 rfl rfl)
theorem dX1_counted_68 : decode cX1_counted 68 = .ok (.getfield 26, 3) := dk_180 0 26 (dk_at dksX1_counted_2 21 rfl rfl)
theorem dX1_counted_71 : decode cX1_counted 71 = .ok (.aload 5, 2) := dk_25 5 (dk_at dksX1_counted_3 0 rfl rfl)
theorem dX1_counted_73 : decode cX1_counted 73 = .ok (.getfield 144, 3) := dk_180 0 144 (dk_at dksX1_counted_3 2 rfl rfl)
theorem dX1_counted_76 : decode cX1_counted 76 = .ok (.iload_n 3, 1) := dk_29 (dk_at dksX1_counted_3 5 rfl rfl)
theorem dX1_counted_77 : decode cX1_counted 77 = .ok (.iconst 1, 1) := dk_4 (dk_at dksX1_counted_3 6 rfl rfl)
theorem dX1_counted_78 : decode cX1_counted 78 = .ok (.isub, 1) := dk_100 (dk_at dksX1_counted_3 7 rfl rfl)
theorem dX1_counted_79 : decode cX1_counted 79 = .ok (.invokevirtual 313, 3) := dk_182 1 57 (dk_at dksX1_counted_3 8 rfl rfl)
theorem dX1_counted_82 : decode cX1_counted 82 = .ok (.checkcast 147, 3) := dk_192 0 147 (dk_at dksX1_counted_3 11 rfl rfl)
theorem dX1_counted_85 : decode cX1_counted 85 = .ok (.getfield 325, 3) := dk_180 1 69 (dk_at dksX1_counted_3 14 rfl rfl)
theorem dX1_counted_88 : decode cX1_counted 88 = .ok (.putfield 328, 3) := dk_181 1 72 (dk_at dksX1_counted_3 17 rfl rfl)
theorem dX1_counted_91 : decode cX1_counted 91 = .ok (.aload_n 0, 1) := dk_42 (dk_at dksX1_counted_3 20 rfl rfl)
theorem dX1_counted_92 : decode cX1_counted 92 = .ok (.getfield 26, 3) := dk_180 0 26 (dk_at dksX1_counted_3 21 rfl rfl)
theorem dX1_counted_95 : decode cX1_counted 95 = .ok (.iload 6, 2) := dk_21 6 (dk_at dksX1_counted_4 0 rfl rfl)
theorem dX1_counted_97 : decode cX1_counted 97 = .ok (.putfield 329, 3) := dk_181 1 73 (dk_at dksX1_counted_4 2 rfl rfl)
theorem dX1_counted_100 : decode cX1_counted 100 = .ok (.aload_n 0, 1) := dk_42 (dk_at dksX1_counted_4 5 rfl rfl)
theorem dX1_counted_101 : decode cX1_counted 101 = .ok (.getfield 26, 3) := dk_180 0 26 (dk_at dksX1_counted_4 6 rfl rfl)
theorem dX1_counted_104 : decode cX1_counted 104 = .ok (.aload 5, 2) := dk_25 5 (dk_at dksX1_counted_4 9 rfl rfl)
theorem dX1_counted_106 : decode cX1_counted 106 = .ok (.getfield 331, 3) := dk_180 1 75 (dk_at dksX1_counted_4 11 rfl rfl)
theorem dX1_counted_109 : decode cX1_counted 109 = .ok (.bipush 7, 2) := dk_16 7 (dk_at dksX1_counted_4 14 rfl rfl)
theorem dX1_counted_111 : decode cX1_counted 111 = .ok (.irem, 1) := dk_112 (dk_at dksX1_counted_4 16 rfl rfl)
theorem dX1_counted_112 : decode cX1_counted 112 = .ok (.putfield 334, 3) := dk_181 1 78 (dk_at dksX1_counted_4 17 rfl rfl)
theorem dX1_counted_115 : decode cX1_counted 115 = .ok (.aload_n 0, 1) := dk_42 (dk_at dksX1_counted_4 20 rfl rfl)
theorem dX1_counted_116 : decode cX1_counted 116 = .ok (.getfield 26, 3) := dk_180 0 26 (dk_at dksX1_counted_4 21 rfl rfl)
theorem dX1_counted_119 : decode cX1_counted 119 = .ok (.iload 4, 2) := dk_21 4 (dk_at dksX1_counted_5 0 rfl rfl)
theorem dX1_counted_121 : decode cX1_counted 121 = .ok (.putfield 335, 3) := dk_181 1 79 (dk_at dksX1_counted_5 2 rfl rfl)
theorem dX1_counted_124 : decode cX1_counted 124 = .ok (.aload_n 0, 1) := dk_42 (dk_at dksX1_counted_5 5 rfl rfl)
theorem dX1_counted_125 : decode cX1_counted 125 = .ok (.getfield 26, 3) := dk_180 0 26 (dk_at dksX1_counted_5 6 rfl rfl)
theorem dX1_counted_128 : decode cX1_counted 128 = .ok (.aload 7, 2) := dk_25 7 (dk_at dksX1_counted_5 9 rfl rfl)
theorem dX1_counted_130 : decode cX1_counted 130 = .ok (.getfield 339, 3) := dk_180 1 83 (dk_at dksX1_counted_5 11 rfl rfl)
theorem dX1_counted_133 : decode cX1_counted 133 = .ok (.iload_n 2, 1) := dk_28 (dk_at dksX1_counted_5 14 rfl rfl)
theorem dX1_counted_134 : decode cX1_counted 134 = .ok (.if_icmp .ne 7, 3) := dk_160 0 7 (dk_at dksX1_counted_5 15 rfl rfl)
theorem dX1_counted_137 : decode cX1_counted 137 = .ok (.iconst 1, 1) := dk_4 (dk_at dksX1_counted_5 18 rfl rfl)
theorem dX1_counted_138 : decode cX1_counted 138 = .ok (.goto 4, 3) := dk_167 0 4 (dk_at dksX1_counted_5 19 rfl rfl)
theorem dX1_counted_141 : decode cX1_counted 141 = .ok (.iconst 0, 1) := dk_3 (dk_at dksX1_counted_5 22 rfl rfl)
theorem dX1_counted_142 : decode cX1_counted 142 = .ok (.putfield 341, 3) := dk_181 1 85 (dk_at dksX1_counted_6 0 rfl rfl)
theorem dX1_counted_145 : decode cX1_counted 145 = .ok (.iload 6, 2) := dk_21 6 (dk_at dksX1_counted_6 3 rfl rfl)
theorem dX1_counted_147 : decode cX1_counted 147 = .ok (.aload 5, 2) := dk_25 5 (dk_at dksX1_counted_6 5 rfl rfl)
theorem dX1_counted_149 : decode cX1_counted 149 = .ok (.getfield 305, 3) := dk_180 1 49 (dk_at dksX1_counted_6 7 rfl rfl)
theorem dX1_counted_152 : decode cX1_counted 152 = .ok (.aload_n 0, 1) := dk_42 (dk_at dksX1_counted_6 10 rfl rfl)
theorem dX1_counted_153 : decode cX1_counted 153 = .ok (.getfield 26, 3) := dk_180 0 26 (dk_at dksX1_counted_6 11 rfl rfl)
theorem dX1_counted_156 : decode cX1_counted 156 = .ok (.invokevirtual 344, 3) := dk_182 1 88 (dk_at dksX1_counted_6 14 rfl rfl)
theorem dX1_counted_159 : decode cX1_counted 159 = .ok (.imul, 1) := dk_104 (dk_at dksX1_counted_6 17 rfl rfl)
theorem dX1_counted_160 : decode cX1_counted 160 = .ok (.bipush 10, 2) := dk_16 10 (dk_at dksX1_counted_6 18 rfl rfl)
theorem dX1_counted_162 : decode cX1_counted 162 = .ok (.idiv, 1) := dk_108 (dk_at dksX1_counted_6 20 rfl rfl)
theorem dX1_counted_163 : decode cX1_counted 163 = .ok (.ireturn, 1) := dk_172 (dk_at dksX1_counted_6 21 rfl rfl)
abbrev cX1_walk : ByteArray := prog_1_method_35_code
def yX1_walk : MethodName := ⟨RX1, "walk", "(IIIZ)I"⟩
def dkwX1_walk_1 : List UInt8 := [180, 0, 10, 27, 28, 29, 21, 4, 42, 27, 28, 29, 21, 4, 182, 1, 154, 182, 1, 165, 172]
abbrev dktX1_walk_1 : List UInt8 := dkwX1_walk_1 ++ []
def dkwX1_walk_0 : List UInt8 := [42, 27, 28, 29, 182, 1, 150, 42, 180, 0, 10, 27, 29, 21, 4, 182, 1, 158, 184, 1, 162, 42]
abbrev dktX1_walk_0 : List UInt8 := dkwX1_walk_0 ++ dktX1_walk_1
theorem dksX1_walk_0 : cX1_walk.data.toList.drop 0 = dktX1_walk_0 := by decide +kernel
theorem dksX1_walk_1 : cX1_walk.data.toList.drop 22 = dktX1_walk_1 := dk_seg dksX1_walk_0 22 rfl rfl
theorem dX1_walk_0 : decode cX1_walk 0 = .ok (.aload_n 0, 1) := dk_42 (dk_at dksX1_walk_0 0 rfl rfl)
theorem dX1_walk_1 : decode cX1_walk 1 = .ok (.iload_n 1, 1) := dk_27 (dk_at dksX1_walk_0 1 rfl rfl)
theorem dX1_walk_2 : decode cX1_walk 2 = .ok (.iload_n 2, 1) := dk_28 (dk_at dksX1_walk_0 2 rfl rfl)
theorem dX1_walk_3 : decode cX1_walk 3 = .ok (.iload_n 3, 1) := dk_29 (dk_at dksX1_walk_0 3 rfl rfl)
theorem dX1_walk_4 : decode cX1_walk 4 = .ok (.invokevirtual 406, 3) := dk_182 1 150 (dk_at dksX1_walk_0 4 rfl rfl)
theorem dX1_walk_7 : decode cX1_walk 7 = .ok (.aload_n 0, 1) := dk_42 (dk_at dksX1_walk_0 7 rfl rfl)
theorem dX1_walk_8 : decode cX1_walk 8 = .ok (.getfield 10, 3) := dk_180 0 10 (dk_at dksX1_walk_0 8 rfl rfl)
theorem dX1_walk_11 : decode cX1_walk 11 = .ok (.iload_n 1, 1) := dk_27 (dk_at dksX1_walk_0 11 rfl rfl)
theorem dX1_walk_12 : decode cX1_walk 12 = .ok (.iload_n 3, 1) := dk_29 (dk_at dksX1_walk_0 12 rfl rfl)
theorem dX1_walk_13 : decode cX1_walk 13 = .ok (.iload 4, 2) := dk_21 4 (dk_at dksX1_walk_0 13 rfl rfl)
theorem dX1_walk_15 : decode cX1_walk 15 = .ok (.invokevirtual 414, 3) := dk_182 1 158 (dk_at dksX1_walk_0 15 rfl rfl)
theorem dX1_walk_18 : decode cX1_walk 18 = .ok (.invokestatic 418, 3) := dk_184 1 162 (dk_at dksX1_walk_0 18 rfl rfl)
theorem dX1_walk_21 : decode cX1_walk 21 = .ok (.aload_n 0, 1) := dk_42 (dk_at dksX1_walk_0 21 rfl rfl)
theorem dX1_walk_22 : decode cX1_walk 22 = .ok (.getfield 10, 3) := dk_180 0 10 (dk_at dksX1_walk_1 0 rfl rfl)
theorem dX1_walk_25 : decode cX1_walk 25 = .ok (.iload_n 1, 1) := dk_27 (dk_at dksX1_walk_1 3 rfl rfl)
theorem dX1_walk_26 : decode cX1_walk 26 = .ok (.iload_n 2, 1) := dk_28 (dk_at dksX1_walk_1 4 rfl rfl)
theorem dX1_walk_27 : decode cX1_walk 27 = .ok (.iload_n 3, 1) := dk_29 (dk_at dksX1_walk_1 5 rfl rfl)
theorem dX1_walk_28 : decode cX1_walk 28 = .ok (.iload 4, 2) := dk_21 4 (dk_at dksX1_walk_1 6 rfl rfl)
theorem dX1_walk_30 : decode cX1_walk 30 = .ok (.aload_n 0, 1) := dk_42 (dk_at dksX1_walk_1 8 rfl rfl)
theorem dX1_walk_31 : decode cX1_walk 31 = .ok (.iload_n 1, 1) := dk_27 (dk_at dksX1_walk_1 9 rfl rfl)
theorem dX1_walk_32 : decode cX1_walk 32 = .ok (.iload_n 2, 1) := dk_28 (dk_at dksX1_walk_1 10 rfl rfl)
theorem dX1_walk_33 : decode cX1_walk 33 = .ok (.iload_n 3, 1) := dk_29 (dk_at dksX1_walk_1 11 rfl rfl)
theorem dX1_walk_34 : decode cX1_walk 34 = .ok (.iload 4, 2) := dk_21 4 (dk_at dksX1_walk_1 12 rfl rfl)
theorem dX1_walk_36 : decode cX1_walk 36 = .ok (.invokevirtual 410, 3) := dk_182 1 154 (dk_at dksX1_walk_1 14 rfl rfl)
theorem dX1_walk_39 : decode cX1_walk 39 = .ok (.invokevirtual 421, 3) := dk_182 1 165 (dk_at dksX1_walk_1 17 rfl rfl)
theorem dX1_walk_42 : decode cX1_walk 42 = .ok (.ireturn, 1) := dk_172 (dk_at dksX1_walk_1 20 rfl rfl)
abbrev cX1_can : ByteArray := prog_1_method_25_code
def yX1_can : MethodName := ⟨RX1, "can", "(Z)V"⟩
def dkwX1_can_0 : List UInt8 := [26, 154, 0, 11, 187, 1, 98, 89, 183, 1, 100, 191, 177]
abbrev dktX1_can_0 : List UInt8 := dkwX1_can_0 ++ []
theorem dksX1_can_0 : cX1_can.data.toList.drop 0 = dktX1_can_0 := by decide +kernel
theorem dX1_can_0 : decode cX1_can 0 = .ok (.iload_n 0, 1) := dk_26 (dk_at dksX1_can_0 0 rfl rfl)
theorem dX1_can_1 : decode cX1_can 1 = .ok (.ifCond .ne 11, 3) := dk_154 0 11 (dk_at dksX1_can_0 1 rfl rfl)
theorem dX1_can_4 : decode cX1_can 4 = .ok (.new 354, 3) := dk_187 1 98 (dk_at dksX1_can_0 4 rfl rfl)
theorem dX1_can_7 : decode cX1_can 7 = .ok (.dup, 1) := dk_89 (dk_at dksX1_can_0 7 rfl rfl)
theorem dX1_can_8 : decode cX1_can 8 = .ok (.invokespecial 356, 3) := dk_183 1 100 (dk_at dksX1_can_0 8 rfl rfl)
theorem dX1_can_11 : decode cX1_can 11 = .ok (.athrow, 1) := dk_191 (dk_at dksX1_can_0 11 rfl rfl)
theorem dX1_can_12 : decode cX1_can 12 = .ok (.return_, 1) := dk_177 (dk_at dksX1_can_0 12 rfl rfl)
abbrev cX1_days : ByteArray := prog_1_method_37_code
def yX1_days : MethodName := ⟨RX1, "days", "(I)I"⟩
def dkwX1_days_1 : List UInt8 := [180, 0, 10, 180, 1, 75, 172]
abbrev dktX1_days_1 : List UInt8 := dkwX1_days_1 ++ []
def dkwX1_days_0 : List UInt8 := [27, 4, 16, 99, 184, 1, 91, 184, 1, 147, 42, 180, 0, 10, 89, 180, 1, 75, 27, 96, 181, 1, 75, 42]
abbrev dktX1_days_0 : List UInt8 := dkwX1_days_0 ++ dktX1_days_1
theorem dksX1_days_0 : cX1_days.data.toList.drop 0 = dktX1_days_0 := by decide +kernel
theorem dksX1_days_1 : cX1_days.data.toList.drop 24 = dktX1_days_1 := dk_seg dksX1_days_0 24 rfl rfl
theorem dX1_days_0 : decode cX1_days 0 = .ok (.iload_n 1, 1) := dk_27 (dk_at dksX1_days_0 0 rfl rfl)
theorem dX1_days_1 : decode cX1_days 1 = .ok (.iconst 1, 1) := dk_4 (dk_at dksX1_days_0 1 rfl rfl)
theorem dX1_days_2 : decode cX1_days 2 = .ok (.bipush 99, 2) := dk_16 99 (dk_at dksX1_days_0 2 rfl rfl)
theorem dX1_days_4 : decode cX1_days 4 = .ok (.invokestatic 347, 3) := dk_184 1 91 (dk_at dksX1_days_0 4 rfl rfl)
theorem dX1_days_7 : decode cX1_days 7 = .ok (.invokestatic 403, 3) := dk_184 1 147 (dk_at dksX1_days_0 7 rfl rfl)
theorem dX1_days_10 : decode cX1_days 10 = .ok (.aload_n 0, 1) := dk_42 (dk_at dksX1_days_0 10 rfl rfl)
theorem dX1_days_11 : decode cX1_days 11 = .ok (.getfield 10, 3) := dk_180 0 10 (dk_at dksX1_days_0 11 rfl rfl)
theorem dX1_days_14 : decode cX1_days 14 = .ok (.dup, 1) := dk_89 (dk_at dksX1_days_0 14 rfl rfl)
theorem dX1_days_15 : decode cX1_days 15 = .ok (.getfield 331, 3) := dk_180 1 75 (dk_at dksX1_days_0 15 rfl rfl)
theorem dX1_days_18 : decode cX1_days 18 = .ok (.iload_n 1, 1) := dk_27 (dk_at dksX1_days_0 18 rfl rfl)
theorem dX1_days_19 : decode cX1_days 19 = .ok (.iadd, 1) := dk_96 (dk_at dksX1_days_0 19 rfl rfl)
theorem dX1_days_20 : decode cX1_days 20 = .ok (.putfield 331, 3) := dk_181 1 75 (dk_at dksX1_days_0 20 rfl rfl)
theorem dX1_days_23 : decode cX1_days 23 = .ok (.aload_n 0, 1) := dk_42 (dk_at dksX1_days_0 23 rfl rfl)
theorem dX1_days_24 : decode cX1_days 24 = .ok (.getfield 10, 3) := dk_180 0 10 (dk_at dksX1_days_1 0 rfl rfl)
theorem dX1_days_27 : decode cX1_days 27 = .ok (.getfield 331, 3) := dk_180 1 75 (dk_at dksX1_days_1 3 rfl rfl)
theorem dX1_days_30 : decode cX1_days 30 = .ok (.ireturn, 1) := dk_172 (dk_at dksX1_days_1 6 rfl rfl)
abbrev cX1_pass : ByteArray := prog_1_method_39_code
def yX1_pass : MethodName := ⟨RX1, "pass", "(III)I"⟩
def dkwX1_pass_3 : List UInt8 := [180, 0, 10, 180, 0, 137, 28, 92, 46, 21, 4, 96, 79, 21, 4, 172]
abbrev dktX1_pass_3 : List UInt8 := dkwX1_pass_3 ++ []
def dkwX1_pass_2 : List UInt8 := [4, 167, 0, 4, 3, 184, 1, 162, 42, 180, 0, 10, 180, 0, 137, 27, 92, 46, 21, 4, 100, 79, 42]
abbrev dktX1_pass_2 : List UInt8 := dkwX1_pass_2 ++ dktX1_pass_3
def dkwX1_pass_1 : List UInt8 := [27, 46, 184, 1, 180, 54, 4, 42, 180, 0, 10, 180, 0, 137, 28, 46, 21, 4, 96, 18, 104, 163, 0, 7]
abbrev dktX1_pass_1 : List UInt8 := dkwX1_pass_1 ++ dktX1_pass_2
def dkwX1_pass_0 : List UInt8 := [42, 27, 28, 182, 1, 177, 29, 4, 18, 104, 184, 1, 91, 184, 1, 147, 29, 42, 180, 0, 10, 180, 0, 137]
abbrev dktX1_pass_0 : List UInt8 := dkwX1_pass_0 ++ dktX1_pass_1
theorem dksX1_pass_0 : cX1_pass.data.toList.drop 0 = dktX1_pass_0 := by decide +kernel
theorem dksX1_pass_1 : cX1_pass.data.toList.drop 24 = dktX1_pass_1 := dk_seg dksX1_pass_0 24 rfl rfl
theorem dksX1_pass_2 : cX1_pass.data.toList.drop 48 = dktX1_pass_2 := dk_seg dksX1_pass_1 24 rfl rfl
theorem dksX1_pass_3 : cX1_pass.data.toList.drop 71 = dktX1_pass_3 := dk_seg dksX1_pass_2 23 rfl rfl
theorem dX1_pass_0 : decode cX1_pass 0 = .ok (.aload_n 0, 1) := dk_42 (dk_at dksX1_pass_0 0 rfl rfl)
theorem dX1_pass_1 : decode cX1_pass 1 = .ok (.iload_n 1, 1) := dk_27 (dk_at dksX1_pass_0 1 rfl rfl)
theorem dX1_pass_2 : decode cX1_pass 2 = .ok (.iload_n 2, 1) := dk_28 (dk_at dksX1_pass_0 2 rfl rfl)
theorem dX1_pass_3 : decode cX1_pass 3 = .ok (.invokevirtual 433, 3) := dk_182 1 177 (dk_at dksX1_pass_0 3 rfl rfl)
theorem dX1_pass_6 : decode cX1_pass 6 = .ok (.iload_n 3, 1) := dk_29 (dk_at dksX1_pass_0 6 rfl rfl)
theorem dX1_pass_7 : decode cX1_pass 7 = .ok (.iconst 1, 1) := dk_4 (dk_at dksX1_pass_0 7 rfl rfl)
theorem dX1_pass_8 : decode cX1_pass 8 = .ok (.ldc 104, 2) := dk_18 104 (dk_at dksX1_pass_0 8 rfl rfl)
theorem dX1_pass_10 : decode cX1_pass 10 = .ok (.invokestatic 347, 3) := dk_184 1 91 (dk_at dksX1_pass_0 10 rfl rfl)
theorem dX1_pass_13 : decode cX1_pass 13 = .ok (.invokestatic 403, 3) := dk_184 1 147 (dk_at dksX1_pass_0 13 rfl rfl)
theorem dX1_pass_16 : decode cX1_pass 16 = .ok (.iload_n 3, 1) := dk_29 (dk_at dksX1_pass_0 16 rfl rfl)
theorem dX1_pass_17 : decode cX1_pass 17 = .ok (.aload_n 0, 1) := dk_42 (dk_at dksX1_pass_0 17 rfl rfl)
theorem dX1_pass_18 : decode cX1_pass 18 = .ok (.getfield 10, 3) := dk_180 0 10 (dk_at dksX1_pass_0 18 rfl rfl)
theorem dX1_pass_21 : decode cX1_pass 21 = .ok (.getfield 137, 3) := dk_180 0 137 (dk_at dksX1_pass_0 21 rfl rfl)
theorem dX1_pass_24 : decode cX1_pass 24 = .ok (.iload_n 1, 1) := dk_27 (dk_at dksX1_pass_1 0 rfl rfl)
theorem dX1_pass_25 : decode cX1_pass 25 = .ok (.iaload, 1) := dk_46 (dk_at dksX1_pass_1 1 rfl rfl)
theorem dX1_pass_26 : decode cX1_pass 26 = .ok (.invokestatic 436, 3) := dk_184 1 180 (dk_at dksX1_pass_1 2 rfl rfl)
theorem dX1_pass_29 : decode cX1_pass 29 = .ok (.istore 4, 2) := dk_54 4 (dk_at dksX1_pass_1 5 rfl rfl)
theorem dX1_pass_31 : decode cX1_pass 31 = .ok (.aload_n 0, 1) := dk_42 (dk_at dksX1_pass_1 7 rfl rfl)
theorem dX1_pass_32 : decode cX1_pass 32 = .ok (.getfield 10, 3) := dk_180 0 10 (dk_at dksX1_pass_1 8 rfl rfl)
theorem dX1_pass_35 : decode cX1_pass 35 = .ok (.getfield 137, 3) := dk_180 0 137 (dk_at dksX1_pass_1 11 rfl rfl)
theorem dX1_pass_38 : decode cX1_pass 38 = .ok (.iload_n 2, 1) := dk_28 (dk_at dksX1_pass_1 14 rfl rfl)
theorem dX1_pass_39 : decode cX1_pass 39 = .ok (.iaload, 1) := dk_46 (dk_at dksX1_pass_1 15 rfl rfl)
theorem dX1_pass_40 : decode cX1_pass 40 = .ok (.iload 4, 2) := dk_21 4 (dk_at dksX1_pass_1 16 rfl rfl)
theorem dX1_pass_42 : decode cX1_pass 42 = .ok (.iadd, 1) := dk_96 (dk_at dksX1_pass_1 18 rfl rfl)
theorem dX1_pass_43 : decode cX1_pass 43 = .ok (.ldc 104, 2) := dk_18 104 (dk_at dksX1_pass_1 19 rfl rfl)
theorem dX1_pass_45 : decode cX1_pass 45 = .ok (.if_icmp .gt 7, 3) := dk_163 0 7 (dk_at dksX1_pass_1 21 rfl rfl)
theorem dX1_pass_48 : decode cX1_pass 48 = .ok (.iconst 1, 1) := dk_4 (dk_at dksX1_pass_2 0 rfl rfl)
theorem dX1_pass_49 : decode cX1_pass 49 = .ok (.goto 4, 3) := dk_167 0 4 (dk_at dksX1_pass_2 1 rfl rfl)
theorem dX1_pass_52 : decode cX1_pass 52 = .ok (.iconst 0, 1) := dk_3 (dk_at dksX1_pass_2 4 rfl rfl)
theorem dX1_pass_53 : decode cX1_pass 53 = .ok (.invokestatic 418, 3) := dk_184 1 162 (dk_at dksX1_pass_2 5 rfl rfl)
theorem dX1_pass_56 : decode cX1_pass 56 = .ok (.aload_n 0, 1) := dk_42 (dk_at dksX1_pass_2 8 rfl rfl)
theorem dX1_pass_57 : decode cX1_pass 57 = .ok (.getfield 10, 3) := dk_180 0 10 (dk_at dksX1_pass_2 9 rfl rfl)
theorem dX1_pass_60 : decode cX1_pass 60 = .ok (.getfield 137, 3) := dk_180 0 137 (dk_at dksX1_pass_2 12 rfl rfl)
theorem dX1_pass_63 : decode cX1_pass 63 = .ok (.iload_n 1, 1) := dk_27 (dk_at dksX1_pass_2 15 rfl rfl)
theorem dX1_pass_64 : decode cX1_pass 64 = .ok (.dup2, 1) := dk_92 (dk_at dksX1_pass_2 16 rfl rfl)
theorem dX1_pass_65 : decode cX1_pass 65 = .ok (.iaload, 1) := dk_46 (dk_at dksX1_pass_2 17 rfl rfl)
theorem dX1_pass_66 : decode cX1_pass 66 = .ok (.iload 4, 2) := dk_21 4 (dk_at dksX1_pass_2 18 rfl rfl)
theorem dX1_pass_68 : decode cX1_pass 68 = .ok (.isub, 1) := dk_100 (dk_at dksX1_pass_2 20 rfl rfl)
theorem dX1_pass_69 : decode cX1_pass 69 = .ok (.iastore, 1) := dk_79 (dk_at dksX1_pass_2 21 rfl rfl)
theorem dX1_pass_70 : decode cX1_pass 70 = .ok (.aload_n 0, 1) := dk_42 (dk_at dksX1_pass_2 22 rfl rfl)
theorem dX1_pass_71 : decode cX1_pass 71 = .ok (.getfield 10, 3) := dk_180 0 10 (dk_at dksX1_pass_3 0 rfl rfl)
theorem dX1_pass_74 : decode cX1_pass 74 = .ok (.getfield 137, 3) := dk_180 0 137 (dk_at dksX1_pass_3 3 rfl rfl)
theorem dX1_pass_77 : decode cX1_pass 77 = .ok (.iload_n 2, 1) := dk_28 (dk_at dksX1_pass_3 6 rfl rfl)
theorem dX1_pass_78 : decode cX1_pass 78 = .ok (.dup2, 1) := dk_92 (dk_at dksX1_pass_3 7 rfl rfl)
theorem dX1_pass_79 : decode cX1_pass 79 = .ok (.iaload, 1) := dk_46 (dk_at dksX1_pass_3 8 rfl rfl)
theorem dX1_pass_80 : decode cX1_pass 80 = .ok (.iload 4, 2) := dk_21 4 (dk_at dksX1_pass_3 9 rfl rfl)
theorem dX1_pass_82 : decode cX1_pass 82 = .ok (.iadd, 1) := dk_96 (dk_at dksX1_pass_3 11 rfl rfl)
theorem dX1_pass_83 : decode cX1_pass 83 = .ok (.iastore, 1) := dk_79 (dk_at dksX1_pass_3 12 rfl rfl)
theorem dX1_pass_84 : decode cX1_pass 84 = .ok (.iload 4, 2) := dk_21 4 (dk_at dksX1_pass_3 13 rfl rfl)
theorem dX1_pass_86 : decode cX1_pass 86 = .ok (.ireturn, 1) := dk_172 (dk_at dksX1_pass_3 15 rfl rfl)
abbrev cX1_twoHouses : ByteArray := prog_1_method_38_code
def yX1_twoHouses : MethodName := ⟨RX1, "twoHouses", "(II)V"⟩
def dkwX1_twoHouses_0 : List UInt8 := [42, 27, 182, 1, 107, 42, 28, 182, 1, 107, 27, 28, 159, 0, 7, 4, 167, 0, 4, 3, 184, 1, 147, 177]
abbrev dktX1_twoHouses_0 : List UInt8 := dkwX1_twoHouses_0 ++ []
theorem dksX1_twoHouses_0 : cX1_twoHouses.data.toList.drop 0 = dktX1_twoHouses_0 := by decide +kernel
theorem dX1_twoHouses_0 : decode cX1_twoHouses 0 = .ok (.aload_n 0, 1) := dk_42 (dk_at dksX1_twoHouses_0 0 rfl rfl)
theorem dX1_twoHouses_1 : decode cX1_twoHouses 1 = .ok (.iload_n 1, 1) := dk_27 (dk_at dksX1_twoHouses_0 1 rfl rfl)
theorem dX1_twoHouses_2 : decode cX1_twoHouses 2 = .ok (.invokevirtual 363, 3) := dk_182 1 107 (dk_at dksX1_twoHouses_0 2 rfl rfl)
theorem dX1_twoHouses_5 : decode cX1_twoHouses 5 = .ok (.aload_n 0, 1) := dk_42 (dk_at dksX1_twoHouses_0 5 rfl rfl)
theorem dX1_twoHouses_6 : decode cX1_twoHouses 6 = .ok (.iload_n 2, 1) := dk_28 (dk_at dksX1_twoHouses_0 6 rfl rfl)
theorem dX1_twoHouses_7 : decode cX1_twoHouses 7 = .ok (.invokevirtual 363, 3) := dk_182 1 107 (dk_at dksX1_twoHouses_0 7 rfl rfl)
theorem dX1_twoHouses_10 : decode cX1_twoHouses 10 = .ok (.iload_n 1, 1) := dk_27 (dk_at dksX1_twoHouses_0 10 rfl rfl)
theorem dX1_twoHouses_11 : decode cX1_twoHouses 11 = .ok (.iload_n 2, 1) := dk_28 (dk_at dksX1_twoHouses_0 11 rfl rfl)
theorem dX1_twoHouses_12 : decode cX1_twoHouses 12 = .ok (.if_icmp .eq 7, 3) := dk_159 0 7 (dk_at dksX1_twoHouses_0 12 rfl rfl)
theorem dX1_twoHouses_15 : decode cX1_twoHouses 15 = .ok (.iconst 1, 1) := dk_4 (dk_at dksX1_twoHouses_0 15 rfl rfl)
theorem dX1_twoHouses_16 : decode cX1_twoHouses 16 = .ok (.goto 4, 3) := dk_167 0 4 (dk_at dksX1_twoHouses_0 16 rfl rfl)
theorem dX1_twoHouses_19 : decode cX1_twoHouses 19 = .ok (.iconst 0, 1) := dk_3 (dk_at dksX1_twoHouses_0 19 rfl rfl)
theorem dX1_twoHouses_20 : decode cX1_twoHouses 20 = .ok (.invokestatic 403, 3) := dk_184 1 147 (dk_at dksX1_twoHouses_0 20 rfl rfl)
theorem dX1_twoHouses_23 : decode cX1_twoHouses 23 = .ok (.return_, 1) := dk_177 (dk_at dksX1_twoHouses_0 23 rfl rfl)
abbrev cX1_marry : ByteArray := prog_1_method_40_code
def yX1_marry : MethodName := ⟨RX1, "marry", "(II)I"⟩
def dkwX1_marry_5 : List UInt8 := [27, 181, 1, 83, 132, 3, 1, 167, 255, 200, 42, 180, 0, 10, 180, 0, 137, 27, 46, 172]
abbrev dktX1_marry_5 : List UInt8 := dkwX1_marry_5 ++ []
def dkwX1_marry_4 : List UInt8 := [192, 0, 88, 180, 1, 83, 28, 160, 0, 21, 42, 180, 0, 10, 180, 0, 55, 29, 182, 1, 57, 192, 0, 88]
abbrev dktX1_marry_4 : List UInt8 := dkwX1_marry_4 ++ dktX1_marry_5
def dkwX1_marry_3 : List UInt8 := [42, 180, 0, 10, 180, 0, 55, 182, 0, 59, 162, 0, 48, 42, 180, 0, 10, 180, 0, 55, 29, 182, 1, 57]
abbrev dktX1_marry_3 : List UInt8 := dkwX1_marry_3 ++ dktX1_marry_4
def dkwX1_marry_2 : List UInt8 := [42, 180, 0, 10, 180, 0, 137, 28, 46, 96, 79, 42, 180, 0, 10, 180, 0, 137, 28, 3, 79, 3, 62, 29]
abbrev dktX1_marry_2 : List UInt8 := dkwX1_marry_2 ++ dktX1_marry_3
def dkwX1_marry_1 : List UInt8 := [96, 18, 104, 163, 0, 7, 4, 167, 0, 4, 3, 184, 1, 162, 42, 180, 0, 10, 180, 0, 137, 27, 92, 46]
abbrev dktX1_marry_1 : List UInt8 := dkwX1_marry_1 ++ dktX1_marry_2
def dkwX1_marry_0 : List UInt8 := [42, 27, 28, 182, 1, 177, 42, 180, 0, 10, 180, 0, 137, 27, 46, 42, 180, 0, 10, 180, 0, 137, 28, 46]
abbrev dktX1_marry_0 : List UInt8 := dkwX1_marry_0 ++ dktX1_marry_1
theorem dksX1_marry_0 : cX1_marry.data.toList.drop 0 = dktX1_marry_0 := by decide +kernel
theorem dksX1_marry_1 : cX1_marry.data.toList.drop 24 = dktX1_marry_1 := dk_seg dksX1_marry_0 24 rfl rfl
theorem dksX1_marry_2 : cX1_marry.data.toList.drop 48 = dktX1_marry_2 := dk_seg dksX1_marry_1 24 rfl rfl
theorem dksX1_marry_3 : cX1_marry.data.toList.drop 72 = dktX1_marry_3 := dk_seg dksX1_marry_2 24 rfl rfl
theorem dksX1_marry_4 : cX1_marry.data.toList.drop 96 = dktX1_marry_4 := dk_seg dksX1_marry_3 24 rfl rfl
theorem dksX1_marry_5 : cX1_marry.data.toList.drop 120 = dktX1_marry_5 := dk_seg dksX1_marry_4 24 rfl rfl
theorem dX1_marry_0 : decode cX1_marry 0 = .ok (.aload_n 0, 1) := dk_42 (dk_at dksX1_marry_0 0 rfl rfl)
theorem dX1_marry_1 : decode cX1_marry 1 = .ok (.iload_n 1, 1) := dk_27 (dk_at dksX1_marry_0 1 rfl rfl)
theorem dX1_marry_2 : decode cX1_marry 2 = .ok (.iload_n 2, 1) := dk_28 (dk_at dksX1_marry_0 2 rfl rfl)
theorem dX1_marry_3 : decode cX1_marry 3 = .ok (.invokevirtual 433, 3) := dk_182 1 177 (dk_at dksX1_marry_0 3 rfl rfl)
theorem dX1_marry_6 : decode cX1_marry 6 = .ok (.aload_n 0, 1) := dk_42 (dk_at dksX1_marry_0 6 rfl rfl)
theorem dX1_marry_7 : decode cX1_marry 7 = .ok (.getfield 10, 3) := dk_180 0 10 (dk_at dksX1_marry_0 7 rfl rfl)
theorem dX1_marry_10 : decode cX1_marry 10 = .ok (.getfield 137, 3) := dk_180 0 137 (dk_at dksX1_marry_0 10 rfl rfl)
theorem dX1_marry_13 : decode cX1_marry 13 = .ok (.iload_n 1, 1) := dk_27 (dk_at dksX1_marry_0 13 rfl rfl)
theorem dX1_marry_14 : decode cX1_marry 14 = .ok (.iaload, 1) := dk_46 (dk_at dksX1_marry_0 14 rfl rfl)
theorem dX1_marry_15 : decode cX1_marry 15 = .ok (.aload_n 0, 1) := dk_42 (dk_at dksX1_marry_0 15 rfl rfl)
theorem dX1_marry_16 : decode cX1_marry 16 = .ok (.getfield 10, 3) := dk_180 0 10 (dk_at dksX1_marry_0 16 rfl rfl)
theorem dX1_marry_19 : decode cX1_marry 19 = .ok (.getfield 137, 3) := dk_180 0 137 (dk_at dksX1_marry_0 19 rfl rfl)
theorem dX1_marry_22 : decode cX1_marry 22 = .ok (.iload_n 2, 1) := dk_28 (dk_at dksX1_marry_0 22 rfl rfl)
theorem dX1_marry_23 : decode cX1_marry 23 = .ok (.iaload, 1) := dk_46 (dk_at dksX1_marry_0 23 rfl rfl)
theorem dX1_marry_24 : decode cX1_marry 24 = .ok (.iadd, 1) := dk_96 (dk_at dksX1_marry_1 0 rfl rfl)
theorem dX1_marry_25 : decode cX1_marry 25 = .ok (.ldc 104, 2) := dk_18 104 (dk_at dksX1_marry_1 1 rfl rfl)
theorem dX1_marry_27 : decode cX1_marry 27 = .ok (.if_icmp .gt 7, 3) := dk_163 0 7 (dk_at dksX1_marry_1 3 rfl rfl)
theorem dX1_marry_30 : decode cX1_marry 30 = .ok (.iconst 1, 1) := dk_4 (dk_at dksX1_marry_1 6 rfl rfl)
theorem dX1_marry_31 : decode cX1_marry 31 = .ok (.goto 4, 3) := dk_167 0 4 (dk_at dksX1_marry_1 7 rfl rfl)
theorem dX1_marry_34 : decode cX1_marry 34 = .ok (.iconst 0, 1) := dk_3 (dk_at dksX1_marry_1 10 rfl rfl)
theorem dX1_marry_35 : decode cX1_marry 35 = .ok (.invokestatic 418, 3) := dk_184 1 162 (dk_at dksX1_marry_1 11 rfl rfl)
theorem dX1_marry_38 : decode cX1_marry 38 = .ok (.aload_n 0, 1) := dk_42 (dk_at dksX1_marry_1 14 rfl rfl)
theorem dX1_marry_39 : decode cX1_marry 39 = .ok (.getfield 10, 3) := dk_180 0 10 (dk_at dksX1_marry_1 15 rfl rfl)
theorem dX1_marry_42 : decode cX1_marry 42 = .ok (.getfield 137, 3) := dk_180 0 137 (dk_at dksX1_marry_1 18 rfl rfl)
theorem dX1_marry_45 : decode cX1_marry 45 = .ok (.iload_n 1, 1) := dk_27 (dk_at dksX1_marry_1 21 rfl rfl)
theorem dX1_marry_46 : decode cX1_marry 46 = .ok (.dup2, 1) := dk_92 (dk_at dksX1_marry_1 22 rfl rfl)
theorem dX1_marry_47 : decode cX1_marry 47 = .ok (.iaload, 1) := dk_46 (dk_at dksX1_marry_1 23 rfl rfl)
theorem dX1_marry_48 : decode cX1_marry 48 = .ok (.aload_n 0, 1) := dk_42 (dk_at dksX1_marry_2 0 rfl rfl)
theorem dX1_marry_49 : decode cX1_marry 49 = .ok (.getfield 10, 3) := dk_180 0 10 (dk_at dksX1_marry_2 1 rfl rfl)
theorem dX1_marry_52 : decode cX1_marry 52 = .ok (.getfield 137, 3) := dk_180 0 137 (dk_at dksX1_marry_2 4 rfl rfl)
theorem dX1_marry_55 : decode cX1_marry 55 = .ok (.iload_n 2, 1) := dk_28 (dk_at dksX1_marry_2 7 rfl rfl)
theorem dX1_marry_56 : decode cX1_marry 56 = .ok (.iaload, 1) := dk_46 (dk_at dksX1_marry_2 8 rfl rfl)
theorem dX1_marry_57 : decode cX1_marry 57 = .ok (.iadd, 1) := dk_96 (dk_at dksX1_marry_2 9 rfl rfl)
theorem dX1_marry_58 : decode cX1_marry 58 = .ok (.iastore, 1) := dk_79 (dk_at dksX1_marry_2 10 rfl rfl)
theorem dX1_marry_59 : decode cX1_marry 59 = .ok (.aload_n 0, 1) := dk_42 (dk_at dksX1_marry_2 11 rfl rfl)
theorem dX1_marry_60 : decode cX1_marry 60 = .ok (.getfield 10, 3) := dk_180 0 10 (dk_at dksX1_marry_2 12 rfl rfl)
theorem dX1_marry_63 : decode cX1_marry 63 = .ok (.getfield 137, 3) := dk_180 0 137 (dk_at dksX1_marry_2 15 rfl rfl)
theorem dX1_marry_66 : decode cX1_marry 66 = .ok (.iload_n 2, 1) := dk_28 (dk_at dksX1_marry_2 18 rfl rfl)
theorem dX1_marry_67 : decode cX1_marry 67 = .ok (.iconst 0, 1) := dk_3 (dk_at dksX1_marry_2 19 rfl rfl)
theorem dX1_marry_68 : decode cX1_marry 68 = .ok (.iastore, 1) := dk_79 (dk_at dksX1_marry_2 20 rfl rfl)
theorem dX1_marry_69 : decode cX1_marry 69 = .ok (.iconst 0, 1) := dk_3 (dk_at dksX1_marry_2 21 rfl rfl)
theorem dX1_marry_70 : decode cX1_marry 70 = .ok (.istore_n 3, 1) := dk_62 (dk_at dksX1_marry_2 22 rfl rfl)
theorem dX1_marry_71 : decode cX1_marry 71 = .ok (.iload_n 3, 1) := dk_29 (dk_at dksX1_marry_2 23 rfl rfl)
theorem dX1_marry_72 : decode cX1_marry 72 = .ok (.aload_n 0, 1) := dk_42 (dk_at dksX1_marry_3 0 rfl rfl)
theorem dX1_marry_73 : decode cX1_marry 73 = .ok (.getfield 10, 3) := dk_180 0 10 (dk_at dksX1_marry_3 1 rfl rfl)
theorem dX1_marry_76 : decode cX1_marry 76 = .ok (.getfield 55, 3) := dk_180 0 55 (dk_at dksX1_marry_3 4 rfl rfl)
theorem dX1_marry_79 : decode cX1_marry 79 = .ok (.invokevirtual 59, 3) := dk_182 0 59 (dk_at dksX1_marry_3 7 rfl rfl)
theorem dX1_marry_82 : decode cX1_marry 82 = .ok (.if_icmp .ge 48, 3) := dk_162 0 48 (dk_at dksX1_marry_3 10 rfl rfl)
theorem dX1_marry_85 : decode cX1_marry 85 = .ok (.aload_n 0, 1) := dk_42 (dk_at dksX1_marry_3 13 rfl rfl)
theorem dX1_marry_86 : decode cX1_marry 86 = .ok (.getfield 10, 3) := dk_180 0 10 (dk_at dksX1_marry_3 14 rfl rfl)
theorem dX1_marry_89 : decode cX1_marry 89 = .ok (.getfield 55, 3) := dk_180 0 55 (dk_at dksX1_marry_3 17 rfl rfl)
theorem dX1_marry_92 : decode cX1_marry 92 = .ok (.iload_n 3, 1) := dk_29 (dk_at dksX1_marry_3 20 rfl rfl)
theorem dX1_marry_93 : decode cX1_marry 93 = .ok (.invokevirtual 313, 3) := dk_182 1 57 (dk_at dksX1_marry_3 21 rfl rfl)
theorem dX1_marry_96 : decode cX1_marry 96 = .ok (.checkcast 88, 3) := dk_192 0 88 (dk_at dksX1_marry_4 0 rfl rfl)
theorem dX1_marry_99 : decode cX1_marry 99 = .ok (.getfield 339, 3) := dk_180 1 83 (dk_at dksX1_marry_4 3 rfl rfl)
theorem dX1_marry_102 : decode cX1_marry 102 = .ok (.iload_n 2, 1) := dk_28 (dk_at dksX1_marry_4 6 rfl rfl)
theorem dX1_marry_103 : decode cX1_marry 103 = .ok (.if_icmp .ne 21, 3) := dk_160 0 21 (dk_at dksX1_marry_4 7 rfl rfl)
theorem dX1_marry_106 : decode cX1_marry 106 = .ok (.aload_n 0, 1) := dk_42 (dk_at dksX1_marry_4 10 rfl rfl)
theorem dX1_marry_107 : decode cX1_marry 107 = .ok (.getfield 10, 3) := dk_180 0 10 (dk_at dksX1_marry_4 11 rfl rfl)
theorem dX1_marry_110 : decode cX1_marry 110 = .ok (.getfield 55, 3) := dk_180 0 55 (dk_at dksX1_marry_4 14 rfl rfl)
theorem dX1_marry_113 : decode cX1_marry 113 = .ok (.iload_n 3, 1) := dk_29 (dk_at dksX1_marry_4 17 rfl rfl)
theorem dX1_marry_114 : decode cX1_marry 114 = .ok (.invokevirtual 313, 3) := dk_182 1 57 (dk_at dksX1_marry_4 18 rfl rfl)
theorem dX1_marry_117 : decode cX1_marry 117 = .ok (.checkcast 88, 3) := dk_192 0 88 (dk_at dksX1_marry_4 21 rfl rfl)
theorem dX1_marry_120 : decode cX1_marry 120 = .ok (.iload_n 1, 1) := dk_27 (dk_at dksX1_marry_5 0 rfl rfl)
theorem dX1_marry_121 : decode cX1_marry 121 = .ok (.putfield 339, 3) := dk_181 1 83 (dk_at dksX1_marry_5 1 rfl rfl)
theorem dX1_marry_124 : decode cX1_marry 124 = .ok (.iinc 3 1, 3) := dk_132 3 1 (dk_at dksX1_marry_5 4 rfl rfl)
theorem dX1_marry_127 : decode cX1_marry 127 = .ok (.goto (-56), 3) := dk_167 255 200 (dk_at dksX1_marry_5 7 rfl rfl)
theorem dX1_marry_130 : decode cX1_marry 130 = .ok (.aload_n 0, 1) := dk_42 (dk_at dksX1_marry_5 10 rfl rfl)
theorem dX1_marry_131 : decode cX1_marry 131 = .ok (.getfield 10, 3) := dk_180 0 10 (dk_at dksX1_marry_5 11 rfl rfl)
theorem dX1_marry_134 : decode cX1_marry 134 = .ok (.getfield 137, 3) := dk_180 0 137 (dk_at dksX1_marry_5 14 rfl rfl)
theorem dX1_marry_137 : decode cX1_marry 137 = .ok (.iload_n 1, 1) := dk_27 (dk_at dksX1_marry_5 17 rfl rfl)
theorem dX1_marry_138 : decode cX1_marry 138 = .ok (.iaload, 1) := dk_46 (dk_at dksX1_marry_5 18 rfl rfl)
theorem dX1_marry_139 : decode cX1_marry 139 = .ok (.ireturn, 1) := dk_172 (dk_at dksX1_marry_5 19 rfl rfl)
abbrev cX1_mend : ByteArray := prog_1_method_41_code
def yX1_mend : MethodName := ⟨RX1, "mend", "(I)I"⟩
def dkwX1_mend_1 : List UInt8 := [181, 1, 186, 29, 172]
abbrev dktX1_mend_1 : List UInt8 := dkwX1_mend_1 ++ []
def dkwX1_mend_0 : List UInt8 := [42, 27, 182, 1, 127, 77, 44, 180, 1, 69, 62, 44, 3, 181, 1, 69, 44, 42, 180, 0, 10, 180, 1, 183]
abbrev dktX1_mend_0 : List UInt8 := dkwX1_mend_0 ++ dktX1_mend_1
theorem dksX1_mend_0 : cX1_mend.data.toList.drop 0 = dktX1_mend_0 := by decide +kernel
theorem dksX1_mend_1 : cX1_mend.data.toList.drop 24 = dktX1_mend_1 := dk_seg dksX1_mend_0 24 rfl rfl
theorem dX1_mend_0 : decode cX1_mend 0 = .ok (.aload_n 0, 1) := dk_42 (dk_at dksX1_mend_0 0 rfl rfl)
theorem dX1_mend_1 : decode cX1_mend 1 = .ok (.iload_n 1, 1) := dk_27 (dk_at dksX1_mend_0 1 rfl rfl)
theorem dX1_mend_2 : decode cX1_mend 2 = .ok (.invokevirtual 383, 3) := dk_182 1 127 (dk_at dksX1_mend_0 2 rfl rfl)
theorem dX1_mend_5 : decode cX1_mend 5 = .ok (.astore_n 2, 1) := dk_77 (dk_at dksX1_mend_0 5 rfl rfl)
theorem dX1_mend_6 : decode cX1_mend 6 = .ok (.aload_n 2, 1) := dk_44 (dk_at dksX1_mend_0 6 rfl rfl)
theorem dX1_mend_7 : decode cX1_mend 7 = .ok (.getfield 325, 3) := dk_180 1 69 (dk_at dksX1_mend_0 7 rfl rfl)
theorem dX1_mend_10 : decode cX1_mend 10 = .ok (.istore_n 3, 1) := dk_62 (dk_at dksX1_mend_0 10 rfl rfl)
theorem dX1_mend_11 : decode cX1_mend 11 = .ok (.aload_n 2, 1) := dk_44 (dk_at dksX1_mend_0 11 rfl rfl)
theorem dX1_mend_12 : decode cX1_mend 12 = .ok (.iconst 0, 1) := dk_3 (dk_at dksX1_mend_0 12 rfl rfl)
theorem dX1_mend_13 : decode cX1_mend 13 = .ok (.putfield 325, 3) := dk_181 1 69 (dk_at dksX1_mend_0 13 rfl rfl)
theorem dX1_mend_16 : decode cX1_mend 16 = .ok (.aload_n 2, 1) := dk_44 (dk_at dksX1_mend_0 16 rfl rfl)
theorem dX1_mend_17 : decode cX1_mend 17 = .ok (.aload_n 0, 1) := dk_42 (dk_at dksX1_mend_0 17 rfl rfl)
theorem dX1_mend_18 : decode cX1_mend 18 = .ok (.getfield 10, 3) := dk_180 0 10 (dk_at dksX1_mend_0 18 rfl rfl)
theorem dX1_mend_21 : decode cX1_mend 21 = .ok (.getfield 439, 3) := dk_180 1 183 (dk_at dksX1_mend_0 21 rfl rfl)
theorem dX1_mend_24 : decode cX1_mend 24 = .ok (.putfield 442, 3) := dk_181 1 186 (dk_at dksX1_mend_1 0 rfl rfl)
theorem dX1_mend_27 : decode cX1_mend 27 = .ok (.iload_n 3, 1) := dk_29 (dk_at dksX1_mend_1 3 rfl rfl)
theorem dX1_mend_28 : decode cX1_mend 28 = .ok (.ireturn, 1) := dk_172 (dk_at dksX1_mend_1 4 rfl rfl)
abbrev cX1_worn : ByteArray := prog_1_method_42_code
def yX1_worn : MethodName := ⟨RX1, "worn", "(II)I"⟩
def dkwX1_worn_1 : List UInt8 := [28, 181, 1, 69, 21, 4, 172]
abbrev dktX1_worn_1 : List UInt8 := dkwX1_worn_1 ++ []
def dkwX1_worn_0 : List UInt8 := [42, 27, 182, 1, 127, 78, 28, 3, 17, 3, 231, 184, 1, 91, 184, 1, 147, 45, 180, 1, 69, 54, 4, 45]
abbrev dktX1_worn_0 : List UInt8 := dkwX1_worn_0 ++ dktX1_worn_1
theorem dksX1_worn_0 : cX1_worn.data.toList.drop 0 = dktX1_worn_0 := by decide +kernel
theorem dksX1_worn_1 : cX1_worn.data.toList.drop 24 = dktX1_worn_1 := dk_seg dksX1_worn_0 24 rfl rfl
theorem dX1_worn_0 : decode cX1_worn 0 = .ok (.aload_n 0, 1) := dk_42 (dk_at dksX1_worn_0 0 rfl rfl)
theorem dX1_worn_1 : decode cX1_worn 1 = .ok (.iload_n 1, 1) := dk_27 (dk_at dksX1_worn_0 1 rfl rfl)
theorem dX1_worn_2 : decode cX1_worn 2 = .ok (.invokevirtual 383, 3) := dk_182 1 127 (dk_at dksX1_worn_0 2 rfl rfl)
theorem dX1_worn_5 : decode cX1_worn 5 = .ok (.astore_n 3, 1) := dk_78 (dk_at dksX1_worn_0 5 rfl rfl)
theorem dX1_worn_6 : decode cX1_worn 6 = .ok (.iload_n 2, 1) := dk_28 (dk_at dksX1_worn_0 6 rfl rfl)
theorem dX1_worn_7 : decode cX1_worn 7 = .ok (.iconst 0, 1) := dk_3 (dk_at dksX1_worn_0 7 rfl rfl)
theorem dX1_worn_8 : decode cX1_worn 8 = .ok (.sipush 999, 3) := dk_17 3 231 (dk_at dksX1_worn_0 8 rfl rfl)
theorem dX1_worn_11 : decode cX1_worn 11 = .ok (.invokestatic 347, 3) := dk_184 1 91 (dk_at dksX1_worn_0 11 rfl rfl)
theorem dX1_worn_14 : decode cX1_worn 14 = .ok (.invokestatic 403, 3) := dk_184 1 147 (dk_at dksX1_worn_0 14 rfl rfl)
theorem dX1_worn_17 : decode cX1_worn 17 = .ok (.aload_n 3, 1) := dk_45 (dk_at dksX1_worn_0 17 rfl rfl)
theorem dX1_worn_18 : decode cX1_worn 18 = .ok (.getfield 325, 3) := dk_180 1 69 (dk_at dksX1_worn_0 18 rfl rfl)
theorem dX1_worn_21 : decode cX1_worn 21 = .ok (.istore 4, 2) := dk_54 4 (dk_at dksX1_worn_0 21 rfl rfl)
theorem dX1_worn_23 : decode cX1_worn 23 = .ok (.aload_n 3, 1) := dk_45 (dk_at dksX1_worn_0 23 rfl rfl)
theorem dX1_worn_24 : decode cX1_worn 24 = .ok (.iload_n 2, 1) := dk_28 (dk_at dksX1_worn_1 0 rfl rfl)
theorem dX1_worn_25 : decode cX1_worn 25 = .ok (.putfield 325, 3) := dk_181 1 69 (dk_at dksX1_worn_1 1 rfl rfl)
theorem dX1_worn_28 : decode cX1_worn 28 = .ok (.iload 4, 2) := dk_21 4 (dk_at dksX1_worn_1 4 rfl rfl)
theorem dX1_worn_30 : decode cX1_worn 30 = .ok (.ireturn, 1) := dk_172 (dk_at dksX1_worn_1 6 rfl rfl)
abbrev cX1_deal : ByteArray := prog_1_method_46_code
def yX1_deal : MethodName := ⟨RX1, "deal", "(IZ)I"⟩
def dkwX1_deal_1 : List UInt8 := [28, 153, 0, 7, 29, 167, 0, 8, 42, 29, 182, 1, 201, 172]
abbrev dktX1_deal_1 : List UInt8 := dkwX1_deal_1 ++ []
def dkwX1_deal_0 : List UInt8 := [42, 27, 182, 1, 107, 42, 42, 180, 0, 10, 180, 0, 137, 27, 46, 182, 1, 198, 62, 29, 2, 159, 0, 7]
abbrev dktX1_deal_0 : List UInt8 := dkwX1_deal_0 ++ dktX1_deal_1
theorem dksX1_deal_0 : cX1_deal.data.toList.drop 0 = dktX1_deal_0 := by decide +kernel
theorem dksX1_deal_1 : cX1_deal.data.toList.drop 24 = dktX1_deal_1 := dk_seg dksX1_deal_0 24 rfl rfl
theorem dX1_deal_0 : decode cX1_deal 0 = .ok (.aload_n 0, 1) := dk_42 (dk_at dksX1_deal_0 0 rfl rfl)
theorem dX1_deal_1 : decode cX1_deal 1 = .ok (.iload_n 1, 1) := dk_27 (dk_at dksX1_deal_0 1 rfl rfl)
theorem dX1_deal_2 : decode cX1_deal 2 = .ok (.invokevirtual 363, 3) := dk_182 1 107 (dk_at dksX1_deal_0 2 rfl rfl)
theorem dX1_deal_5 : decode cX1_deal 5 = .ok (.aload_n 0, 1) := dk_42 (dk_at dksX1_deal_0 5 rfl rfl)
theorem dX1_deal_6 : decode cX1_deal 6 = .ok (.aload_n 0, 1) := dk_42 (dk_at dksX1_deal_0 6 rfl rfl)
theorem dX1_deal_7 : decode cX1_deal 7 = .ok (.getfield 10, 3) := dk_180 0 10 (dk_at dksX1_deal_0 7 rfl rfl)
theorem dX1_deal_10 : decode cX1_deal 10 = .ok (.getfield 137, 3) := dk_180 0 137 (dk_at dksX1_deal_0 10 rfl rfl)
theorem dX1_deal_13 : decode cX1_deal 13 = .ok (.iload_n 1, 1) := dk_27 (dk_at dksX1_deal_0 13 rfl rfl)
theorem dX1_deal_14 : decode cX1_deal 14 = .ok (.iaload, 1) := dk_46 (dk_at dksX1_deal_0 14 rfl rfl)
theorem dX1_deal_15 : decode cX1_deal 15 = .ok (.invokevirtual 454, 3) := dk_182 1 198 (dk_at dksX1_deal_0 15 rfl rfl)
theorem dX1_deal_18 : decode cX1_deal 18 = .ok (.istore_n 3, 1) := dk_62 (dk_at dksX1_deal_0 18 rfl rfl)
theorem dX1_deal_19 : decode cX1_deal 19 = .ok (.iload_n 3, 1) := dk_29 (dk_at dksX1_deal_0 19 rfl rfl)
theorem dX1_deal_20 : decode cX1_deal 20 = .ok (.iconst (-1), 1) := dk_2 (dk_at dksX1_deal_0 20 rfl rfl)
theorem dX1_deal_21 : decode cX1_deal 21 = .ok (.if_icmp .eq 7, 3) := dk_159 0 7 (dk_at dksX1_deal_0 21 rfl rfl)
theorem dX1_deal_24 : decode cX1_deal 24 = .ok (.iload_n 2, 1) := dk_28 (dk_at dksX1_deal_1 0 rfl rfl)
theorem dX1_deal_25 : decode cX1_deal 25 = .ok (.ifCond .eq 7, 3) := dk_153 0 7 (dk_at dksX1_deal_1 1 rfl rfl)
theorem dX1_deal_28 : decode cX1_deal 28 = .ok (.iload_n 3, 1) := dk_29 (dk_at dksX1_deal_1 4 rfl rfl)
theorem dX1_deal_29 : decode cX1_deal 29 = .ok (.goto 8, 3) := dk_167 0 8 (dk_at dksX1_deal_1 5 rfl rfl)
theorem dX1_deal_32 : decode cX1_deal 32 = .ok (.aload_n 0, 1) := dk_42 (dk_at dksX1_deal_1 8 rfl rfl)
theorem dX1_deal_33 : decode cX1_deal 33 = .ok (.iload_n 3, 1) := dk_29 (dk_at dksX1_deal_1 9 rfl rfl)
theorem dX1_deal_34 : decode cX1_deal 34 = .ok (.invokevirtual 457, 3) := dk_182 1 201 (dk_at dksX1_deal_1 10 rfl rfl)
theorem dX1_deal_37 : decode cX1_deal 37 = .ok (.ireturn, 1) := dk_172 (dk_at dksX1_deal_1 13 rfl rfl)
abbrev cX1_bestDeal : ByteArray := prog_1_method_44_code
def yX1_bestDeal : MethodName := ⟨RX1, "bestDeal", "(I)I"⟩
def dkwX1_bestDeal_6 : List UInt8 := [184, 1, 193, 161, 0, 6, 167, 0, 9, 21, 4, 61, 21, 6, 62, 132, 4, 1, 167, 255, 103, 28, 172]
abbrev dktX1_bestDeal_6 : List UInt8 := dkwX1_bestDeal_6 ++ []
def dkwX1_bestDeal_5 : List UInt8 := [28, 2, 159, 0, 30, 21, 6, 29, 163, 0, 30, 21, 6, 29, 160, 0, 18, 21, 4, 184, 1, 193, 28]
abbrev dktX1_bestDeal_5 : List UInt8 := dkwX1_bestDeal_5 ++ dktX1_bestDeal_6
def dkwX1_bestDeal_4 : List UInt8 := [182, 1, 57, 192, 0, 111, 180, 1, 190, 96, 54, 6, 132, 7, 1, 167, 255, 179, 21, 5, 27, 161, 0, 41]
abbrev dktX1_bestDeal_4 : List UInt8 := dkwX1_bestDeal_4 ++ dktX1_bestDeal_5
def dkwX1_bestDeal_3 : List UInt8 := [182, 1, 57, 192, 0, 111, 180, 1, 189, 96, 54, 5, 21, 6, 42, 180, 0, 10, 180, 0, 101, 21, 7]
abbrev dktX1_bestDeal_3 : List UInt8 := dkwX1_bestDeal_3 ++ dktX1_bestDeal_4
def dkwX1_bestDeal_2 : List UInt8 := [21, 4, 21, 7, 122, 4, 126, 154, 0, 6, 167, 0, 49, 21, 5, 42, 180, 0, 10, 180, 0, 101, 21, 7]
abbrev dktX1_bestDeal_2 : List UInt8 := dkwX1_bestDeal_2 ++ dktX1_bestDeal_3
def dkwX1_bestDeal_1 : List UInt8 := [3, 54, 5, 3, 54, 6, 3, 54, 7, 21, 7, 42, 180, 0, 10, 180, 0, 101, 182, 0, 59, 162, 0, 68]
abbrev dktX1_bestDeal_1 : List UInt8 := dkwX1_bestDeal_1 ++ dktX1_bestDeal_2
def dkwX1_bestDeal_0 : List UInt8 := [2, 61, 3, 62, 3, 54, 4, 21, 4, 4, 42, 180, 0, 10, 180, 0, 101, 182, 0, 59, 120, 162, 0, 142]
abbrev dktX1_bestDeal_0 : List UInt8 := dkwX1_bestDeal_0 ++ dktX1_bestDeal_1
theorem dksX1_bestDeal_0 : cX1_bestDeal.data.toList.drop 0 = dktX1_bestDeal_0 := by decide +kernel
theorem dksX1_bestDeal_1 : cX1_bestDeal.data.toList.drop 24 = dktX1_bestDeal_1 := dk_seg dksX1_bestDeal_0 24 rfl rfl
theorem dksX1_bestDeal_2 : cX1_bestDeal.data.toList.drop 48 = dktX1_bestDeal_2 := dk_seg dksX1_bestDeal_1 24 rfl rfl
theorem dksX1_bestDeal_3 : cX1_bestDeal.data.toList.drop 72 = dktX1_bestDeal_3 := dk_seg dksX1_bestDeal_2 24 rfl rfl
theorem dksX1_bestDeal_4 : cX1_bestDeal.data.toList.drop 95 = dktX1_bestDeal_4 := dk_seg dksX1_bestDeal_3 23 rfl rfl
theorem dksX1_bestDeal_5 : cX1_bestDeal.data.toList.drop 119 = dktX1_bestDeal_5 := dk_seg dksX1_bestDeal_4 24 rfl rfl
theorem dksX1_bestDeal_6 : cX1_bestDeal.data.toList.drop 142 = dktX1_bestDeal_6 := dk_seg dksX1_bestDeal_5 23 rfl rfl
theorem dX1_bestDeal_0 : decode cX1_bestDeal 0 = .ok (.iconst (-1), 1) := dk_2 (dk_at dksX1_bestDeal_0 0 rfl rfl)
theorem dX1_bestDeal_1 : decode cX1_bestDeal 1 = .ok (.istore_n 2, 1) := dk_61 (dk_at dksX1_bestDeal_0 1 rfl rfl)
theorem dX1_bestDeal_2 : decode cX1_bestDeal 2 = .ok (.iconst 0, 1) := dk_3 (dk_at dksX1_bestDeal_0 2 rfl rfl)
theorem dX1_bestDeal_3 : decode cX1_bestDeal 3 = .ok (.istore_n 3, 1) := dk_62 (dk_at dksX1_bestDeal_0 3 rfl rfl)
theorem dX1_bestDeal_4 : decode cX1_bestDeal 4 = .ok (.iconst 0, 1) := dk_3 (dk_at dksX1_bestDeal_0 4 rfl rfl)
theorem dX1_bestDeal_5 : decode cX1_bestDeal 5 = .ok (.istore 4, 2) := dk_54 4 (dk_at dksX1_bestDeal_0 5 rfl rfl)
theorem dX1_bestDeal_7 : decode cX1_bestDeal 7 = .ok (.iload 4, 2) := dk_21 4 (dk_at dksX1_bestDeal_0 7 rfl rfl)
theorem dX1_bestDeal_9 : decode cX1_bestDeal 9 = .ok (.iconst 1, 1) := dk_4 (dk_at dksX1_bestDeal_0 9 rfl rfl)
theorem dX1_bestDeal_10 : decode cX1_bestDeal 10 = .ok (.aload_n 0, 1) := dk_42 (dk_at dksX1_bestDeal_0 10 rfl rfl)
theorem dX1_bestDeal_11 : decode cX1_bestDeal 11 = .ok (.getfield 10, 3) := dk_180 0 10 (dk_at dksX1_bestDeal_0 11 rfl rfl)
theorem dX1_bestDeal_14 : decode cX1_bestDeal 14 = .ok (.getfield 101, 3) := dk_180 0 101 (dk_at dksX1_bestDeal_0 14 rfl rfl)
theorem dX1_bestDeal_17 : decode cX1_bestDeal 17 = .ok (.invokevirtual 59, 3) := dk_182 0 59 (dk_at dksX1_bestDeal_0 17 rfl rfl)
theorem dX1_bestDeal_20 : decode cX1_bestDeal 20 = .ok (.ishl, 1) := dk_120 (dk_at dksX1_bestDeal_0 20 rfl rfl)
theorem dX1_bestDeal_21 : decode cX1_bestDeal 21 = .ok (.if_icmp .ge 142, 3) := dk_162 0 142 (dk_at dksX1_bestDeal_0 21 rfl rfl)
theorem dX1_bestDeal_24 : decode cX1_bestDeal 24 = .ok (.iconst 0, 1) := dk_3 (dk_at dksX1_bestDeal_1 0 rfl rfl)
theorem dX1_bestDeal_25 : decode cX1_bestDeal 25 = .ok (.istore 5, 2) := dk_54 5 (dk_at dksX1_bestDeal_1 1 rfl rfl)
theorem dX1_bestDeal_27 : decode cX1_bestDeal 27 = .ok (.iconst 0, 1) := dk_3 (dk_at dksX1_bestDeal_1 3 rfl rfl)
theorem dX1_bestDeal_28 : decode cX1_bestDeal 28 = .ok (.istore 6, 2) := dk_54 6 (dk_at dksX1_bestDeal_1 4 rfl rfl)
theorem dX1_bestDeal_30 : decode cX1_bestDeal 30 = .ok (.iconst 0, 1) := dk_3 (dk_at dksX1_bestDeal_1 6 rfl rfl)
theorem dX1_bestDeal_31 : decode cX1_bestDeal 31 = .ok (.istore 7, 2) := dk_54 7 (dk_at dksX1_bestDeal_1 7 rfl rfl)
theorem dX1_bestDeal_33 : decode cX1_bestDeal 33 = .ok (.iload 7, 2) := dk_21 7 (dk_at dksX1_bestDeal_1 9 rfl rfl)
theorem dX1_bestDeal_35 : decode cX1_bestDeal 35 = .ok (.aload_n 0, 1) := dk_42 (dk_at dksX1_bestDeal_1 11 rfl rfl)
theorem dX1_bestDeal_36 : decode cX1_bestDeal 36 = .ok (.getfield 10, 3) := dk_180 0 10 (dk_at dksX1_bestDeal_1 12 rfl rfl)
theorem dX1_bestDeal_39 : decode cX1_bestDeal 39 = .ok (.getfield 101, 3) := dk_180 0 101 (dk_at dksX1_bestDeal_1 15 rfl rfl)
theorem dX1_bestDeal_42 : decode cX1_bestDeal 42 = .ok (.invokevirtual 59, 3) := dk_182 0 59 (dk_at dksX1_bestDeal_1 18 rfl rfl)
theorem dX1_bestDeal_45 : decode cX1_bestDeal 45 = .ok (.if_icmp .ge 68, 3) := dk_162 0 68 (dk_at dksX1_bestDeal_1 21 rfl rfl)
theorem dX1_bestDeal_48 : decode cX1_bestDeal 48 = .ok (.iload 4, 2) := dk_21 4 (dk_at dksX1_bestDeal_2 0 rfl rfl)
theorem dX1_bestDeal_50 : decode cX1_bestDeal 50 = .ok (.iload 7, 2) := dk_21 7 (dk_at dksX1_bestDeal_2 2 rfl rfl)
theorem dX1_bestDeal_52 : decode cX1_bestDeal 52 = .ok (.ishr, 1) := dk_122 (dk_at dksX1_bestDeal_2 4 rfl rfl)
theorem dX1_bestDeal_53 : decode cX1_bestDeal 53 = .ok (.iconst 1, 1) := dk_4 (dk_at dksX1_bestDeal_2 5 rfl rfl)
theorem dX1_bestDeal_54 : decode cX1_bestDeal 54 = .ok (.iand, 1) := dk_126 (dk_at dksX1_bestDeal_2 6 rfl rfl)
theorem dX1_bestDeal_55 : decode cX1_bestDeal 55 = .ok (.ifCond .ne 6, 3) := dk_154 0 6 (dk_at dksX1_bestDeal_2 7 rfl rfl)
theorem dX1_bestDeal_58 : decode cX1_bestDeal 58 = .ok (.goto 49, 3) := dk_167 0 49 (dk_at dksX1_bestDeal_2 10 rfl rfl)
theorem dX1_bestDeal_61 : decode cX1_bestDeal 61 = .ok (.iload 5, 2) := dk_21 5 (dk_at dksX1_bestDeal_2 13 rfl rfl)
theorem dX1_bestDeal_63 : decode cX1_bestDeal 63 = .ok (.aload_n 0, 1) := dk_42 (dk_at dksX1_bestDeal_2 15 rfl rfl)
theorem dX1_bestDeal_64 : decode cX1_bestDeal 64 = .ok (.getfield 10, 3) := dk_180 0 10 (dk_at dksX1_bestDeal_2 16 rfl rfl)
theorem dX1_bestDeal_67 : decode cX1_bestDeal 67 = .ok (.getfield 101, 3) := dk_180 0 101 (dk_at dksX1_bestDeal_2 19 rfl rfl)
theorem dX1_bestDeal_70 : decode cX1_bestDeal 70 = .ok (.iload 7, 2) := dk_21 7 (dk_at dksX1_bestDeal_2 22 rfl rfl)
theorem dX1_bestDeal_72 : decode cX1_bestDeal 72 = .ok (.invokevirtual 313, 3) := dk_182 1 57 (dk_at dksX1_bestDeal_3 0 rfl rfl)
theorem dX1_bestDeal_75 : decode cX1_bestDeal 75 = .ok (.checkcast 111, 3) := dk_192 0 111 (dk_at dksX1_bestDeal_3 3 rfl rfl)
theorem dX1_bestDeal_78 : decode cX1_bestDeal 78 = .ok (.getfield 445, 3) := dk_180 1 189 (dk_at dksX1_bestDeal_3 6 rfl rfl)
theorem dX1_bestDeal_81 : decode cX1_bestDeal 81 = .ok (.iadd, 1) := dk_96 (dk_at dksX1_bestDeal_3 9 rfl rfl)
theorem dX1_bestDeal_82 : decode cX1_bestDeal 82 = .ok (.istore 5, 2) := dk_54 5 (dk_at dksX1_bestDeal_3 10 rfl rfl)
theorem dX1_bestDeal_84 : decode cX1_bestDeal 84 = .ok (.iload 6, 2) := dk_21 6 (dk_at dksX1_bestDeal_3 12 rfl rfl)
theorem dX1_bestDeal_86 : decode cX1_bestDeal 86 = .ok (.aload_n 0, 1) := dk_42 (dk_at dksX1_bestDeal_3 14 rfl rfl)
theorem dX1_bestDeal_87 : decode cX1_bestDeal 87 = .ok (.getfield 10, 3) := dk_180 0 10 (dk_at dksX1_bestDeal_3 15 rfl rfl)
theorem dX1_bestDeal_90 : decode cX1_bestDeal 90 = .ok (.getfield 101, 3) := dk_180 0 101 (dk_at dksX1_bestDeal_3 18 rfl rfl)
theorem dX1_bestDeal_93 : decode cX1_bestDeal 93 = .ok (.iload 7, 2) := dk_21 7 (dk_at dksX1_bestDeal_3 21 rfl rfl)
theorem dX1_bestDeal_95 : decode cX1_bestDeal 95 = .ok (.invokevirtual 313, 3) := dk_182 1 57 (dk_at dksX1_bestDeal_4 0 rfl rfl)
theorem dX1_bestDeal_98 : decode cX1_bestDeal 98 = .ok (.checkcast 111, 3) := dk_192 0 111 (dk_at dksX1_bestDeal_4 3 rfl rfl)
theorem dX1_bestDeal_101 : decode cX1_bestDeal 101 = .ok (.getfield 446, 3) := dk_180 1 190 (dk_at dksX1_bestDeal_4 6 rfl rfl)
theorem dX1_bestDeal_104 : decode cX1_bestDeal 104 = .ok (.iadd, 1) := dk_96 (dk_at dksX1_bestDeal_4 9 rfl rfl)
theorem dX1_bestDeal_105 : decode cX1_bestDeal 105 = .ok (.istore 6, 2) := dk_54 6 (dk_at dksX1_bestDeal_4 10 rfl rfl)
theorem dX1_bestDeal_107 : decode cX1_bestDeal 107 = .ok (.iinc 7 1, 3) := dk_132 7 1 (dk_at dksX1_bestDeal_4 12 rfl rfl)
theorem dX1_bestDeal_110 : decode cX1_bestDeal 110 = .ok (.goto (-77), 3) := dk_167 255 179 (dk_at dksX1_bestDeal_4 15 rfl rfl)
theorem dX1_bestDeal_113 : decode cX1_bestDeal 113 = .ok (.iload 5, 2) := dk_21 5 (dk_at dksX1_bestDeal_4 18 rfl rfl)
theorem dX1_bestDeal_115 : decode cX1_bestDeal 115 = .ok (.iload_n 1, 1) := dk_27 (dk_at dksX1_bestDeal_4 20 rfl rfl)
theorem dX1_bestDeal_116 : decode cX1_bestDeal 116 = .ok (.if_icmp .lt 41, 3) := dk_161 0 41 (dk_at dksX1_bestDeal_4 21 rfl rfl)
theorem dX1_bestDeal_119 : decode cX1_bestDeal 119 = .ok (.iload_n 2, 1) := dk_28 (dk_at dksX1_bestDeal_5 0 rfl rfl)
theorem dX1_bestDeal_120 : decode cX1_bestDeal 120 = .ok (.iconst (-1), 1) := dk_2 (dk_at dksX1_bestDeal_5 1 rfl rfl)
theorem dX1_bestDeal_121 : decode cX1_bestDeal 121 = .ok (.if_icmp .eq 30, 3) := dk_159 0 30 (dk_at dksX1_bestDeal_5 2 rfl rfl)
theorem dX1_bestDeal_124 : decode cX1_bestDeal 124 = .ok (.iload 6, 2) := dk_21 6 (dk_at dksX1_bestDeal_5 5 rfl rfl)
theorem dX1_bestDeal_126 : decode cX1_bestDeal 126 = .ok (.iload_n 3, 1) := dk_29 (dk_at dksX1_bestDeal_5 7 rfl rfl)
theorem dX1_bestDeal_127 : decode cX1_bestDeal 127 = .ok (.if_icmp .gt 30, 3) := dk_163 0 30 (dk_at dksX1_bestDeal_5 8 rfl rfl)
theorem dX1_bestDeal_130 : decode cX1_bestDeal 130 = .ok (.iload 6, 2) := dk_21 6 (dk_at dksX1_bestDeal_5 11 rfl rfl)
theorem dX1_bestDeal_132 : decode cX1_bestDeal 132 = .ok (.iload_n 3, 1) := dk_29 (dk_at dksX1_bestDeal_5 13 rfl rfl)
theorem dX1_bestDeal_133 : decode cX1_bestDeal 133 = .ok (.if_icmp .ne 18, 3) := dk_160 0 18 (dk_at dksX1_bestDeal_5 14 rfl rfl)
theorem dX1_bestDeal_136 : decode cX1_bestDeal 136 = .ok (.iload 4, 2) := dk_21 4 (dk_at dksX1_bestDeal_5 17 rfl rfl)
theorem dX1_bestDeal_138 : decode cX1_bestDeal 138 = .ok (.invokestatic 449, 3) := dk_184 1 193 (dk_at dksX1_bestDeal_5 19 rfl rfl)
theorem dX1_bestDeal_141 : decode cX1_bestDeal 141 = .ok (.iload_n 2, 1) := dk_28 (dk_at dksX1_bestDeal_5 22 rfl rfl)
theorem dX1_bestDeal_142 : decode cX1_bestDeal 142 = .ok (.invokestatic 449, 3) := dk_184 1 193 (dk_at dksX1_bestDeal_6 0 rfl rfl)
theorem dX1_bestDeal_145 : decode cX1_bestDeal 145 = .ok (.if_icmp .lt 6, 3) := dk_161 0 6 (dk_at dksX1_bestDeal_6 3 rfl rfl)
theorem dX1_bestDeal_148 : decode cX1_bestDeal 148 = .ok (.goto 9, 3) := dk_167 0 9 (dk_at dksX1_bestDeal_6 6 rfl rfl)
theorem dX1_bestDeal_151 : decode cX1_bestDeal 151 = .ok (.iload 4, 2) := dk_21 4 (dk_at dksX1_bestDeal_6 9 rfl rfl)
theorem dX1_bestDeal_153 : decode cX1_bestDeal 153 = .ok (.istore_n 2, 1) := dk_61 (dk_at dksX1_bestDeal_6 11 rfl rfl)
theorem dX1_bestDeal_154 : decode cX1_bestDeal 154 = .ok (.iload 6, 2) := dk_21 6 (dk_at dksX1_bestDeal_6 12 rfl rfl)
theorem dX1_bestDeal_156 : decode cX1_bestDeal 156 = .ok (.istore_n 3, 1) := dk_62 (dk_at dksX1_bestDeal_6 14 rfl rfl)
theorem dX1_bestDeal_157 : decode cX1_bestDeal 157 = .ok (.iinc 4 1, 3) := dk_132 4 1 (dk_at dksX1_bestDeal_6 15 rfl rfl)
theorem dX1_bestDeal_160 : decode cX1_bestDeal 160 = .ok (.goto (-153), 3) := dk_167 255 103 (dk_at dksX1_bestDeal_6 18 rfl rfl)
theorem dX1_bestDeal_163 : decode cX1_bestDeal 163 = .ok (.iload_n 2, 1) := dk_28 (dk_at dksX1_bestDeal_6 21 rfl rfl)
theorem dX1_bestDeal_164 : decode cX1_bestDeal 164 = .ok (.ireturn, 1) := dk_172 (dk_at dksX1_bestDeal_6 22 rfl rfl)
abbrev cX1_priceOf : ByteArray := prog_1_method_45_code
def yX1_priceOf : MethodName := ⟨RX1, "priceOf", "(I)I"⟩
def dkwX1_priceOf_2 : List UInt8 := [167, 255, 213, 28, 172]
abbrev dktX1_priceOf_2 : List UInt8 := dkwX1_priceOf_2 ++ []
def dkwX1_priceOf_1 : List UInt8 := [42, 180, 0, 10, 180, 0, 101, 29, 182, 1, 57, 192, 0, 111, 180, 1, 190, 104, 96, 61, 132, 3, 1]
abbrev dktX1_priceOf_1 : List UInt8 := dkwX1_priceOf_1 ++ dktX1_priceOf_2
def dkwX1_priceOf_0 : List UInt8 := [3, 61, 3, 62, 29, 42, 180, 0, 10, 180, 0, 101, 182, 0, 59, 162, 0, 35, 28, 27, 29, 122, 4, 126]
abbrev dktX1_priceOf_0 : List UInt8 := dkwX1_priceOf_0 ++ dktX1_priceOf_1
theorem dksX1_priceOf_0 : cX1_priceOf.data.toList.drop 0 = dktX1_priceOf_0 := by decide +kernel
theorem dksX1_priceOf_1 : cX1_priceOf.data.toList.drop 24 = dktX1_priceOf_1 := dk_seg dksX1_priceOf_0 24 rfl rfl
theorem dksX1_priceOf_2 : cX1_priceOf.data.toList.drop 47 = dktX1_priceOf_2 := dk_seg dksX1_priceOf_1 23 rfl rfl
theorem dX1_priceOf_0 : decode cX1_priceOf 0 = .ok (.iconst 0, 1) := dk_3 (dk_at dksX1_priceOf_0 0 rfl rfl)
theorem dX1_priceOf_1 : decode cX1_priceOf 1 = .ok (.istore_n 2, 1) := dk_61 (dk_at dksX1_priceOf_0 1 rfl rfl)
theorem dX1_priceOf_2 : decode cX1_priceOf 2 = .ok (.iconst 0, 1) := dk_3 (dk_at dksX1_priceOf_0 2 rfl rfl)
theorem dX1_priceOf_3 : decode cX1_priceOf 3 = .ok (.istore_n 3, 1) := dk_62 (dk_at dksX1_priceOf_0 3 rfl rfl)
theorem dX1_priceOf_4 : decode cX1_priceOf 4 = .ok (.iload_n 3, 1) := dk_29 (dk_at dksX1_priceOf_0 4 rfl rfl)
theorem dX1_priceOf_5 : decode cX1_priceOf 5 = .ok (.aload_n 0, 1) := dk_42 (dk_at dksX1_priceOf_0 5 rfl rfl)
theorem dX1_priceOf_6 : decode cX1_priceOf 6 = .ok (.getfield 10, 3) := dk_180 0 10 (dk_at dksX1_priceOf_0 6 rfl rfl)
theorem dX1_priceOf_9 : decode cX1_priceOf 9 = .ok (.getfield 101, 3) := dk_180 0 101 (dk_at dksX1_priceOf_0 9 rfl rfl)
theorem dX1_priceOf_12 : decode cX1_priceOf 12 = .ok (.invokevirtual 59, 3) := dk_182 0 59 (dk_at dksX1_priceOf_0 12 rfl rfl)
theorem dX1_priceOf_15 : decode cX1_priceOf 15 = .ok (.if_icmp .ge 35, 3) := dk_162 0 35 (dk_at dksX1_priceOf_0 15 rfl rfl)
theorem dX1_priceOf_18 : decode cX1_priceOf 18 = .ok (.iload_n 2, 1) := dk_28 (dk_at dksX1_priceOf_0 18 rfl rfl)
theorem dX1_priceOf_19 : decode cX1_priceOf 19 = .ok (.iload_n 1, 1) := dk_27 (dk_at dksX1_priceOf_0 19 rfl rfl)
theorem dX1_priceOf_20 : decode cX1_priceOf 20 = .ok (.iload_n 3, 1) := dk_29 (dk_at dksX1_priceOf_0 20 rfl rfl)
theorem dX1_priceOf_21 : decode cX1_priceOf 21 = .ok (.ishr, 1) := dk_122 (dk_at dksX1_priceOf_0 21 rfl rfl)
theorem dX1_priceOf_22 : decode cX1_priceOf 22 = .ok (.iconst 1, 1) := dk_4 (dk_at dksX1_priceOf_0 22 rfl rfl)
theorem dX1_priceOf_23 : decode cX1_priceOf 23 = .ok (.iand, 1) := dk_126 (dk_at dksX1_priceOf_0 23 rfl rfl)
theorem dX1_priceOf_24 : decode cX1_priceOf 24 = .ok (.aload_n 0, 1) := dk_42 (dk_at dksX1_priceOf_1 0 rfl rfl)
theorem dX1_priceOf_25 : decode cX1_priceOf 25 = .ok (.getfield 10, 3) := dk_180 0 10 (dk_at dksX1_priceOf_1 1 rfl rfl)
theorem dX1_priceOf_28 : decode cX1_priceOf 28 = .ok (.getfield 101, 3) := dk_180 0 101 (dk_at dksX1_priceOf_1 4 rfl rfl)
theorem dX1_priceOf_31 : decode cX1_priceOf 31 = .ok (.iload_n 3, 1) := dk_29 (dk_at dksX1_priceOf_1 7 rfl rfl)
theorem dX1_priceOf_32 : decode cX1_priceOf 32 = .ok (.invokevirtual 313, 3) := dk_182 1 57 (dk_at dksX1_priceOf_1 8 rfl rfl)
theorem dX1_priceOf_35 : decode cX1_priceOf 35 = .ok (.checkcast 111, 3) := dk_192 0 111 (dk_at dksX1_priceOf_1 11 rfl rfl)
theorem dX1_priceOf_38 : decode cX1_priceOf 38 = .ok (.getfield 446, 3) := dk_180 1 190 (dk_at dksX1_priceOf_1 14 rfl rfl)
theorem dX1_priceOf_41 : decode cX1_priceOf 41 = .ok (.imul, 1) := dk_104 (dk_at dksX1_priceOf_1 17 rfl rfl)
theorem dX1_priceOf_42 : decode cX1_priceOf 42 = .ok (.iadd, 1) := dk_96 (dk_at dksX1_priceOf_1 18 rfl rfl)
theorem dX1_priceOf_43 : decode cX1_priceOf 43 = .ok (.istore_n 2, 1) := dk_61 (dk_at dksX1_priceOf_1 19 rfl rfl)
theorem dX1_priceOf_44 : decode cX1_priceOf 44 = .ok (.iinc 3 1, 3) := dk_132 3 1 (dk_at dksX1_priceOf_1 20 rfl rfl)
theorem dX1_priceOf_47 : decode cX1_priceOf 47 = .ok (.goto (-43), 3) := dk_167 255 213 (dk_at dksX1_priceOf_2 0 rfl rfl)
theorem dX1_priceOf_50 : decode cX1_priceOf 50 = .ok (.iload_n 2, 1) := dk_28 (dk_at dksX1_priceOf_2 3 rfl rfl)
theorem dX1_priceOf_51 : decode cX1_priceOf 51 = .ok (.ireturn, 1) := dk_172 (dk_at dksX1_priceOf_2 4 rfl rfl)
abbrev cX1_plan : ByteArray := prog_1_method_47_code
def yX1_plan : MethodName := ⟨RX1, "plan", "(IIZ)I"⟩
def dkwX1_plan_3 : List UInt8 := [180, 0, 10, 180, 0, 137, 27, 46, 182, 1, 209, 172]
abbrev dktX1_plan_3 : List UInt8 := dkwX1_plan_3 ++ []
def dkwX1_plan_2 : List UInt8 := [2, 160, 0, 8, 21, 4, 167, 0, 28, 21, 4, 154, 0, 7, 3, 167, 0, 19, 42, 180, 0, 35, 42]
abbrev dktX1_plan_2 : List UInt8 := dkwX1_plan_2 ++ dktX1_plan_3
def dkwX1_plan_1 : List UInt8 := [42, 180, 0, 35, 42, 180, 0, 10, 180, 0, 137, 27, 46, 182, 1, 206, 54, 4, 29, 153, 0, 9, 21, 4]
abbrev dktX1_plan_1 : List UInt8 := dkwX1_plan_1 ++ dktX1_plan_2
def dkwX1_plan_0 : List UInt8 := [42, 27, 182, 1, 107, 28, 4, 16, 6, 184, 1, 91, 184, 1, 147, 42, 180, 0, 35, 27, 28, 182, 1, 204]
abbrev dktX1_plan_0 : List UInt8 := dkwX1_plan_0 ++ dktX1_plan_1
theorem dksX1_plan_0 : cX1_plan.data.toList.drop 0 = dktX1_plan_0 := by decide +kernel
theorem dksX1_plan_1 : cX1_plan.data.toList.drop 24 = dktX1_plan_1 := dk_seg dksX1_plan_0 24 rfl rfl
theorem dksX1_plan_2 : cX1_plan.data.toList.drop 48 = dktX1_plan_2 := dk_seg dksX1_plan_1 24 rfl rfl
theorem dksX1_plan_3 : cX1_plan.data.toList.drop 71 = dktX1_plan_3 := dk_seg dksX1_plan_2 23 rfl rfl
theorem dX1_plan_0 : decode cX1_plan 0 = .ok (.aload_n 0, 1) := dk_42 (dk_at dksX1_plan_0 0 rfl rfl)
theorem dX1_plan_1 : decode cX1_plan 1 = .ok (.iload_n 1, 1) := dk_27 (dk_at dksX1_plan_0 1 rfl rfl)
theorem dX1_plan_2 : decode cX1_plan 2 = .ok (.invokevirtual 363, 3) := dk_182 1 107 (dk_at dksX1_plan_0 2 rfl rfl)
theorem dX1_plan_5 : decode cX1_plan 5 = .ok (.iload_n 2, 1) := dk_28 (dk_at dksX1_plan_0 5 rfl rfl)
theorem dX1_plan_6 : decode cX1_plan 6 = .ok (.iconst 1, 1) := dk_4 (dk_at dksX1_plan_0 6 rfl rfl)
theorem dX1_plan_7 : decode cX1_plan 7 = .ok (.bipush 6, 2) := dk_16 6 (dk_at dksX1_plan_0 7 rfl rfl)
theorem dX1_plan_9 : decode cX1_plan 9 = .ok (.invokestatic 347, 3) := dk_184 1 91 (dk_at dksX1_plan_0 9 rfl rfl)
theorem dX1_plan_12 : decode cX1_plan 12 = .ok (.invokestatic 403, 3) := dk_184 1 147 (dk_at dksX1_plan_0 12 rfl rfl)
theorem dX1_plan_15 : decode cX1_plan 15 = .ok (.aload_n 0, 1) := dk_42 (dk_at dksX1_plan_0 15 rfl rfl)
theorem dX1_plan_16 : decode cX1_plan 16 = .ok (.getfield 35, 3) := dk_180 0 35 (dk_at dksX1_plan_0 16 rfl rfl)
theorem dX1_plan_19 : decode cX1_plan 19 = .ok (.iload_n 1, 1) := dk_27 (dk_at dksX1_plan_0 19 rfl rfl)
theorem dX1_plan_20 : decode cX1_plan 20 = .ok (.iload_n 2, 1) := dk_28 (dk_at dksX1_plan_0 20 rfl rfl)
theorem dX1_plan_21 : decode cX1_plan 21 = .ok (.invokevirtual 460, 3) := dk_182 1 204 (dk_at dksX1_plan_0 21 rfl rfl)
theorem dX1_plan_24 : decode cX1_plan 24 = .ok (.aload_n 0, 1) := dk_42 (dk_at dksX1_plan_1 0 rfl rfl)
theorem dX1_plan_25 : decode cX1_plan 25 = .ok (.getfield 35, 3) := dk_180 0 35 (dk_at dksX1_plan_1 1 rfl rfl)
theorem dX1_plan_28 : decode cX1_plan 28 = .ok (.aload_n 0, 1) := dk_42 (dk_at dksX1_plan_1 4 rfl rfl)
theorem dX1_plan_29 : decode cX1_plan 29 = .ok (.getfield 10, 3) := dk_180 0 10 (dk_at dksX1_plan_1 5 rfl rfl)
theorem dX1_plan_32 : decode cX1_plan 32 = .ok (.getfield 137, 3) := dk_180 0 137 (dk_at dksX1_plan_1 8 rfl rfl)
theorem dX1_plan_35 : decode cX1_plan 35 = .ok (.iload_n 1, 1) := dk_27 (dk_at dksX1_plan_1 11 rfl rfl)
theorem dX1_plan_36 : decode cX1_plan 36 = .ok (.iaload, 1) := dk_46 (dk_at dksX1_plan_1 12 rfl rfl)
theorem dX1_plan_37 : decode cX1_plan 37 = .ok (.invokevirtual 462, 3) := dk_182 1 206 (dk_at dksX1_plan_1 13 rfl rfl)
theorem dX1_plan_40 : decode cX1_plan 40 = .ok (.istore 4, 2) := dk_54 4 (dk_at dksX1_plan_1 16 rfl rfl)
theorem dX1_plan_42 : decode cX1_plan 42 = .ok (.iload_n 3, 1) := dk_29 (dk_at dksX1_plan_1 18 rfl rfl)
theorem dX1_plan_43 : decode cX1_plan 43 = .ok (.ifCond .eq 9, 3) := dk_153 0 9 (dk_at dksX1_plan_1 19 rfl rfl)
theorem dX1_plan_46 : decode cX1_plan 46 = .ok (.iload 4, 2) := dk_21 4 (dk_at dksX1_plan_1 22 rfl rfl)
theorem dX1_plan_48 : decode cX1_plan 48 = .ok (.iconst (-1), 1) := dk_2 (dk_at dksX1_plan_2 0 rfl rfl)
theorem dX1_plan_49 : decode cX1_plan 49 = .ok (.if_icmp .ne 8, 3) := dk_160 0 8 (dk_at dksX1_plan_2 1 rfl rfl)
theorem dX1_plan_52 : decode cX1_plan 52 = .ok (.iload 4, 2) := dk_21 4 (dk_at dksX1_plan_2 4 rfl rfl)
theorem dX1_plan_54 : decode cX1_plan 54 = .ok (.goto 28, 3) := dk_167 0 28 (dk_at dksX1_plan_2 6 rfl rfl)
theorem dX1_plan_57 : decode cX1_plan 57 = .ok (.iload 4, 2) := dk_21 4 (dk_at dksX1_plan_2 9 rfl rfl)
theorem dX1_plan_59 : decode cX1_plan 59 = .ok (.ifCond .ne 7, 3) := dk_154 0 7 (dk_at dksX1_plan_2 11 rfl rfl)
theorem dX1_plan_62 : decode cX1_plan 62 = .ok (.iconst 0, 1) := dk_3 (dk_at dksX1_plan_2 14 rfl rfl)
theorem dX1_plan_63 : decode cX1_plan 63 = .ok (.goto 19, 3) := dk_167 0 19 (dk_at dksX1_plan_2 15 rfl rfl)
theorem dX1_plan_66 : decode cX1_plan 66 = .ok (.aload_n 0, 1) := dk_42 (dk_at dksX1_plan_2 18 rfl rfl)
theorem dX1_plan_67 : decode cX1_plan 67 = .ok (.getfield 35, 3) := dk_180 0 35 (dk_at dksX1_plan_2 19 rfl rfl)
theorem dX1_plan_70 : decode cX1_plan 70 = .ok (.aload_n 0, 1) := dk_42 (dk_at dksX1_plan_2 22 rfl rfl)
theorem dX1_plan_71 : decode cX1_plan 71 = .ok (.getfield 10, 3) := dk_180 0 10 (dk_at dksX1_plan_3 0 rfl rfl)
theorem dX1_plan_74 : decode cX1_plan 74 = .ok (.getfield 137, 3) := dk_180 0 137 (dk_at dksX1_plan_3 3 rfl rfl)
theorem dX1_plan_77 : decode cX1_plan 77 = .ok (.iload_n 1, 1) := dk_27 (dk_at dksX1_plan_3 6 rfl rfl)
theorem dX1_plan_78 : decode cX1_plan 78 = .ok (.iaload, 1) := dk_46 (dk_at dksX1_plan_3 7 rfl rfl)
theorem dX1_plan_79 : decode cX1_plan 79 = .ok (.invokevirtual 465, 3) := dk_182 1 209 (dk_at dksX1_plan_3 8 rfl rfl)
theorem dX1_plan_82 : decode cX1_plan 82 = .ok (.ireturn, 1) := dk_172 (dk_at dksX1_plan_3 11 rfl rfl)
abbrev cX1_burn : ByteArray := prog_1_method_48_code
def yX1_burn : MethodName := ⟨RX1, "burn", "(II)I"⟩
def dkwX1_burn_6 : List UInt8 := [132, 4, 1, 167, 255, 228, 29, 172]
abbrev dktX1_burn_6 : List UInt8 := dkwX1_burn_6 ++ []
def dkwX1_burn_5 : List UInt8 := [163, 0, 28, 42, 180, 0, 10, 180, 1, 118, 21, 4, 182, 1, 57, 192, 1, 121, 4, 181, 1, 140]
abbrev dktX1_burn_5 : List UInt8 := dkwX1_burn_5 ++ dktX1_burn_6
def dkwX1_burn_4 : List UInt8 := [167, 255, 218, 29, 16, 16, 163, 0, 7, 4, 167, 0, 4, 3, 184, 1, 162, 27, 54, 4, 21, 4, 28]
abbrev dktX1_burn_4 : List UInt8 := dkwX1_burn_4 ++ dktX1_burn_5
def dkwX1_burn_3 : List UInt8 := [182, 1, 57, 192, 1, 121, 180, 1, 140, 153, 0, 7, 3, 167, 0, 4, 4, 96, 62, 132, 4, 1]
abbrev dktX1_burn_3 : List UInt8 := dkwX1_burn_3 ++ dktX1_burn_4
def dkwX1_burn_2 : List UInt8 := [182, 1, 212, 62, 27, 54, 4, 21, 4, 28, 163, 0, 38, 29, 42, 180, 0, 10, 180, 1, 118, 21, 4]
abbrev dktX1_burn_2 : List UInt8 := dkwX1_burn_2 ++ dktX1_burn_3
def dkwX1_burn_1 : List UInt8 := [182, 0, 59, 184, 1, 104, 27, 28, 163, 0, 7, 4, 167, 0, 4, 3, 184, 1, 147, 42, 180, 0, 10]
abbrev dktX1_burn_1 : List UInt8 := dkwX1_burn_1 ++ dktX1_burn_2
def dkwX1_burn_0 : List UInt8 := [27, 42, 180, 0, 10, 180, 1, 118, 182, 0, 59, 184, 1, 104, 28, 42, 180, 0, 10, 180, 1, 118]
abbrev dktX1_burn_0 : List UInt8 := dkwX1_burn_0 ++ dktX1_burn_1
theorem dksX1_burn_0 : cX1_burn.data.toList.drop 0 = dktX1_burn_0 := by decide +kernel
theorem dksX1_burn_1 : cX1_burn.data.toList.drop 22 = dktX1_burn_1 := dk_seg dksX1_burn_0 22 rfl rfl
theorem dksX1_burn_2 : cX1_burn.data.toList.drop 45 = dktX1_burn_2 := dk_seg dksX1_burn_1 23 rfl rfl
theorem dksX1_burn_3 : cX1_burn.data.toList.drop 68 = dktX1_burn_3 := dk_seg dksX1_burn_2 23 rfl rfl
theorem dksX1_burn_4 : cX1_burn.data.toList.drop 90 = dktX1_burn_4 := dk_seg dksX1_burn_3 22 rfl rfl
theorem dksX1_burn_5 : cX1_burn.data.toList.drop 113 = dktX1_burn_5 := dk_seg dksX1_burn_4 23 rfl rfl
theorem dksX1_burn_6 : cX1_burn.data.toList.drop 135 = dktX1_burn_6 := dk_seg dksX1_burn_5 22 rfl rfl
theorem dX1_burn_0 : decode cX1_burn 0 = .ok (.iload_n 1, 1) := dk_27 (dk_at dksX1_burn_0 0 rfl rfl)
theorem dX1_burn_1 : decode cX1_burn 1 = .ok (.aload_n 0, 1) := dk_42 (dk_at dksX1_burn_0 1 rfl rfl)
theorem dX1_burn_2 : decode cX1_burn 2 = .ok (.getfield 10, 3) := dk_180 0 10 (dk_at dksX1_burn_0 2 rfl rfl)
theorem dX1_burn_5 : decode cX1_burn 5 = .ok (.getfield 374, 3) := dk_180 1 118 (dk_at dksX1_burn_0 5 rfl rfl)
theorem dX1_burn_8 : decode cX1_burn 8 = .ok (.invokevirtual 59, 3) := dk_182 0 59 (dk_at dksX1_burn_0 8 rfl rfl)
theorem dX1_burn_11 : decode cX1_burn 11 = .ok (.invokestatic 360, 3) := dk_184 1 104 (dk_at dksX1_burn_0 11 rfl rfl)
theorem dX1_burn_14 : decode cX1_burn 14 = .ok (.iload_n 2, 1) := dk_28 (dk_at dksX1_burn_0 14 rfl rfl)
theorem dX1_burn_15 : decode cX1_burn 15 = .ok (.aload_n 0, 1) := dk_42 (dk_at dksX1_burn_0 15 rfl rfl)
theorem dX1_burn_16 : decode cX1_burn 16 = .ok (.getfield 10, 3) := dk_180 0 10 (dk_at dksX1_burn_0 16 rfl rfl)
theorem dX1_burn_19 : decode cX1_burn 19 = .ok (.getfield 374, 3) := dk_180 1 118 (dk_at dksX1_burn_0 19 rfl rfl)
theorem dX1_burn_22 : decode cX1_burn 22 = .ok (.invokevirtual 59, 3) := dk_182 0 59 (dk_at dksX1_burn_1 0 rfl rfl)
theorem dX1_burn_25 : decode cX1_burn 25 = .ok (.invokestatic 360, 3) := dk_184 1 104 (dk_at dksX1_burn_1 3 rfl rfl)
theorem dX1_burn_28 : decode cX1_burn 28 = .ok (.iload_n 1, 1) := dk_27 (dk_at dksX1_burn_1 6 rfl rfl)
theorem dX1_burn_29 : decode cX1_burn 29 = .ok (.iload_n 2, 1) := dk_28 (dk_at dksX1_burn_1 7 rfl rfl)
theorem dX1_burn_30 : decode cX1_burn 30 = .ok (.if_icmp .gt 7, 3) := dk_163 0 7 (dk_at dksX1_burn_1 8 rfl rfl)
theorem dX1_burn_33 : decode cX1_burn 33 = .ok (.iconst 1, 1) := dk_4 (dk_at dksX1_burn_1 11 rfl rfl)
theorem dX1_burn_34 : decode cX1_burn 34 = .ok (.goto 4, 3) := dk_167 0 4 (dk_at dksX1_burn_1 12 rfl rfl)
theorem dX1_burn_37 : decode cX1_burn 37 = .ok (.iconst 0, 1) := dk_3 (dk_at dksX1_burn_1 15 rfl rfl)
theorem dX1_burn_38 : decode cX1_burn 38 = .ok (.invokestatic 403, 3) := dk_184 1 147 (dk_at dksX1_burn_1 16 rfl rfl)
theorem dX1_burn_41 : decode cX1_burn 41 = .ok (.aload_n 0, 1) := dk_42 (dk_at dksX1_burn_1 19 rfl rfl)
theorem dX1_burn_42 : decode cX1_burn 42 = .ok (.getfield 10, 3) := dk_180 0 10 (dk_at dksX1_burn_1 20 rfl rfl)
theorem dX1_burn_45 : decode cX1_burn 45 = .ok (.invokevirtual 468, 3) := dk_182 1 212 (dk_at dksX1_burn_2 0 rfl rfl)
theorem dX1_burn_48 : decode cX1_burn 48 = .ok (.istore_n 3, 1) := dk_62 (dk_at dksX1_burn_2 3 rfl rfl)
theorem dX1_burn_49 : decode cX1_burn 49 = .ok (.iload_n 1, 1) := dk_27 (dk_at dksX1_burn_2 4 rfl rfl)
theorem dX1_burn_50 : decode cX1_burn 50 = .ok (.istore 4, 2) := dk_54 4 (dk_at dksX1_burn_2 5 rfl rfl)
theorem dX1_burn_52 : decode cX1_burn 52 = .ok (.iload 4, 2) := dk_21 4 (dk_at dksX1_burn_2 7 rfl rfl)
theorem dX1_burn_54 : decode cX1_burn 54 = .ok (.iload_n 2, 1) := dk_28 (dk_at dksX1_burn_2 9 rfl rfl)
theorem dX1_burn_55 : decode cX1_burn 55 = .ok (.if_icmp .gt 38, 3) := dk_163 0 38 (dk_at dksX1_burn_2 10 rfl rfl)
theorem dX1_burn_58 : decode cX1_burn 58 = .ok (.iload_n 3, 1) := dk_29 (dk_at dksX1_burn_2 13 rfl rfl)
theorem dX1_burn_59 : decode cX1_burn 59 = .ok (.aload_n 0, 1) := dk_42 (dk_at dksX1_burn_2 14 rfl rfl)
theorem dX1_burn_60 : decode cX1_burn 60 = .ok (.getfield 10, 3) := dk_180 0 10 (dk_at dksX1_burn_2 15 rfl rfl)
theorem dX1_burn_63 : decode cX1_burn 63 = .ok (.getfield 374, 3) := dk_180 1 118 (dk_at dksX1_burn_2 18 rfl rfl)
theorem dX1_burn_66 : decode cX1_burn 66 = .ok (.iload 4, 2) := dk_21 4 (dk_at dksX1_burn_2 21 rfl rfl)
theorem dX1_burn_68 : decode cX1_burn 68 = .ok (.invokevirtual 313, 3) := dk_182 1 57 (dk_at dksX1_burn_3 0 rfl rfl)
theorem dX1_burn_71 : decode cX1_burn 71 = .ok (.checkcast 377, 3) := dk_192 1 121 (dk_at dksX1_burn_3 3 rfl rfl)
theorem dX1_burn_74 : decode cX1_burn 74 = .ok (.getfield 396, 3) := dk_180 1 140 (dk_at dksX1_burn_3 6 rfl rfl)
theorem dX1_burn_77 : decode cX1_burn 77 = .ok (.ifCond .eq 7, 3) := dk_153 0 7 (dk_at dksX1_burn_3 9 rfl rfl)
theorem dX1_burn_80 : decode cX1_burn 80 = .ok (.iconst 0, 1) := dk_3 (dk_at dksX1_burn_3 12 rfl rfl)
theorem dX1_burn_81 : decode cX1_burn 81 = .ok (.goto 4, 3) := dk_167 0 4 (dk_at dksX1_burn_3 13 rfl rfl)
theorem dX1_burn_84 : decode cX1_burn 84 = .ok (.iconst 1, 1) := dk_4 (dk_at dksX1_burn_3 16 rfl rfl)
theorem dX1_burn_85 : decode cX1_burn 85 = .ok (.iadd, 1) := dk_96 (dk_at dksX1_burn_3 17 rfl rfl)
theorem dX1_burn_86 : decode cX1_burn 86 = .ok (.istore_n 3, 1) := dk_62 (dk_at dksX1_burn_3 18 rfl rfl)
theorem dX1_burn_87 : decode cX1_burn 87 = .ok (.iinc 4 1, 3) := dk_132 4 1 (dk_at dksX1_burn_3 19 rfl rfl)
theorem dX1_burn_90 : decode cX1_burn 90 = .ok (.goto (-38), 3) := dk_167 255 218 (dk_at dksX1_burn_4 0 rfl rfl)
theorem dX1_burn_93 : decode cX1_burn 93 = .ok (.iload_n 3, 1) := dk_29 (dk_at dksX1_burn_4 3 rfl rfl)
theorem dX1_burn_94 : decode cX1_burn 94 = .ok (.bipush 16, 2) := dk_16 16 (dk_at dksX1_burn_4 4 rfl rfl)
theorem dX1_burn_96 : decode cX1_burn 96 = .ok (.if_icmp .gt 7, 3) := dk_163 0 7 (dk_at dksX1_burn_4 6 rfl rfl)
theorem dX1_burn_99 : decode cX1_burn 99 = .ok (.iconst 1, 1) := dk_4 (dk_at dksX1_burn_4 9 rfl rfl)
theorem dX1_burn_100 : decode cX1_burn 100 = .ok (.goto 4, 3) := dk_167 0 4 (dk_at dksX1_burn_4 10 rfl rfl)
theorem dX1_burn_103 : decode cX1_burn 103 = .ok (.iconst 0, 1) := dk_3 (dk_at dksX1_burn_4 13 rfl rfl)
theorem dX1_burn_104 : decode cX1_burn 104 = .ok (.invokestatic 418, 3) := dk_184 1 162 (dk_at dksX1_burn_4 14 rfl rfl)
theorem dX1_burn_107 : decode cX1_burn 107 = .ok (.iload_n 1, 1) := dk_27 (dk_at dksX1_burn_4 17 rfl rfl)
theorem dX1_burn_108 : decode cX1_burn 108 = .ok (.istore 4, 2) := dk_54 4 (dk_at dksX1_burn_4 18 rfl rfl)
theorem dX1_burn_110 : decode cX1_burn 110 = .ok (.iload 4, 2) := dk_21 4 (dk_at dksX1_burn_4 20 rfl rfl)
theorem dX1_burn_112 : decode cX1_burn 112 = .ok (.iload_n 2, 1) := dk_28 (dk_at dksX1_burn_4 22 rfl rfl)
theorem dX1_burn_113 : decode cX1_burn 113 = .ok (.if_icmp .gt 28, 3) := dk_163 0 28 (dk_at dksX1_burn_5 0 rfl rfl)
theorem dX1_burn_116 : decode cX1_burn 116 = .ok (.aload_n 0, 1) := dk_42 (dk_at dksX1_burn_5 3 rfl rfl)
theorem dX1_burn_117 : decode cX1_burn 117 = .ok (.getfield 10, 3) := dk_180 0 10 (dk_at dksX1_burn_5 4 rfl rfl)
theorem dX1_burn_120 : decode cX1_burn 120 = .ok (.getfield 374, 3) := dk_180 1 118 (dk_at dksX1_burn_5 7 rfl rfl)
theorem dX1_burn_123 : decode cX1_burn 123 = .ok (.iload 4, 2) := dk_21 4 (dk_at dksX1_burn_5 10 rfl rfl)
theorem dX1_burn_125 : decode cX1_burn 125 = .ok (.invokevirtual 313, 3) := dk_182 1 57 (dk_at dksX1_burn_5 12 rfl rfl)
theorem dX1_burn_128 : decode cX1_burn 128 = .ok (.checkcast 377, 3) := dk_192 1 121 (dk_at dksX1_burn_5 15 rfl rfl)
theorem dX1_burn_131 : decode cX1_burn 131 = .ok (.iconst 1, 1) := dk_4 (dk_at dksX1_burn_5 18 rfl rfl)
theorem dX1_burn_132 : decode cX1_burn 132 = .ok (.putfield 396, 3) := dk_181 1 140 (dk_at dksX1_burn_5 19 rfl rfl)
theorem dX1_burn_135 : decode cX1_burn 135 = .ok (.iinc 4 1, 3) := dk_132 4 1 (dk_at dksX1_burn_6 0 rfl rfl)
theorem dX1_burn_138 : decode cX1_burn 138 = .ok (.goto (-28), 3) := dk_167 255 228 (dk_at dksX1_burn_6 3 rfl rfl)
theorem dX1_burn_141 : decode cX1_burn 141 = .ok (.iload_n 3, 1) := dk_29 (dk_at dksX1_burn_6 6 rfl rfl)
theorem dX1_burn_142 : decode cX1_burn 142 = .ok (.ireturn, 1) := dk_172 (dk_at dksX1_burn_6 7 rfl rfl)
abbrev cX1_span : ByteArray := prog_1_method_52_code
def yX1_span : MethodName := ⟨RX1, "span", "(IZ)I"⟩
def dkwX1_span_2 : List UInt8 := [167, 0, 5, 21, 4, 46, 96, 62, 132, 4, 1, 167, 255, 217, 29, 172]
abbrev dktX1_span_2 : List UInt8 := dkwX1_span_2 ++ []
def dkwX1_span_1 : List UInt8 := [182, 1, 223, 162, 0, 35, 29, 42, 180, 0, 39, 28, 153, 0, 15, 42, 180, 1, 214, 4, 100, 21, 4, 100]
abbrev dktX1_span_1 : List UInt8 := dkwX1_span_1 ++ dktX1_span_2
def dkwX1_span_0 : List UInt8 := [42, 27, 182, 1, 107, 42, 182, 1, 217, 42, 27, 182, 1, 220, 62, 3, 54, 4, 21, 4, 42, 27]
abbrev dktX1_span_0 : List UInt8 := dkwX1_span_0 ++ dktX1_span_1
theorem dksX1_span_0 : cX1_span.data.toList.drop 0 = dktX1_span_0 := by decide +kernel
theorem dksX1_span_1 : cX1_span.data.toList.drop 22 = dktX1_span_1 := dk_seg dksX1_span_0 22 rfl rfl
theorem dksX1_span_2 : cX1_span.data.toList.drop 46 = dktX1_span_2 := dk_seg dksX1_span_1 24 rfl rfl
theorem dX1_span_0 : decode cX1_span 0 = .ok (.aload_n 0, 1) := dk_42 (dk_at dksX1_span_0 0 rfl rfl)
theorem dX1_span_1 : decode cX1_span 1 = .ok (.iload_n 1, 1) := dk_27 (dk_at dksX1_span_0 1 rfl rfl)
theorem dX1_span_2 : decode cX1_span 2 = .ok (.invokevirtual 363, 3) := dk_182 1 107 (dk_at dksX1_span_0 2 rfl rfl)
theorem dX1_span_5 : decode cX1_span 5 = .ok (.aload_n 0, 1) := dk_42 (dk_at dksX1_span_0 5 rfl rfl)
theorem dX1_span_6 : decode cX1_span 6 = .ok (.invokevirtual 473, 3) := dk_182 1 217 (dk_at dksX1_span_0 6 rfl rfl)
theorem dX1_span_9 : decode cX1_span 9 = .ok (.aload_n 0, 1) := dk_42 (dk_at dksX1_span_0 9 rfl rfl)
theorem dX1_span_10 : decode cX1_span 10 = .ok (.iload_n 1, 1) := dk_27 (dk_at dksX1_span_0 10 rfl rfl)
theorem dX1_span_11 : decode cX1_span 11 = .ok (.invokevirtual 476, 3) := dk_182 1 220 (dk_at dksX1_span_0 11 rfl rfl)
theorem dX1_span_14 : decode cX1_span 14 = .ok (.istore_n 3, 1) := dk_62 (dk_at dksX1_span_0 14 rfl rfl)
theorem dX1_span_15 : decode cX1_span 15 = .ok (.iconst 0, 1) := dk_3 (dk_at dksX1_span_0 15 rfl rfl)
theorem dX1_span_16 : decode cX1_span 16 = .ok (.istore 4, 2) := dk_54 4 (dk_at dksX1_span_0 16 rfl rfl)
theorem dX1_span_18 : decode cX1_span 18 = .ok (.iload 4, 2) := dk_21 4 (dk_at dksX1_span_0 18 rfl rfl)
theorem dX1_span_20 : decode cX1_span 20 = .ok (.aload_n 0, 1) := dk_42 (dk_at dksX1_span_0 20 rfl rfl)
theorem dX1_span_21 : decode cX1_span 21 = .ok (.iload_n 1, 1) := dk_27 (dk_at dksX1_span_0 21 rfl rfl)
theorem dX1_span_22 : decode cX1_span 22 = .ok (.invokevirtual 479, 3) := dk_182 1 223 (dk_at dksX1_span_1 0 rfl rfl)
theorem dX1_span_25 : decode cX1_span 25 = .ok (.if_icmp .ge 35, 3) := dk_162 0 35 (dk_at dksX1_span_1 3 rfl rfl)
theorem dX1_span_28 : decode cX1_span 28 = .ok (.iload_n 3, 1) := dk_29 (dk_at dksX1_span_1 6 rfl rfl)
theorem dX1_span_29 : decode cX1_span 29 = .ok (.aload_n 0, 1) := dk_42 (dk_at dksX1_span_1 7 rfl rfl)
theorem dX1_span_30 : decode cX1_span 30 = .ok (.getfield 39, 3) := dk_180 0 39 (dk_at dksX1_span_1 8 rfl rfl)
theorem dX1_span_33 : decode cX1_span 33 = .ok (.iload_n 2, 1) := dk_28 (dk_at dksX1_span_1 11 rfl rfl)
theorem dX1_span_34 : decode cX1_span 34 = .ok (.ifCond .eq 15, 3) := dk_153 0 15 (dk_at dksX1_span_1 12 rfl rfl)
theorem dX1_span_37 : decode cX1_span 37 = .ok (.aload_n 0, 1) := dk_42 (dk_at dksX1_span_1 15 rfl rfl)
theorem dX1_span_38 : decode cX1_span 38 = .ok (.getfield 470, 3) := dk_180 1 214 (dk_at dksX1_span_1 16 rfl rfl)
theorem dX1_span_41 : decode cX1_span 41 = .ok (.iconst 1, 1) := dk_4 (dk_at dksX1_span_1 19 rfl rfl)
theorem dX1_span_42 : decode cX1_span 42 = .ok (.isub, 1) := dk_100 (dk_at dksX1_span_1 20 rfl rfl)
theorem dX1_span_43 : decode cX1_span 43 = .ok (.iload 4, 2) := dk_21 4 (dk_at dksX1_span_1 21 rfl rfl)
theorem dX1_span_45 : decode cX1_span 45 = .ok (.isub, 1) := dk_100 (dk_at dksX1_span_1 23 rfl rfl)
theorem dX1_span_46 : decode cX1_span 46 = .ok (.goto 5, 3) := dk_167 0 5 (dk_at dksX1_span_2 0 rfl rfl)
theorem dX1_span_49 : decode cX1_span 49 = .ok (.iload 4, 2) := dk_21 4 (dk_at dksX1_span_2 3 rfl rfl)
theorem dX1_span_51 : decode cX1_span 51 = .ok (.iaload, 1) := dk_46 (dk_at dksX1_span_2 5 rfl rfl)
theorem dX1_span_52 : decode cX1_span 52 = .ok (.iadd, 1) := dk_96 (dk_at dksX1_span_2 6 rfl rfl)
theorem dX1_span_53 : decode cX1_span 53 = .ok (.istore_n 3, 1) := dk_62 (dk_at dksX1_span_2 7 rfl rfl)
theorem dX1_span_54 : decode cX1_span 54 = .ok (.iinc 4 1, 3) := dk_132 4 1 (dk_at dksX1_span_2 8 rfl rfl)
theorem dX1_span_57 : decode cX1_span 57 = .ok (.goto (-39), 3) := dk_167 255 217 (dk_at dksX1_span_2 11 rfl rfl)
theorem dX1_span_60 : decode cX1_span 60 = .ok (.iload_n 3, 1) := dk_29 (dk_at dksX1_span_2 14 rfl rfl)
theorem dX1_span_61 : decode cX1_span 61 = .ok (.ireturn, 1) := dk_172 (dk_at dksX1_span_2 15 rfl rfl)
abbrev cX1_sifts : ByteArray := prog_1_method_49_code
def yX1_sifts : MethodName := ⟨RX1, "sifts", "()V"⟩
def dkwX1_sifts_4 : List UInt8 := [29, 44, 180, 1, 137, 79, 42, 89, 180, 1, 214, 4, 96, 181, 1, 214, 132, 1, 1, 167, 255, 150, 177]
abbrev dktX1_sifts_4 : List UInt8 := dkwX1_sifts_4 ++ []
def dkwX1_sifts_3 : List UInt8 := [42, 180, 0, 39, 29, 42, 180, 0, 39, 29, 4, 100, 46, 79, 132, 3, 255, 167, 255, 220, 42, 180, 0, 39]
abbrev dktX1_sifts_3 : List UInt8 := dkwX1_sifts_3 ++ dktX1_sifts_4
def dkwX1_sifts_2 : List UInt8 := [42, 180, 1, 214, 62, 29, 158, 0, 38, 42, 180, 0, 39, 29, 4, 100, 46, 44, 180, 1, 137, 164, 0, 23]
abbrev dktX1_sifts_2 : List UInt8 := dkwX1_sifts_2 ++ dktX1_sifts_3
def dkwX1_sifts_1 : List UInt8 := [180, 0, 10, 180, 1, 118, 27, 182, 1, 57, 192, 1, 121, 77, 44, 180, 1, 140, 154, 0, 6, 167, 0, 67]
abbrev dktX1_sifts_1 : List UInt8 := dkwX1_sifts_1 ++ dktX1_sifts_2
def dkwX1_sifts_0 : List UInt8 := [42, 3, 181, 1, 214, 3, 60, 27, 42, 180, 0, 10, 180, 1, 118, 182, 0, 59, 162, 0, 98, 42]
abbrev dktX1_sifts_0 : List UInt8 := dkwX1_sifts_0 ++ dktX1_sifts_1
theorem dksX1_sifts_0 : cX1_sifts.data.toList.drop 0 = dktX1_sifts_0 := by decide +kernel
theorem dksX1_sifts_1 : cX1_sifts.data.toList.drop 22 = dktX1_sifts_1 := dk_seg dksX1_sifts_0 22 rfl rfl
theorem dksX1_sifts_2 : cX1_sifts.data.toList.drop 46 = dktX1_sifts_2 := dk_seg dksX1_sifts_1 24 rfl rfl
theorem dksX1_sifts_3 : cX1_sifts.data.toList.drop 70 = dktX1_sifts_3 := dk_seg dksX1_sifts_2 24 rfl rfl
theorem dksX1_sifts_4 : cX1_sifts.data.toList.drop 94 = dktX1_sifts_4 := dk_seg dksX1_sifts_3 24 rfl rfl
theorem dX1_sifts_0 : decode cX1_sifts 0 = .ok (.aload_n 0, 1) := dk_42 (dk_at dksX1_sifts_0 0 rfl rfl)
theorem dX1_sifts_1 : decode cX1_sifts 1 = .ok (.iconst 0, 1) := dk_3 (dk_at dksX1_sifts_0 1 rfl rfl)
theorem dX1_sifts_2 : decode cX1_sifts 2 = .ok (.putfield 470, 3) := dk_181 1 214 (dk_at dksX1_sifts_0 2 rfl rfl)
theorem dX1_sifts_5 : decode cX1_sifts 5 = .ok (.iconst 0, 1) := dk_3 (dk_at dksX1_sifts_0 5 rfl rfl)
theorem dX1_sifts_6 : decode cX1_sifts 6 = .ok (.istore_n 1, 1) := dk_60 (dk_at dksX1_sifts_0 6 rfl rfl)
theorem dX1_sifts_7 : decode cX1_sifts 7 = .ok (.iload_n 1, 1) := dk_27 (dk_at dksX1_sifts_0 7 rfl rfl)
theorem dX1_sifts_8 : decode cX1_sifts 8 = .ok (.aload_n 0, 1) := dk_42 (dk_at dksX1_sifts_0 8 rfl rfl)
theorem dX1_sifts_9 : decode cX1_sifts 9 = .ok (.getfield 10, 3) := dk_180 0 10 (dk_at dksX1_sifts_0 9 rfl rfl)
theorem dX1_sifts_12 : decode cX1_sifts 12 = .ok (.getfield 374, 3) := dk_180 1 118 (dk_at dksX1_sifts_0 12 rfl rfl)
theorem dX1_sifts_15 : decode cX1_sifts 15 = .ok (.invokevirtual 59, 3) := dk_182 0 59 (dk_at dksX1_sifts_0 15 rfl rfl)
theorem dX1_sifts_18 : decode cX1_sifts 18 = .ok (.if_icmp .ge 98, 3) := dk_162 0 98 (dk_at dksX1_sifts_0 18 rfl rfl)
theorem dX1_sifts_21 : decode cX1_sifts 21 = .ok (.aload_n 0, 1) := dk_42 (dk_at dksX1_sifts_0 21 rfl rfl)
theorem dX1_sifts_22 : decode cX1_sifts 22 = .ok (.getfield 10, 3) := dk_180 0 10 (dk_at dksX1_sifts_1 0 rfl rfl)
theorem dX1_sifts_25 : decode cX1_sifts 25 = .ok (.getfield 374, 3) := dk_180 1 118 (dk_at dksX1_sifts_1 3 rfl rfl)
theorem dX1_sifts_28 : decode cX1_sifts 28 = .ok (.iload_n 1, 1) := dk_27 (dk_at dksX1_sifts_1 6 rfl rfl)
theorem dX1_sifts_29 : decode cX1_sifts 29 = .ok (.invokevirtual 313, 3) := dk_182 1 57 (dk_at dksX1_sifts_1 7 rfl rfl)
theorem dX1_sifts_32 : decode cX1_sifts 32 = .ok (.checkcast 377, 3) := dk_192 1 121 (dk_at dksX1_sifts_1 10 rfl rfl)
theorem dX1_sifts_35 : decode cX1_sifts 35 = .ok (.astore_n 2, 1) := dk_77 (dk_at dksX1_sifts_1 13 rfl rfl)
theorem dX1_sifts_36 : decode cX1_sifts 36 = .ok (.aload_n 2, 1) := dk_44 (dk_at dksX1_sifts_1 14 rfl rfl)
theorem dX1_sifts_37 : decode cX1_sifts 37 = .ok (.getfield 396, 3) := dk_180 1 140 (dk_at dksX1_sifts_1 15 rfl rfl)
theorem dX1_sifts_40 : decode cX1_sifts 40 = .ok (.ifCond .ne 6, 3) := dk_154 0 6 (dk_at dksX1_sifts_1 18 rfl rfl)
theorem dX1_sifts_43 : decode cX1_sifts 43 = .ok (.goto 67, 3) := dk_167 0 67 (dk_at dksX1_sifts_1 21 rfl rfl)
theorem dX1_sifts_46 : decode cX1_sifts 46 = .ok (.aload_n 0, 1) := dk_42 (dk_at dksX1_sifts_2 0 rfl rfl)
theorem dX1_sifts_47 : decode cX1_sifts 47 = .ok (.getfield 470, 3) := dk_180 1 214 (dk_at dksX1_sifts_2 1 rfl rfl)
theorem dX1_sifts_50 : decode cX1_sifts 50 = .ok (.istore_n 3, 1) := dk_62 (dk_at dksX1_sifts_2 4 rfl rfl)
theorem dX1_sifts_51 : decode cX1_sifts 51 = .ok (.iload_n 3, 1) := dk_29 (dk_at dksX1_sifts_2 5 rfl rfl)
theorem dX1_sifts_52 : decode cX1_sifts 52 = .ok (.ifCond .le 38, 3) := dk_158 0 38 (dk_at dksX1_sifts_2 6 rfl rfl)
theorem dX1_sifts_55 : decode cX1_sifts 55 = .ok (.aload_n 0, 1) := dk_42 (dk_at dksX1_sifts_2 9 rfl rfl)
theorem dX1_sifts_56 : decode cX1_sifts 56 = .ok (.getfield 39, 3) := dk_180 0 39 (dk_at dksX1_sifts_2 10 rfl rfl)
theorem dX1_sifts_59 : decode cX1_sifts 59 = .ok (.iload_n 3, 1) := dk_29 (dk_at dksX1_sifts_2 13 rfl rfl)
theorem dX1_sifts_60 : decode cX1_sifts 60 = .ok (.iconst 1, 1) := dk_4 (dk_at dksX1_sifts_2 14 rfl rfl)
theorem dX1_sifts_61 : decode cX1_sifts 61 = .ok (.isub, 1) := dk_100 (dk_at dksX1_sifts_2 15 rfl rfl)
theorem dX1_sifts_62 : decode cX1_sifts 62 = .ok (.iaload, 1) := dk_46 (dk_at dksX1_sifts_2 16 rfl rfl)
theorem dX1_sifts_63 : decode cX1_sifts 63 = .ok (.aload_n 2, 1) := dk_44 (dk_at dksX1_sifts_2 17 rfl rfl)
theorem dX1_sifts_64 : decode cX1_sifts 64 = .ok (.getfield 393, 3) := dk_180 1 137 (dk_at dksX1_sifts_2 18 rfl rfl)
theorem dX1_sifts_67 : decode cX1_sifts 67 = .ok (.if_icmp .le 23, 3) := dk_164 0 23 (dk_at dksX1_sifts_2 21 rfl rfl)
theorem dX1_sifts_70 : decode cX1_sifts 70 = .ok (.aload_n 0, 1) := dk_42 (dk_at dksX1_sifts_3 0 rfl rfl)
theorem dX1_sifts_71 : decode cX1_sifts 71 = .ok (.getfield 39, 3) := dk_180 0 39 (dk_at dksX1_sifts_3 1 rfl rfl)
theorem dX1_sifts_74 : decode cX1_sifts 74 = .ok (.iload_n 3, 1) := dk_29 (dk_at dksX1_sifts_3 4 rfl rfl)
theorem dX1_sifts_75 : decode cX1_sifts 75 = .ok (.aload_n 0, 1) := dk_42 (dk_at dksX1_sifts_3 5 rfl rfl)
theorem dX1_sifts_76 : decode cX1_sifts 76 = .ok (.getfield 39, 3) := dk_180 0 39 (dk_at dksX1_sifts_3 6 rfl rfl)
theorem dX1_sifts_79 : decode cX1_sifts 79 = .ok (.iload_n 3, 1) := dk_29 (dk_at dksX1_sifts_3 9 rfl rfl)
theorem dX1_sifts_80 : decode cX1_sifts 80 = .ok (.iconst 1, 1) := dk_4 (dk_at dksX1_sifts_3 10 rfl rfl)
theorem dX1_sifts_81 : decode cX1_sifts 81 = .ok (.isub, 1) := dk_100 (dk_at dksX1_sifts_3 11 rfl rfl)
theorem dX1_sifts_82 : decode cX1_sifts 82 = .ok (.iaload, 1) := dk_46 (dk_at dksX1_sifts_3 12 rfl rfl)
theorem dX1_sifts_83 : decode cX1_sifts 83 = .ok (.iastore, 1) := dk_79 (dk_at dksX1_sifts_3 13 rfl rfl)
theorem dX1_sifts_84 : decode cX1_sifts 84 = .ok (.iinc 3 (-1), 3) := dk_132 3 255 (dk_at dksX1_sifts_3 14 rfl rfl)
theorem dX1_sifts_87 : decode cX1_sifts 87 = .ok (.goto (-36), 3) := dk_167 255 220 (dk_at dksX1_sifts_3 17 rfl rfl)
theorem dX1_sifts_90 : decode cX1_sifts 90 = .ok (.aload_n 0, 1) := dk_42 (dk_at dksX1_sifts_3 20 rfl rfl)
theorem dX1_sifts_91 : decode cX1_sifts 91 = .ok (.getfield 39, 3) := dk_180 0 39 (dk_at dksX1_sifts_3 21 rfl rfl)
theorem dX1_sifts_94 : decode cX1_sifts 94 = .ok (.iload_n 3, 1) := dk_29 (dk_at dksX1_sifts_4 0 rfl rfl)
theorem dX1_sifts_95 : decode cX1_sifts 95 = .ok (.aload_n 2, 1) := dk_44 (dk_at dksX1_sifts_4 1 rfl rfl)
theorem dX1_sifts_96 : decode cX1_sifts 96 = .ok (.getfield 393, 3) := dk_180 1 137 (dk_at dksX1_sifts_4 2 rfl rfl)
theorem dX1_sifts_99 : decode cX1_sifts 99 = .ok (.iastore, 1) := dk_79 (dk_at dksX1_sifts_4 5 rfl rfl)
theorem dX1_sifts_100 : decode cX1_sifts 100 = .ok (.aload_n 0, 1) := dk_42 (dk_at dksX1_sifts_4 6 rfl rfl)
theorem dX1_sifts_101 : decode cX1_sifts 101 = .ok (.dup, 1) := dk_89 (dk_at dksX1_sifts_4 7 rfl rfl)
theorem dX1_sifts_102 : decode cX1_sifts 102 = .ok (.getfield 470, 3) := dk_180 1 214 (dk_at dksX1_sifts_4 8 rfl rfl)
theorem dX1_sifts_105 : decode cX1_sifts 105 = .ok (.iconst 1, 1) := dk_4 (dk_at dksX1_sifts_4 11 rfl rfl)
theorem dX1_sifts_106 : decode cX1_sifts 106 = .ok (.iadd, 1) := dk_96 (dk_at dksX1_sifts_4 12 rfl rfl)
theorem dX1_sifts_107 : decode cX1_sifts 107 = .ok (.putfield 470, 3) := dk_181 1 214 (dk_at dksX1_sifts_4 13 rfl rfl)
theorem dX1_sifts_110 : decode cX1_sifts 110 = .ok (.iinc 1 1, 3) := dk_132 1 1 (dk_at dksX1_sifts_4 16 rfl rfl)
theorem dX1_sifts_113 : decode cX1_sifts 113 = .ok (.goto (-106), 3) := dk_167 255 150 (dk_at dksX1_sifts_4 19 rfl rfl)
theorem dX1_sifts_116 : decode cX1_sifts 116 = .ok (.return_, 1) := dk_177 (dk_at dksX1_sifts_4 22 rfl rfl)
abbrev cX1_known : ByteArray := prog_1_method_50_code
def yX1_known : MethodName := ⟨RX1, "known", "(I)I"⟩
def dkwX1_known_3 : List UInt8 := [172]
abbrev dktX1_known_3 : List UInt8 := dkwX1_known_3 ++ []
def dkwX1_known_2 : List UInt8 := [180, 1, 140, 154, 0, 11, 25, 4, 180, 1, 137, 167, 0, 4, 3, 96, 61, 132, 3, 1, 167, 255, 194, 28]
abbrev dktX1_known_2 : List UInt8 := dkwX1_known_2 ++ dktX1_known_3
def dkwX1_known_1 : List UInt8 := [180, 1, 118, 29, 182, 1, 57, 192, 1, 121, 58, 4, 28, 25, 4, 180, 1, 143, 27, 160, 0, 19, 25, 4]
abbrev dktX1_known_1 : List UInt8 := dkwX1_known_1 ++ dktX1_known_2
def dkwX1_known_0 : List UInt8 := [3, 61, 3, 62, 29, 42, 180, 0, 10, 180, 1, 118, 182, 0, 59, 162, 0, 54, 42, 180, 0, 10]
abbrev dktX1_known_0 : List UInt8 := dkwX1_known_0 ++ dktX1_known_1
theorem dksX1_known_0 : cX1_known.data.toList.drop 0 = dktX1_known_0 := by decide +kernel
theorem dksX1_known_1 : cX1_known.data.toList.drop 22 = dktX1_known_1 := dk_seg dksX1_known_0 22 rfl rfl
theorem dksX1_known_2 : cX1_known.data.toList.drop 46 = dktX1_known_2 := dk_seg dksX1_known_1 24 rfl rfl
theorem dksX1_known_3 : cX1_known.data.toList.drop 70 = dktX1_known_3 := dk_seg dksX1_known_2 24 rfl rfl
theorem dX1_known_0 : decode cX1_known 0 = .ok (.iconst 0, 1) := dk_3 (dk_at dksX1_known_0 0 rfl rfl)
theorem dX1_known_1 : decode cX1_known 1 = .ok (.istore_n 2, 1) := dk_61 (dk_at dksX1_known_0 1 rfl rfl)
theorem dX1_known_2 : decode cX1_known 2 = .ok (.iconst 0, 1) := dk_3 (dk_at dksX1_known_0 2 rfl rfl)
theorem dX1_known_3 : decode cX1_known 3 = .ok (.istore_n 3, 1) := dk_62 (dk_at dksX1_known_0 3 rfl rfl)
theorem dX1_known_4 : decode cX1_known 4 = .ok (.iload_n 3, 1) := dk_29 (dk_at dksX1_known_0 4 rfl rfl)
theorem dX1_known_5 : decode cX1_known 5 = .ok (.aload_n 0, 1) := dk_42 (dk_at dksX1_known_0 5 rfl rfl)
theorem dX1_known_6 : decode cX1_known 6 = .ok (.getfield 10, 3) := dk_180 0 10 (dk_at dksX1_known_0 6 rfl rfl)
theorem dX1_known_9 : decode cX1_known 9 = .ok (.getfield 374, 3) := dk_180 1 118 (dk_at dksX1_known_0 9 rfl rfl)
theorem dX1_known_12 : decode cX1_known 12 = .ok (.invokevirtual 59, 3) := dk_182 0 59 (dk_at dksX1_known_0 12 rfl rfl)
theorem dX1_known_15 : decode cX1_known 15 = .ok (.if_icmp .ge 54, 3) := dk_162 0 54 (dk_at dksX1_known_0 15 rfl rfl)
theorem dX1_known_18 : decode cX1_known 18 = .ok (.aload_n 0, 1) := dk_42 (dk_at dksX1_known_0 18 rfl rfl)
theorem dX1_known_19 : decode cX1_known 19 = .ok (.getfield 10, 3) := dk_180 0 10 (dk_at dksX1_known_0 19 rfl rfl)
theorem dX1_known_22 : decode cX1_known 22 = .ok (.getfield 374, 3) := dk_180 1 118 (dk_at dksX1_known_1 0 rfl rfl)
theorem dX1_known_25 : decode cX1_known 25 = .ok (.iload_n 3, 1) := dk_29 (dk_at dksX1_known_1 3 rfl rfl)
theorem dX1_known_26 : decode cX1_known 26 = .ok (.invokevirtual 313, 3) := dk_182 1 57 (dk_at dksX1_known_1 4 rfl rfl)
theorem dX1_known_29 : decode cX1_known 29 = .ok (.checkcast 377, 3) := dk_192 1 121 (dk_at dksX1_known_1 7 rfl rfl)
theorem dX1_known_32 : decode cX1_known 32 = .ok (.astore 4, 2) := dk_58 4 (dk_at dksX1_known_1 10 rfl rfl)
theorem dX1_known_34 : decode cX1_known 34 = .ok (.iload_n 2, 1) := dk_28 (dk_at dksX1_known_1 12 rfl rfl)
theorem dX1_known_35 : decode cX1_known 35 = .ok (.aload 4, 2) := dk_25 4 (dk_at dksX1_known_1 13 rfl rfl)
theorem dX1_known_37 : decode cX1_known 37 = .ok (.getfield 399, 3) := dk_180 1 143 (dk_at dksX1_known_1 15 rfl rfl)
theorem dX1_known_40 : decode cX1_known 40 = .ok (.iload_n 1, 1) := dk_27 (dk_at dksX1_known_1 18 rfl rfl)
theorem dX1_known_41 : decode cX1_known 41 = .ok (.if_icmp .ne 19, 3) := dk_160 0 19 (dk_at dksX1_known_1 19 rfl rfl)
theorem dX1_known_44 : decode cX1_known 44 = .ok (.aload 4, 2) := dk_25 4 (dk_at dksX1_known_1 22 rfl rfl)
theorem dX1_known_46 : decode cX1_known 46 = .ok (.getfield 396, 3) := dk_180 1 140 (dk_at dksX1_known_2 0 rfl rfl)
theorem dX1_known_49 : decode cX1_known 49 = .ok (.ifCond .ne 11, 3) := dk_154 0 11 (dk_at dksX1_known_2 3 rfl rfl)
theorem dX1_known_52 : decode cX1_known 52 = .ok (.aload 4, 2) := dk_25 4 (dk_at dksX1_known_2 6 rfl rfl)
theorem dX1_known_54 : decode cX1_known 54 = .ok (.getfield 393, 3) := dk_180 1 137 (dk_at dksX1_known_2 8 rfl rfl)
theorem dX1_known_57 : decode cX1_known 57 = .ok (.goto 4, 3) := dk_167 0 4 (dk_at dksX1_known_2 11 rfl rfl)
theorem dX1_known_60 : decode cX1_known 60 = .ok (.iconst 0, 1) := dk_3 (dk_at dksX1_known_2 14 rfl rfl)
theorem dX1_known_61 : decode cX1_known 61 = .ok (.iadd, 1) := dk_96 (dk_at dksX1_known_2 15 rfl rfl)
theorem dX1_known_62 : decode cX1_known 62 = .ok (.istore_n 2, 1) := dk_61 (dk_at dksX1_known_2 16 rfl rfl)
theorem dX1_known_63 : decode cX1_known 63 = .ok (.iinc 3 1, 3) := dk_132 3 1 (dk_at dksX1_known_2 17 rfl rfl)
theorem dX1_known_66 : decode cX1_known 66 = .ok (.goto (-62), 3) := dk_167 255 194 (dk_at dksX1_known_2 20 rfl rfl)
theorem dX1_known_69 : decode cX1_known 69 = .ok (.iload_n 2, 1) := dk_28 (dk_at dksX1_known_2 23 rfl rfl)
theorem dX1_known_70 : decode cX1_known 70 = .ok (.ireturn, 1) := dk_172 (dk_at dksX1_known_3 0 rfl rfl)
abbrev cX1_proof : ByteArray := prog_1_method_53_code
def yX1_proof : MethodName := ⟨RX1, "proof", "(II)I"⟩
def dkwX1_proof_7 : List UInt8 := [3, 172]
abbrev dktX1_proof_7 : List UInt8 := dkwX1_proof_7 ++ []
def dkwX1_proof_6 : List UInt8 := [132, 8, 1, 167, 255, 148, 21, 7, 153, 0, 7, 5, 167, 0, 13, 21, 6, 153, 0, 7, 4, 167, 0, 4]
abbrev dktX1_proof_6 : List UInt8 := dkwX1_proof_6 ++ dktX1_proof_7
def dkwX1_proof_5 : List UInt8 := [54, 6, 21, 7, 153, 0, 15, 22, 9, 22, 4, 148, 154, 0, 7, 4, 167, 0, 4, 3, 54, 7]
abbrev dktX1_proof_5 : List UInt8 := dkwX1_proof_5 ++ dktX1_proof_6
def dkwX1_proof_4 : List UInt8 := [132, 11, 1, 167, 255, 223, 21, 6, 154, 0, 11, 22, 9, 22, 4, 148, 154, 0, 7, 4, 167, 0, 4, 3]
abbrev dktX1_proof_4 : List UInt8 := dkwX1_proof_4 ++ dktX1_proof_5
def dkwX1_proof_3 : List UInt8 := [162, 0, 30, 22, 9, 21, 8, 21, 11, 122, 4, 126, 42, 180, 0, 39, 21, 11, 46, 104, 133, 97, 55, 9]
abbrev dktX1_proof_3 : List UInt8 := dkwX1_proof_3 ++ dktX1_proof_4
def dkwX1_proof_2 : List UInt8 := [184, 1, 193, 29, 159, 0, 6, 167, 0, 85, 9, 55, 9, 3, 54, 11, 21, 11, 42, 180, 1, 214]
abbrev dktX1_proof_2 : List UInt8 := dkwX1_proof_2 ++ dktX1_proof_3
def dkwX1_proof_1 : List UInt8 := [55, 4, 3, 54, 6, 4, 54, 7, 3, 54, 8, 21, 8, 4, 42, 180, 1, 214, 120, 162, 0, 103, 21, 8]
abbrev dktX1_proof_1 : List UInt8 := dkwX1_proof_1 ++ dktX1_proof_2
def dkwX1_proof_0 : List UInt8 := [42, 27, 182, 1, 107, 42, 182, 1, 217, 42, 27, 182, 1, 223, 62, 28, 133, 42, 27, 182, 1, 220, 133, 101]
abbrev dktX1_proof_0 : List UInt8 := dkwX1_proof_0 ++ dktX1_proof_1
theorem dksX1_proof_0 : cX1_proof.data.toList.drop 0 = dktX1_proof_0 := by decide +kernel
theorem dksX1_proof_1 : cX1_proof.data.toList.drop 24 = dktX1_proof_1 := dk_seg dksX1_proof_0 24 rfl rfl
theorem dksX1_proof_2 : cX1_proof.data.toList.drop 48 = dktX1_proof_2 := dk_seg dksX1_proof_1 24 rfl rfl
theorem dksX1_proof_3 : cX1_proof.data.toList.drop 70 = dktX1_proof_3 := dk_seg dksX1_proof_2 22 rfl rfl
theorem dksX1_proof_4 : cX1_proof.data.toList.drop 94 = dktX1_proof_4 := dk_seg dksX1_proof_3 24 rfl rfl
theorem dksX1_proof_5 : cX1_proof.data.toList.drop 118 = dktX1_proof_5 := dk_seg dksX1_proof_4 24 rfl rfl
theorem dksX1_proof_6 : cX1_proof.data.toList.drop 140 = dktX1_proof_6 := dk_seg dksX1_proof_5 22 rfl rfl
theorem dksX1_proof_7 : cX1_proof.data.toList.drop 164 = dktX1_proof_7 := dk_seg dksX1_proof_6 24 rfl rfl
theorem dX1_proof_0 : decode cX1_proof 0 = .ok (.aload_n 0, 1) := dk_42 (dk_at dksX1_proof_0 0 rfl rfl)
theorem dX1_proof_1 : decode cX1_proof 1 = .ok (.iload_n 1, 1) := dk_27 (dk_at dksX1_proof_0 1 rfl rfl)
theorem dX1_proof_2 : decode cX1_proof 2 = .ok (.invokevirtual 363, 3) := dk_182 1 107 (dk_at dksX1_proof_0 2 rfl rfl)
theorem dX1_proof_5 : decode cX1_proof 5 = .ok (.aload_n 0, 1) := dk_42 (dk_at dksX1_proof_0 5 rfl rfl)
theorem dX1_proof_6 : decode cX1_proof 6 = .ok (.invokevirtual 473, 3) := dk_182 1 217 (dk_at dksX1_proof_0 6 rfl rfl)
theorem dX1_proof_9 : decode cX1_proof 9 = .ok (.aload_n 0, 1) := dk_42 (dk_at dksX1_proof_0 9 rfl rfl)
theorem dX1_proof_10 : decode cX1_proof 10 = .ok (.iload_n 1, 1) := dk_27 (dk_at dksX1_proof_0 10 rfl rfl)
theorem dX1_proof_11 : decode cX1_proof 11 = .ok (.invokevirtual 479, 3) := dk_182 1 223 (dk_at dksX1_proof_0 11 rfl rfl)
theorem dX1_proof_14 : decode cX1_proof 14 = .ok (.istore_n 3, 1) := dk_62 (dk_at dksX1_proof_0 14 rfl rfl)
theorem dX1_proof_15 : decode cX1_proof 15 = .ok (.iload_n 2, 1) := dk_28 (dk_at dksX1_proof_0 15 rfl rfl)
theorem dX1_proof_16 : decode cX1_proof 16 = .ok (.i2l, 1) := dk_133 (dk_at dksX1_proof_0 16 rfl rfl)
theorem dX1_proof_17 : decode cX1_proof 17 = .ok (.aload_n 0, 1) := dk_42 (dk_at dksX1_proof_0 17 rfl rfl)
theorem dX1_proof_18 : decode cX1_proof 18 = .ok (.iload_n 1, 1) := dk_27 (dk_at dksX1_proof_0 18 rfl rfl)
theorem dX1_proof_19 : decode cX1_proof 19 = .ok (.invokevirtual 476, 3) := dk_182 1 220 (dk_at dksX1_proof_0 19 rfl rfl)
theorem dX1_proof_22 : decode cX1_proof 22 = .ok (.i2l, 1) := dk_133 (dk_at dksX1_proof_0 22 rfl rfl)
theorem dX1_proof_23 : decode cX1_proof 23 = .ok (.lsub, 1) := dk_101 (dk_at dksX1_proof_0 23 rfl rfl)
theorem dX1_proof_24 : decode cX1_proof 24 = .ok (.lstore 4, 2) := dk_55 4 (dk_at dksX1_proof_1 0 rfl rfl)
theorem dX1_proof_26 : decode cX1_proof 26 = .ok (.iconst 0, 1) := dk_3 (dk_at dksX1_proof_1 2 rfl rfl)
theorem dX1_proof_27 : decode cX1_proof 27 = .ok (.istore 6, 2) := dk_54 6 (dk_at dksX1_proof_1 3 rfl rfl)
theorem dX1_proof_29 : decode cX1_proof 29 = .ok (.iconst 1, 1) := dk_4 (dk_at dksX1_proof_1 5 rfl rfl)
theorem dX1_proof_30 : decode cX1_proof 30 = .ok (.istore 7, 2) := dk_54 7 (dk_at dksX1_proof_1 6 rfl rfl)
theorem dX1_proof_32 : decode cX1_proof 32 = .ok (.iconst 0, 1) := dk_3 (dk_at dksX1_proof_1 8 rfl rfl)
theorem dX1_proof_33 : decode cX1_proof 33 = .ok (.istore 8, 2) := dk_54 8 (dk_at dksX1_proof_1 9 rfl rfl)
theorem dX1_proof_35 : decode cX1_proof 35 = .ok (.iload 8, 2) := dk_21 8 (dk_at dksX1_proof_1 11 rfl rfl)
theorem dX1_proof_37 : decode cX1_proof 37 = .ok (.iconst 1, 1) := dk_4 (dk_at dksX1_proof_1 13 rfl rfl)
theorem dX1_proof_38 : decode cX1_proof 38 = .ok (.aload_n 0, 1) := dk_42 (dk_at dksX1_proof_1 14 rfl rfl)
theorem dX1_proof_39 : decode cX1_proof 39 = .ok (.getfield 470, 3) := dk_180 1 214 (dk_at dksX1_proof_1 15 rfl rfl)
theorem dX1_proof_42 : decode cX1_proof 42 = .ok (.ishl, 1) := dk_120 (dk_at dksX1_proof_1 18 rfl rfl)
theorem dX1_proof_43 : decode cX1_proof 43 = .ok (.if_icmp .ge 103, 3) := dk_162 0 103 (dk_at dksX1_proof_1 19 rfl rfl)
theorem dX1_proof_46 : decode cX1_proof 46 = .ok (.iload 8, 2) := dk_21 8 (dk_at dksX1_proof_1 22 rfl rfl)
theorem dX1_proof_48 : decode cX1_proof 48 = .ok (.invokestatic 449, 3) := dk_184 1 193 (dk_at dksX1_proof_2 0 rfl rfl)
theorem dX1_proof_51 : decode cX1_proof 51 = .ok (.iload_n 3, 1) := dk_29 (dk_at dksX1_proof_2 3 rfl rfl)
theorem dX1_proof_52 : decode cX1_proof 52 = .ok (.if_icmp .eq 6, 3) := dk_159 0 6 (dk_at dksX1_proof_2 4 rfl rfl)
theorem dX1_proof_55 : decode cX1_proof 55 = .ok (.goto 85, 3) := dk_167 0 85 (dk_at dksX1_proof_2 7 rfl rfl)
theorem dX1_proof_58 : decode cX1_proof 58 = .ok (.lconst 0, 1) := dk_9 (dk_at dksX1_proof_2 10 rfl rfl)
theorem dX1_proof_59 : decode cX1_proof 59 = .ok (.lstore 9, 2) := dk_55 9 (dk_at dksX1_proof_2 11 rfl rfl)
theorem dX1_proof_61 : decode cX1_proof 61 = .ok (.iconst 0, 1) := dk_3 (dk_at dksX1_proof_2 13 rfl rfl)
theorem dX1_proof_62 : decode cX1_proof 62 = .ok (.istore 11, 2) := dk_54 11 (dk_at dksX1_proof_2 14 rfl rfl)
theorem dX1_proof_64 : decode cX1_proof 64 = .ok (.iload 11, 2) := dk_21 11 (dk_at dksX1_proof_2 16 rfl rfl)
theorem dX1_proof_66 : decode cX1_proof 66 = .ok (.aload_n 0, 1) := dk_42 (dk_at dksX1_proof_2 18 rfl rfl)
theorem dX1_proof_67 : decode cX1_proof 67 = .ok (.getfield 470, 3) := dk_180 1 214 (dk_at dksX1_proof_2 19 rfl rfl)
theorem dX1_proof_70 : decode cX1_proof 70 = .ok (.if_icmp .ge 30, 3) := dk_162 0 30 (dk_at dksX1_proof_3 0 rfl rfl)
theorem dX1_proof_73 : decode cX1_proof 73 = .ok (.lload 9, 2) := dk_22 9 (dk_at dksX1_proof_3 3 rfl rfl)
theorem dX1_proof_75 : decode cX1_proof 75 = .ok (.iload 8, 2) := dk_21 8 (dk_at dksX1_proof_3 5 rfl rfl)
theorem dX1_proof_77 : decode cX1_proof 77 = .ok (.iload 11, 2) := dk_21 11 (dk_at dksX1_proof_3 7 rfl rfl)
theorem dX1_proof_79 : decode cX1_proof 79 = .ok (.ishr, 1) := dk_122 (dk_at dksX1_proof_3 9 rfl rfl)
theorem dX1_proof_80 : decode cX1_proof 80 = .ok (.iconst 1, 1) := dk_4 (dk_at dksX1_proof_3 10 rfl rfl)
theorem dX1_proof_81 : decode cX1_proof 81 = .ok (.iand, 1) := dk_126 (dk_at dksX1_proof_3 11 rfl rfl)
theorem dX1_proof_82 : decode cX1_proof 82 = .ok (.aload_n 0, 1) := dk_42 (dk_at dksX1_proof_3 12 rfl rfl)
theorem dX1_proof_83 : decode cX1_proof 83 = .ok (.getfield 39, 3) := dk_180 0 39 (dk_at dksX1_proof_3 13 rfl rfl)
theorem dX1_proof_86 : decode cX1_proof 86 = .ok (.iload 11, 2) := dk_21 11 (dk_at dksX1_proof_3 16 rfl rfl)
theorem dX1_proof_88 : decode cX1_proof 88 = .ok (.iaload, 1) := dk_46 (dk_at dksX1_proof_3 18 rfl rfl)
theorem dX1_proof_89 : decode cX1_proof 89 = .ok (.imul, 1) := dk_104 (dk_at dksX1_proof_3 19 rfl rfl)
theorem dX1_proof_90 : decode cX1_proof 90 = .ok (.i2l, 1) := dk_133 (dk_at dksX1_proof_3 20 rfl rfl)
theorem dX1_proof_91 : decode cX1_proof 91 = .ok (.ladd, 1) := dk_97 (dk_at dksX1_proof_3 21 rfl rfl)
theorem dX1_proof_92 : decode cX1_proof 92 = .ok (.lstore 9, 2) := dk_55 9 (dk_at dksX1_proof_3 22 rfl rfl)
theorem dX1_proof_94 : decode cX1_proof 94 = .ok (.iinc 11 1, 3) := dk_132 11 1 (dk_at dksX1_proof_4 0 rfl rfl)
theorem dX1_proof_97 : decode cX1_proof 97 = .ok (.goto (-33), 3) := dk_167 255 223 (dk_at dksX1_proof_4 3 rfl rfl)
theorem dX1_proof_100 : decode cX1_proof 100 = .ok (.iload 6, 2) := dk_21 6 (dk_at dksX1_proof_4 6 rfl rfl)
theorem dX1_proof_102 : decode cX1_proof 102 = .ok (.ifCond .ne 11, 3) := dk_154 0 11 (dk_at dksX1_proof_4 8 rfl rfl)
theorem dX1_proof_105 : decode cX1_proof 105 = .ok (.lload 9, 2) := dk_22 9 (dk_at dksX1_proof_4 11 rfl rfl)
theorem dX1_proof_107 : decode cX1_proof 107 = .ok (.lload 4, 2) := dk_22 4 (dk_at dksX1_proof_4 13 rfl rfl)
theorem dX1_proof_109 : decode cX1_proof 109 = .ok (.lcmp, 1) := dk_148 (dk_at dksX1_proof_4 15 rfl rfl)
theorem dX1_proof_110 : decode cX1_proof 110 = .ok (.ifCond .ne 7, 3) := dk_154 0 7 (dk_at dksX1_proof_4 16 rfl rfl)
theorem dX1_proof_113 : decode cX1_proof 113 = .ok (.iconst 1, 1) := dk_4 (dk_at dksX1_proof_4 19 rfl rfl)
theorem dX1_proof_114 : decode cX1_proof 114 = .ok (.goto 4, 3) := dk_167 0 4 (dk_at dksX1_proof_4 20 rfl rfl)
theorem dX1_proof_117 : decode cX1_proof 117 = .ok (.iconst 0, 1) := dk_3 (dk_at dksX1_proof_4 23 rfl rfl)
theorem dX1_proof_118 : decode cX1_proof 118 = .ok (.istore 6, 2) := dk_54 6 (dk_at dksX1_proof_5 0 rfl rfl)
theorem dX1_proof_120 : decode cX1_proof 120 = .ok (.iload 7, 2) := dk_21 7 (dk_at dksX1_proof_5 2 rfl rfl)
theorem dX1_proof_122 : decode cX1_proof 122 = .ok (.ifCond .eq 15, 3) := dk_153 0 15 (dk_at dksX1_proof_5 4 rfl rfl)
theorem dX1_proof_125 : decode cX1_proof 125 = .ok (.lload 9, 2) := dk_22 9 (dk_at dksX1_proof_5 7 rfl rfl)
theorem dX1_proof_127 : decode cX1_proof 127 = .ok (.lload 4, 2) := dk_22 4 (dk_at dksX1_proof_5 9 rfl rfl)
theorem dX1_proof_129 : decode cX1_proof 129 = .ok (.lcmp, 1) := dk_148 (dk_at dksX1_proof_5 11 rfl rfl)
theorem dX1_proof_130 : decode cX1_proof 130 = .ok (.ifCond .ne 7, 3) := dk_154 0 7 (dk_at dksX1_proof_5 12 rfl rfl)
theorem dX1_proof_133 : decode cX1_proof 133 = .ok (.iconst 1, 1) := dk_4 (dk_at dksX1_proof_5 15 rfl rfl)
theorem dX1_proof_134 : decode cX1_proof 134 = .ok (.goto 4, 3) := dk_167 0 4 (dk_at dksX1_proof_5 16 rfl rfl)
theorem dX1_proof_137 : decode cX1_proof 137 = .ok (.iconst 0, 1) := dk_3 (dk_at dksX1_proof_5 19 rfl rfl)
theorem dX1_proof_138 : decode cX1_proof 138 = .ok (.istore 7, 2) := dk_54 7 (dk_at dksX1_proof_5 20 rfl rfl)
theorem dX1_proof_140 : decode cX1_proof 140 = .ok (.iinc 8 1, 3) := dk_132 8 1 (dk_at dksX1_proof_6 0 rfl rfl)
theorem dX1_proof_143 : decode cX1_proof 143 = .ok (.goto (-108), 3) := dk_167 255 148 (dk_at dksX1_proof_6 3 rfl rfl)
theorem dX1_proof_146 : decode cX1_proof 146 = .ok (.iload 7, 2) := dk_21 7 (dk_at dksX1_proof_6 6 rfl rfl)
theorem dX1_proof_148 : decode cX1_proof 148 = .ok (.ifCond .eq 7, 3) := dk_153 0 7 (dk_at dksX1_proof_6 8 rfl rfl)
theorem dX1_proof_151 : decode cX1_proof 151 = .ok (.iconst 2, 1) := dk_5 (dk_at dksX1_proof_6 11 rfl rfl)
theorem dX1_proof_152 : decode cX1_proof 152 = .ok (.goto 13, 3) := dk_167 0 13 (dk_at dksX1_proof_6 12 rfl rfl)
theorem dX1_proof_155 : decode cX1_proof 155 = .ok (.iload 6, 2) := dk_21 6 (dk_at dksX1_proof_6 15 rfl rfl)
theorem dX1_proof_157 : decode cX1_proof 157 = .ok (.ifCond .eq 7, 3) := dk_153 0 7 (dk_at dksX1_proof_6 17 rfl rfl)
theorem dX1_proof_160 : decode cX1_proof 160 = .ok (.iconst 1, 1) := dk_4 (dk_at dksX1_proof_6 20 rfl rfl)
theorem dX1_proof_161 : decode cX1_proof 161 = .ok (.goto 4, 3) := dk_167 0 4 (dk_at dksX1_proof_6 21 rfl rfl)
theorem dX1_proof_164 : decode cX1_proof 164 = .ok (.iconst 0, 1) := dk_3 (dk_at dksX1_proof_7 0 rfl rfl)
theorem dX1_proof_165 : decode cX1_proof 165 = .ok (.ireturn, 1) := dk_172 (dk_at dksX1_proof_7 1 rfl rfl)
abbrev cX1_live : ByteArray := prog_1_method_56_code
def yX1_live : MethodName := ⟨RX1, "live", "(I)I"⟩
def dkwX1_live_8 : List UInt8 := [182, 0, 59, 29, 100, 172]
abbrev dktX1_live_8 : List UInt8 := dkwX1_live_8 ++ []
def dkwX1_live_7 : List UInt8 := [167, 255, 126, 44, 89, 180, 1, 75, 4, 96, 181, 1, 75, 132, 4, 1, 167, 255, 101, 44, 180, 1, 118]
abbrev dktX1_live_7 : List UInt8 := dkwX1_live_7 ++ dktX1_live_8
def dkwX1_live_6 : List UInt8 := [42, 21, 5, 25, 6, 180, 1, 83, 21, 7, 21, 8, 182, 1, 154, 182, 1, 165, 87, 132, 5, 1]
abbrev dktX1_live_6 : List UInt8 := dkwX1_live_6 ++ dktX1_live_7
def dkwX1_live_5 : List UInt8 := [21, 5, 21, 7, 21, 8, 182, 1, 158, 153, 0, 34, 44, 21, 5, 25, 6, 180, 1, 83, 21, 7, 21, 8]
abbrev dktX1_live_5 : List UInt8 := dkwX1_live_5 ++ dktX1_live_6
def dkwX1_live_4 : List UInt8 := [182, 1, 233, 4, 96, 54, 7, 42, 7, 182, 1, 233, 154, 0, 7, 4, 167, 0, 4, 3, 54, 8, 44]
abbrev dktX1_live_4 : List UInt8 := dkwX1_live_4 ++ dktX1_live_5
def dkwX1_live_3 : List UInt8 := [16, 100, 182, 1, 233, 25, 6, 180, 1, 116, 161, 0, 6, 167, 0, 77, 42, 44, 180, 0, 144, 182, 0, 59]
abbrev dktX1_live_3 : List UInt8 := dkwX1_live_3 ++ dktX1_live_4
def dkwX1_live_2 : List UInt8 := [180, 0, 144, 182, 1, 230, 154, 0, 114, 44, 180, 0, 55, 21, 5, 182, 1, 57, 192, 0, 88, 58, 6, 42]
abbrev dktX1_live_2 : List UInt8 := dkwX1_live_2 ++ dktX1_live_3
def dkwX1_live_1 : List UInt8 := [54, 4, 21, 4, 27, 162, 0, 155, 3, 54, 5, 21, 5, 44, 180, 0, 55, 182, 0, 59, 162, 0, 124, 44]
abbrev dktX1_live_1 : List UInt8 := dkwX1_live_1 ++ dktX1_live_2
def dkwX1_live_0 : List UInt8 := [27, 4, 16, 99, 184, 1, 91, 184, 1, 147, 42, 180, 0, 10, 77, 44, 180, 1, 118, 182, 0, 59, 62, 3]
abbrev dktX1_live_0 : List UInt8 := dkwX1_live_0 ++ dktX1_live_1
theorem dksX1_live_0 : cX1_live.data.toList.drop 0 = dktX1_live_0 := by decide +kernel
theorem dksX1_live_1 : cX1_live.data.toList.drop 24 = dktX1_live_1 := dk_seg dksX1_live_0 24 rfl rfl
theorem dksX1_live_2 : cX1_live.data.toList.drop 48 = dktX1_live_2 := dk_seg dksX1_live_1 24 rfl rfl
theorem dksX1_live_3 : cX1_live.data.toList.drop 72 = dktX1_live_3 := dk_seg dksX1_live_2 24 rfl rfl
theorem dksX1_live_4 : cX1_live.data.toList.drop 96 = dktX1_live_4 := dk_seg dksX1_live_3 24 rfl rfl
theorem dksX1_live_5 : cX1_live.data.toList.drop 119 = dktX1_live_5 := dk_seg dksX1_live_4 23 rfl rfl
theorem dksX1_live_6 : cX1_live.data.toList.drop 143 = dktX1_live_6 := dk_seg dksX1_live_5 24 rfl rfl
theorem dksX1_live_7 : cX1_live.data.toList.drop 165 = dktX1_live_7 := dk_seg dksX1_live_6 22 rfl rfl
theorem dksX1_live_8 : cX1_live.data.toList.drop 188 = dktX1_live_8 := dk_seg dksX1_live_7 23 rfl rfl
theorem dX1_live_0 : decode cX1_live 0 = .ok (.iload_n 1, 1) := dk_27 (dk_at dksX1_live_0 0 rfl rfl)
theorem dX1_live_1 : decode cX1_live 1 = .ok (.iconst 1, 1) := dk_4 (dk_at dksX1_live_0 1 rfl rfl)
theorem dX1_live_2 : decode cX1_live 2 = .ok (.bipush 99, 2) := dk_16 99 (dk_at dksX1_live_0 2 rfl rfl)
theorem dX1_live_4 : decode cX1_live 4 = .ok (.invokestatic 347, 3) := dk_184 1 91 (dk_at dksX1_live_0 4 rfl rfl)
theorem dX1_live_7 : decode cX1_live 7 = .ok (.invokestatic 403, 3) := dk_184 1 147 (dk_at dksX1_live_0 7 rfl rfl)
theorem dX1_live_10 : decode cX1_live 10 = .ok (.aload_n 0, 1) := dk_42 (dk_at dksX1_live_0 10 rfl rfl)
theorem dX1_live_11 : decode cX1_live 11 = .ok (.getfield 10, 3) := dk_180 0 10 (dk_at dksX1_live_0 11 rfl rfl)
theorem dX1_live_14 : decode cX1_live 14 = .ok (.astore_n 2, 1) := dk_77 (dk_at dksX1_live_0 14 rfl rfl)
theorem dX1_live_15 : decode cX1_live 15 = .ok (.aload_n 2, 1) := dk_44 (dk_at dksX1_live_0 15 rfl rfl)
theorem dX1_live_16 : decode cX1_live 16 = .ok (.getfield 374, 3) := dk_180 1 118 (dk_at dksX1_live_0 16 rfl rfl)
theorem dX1_live_19 : decode cX1_live 19 = .ok (.invokevirtual 59, 3) := dk_182 0 59 (dk_at dksX1_live_0 19 rfl rfl)
theorem dX1_live_22 : decode cX1_live 22 = .ok (.istore_n 3, 1) := dk_62 (dk_at dksX1_live_0 22 rfl rfl)
theorem dX1_live_23 : decode cX1_live 23 = .ok (.iconst 0, 1) := dk_3 (dk_at dksX1_live_0 23 rfl rfl)
theorem dX1_live_24 : decode cX1_live 24 = .ok (.istore 4, 2) := dk_54 4 (dk_at dksX1_live_1 0 rfl rfl)
theorem dX1_live_26 : decode cX1_live 26 = .ok (.iload 4, 2) := dk_21 4 (dk_at dksX1_live_1 2 rfl rfl)
theorem dX1_live_28 : decode cX1_live 28 = .ok (.iload_n 1, 1) := dk_27 (dk_at dksX1_live_1 4 rfl rfl)
theorem dX1_live_29 : decode cX1_live 29 = .ok (.if_icmp .ge 155, 3) := dk_162 0 155 (dk_at dksX1_live_1 5 rfl rfl)
theorem dX1_live_32 : decode cX1_live 32 = .ok (.iconst 0, 1) := dk_3 (dk_at dksX1_live_1 8 rfl rfl)
theorem dX1_live_33 : decode cX1_live 33 = .ok (.istore 5, 2) := dk_54 5 (dk_at dksX1_live_1 9 rfl rfl)
theorem dX1_live_35 : decode cX1_live 35 = .ok (.iload 5, 2) := dk_21 5 (dk_at dksX1_live_1 11 rfl rfl)
theorem dX1_live_37 : decode cX1_live 37 = .ok (.aload_n 2, 1) := dk_44 (dk_at dksX1_live_1 13 rfl rfl)
theorem dX1_live_38 : decode cX1_live 38 = .ok (.getfield 55, 3) := dk_180 0 55 (dk_at dksX1_live_1 14 rfl rfl)
theorem dX1_live_41 : decode cX1_live 41 = .ok (.invokevirtual 59, 3) := dk_182 0 59 (dk_at dksX1_live_1 17 rfl rfl)
theorem dX1_live_44 : decode cX1_live 44 = .ok (.if_icmp .ge 124, 3) := dk_162 0 124 (dk_at dksX1_live_1 20 rfl rfl)
theorem dX1_live_47 : decode cX1_live 47 = .ok (.aload_n 2, 1) := dk_44 (dk_at dksX1_live_1 23 rfl rfl)
theorem dX1_live_48 : decode cX1_live 48 = .ok (.getfield 144, 3) := dk_180 0 144 (dk_at dksX1_live_2 0 rfl rfl)
theorem dX1_live_51 : decode cX1_live 51 = .ok (.invokevirtual 486, 3) := dk_182 1 230 (dk_at dksX1_live_2 3 rfl rfl)
theorem dX1_live_54 : decode cX1_live 54 = .ok (.ifCond .ne 114, 3) := dk_154 0 114 (dk_at dksX1_live_2 6 rfl rfl)
theorem dX1_live_57 : decode cX1_live 57 = .ok (.aload_n 2, 1) := dk_44 (dk_at dksX1_live_2 9 rfl rfl)
theorem dX1_live_58 : decode cX1_live 58 = .ok (.getfield 55, 3) := dk_180 0 55 (dk_at dksX1_live_2 10 rfl rfl)
theorem dX1_live_61 : decode cX1_live 61 = .ok (.iload 5, 2) := dk_21 5 (dk_at dksX1_live_2 13 rfl rfl)
theorem dX1_live_63 : decode cX1_live 63 = .ok (.invokevirtual 313, 3) := dk_182 1 57 (dk_at dksX1_live_2 15 rfl rfl)
theorem dX1_live_66 : decode cX1_live 66 = .ok (.checkcast 88, 3) := dk_192 0 88 (dk_at dksX1_live_2 18 rfl rfl)
theorem dX1_live_69 : decode cX1_live 69 = .ok (.astore 6, 2) := dk_58 6 (dk_at dksX1_live_2 21 rfl rfl)
theorem dX1_live_71 : decode cX1_live 71 = .ok (.aload_n 0, 1) := dk_42 (dk_at dksX1_live_2 23 rfl rfl)
theorem dX1_live_72 : decode cX1_live 72 = .ok (.bipush 100, 2) := dk_16 100 (dk_at dksX1_live_3 0 rfl rfl)
theorem dX1_live_74 : decode cX1_live 74 = .ok (.invokevirtual 489, 3) := dk_182 1 233 (dk_at dksX1_live_3 2 rfl rfl)
theorem dX1_live_77 : decode cX1_live 77 = .ok (.aload 6, 2) := dk_25 6 (dk_at dksX1_live_3 5 rfl rfl)
theorem dX1_live_79 : decode cX1_live 79 = .ok (.getfield 372, 3) := dk_180 1 116 (dk_at dksX1_live_3 7 rfl rfl)
theorem dX1_live_82 : decode cX1_live 82 = .ok (.if_icmp .lt 6, 3) := dk_161 0 6 (dk_at dksX1_live_3 10 rfl rfl)
theorem dX1_live_85 : decode cX1_live 85 = .ok (.goto 77, 3) := dk_167 0 77 (dk_at dksX1_live_3 13 rfl rfl)
theorem dX1_live_88 : decode cX1_live 88 = .ok (.aload_n 0, 1) := dk_42 (dk_at dksX1_live_3 16 rfl rfl)
theorem dX1_live_89 : decode cX1_live 89 = .ok (.aload_n 2, 1) := dk_44 (dk_at dksX1_live_3 17 rfl rfl)
theorem dX1_live_90 : decode cX1_live 90 = .ok (.getfield 144, 3) := dk_180 0 144 (dk_at dksX1_live_3 18 rfl rfl)
theorem dX1_live_93 : decode cX1_live 93 = .ok (.invokevirtual 59, 3) := dk_182 0 59 (dk_at dksX1_live_3 21 rfl rfl)
theorem dX1_live_96 : decode cX1_live 96 = .ok (.invokevirtual 489, 3) := dk_182 1 233 (dk_at dksX1_live_4 0 rfl rfl)
theorem dX1_live_99 : decode cX1_live 99 = .ok (.iconst 1, 1) := dk_4 (dk_at dksX1_live_4 3 rfl rfl)
theorem dX1_live_100 : decode cX1_live 100 = .ok (.iadd, 1) := dk_96 (dk_at dksX1_live_4 4 rfl rfl)
theorem dX1_live_101 : decode cX1_live 101 = .ok (.istore 7, 2) := dk_54 7 (dk_at dksX1_live_4 5 rfl rfl)
theorem dX1_live_103 : decode cX1_live 103 = .ok (.aload_n 0, 1) := dk_42 (dk_at dksX1_live_4 7 rfl rfl)
theorem dX1_live_104 : decode cX1_live 104 = .ok (.iconst 4, 1) := dk_7 (dk_at dksX1_live_4 8 rfl rfl)
theorem dX1_live_105 : decode cX1_live 105 = .ok (.invokevirtual 489, 3) := dk_182 1 233 (dk_at dksX1_live_4 9 rfl rfl)
theorem dX1_live_108 : decode cX1_live 108 = .ok (.ifCond .ne 7, 3) := dk_154 0 7 (dk_at dksX1_live_4 12 rfl rfl)
theorem dX1_live_111 : decode cX1_live 111 = .ok (.iconst 1, 1) := dk_4 (dk_at dksX1_live_4 15 rfl rfl)
theorem dX1_live_112 : decode cX1_live 112 = .ok (.goto 4, 3) := dk_167 0 4 (dk_at dksX1_live_4 16 rfl rfl)
theorem dX1_live_115 : decode cX1_live 115 = .ok (.iconst 0, 1) := dk_3 (dk_at dksX1_live_4 19 rfl rfl)
theorem dX1_live_116 : decode cX1_live 116 = .ok (.istore 8, 2) := dk_54 8 (dk_at dksX1_live_4 20 rfl rfl)
theorem dX1_live_118 : decode cX1_live 118 = .ok (.aload_n 2, 1) := dk_44 (dk_at dksX1_live_4 22 rfl rfl)
theorem dX1_live_119 : decode cX1_live 119 = .ok (.iload 5, 2) := dk_21 5 (dk_at dksX1_live_5 0 rfl rfl)
theorem dX1_live_121 : decode cX1_live 121 = .ok (.iload 7, 2) := dk_21 7 (dk_at dksX1_live_5 2 rfl rfl)
theorem dX1_live_123 : decode cX1_live 123 = .ok (.iload 8, 2) := dk_21 8 (dk_at dksX1_live_5 4 rfl rfl)
theorem dX1_live_125 : decode cX1_live 125 = .ok (.invokevirtual 414, 3) := dk_182 1 158 (dk_at dksX1_live_5 6 rfl rfl)
theorem dX1_live_128 : decode cX1_live 128 = .ok (.ifCond .eq 34, 3) := dk_153 0 34 (dk_at dksX1_live_5 9 rfl rfl)
theorem dX1_live_131 : decode cX1_live 131 = .ok (.aload_n 2, 1) := dk_44 (dk_at dksX1_live_5 12 rfl rfl)
theorem dX1_live_132 : decode cX1_live 132 = .ok (.iload 5, 2) := dk_21 5 (dk_at dksX1_live_5 13 rfl rfl)
theorem dX1_live_134 : decode cX1_live 134 = .ok (.aload 6, 2) := dk_25 6 (dk_at dksX1_live_5 15 rfl rfl)
theorem dX1_live_136 : decode cX1_live 136 = .ok (.getfield 339, 3) := dk_180 1 83 (dk_at dksX1_live_5 17 rfl rfl)
theorem dX1_live_139 : decode cX1_live 139 = .ok (.iload 7, 2) := dk_21 7 (dk_at dksX1_live_5 20 rfl rfl)
theorem dX1_live_141 : decode cX1_live 141 = .ok (.iload 8, 2) := dk_21 8 (dk_at dksX1_live_5 22 rfl rfl)
theorem dX1_live_143 : decode cX1_live 143 = .ok (.aload_n 0, 1) := dk_42 (dk_at dksX1_live_6 0 rfl rfl)
theorem dX1_live_144 : decode cX1_live 144 = .ok (.iload 5, 2) := dk_21 5 (dk_at dksX1_live_6 1 rfl rfl)
theorem dX1_live_146 : decode cX1_live 146 = .ok (.aload 6, 2) := dk_25 6 (dk_at dksX1_live_6 3 rfl rfl)
theorem dX1_live_148 : decode cX1_live 148 = .ok (.getfield 339, 3) := dk_180 1 83 (dk_at dksX1_live_6 5 rfl rfl)
theorem dX1_live_151 : decode cX1_live 151 = .ok (.iload 7, 2) := dk_21 7 (dk_at dksX1_live_6 8 rfl rfl)
theorem dX1_live_153 : decode cX1_live 153 = .ok (.iload 8, 2) := dk_21 8 (dk_at dksX1_live_6 10 rfl rfl)
theorem dX1_live_155 : decode cX1_live 155 = .ok (.invokevirtual 410, 3) := dk_182 1 154 (dk_at dksX1_live_6 12 rfl rfl)
theorem dX1_live_158 : decode cX1_live 158 = .ok (.invokevirtual 421, 3) := dk_182 1 165 (dk_at dksX1_live_6 15 rfl rfl)
theorem dX1_live_161 : decode cX1_live 161 = .ok (.pop, 1) := dk_87 (dk_at dksX1_live_6 18 rfl rfl)
theorem dX1_live_162 : decode cX1_live 162 = .ok (.iinc 5 1, 3) := dk_132 5 1 (dk_at dksX1_live_6 19 rfl rfl)
theorem dX1_live_165 : decode cX1_live 165 = .ok (.goto (-130), 3) := dk_167 255 126 (dk_at dksX1_live_7 0 rfl rfl)
theorem dX1_live_168 : decode cX1_live 168 = .ok (.aload_n 2, 1) := dk_44 (dk_at dksX1_live_7 3 rfl rfl)
theorem dX1_live_169 : decode cX1_live 169 = .ok (.dup, 1) := dk_89 (dk_at dksX1_live_7 4 rfl rfl)
theorem dX1_live_170 : decode cX1_live 170 = .ok (.getfield 331, 3) := dk_180 1 75 (dk_at dksX1_live_7 5 rfl rfl)
theorem dX1_live_173 : decode cX1_live 173 = .ok (.iconst 1, 1) := dk_4 (dk_at dksX1_live_7 8 rfl rfl)
theorem dX1_live_174 : decode cX1_live 174 = .ok (.iadd, 1) := dk_96 (dk_at dksX1_live_7 9 rfl rfl)
theorem dX1_live_175 : decode cX1_live 175 = .ok (.putfield 331, 3) := dk_181 1 75 (dk_at dksX1_live_7 10 rfl rfl)
theorem dX1_live_178 : decode cX1_live 178 = .ok (.iinc 4 1, 3) := dk_132 4 1 (dk_at dksX1_live_7 13 rfl rfl)
theorem dX1_live_181 : decode cX1_live 181 = .ok (.goto (-155), 3) := dk_167 255 101 (dk_at dksX1_live_7 16 rfl rfl)
theorem dX1_live_184 : decode cX1_live 184 = .ok (.aload_n 2, 1) := dk_44 (dk_at dksX1_live_7 19 rfl rfl)
theorem dX1_live_185 : decode cX1_live 185 = .ok (.getfield 374, 3) := dk_180 1 118 (dk_at dksX1_live_7 20 rfl rfl)
theorem dX1_live_188 : decode cX1_live 188 = .ok (.invokevirtual 59, 3) := dk_182 0 59 (dk_at dksX1_live_8 0 rfl rfl)
theorem dX1_live_191 : decode cX1_live 191 = .ok (.iload_n 3, 1) := dk_29 (dk_at dksX1_live_8 3 rfl rfl)
theorem dX1_live_192 : decode cX1_live 192 = .ok (.isub, 1) := dk_100 (dk_at dksX1_live_8 4 rfl rfl)
theorem dX1_live_193 : decode cX1_live 193 = .ok (.ireturn, 1) := dk_172 (dk_at dksX1_live_8 5 rfl rfl)
abbrev cX1_draw : ByteArray := prog_1_method_55_code
def yX1_draw : MethodName := ⟨RX1, "draw", "(I)I"⟩
def dkwX1_draw_1 : List UInt8 := [180, 0, 10, 180, 1, 226, 16, 16, 122, 17, 127, 255, 126, 27, 112, 172]
abbrev dktX1_draw_1 : List UInt8 := dkwX1_draw_1 ++ []
def dkwX1_draw_0 : List UInt8 := [42, 180, 0, 10, 42, 180, 0, 10, 180, 1, 226, 19, 1, 229, 104, 17, 48, 57, 96, 181, 1, 226, 42]
abbrev dktX1_draw_0 : List UInt8 := dkwX1_draw_0 ++ dktX1_draw_1
theorem dksX1_draw_0 : cX1_draw.data.toList.drop 0 = dktX1_draw_0 := by decide +kernel
theorem dksX1_draw_1 : cX1_draw.data.toList.drop 23 = dktX1_draw_1 := dk_seg dksX1_draw_0 23 rfl rfl
theorem dX1_draw_0 : decode cX1_draw 0 = .ok (.aload_n 0, 1) := dk_42 (dk_at dksX1_draw_0 0 rfl rfl)
theorem dX1_draw_1 : decode cX1_draw 1 = .ok (.getfield 10, 3) := dk_180 0 10 (dk_at dksX1_draw_0 1 rfl rfl)
theorem dX1_draw_4 : decode cX1_draw 4 = .ok (.aload_n 0, 1) := dk_42 (dk_at dksX1_draw_0 4 rfl rfl)
theorem dX1_draw_5 : decode cX1_draw 5 = .ok (.getfield 10, 3) := dk_180 0 10 (dk_at dksX1_draw_0 5 rfl rfl)
theorem dX1_draw_8 : decode cX1_draw 8 = .ok (.getfield 482, 3) := dk_180 1 226 (dk_at dksX1_draw_0 8 rfl rfl)
theorem dX1_draw_11 : decode cX1_draw 11 = .ok (.ldc_w 485, 3) := dk_19 1 229 (dk_at dksX1_draw_0 11 rfl rfl)
theorem dX1_draw_14 : decode cX1_draw 14 = .ok (.imul, 1) := dk_104 (dk_at dksX1_draw_0 14 rfl rfl)
theorem dX1_draw_15 : decode cX1_draw 15 = .ok (.sipush 12345, 3) := dk_17 48 57 (dk_at dksX1_draw_0 15 rfl rfl)
theorem dX1_draw_18 : decode cX1_draw 18 = .ok (.iadd, 1) := dk_96 (dk_at dksX1_draw_0 18 rfl rfl)
theorem dX1_draw_19 : decode cX1_draw 19 = .ok (.putfield 482, 3) := dk_181 1 226 (dk_at dksX1_draw_0 19 rfl rfl)
theorem dX1_draw_22 : decode cX1_draw 22 = .ok (.aload_n 0, 1) := dk_42 (dk_at dksX1_draw_0 22 rfl rfl)
theorem dX1_draw_23 : decode cX1_draw 23 = .ok (.getfield 10, 3) := dk_180 0 10 (dk_at dksX1_draw_1 0 rfl rfl)
theorem dX1_draw_26 : decode cX1_draw 26 = .ok (.getfield 482, 3) := dk_180 1 226 (dk_at dksX1_draw_1 3 rfl rfl)
theorem dX1_draw_29 : decode cX1_draw 29 = .ok (.bipush 16, 2) := dk_16 16 (dk_at dksX1_draw_1 6 rfl rfl)
theorem dX1_draw_31 : decode cX1_draw 31 = .ok (.ishr, 1) := dk_122 (dk_at dksX1_draw_1 8 rfl rfl)
theorem dX1_draw_32 : decode cX1_draw 32 = .ok (.sipush 32767, 3) := dk_17 127 255 (dk_at dksX1_draw_1 9 rfl rfl)
theorem dX1_draw_35 : decode cX1_draw 35 = .ok (.iand, 1) := dk_126 (dk_at dksX1_draw_1 12 rfl rfl)
theorem dX1_draw_36 : decode cX1_draw 36 = .ok (.iload_n 1, 1) := dk_27 (dk_at dksX1_draw_1 13 rfl rfl)
theorem dX1_draw_37 : decode cX1_draw 37 = .ok (.irem, 1) := dk_112 (dk_at dksX1_draw_1 14 rfl rfl)
theorem dX1_draw_38 : decode cX1_draw 38 = .ok (.ireturn, 1) := dk_172 (dk_at dksX1_draw_1 15 rfl rfl)
theorem q76 : (Jvm.Cond.initialized "StepDebts") ∈ lw_all := lw_g (lw_at lw_m1 1 rfl) rfl
theorem q124 : (Jvm.Cond.instantiable "StepDebts" (7 : Nat)) ∈ lw_all := lw_g (lw_at lw_m1 49 rfl) rfl
theorem q126 : (Jvm.Cond.instanceMethod ({ cls := "StepDebts", name := "<init>", desc := "()V" } : Jvm.MethodName)) ∈ lw_all := lw_g (lw_at lw_m1 51 rfl) rfl
theorem q127 : (Jvm.Cond.code ({ cls := "StepDebts", name := "<init>", desc := "()V" } : Jvm.MethodName) prog_1_method_1_code (1 : Nat) (Option.none : Option Jvm.ClassFile.FieldType)) ∈ lw_all := lw_g (lw_at lw_m1 52 rfl) rfl
theorem q128 : (Jvm.Cond.methodLink "StepDebts" (1 : Nat) ({ cls := "java/lang/Object", name := "<init>", desc := "()V" } : Jvm.MethodName)) ∈ lw_all := lw_g (lw_at lw_m1 53 rfl) rfl
theorem q131 : (Jvm.Cond.classLink "StepDebts" (7 : Nat) "StepDebts$World") ∈ lw_all := lw_g (lw_at lw_m1 56 rfl) rfl
theorem q133 : (Jvm.Cond.methodLinkNest "StepDebts" (9 : Nat) ({ cls := "StepDebts$World", name := "<init>", desc := "()V" } : Jvm.MethodName) "StepDebts") ∈ lw_tbl := lw_at lw_m1 58 rfl
theorem q165 : (Jvm.Cond.fieldLinkNest "StepDebts" (197 : Nat) "StepDebts$World" "texts" "I" "StepDebts") ∈ lw_tbl := lw_at lw_m1 90 rfl
theorem q167 : (Jvm.Cond.fieldLinkNest "StepDebts" (85 : Nat) "StepDebts$World" "houses" "I" "StepDebts") ∈ lw_tbl := lw_at lw_m1 92 rfl
theorem q169 : (Jvm.Cond.fieldLinkNest "StepDebts" (152 : Nat) "StepDebts$World" "limit" "I" "StepDebts") ∈ lw_tbl := lw_at lw_m1 94 rfl
theorem q172 : (Jvm.Cond.fieldLinkNest "StepDebts" (154 : Nat) "StepDebts$World" "rest" "I" "StepDebts") ∈ lw_tbl := lw_at lw_m1 97 rfl
theorem q174 : (Jvm.Cond.fieldLinkNest "StepDebts" (331 : Nat) "StepDebts$World" "day" "I" "StepDebts") ∈ lw_tbl := lw_at lw_m1 99 rfl
theorem q176 : (Jvm.Cond.fieldLinkNest "StepDebts" (482 : Nat) "StepDebts$World" "seed" "I" "StepDebts") ∈ lw_tbl := lw_at lw_m1 101 rfl
theorem q178 : (Jvm.Cond.fieldLinkNest "StepDebts" (439 : Nat) "StepDebts$World" "serial" "I" "StepDebts") ∈ lw_tbl := lw_at lw_m1 103 rfl
theorem q180 : (Jvm.Cond.fieldLinkNest "StepDebts" (137 : Nat) "StepDebts$World" "debt" "[I" "StepDebts") ∈ lw_tbl := lw_at lw_m1 105 rfl
theorem q183 : (Jvm.Cond.fieldLinkNest "StepDebts" (55 : Nat) "StepDebts$World" "walkers" "Ljava/util/ArrayList;" "StepDebts") ∈ lw_tbl := lw_at lw_m1 108 rfl
theorem q186 : (Jvm.Cond.fieldLinkNest "StepDebts" (144 : Nat) "StepDebts$World" "turns" "Ljava/util/ArrayList;" "StepDebts") ∈ lw_tbl := lw_at lw_m1 111 rfl
theorem q188 : (Jvm.Cond.fieldLinkNest "StepDebts" (101 : Nat) "StepDebts$World" "offers" "Ljava/util/ArrayList;" "StepDebts") ∈ lw_tbl := lw_at lw_m1 113 rfl
theorem q190 : (Jvm.Cond.fieldLinkNest "StepDebts" (374 : Nat) "StepDebts$World" "entries" "Ljava/util/ArrayList;" "StepDebts") ∈ lw_tbl := lw_at lw_m1 115 rfl
theorem q192 : (Jvm.Cond.fieldLinkNest "StepDebts" (305 : Nat) "StepDebts$World" "law" "LStepDebts$Law;" "StepDebts") ∈ lw_tbl := lw_at lw_m1 117 rfl
theorem q220 : (Jvm.Cond.classLink "StepDebts" (16 : Nat) "StepDebts$Reader") ∈ lw_all := lw_g (lw_at lw_m1 145 rfl) rfl
theorem q222 : (Jvm.Cond.methodLinkNest "StepDebts" (18 : Nat) ({ cls := "StepDebts$Reader", name := "<init>", desc := "()V" } : Jvm.MethodName) "StepDebts") ∈ lw_tbl := lw_at lw_m1 147 rfl
theorem q231 : (Jvm.Cond.fieldLinkNest "StepDebts" (176 : Nat) "StepDebts$Reader" "begin" "I" "StepDebts") ∈ lw_tbl := lw_at lw_m1 156 rfl
theorem q233 : (Jvm.Cond.fieldLinkNest "StepDebts" (51 : Nat) "StepDebts$Reader" "fault" "I" "StepDebts") ∈ lw_tbl := lw_at lw_m1 158 rfl
theorem q251 : (Jvm.Cond.classLink "StepDebts" (23 : Nat) "StepDebts$Scene") ∈ lw_all := lw_g (lw_at lw_m1 176 rfl) rfl
theorem q253 : (Jvm.Cond.methodLinkNest "StepDebts" (25 : Nat) ({ cls := "StepDebts$Scene", name := "<init>", desc := "()V" } : Jvm.MethodName) "StepDebts") ∈ lw_tbl := lw_at lw_m1 178 rfl
theorem q258 : (Jvm.Cond.fieldLinkNest "StepDebts" (320 : Nat) "StepDebts$Scene" "sort" "I" "StepDebts") ∈ lw_tbl := lw_at lw_m1 183 rfl
theorem q260 : (Jvm.Cond.fieldLinkNest "StepDebts" (324 : Nat) "StepDebts$Scene" "age" "I" "StepDebts") ∈ lw_tbl := lw_at lw_m1 185 rfl
theorem q262 : (Jvm.Cond.fieldLinkNest "StepDebts" (328 : Nat) "StepDebts$Scene" "wear" "I" "StepDebts") ∈ lw_tbl := lw_at lw_m1 187 rfl
theorem q264 : (Jvm.Cond.fieldLinkNest "StepDebts" (329 : Nat) "StepDebts$Scene" "paces" "I" "StepDebts") ∈ lw_tbl := lw_at lw_m1 189 rfl
theorem q266 : (Jvm.Cond.fieldLinkNest "StepDebts" (334 : Nat) "StepDebts$Scene" "day" "I" "StepDebts") ∈ lw_tbl := lw_at lw_m1 191 rfl
theorem q268 : (Jvm.Cond.fieldLinkNest "StepDebts" (335 : Nat) "StepDebts$Scene" "night" "Z" "StepDebts") ∈ lw_tbl := lw_at lw_m1 193 rfl
theorem q270 : (Jvm.Cond.fieldLinkNest "StepDebts" (341 : Nat) "StepDebts$Scene" "own" "Z" "StepDebts") ∈ lw_tbl := lw_at lw_m1 195 rfl
theorem q286 : (Jvm.Cond.classLink "StepDebts" (30 : Nat) "StepDebts$Plan") ∈ lw_all := lw_g (lw_at lw_m1 211 rfl) rfl
theorem q288 : (Jvm.Cond.methodLinkNest "StepDebts" (32 : Nat) ({ cls := "StepDebts$Plan", name := "<init>", desc := "(LStepDebts;)V" } : Jvm.MethodName) "StepDebts") ∈ lw_tbl := lw_at lw_m1 213 rfl
theorem q320 : (Jvm.Cond.fieldLink "StepDebts" (10 : Nat) "StepDebts" "world" "LStepDebts$World;") ∈ lw_all := lw_g (lw_at lw_m2 5 rfl) rfl
theorem q322 : (Jvm.Cond.fieldLink "StepDebts" (492 : Nat) "StepDebts" "image" "LStepDebts$World;") ∈ lw_all := lw_g (lw_at lw_m2 7 rfl) rfl
theorem q323 : (Jvm.Cond.fieldLink "StepDebts" (19 : Nat) "StepDebts" "reader" "LStepDebts$Reader;") ∈ lw_all := lw_g (lw_at lw_m2 8 rfl) rfl
theorem q324 : (Jvm.Cond.fieldLink "StepDebts" (26 : Nat) "StepDebts" "scene" "LStepDebts$Scene;") ∈ lw_all := lw_g (lw_at lw_m2 9 rfl) rfl
theorem q325 : (Jvm.Cond.fieldLink "StepDebts" (35 : Nat) "StepDebts" "plan" "LStepDebts$Plan;") ∈ lw_all := lw_g (lw_at lw_m2 10 rfl) rfl
theorem q326 : (Jvm.Cond.fieldLink "StepDebts" (39 : Nat) "StepDebts" "ashes" "[I") ∈ lw_all := lw_g (lw_at lw_m2 11 rfl) rfl
theorem q327 : (Jvm.Cond.fieldLink "StepDebts" (470 : Nat) "StepDebts" "many" "I") ∈ lw_all := lw_g (lw_at lw_m2 12 rfl) rfl
theorem q328 : (Jvm.Cond.lays "StepDebts" "StepDebts" "world" "LStepDebts$World;") ∈ lw_all := lw_g (lw_at lw_m2 13 rfl) rfl
theorem q329 : (Jvm.Cond.soleField "StepDebts" "world") ∈ lw_all := lw_g (lw_at lw_m2 14 rfl) rfl
theorem q330 : (Jvm.Cond.lays "StepDebts" "StepDebts" "image" "LStepDebts$World;") ∈ lw_all := lw_g (lw_at lw_m2 15 rfl) rfl
theorem q331 : (Jvm.Cond.soleField "StepDebts" "image") ∈ lw_all := lw_g (lw_at lw_m2 16 rfl) rfl
theorem q332 : (Jvm.Cond.laysFinal "StepDebts" "StepDebts" "reader" "LStepDebts$Reader;") ∈ lw_all := lw_g (lw_at lw_m2 17 rfl) rfl
theorem q333 : (Jvm.Cond.soleField "StepDebts" "reader") ∈ lw_all := lw_g (lw_at lw_m2 18 rfl) rfl
theorem q334 : (Jvm.Cond.laysFinal "StepDebts" "StepDebts" "scene" "LStepDebts$Scene;") ∈ lw_all := lw_g (lw_at lw_m2 19 rfl) rfl
theorem q335 : (Jvm.Cond.soleField "StepDebts" "scene") ∈ lw_all := lw_g (lw_at lw_m2 20 rfl) rfl
theorem q336 : (Jvm.Cond.laysFinal "StepDebts" "StepDebts" "plan" "LStepDebts$Plan;") ∈ lw_all := lw_g (lw_at lw_m2 21 rfl) rfl
theorem q337 : (Jvm.Cond.soleField "StepDebts" "plan") ∈ lw_all := lw_g (lw_at lw_m2 22 rfl) rfl
theorem q338 : (Jvm.Cond.laysFinal "StepDebts" "StepDebts" "ashes" "[I") ∈ lw_all := lw_g (lw_at lw_m2 23 rfl) rfl
theorem q339 : (Jvm.Cond.soleField "StepDebts" "ashes") ∈ lw_all := lw_g (lw_at lw_m2 24 rfl) rfl
theorem q340 : (Jvm.Cond.lays "StepDebts" "StepDebts" "many" "I") ∈ lw_all := lw_g (lw_at lw_m2 25 rfl) rfl
theorem q341 : (Jvm.Cond.soleField "StepDebts" "many") ∈ lw_all := lw_g (lw_at lw_m2 26 rfl) rfl
theorem q342 : (Jvm.Cond.superclass "StepDebts" "java/lang/Object") ∈ lw_all := lw_g (lw_at lw_m2 27 rfl) rfl
theorem q344 : (Jvm.Cond.instanceMethod ({ cls := "StepDebts", name := "feed", desc := "(IIIII)I" } : Jvm.MethodName)) ∈ lw_all := lw_g (lw_at lw_m2 29 rfl) rfl
theorem q345 : (Jvm.Cond.selects "StepDebts" ({ cls := "StepDebts", name := "feed", desc := "(IIIII)I" } : Jvm.MethodName) ({ cls := "StepDebts", name := "feed", desc := "(IIIII)I" } : Jvm.MethodName)) ∈ lw_all := lw_g (lw_at lw_m2 30 rfl) rfl
theorem q346 : (Jvm.Cond.code ({ cls := "StepDebts", name := "feed", desc := "(IIIII)I" } : Jvm.MethodName) prog_1_method_3_code (6 : Nat) (Option.some Jvm.ClassFile.FieldType.int)) ∈ lw_all := lw_g (lw_at lw_m2 31 rfl) rfl
theorem q347 : (Jvm.Cond.methodLink "StepDebts" (43 : Nat) ({ cls := "StepDebts$Reader", name := "add", desc := "([I)I" } : Jvm.MethodName)) ∈ lw_all := lw_g (lw_at lw_m2 32 rfl) rfl
theorem q352 : (Jvm.Cond.instanceMethod ({ cls := "StepDebts", name := "end", desc := "(I)Z" } : Jvm.MethodName)) ∈ lw_all := lw_g (lw_at lw_m2 37 rfl) rfl
theorem q353 : (Jvm.Cond.selects "StepDebts" ({ cls := "StepDebts", name := "end", desc := "(I)Z" } : Jvm.MethodName) ({ cls := "StepDebts", name := "end", desc := "(I)Z" } : Jvm.MethodName)) ∈ lw_all := lw_g (lw_at lw_m2 38 rfl) rfl
theorem q354 : (Jvm.Cond.code ({ cls := "StepDebts", name := "end", desc := "(I)Z" } : Jvm.MethodName) prog_1_method_4_code (2 : Nat) (Option.some Jvm.ClassFile.FieldType.boolean)) ∈ lw_all := lw_g (lw_at lw_m2 39 rfl) rfl
theorem q355 : (Jvm.Cond.methodLink "StepDebts" (47 : Nat) ({ cls := "StepDebts$Reader", name := "cut", desc := "(I)Z" } : Jvm.MethodName)) ∈ lw_all := lw_g (lw_at lw_m2 40 rfl) rfl
theorem q360 : (Jvm.Cond.instanceMethod ({ cls := "StepDebts", name := "fault", desc := "()I" } : Jvm.MethodName)) ∈ lw_all := lw_g (lw_at lw_m2 45 rfl) rfl
theorem q361 : (Jvm.Cond.selects "StepDebts" ({ cls := "StepDebts", name := "fault", desc := "()I" } : Jvm.MethodName) ({ cls := "StepDebts", name := "fault", desc := "()I" } : Jvm.MethodName)) ∈ lw_all := lw_g (lw_at lw_m2 46 rfl) rfl
theorem q362 : (Jvm.Cond.code ({ cls := "StepDebts", name := "fault", desc := "()I" } : Jvm.MethodName) prog_1_method_5_code (1 : Nat) (Option.some Jvm.ClassFile.FieldType.int)) ∈ lw_all := lw_g (lw_at lw_m2 47 rfl) rfl
theorem q364 : (Jvm.Cond.instanceMethod ({ cls := "StepDebts", name := "undo", desc := "()I" } : Jvm.MethodName)) ∈ lw_all := lw_g (lw_at lw_m2 49 rfl) rfl
theorem q365 : (Jvm.Cond.selects "StepDebts" ({ cls := "StepDebts", name := "undo", desc := "()I" } : Jvm.MethodName) ({ cls := "StepDebts", name := "undo", desc := "()I" } : Jvm.MethodName)) ∈ lw_all := lw_g (lw_at lw_m2 50 rfl) rfl
theorem q366 : (Jvm.Cond.code ({ cls := "StepDebts", name := "undo", desc := "()I" } : Jvm.MethodName) prog_1_method_36_code (4 : Nat) (Option.some Jvm.ClassFile.FieldType.int)) ∈ lw_all := lw_g (lw_at lw_m2 51 rfl) rfl
theorem q367 : (Jvm.Cond.methodLink "StepDebts" (59 : Nat) ({ cls := "java/util/ArrayList", name := "size", desc := "()I" } : Jvm.MethodName)) ∈ lw_all := lw_g (lw_at lw_m2 52 rfl) rfl
theorem q371 : (Jvm.Cond.methodLink "StepDebts" (313 : Nat) ({ cls := "java/util/ArrayList", name := "get", desc := "(I)Ljava/lang/Object;" } : Jvm.MethodName)) ∈ lw_all := lw_g (lw_at lw_m2 56 rfl) rfl
theorem q385 : (Jvm.Cond.classLink "StepDebts" (377 : Nat) "StepDebts$Entry") ∈ lw_all := lw_g (lw_at lw_m2 70 rfl) rfl
theorem q386 : (Jvm.Cond.methodLink "StepDebts" (425 : Nat) ({ cls := "java/util/ArrayList", name := "remove", desc := "(I)Ljava/lang/Object;" } : Jvm.MethodName)) ∈ lw_all := lw_g (lw_at lw_m2 71 rfl) rfl
theorem q397 : (Jvm.Cond.classLink "StepDebts" (147 : Nat) "StepDebts$Turn") ∈ lw_all := lw_g (lw_at lw_m2 82 rfl) rfl
theorem q398 : (Jvm.Cond.methodLink "StepDebts" (428 : Nat) ({ cls := "java/lang/Math", name := "max", desc := "(II)I" } : Jvm.MethodName)) ∈ lw_all := lw_g (lw_at lw_m2 83 rfl) rfl
theorem q402 : (Jvm.Cond.instanceMethod ({ cls := "StepDebts", name := "missed", desc := "()I" } : Jvm.MethodName)) ∈ lw_all := lw_g (lw_at lw_m2 87 rfl) rfl
theorem q403 : (Jvm.Cond.selects "StepDebts" ({ cls := "StepDebts", name := "missed", desc := "()I" } : Jvm.MethodName) ({ cls := "StepDebts", name := "missed", desc := "()I" } : Jvm.MethodName)) ∈ lw_all := lw_g (lw_at lw_m2 88 rfl) rfl
theorem q404 : (Jvm.Cond.code ({ cls := "StepDebts", name := "missed", desc := "()I" } : Jvm.MethodName) prog_1_method_43_code (2 : Nat) (Option.some Jvm.ClassFile.FieldType.int)) ∈ lw_all := lw_g (lw_at lw_m2 89 rfl) rfl
theorem q405 : (Jvm.Cond.methodLink "StepDebts" (390 : Nat) ({ cls := "StepDebts$World", name := "missed", desc := "(I)I" } : Jvm.MethodName)) ∈ lw_all := lw_g (lw_at lw_m2 90 rfl) rfl
theorem q414 : (Jvm.Cond.instanceMethod ({ cls := "StepDebts", name := "ways", desc := "()J" } : Jvm.MethodName)) ∈ lw_all := lw_g (lw_at lw_m2 99 rfl) rfl
theorem q415 : (Jvm.Cond.selects "StepDebts" ({ cls := "StepDebts", name := "ways", desc := "()J" } : Jvm.MethodName) ({ cls := "StepDebts", name := "ways", desc := "()J" } : Jvm.MethodName)) ∈ lw_all := lw_g (lw_at lw_m2 100 rfl) rfl
theorem q416 : (Jvm.Cond.code ({ cls := "StepDebts", name := "ways", desc := "()J" } : Jvm.MethodName) prog_1_method_54_code (6 : Nat) (Option.some Jvm.ClassFile.FieldType.long)) ∈ lw_all := lw_g (lw_at lw_m2 101 rfl) rfl
theorem q417 : (Jvm.Cond.methodLink "StepDebts" (479 : Nat) ({ cls := "StepDebts", name := "lost", desc := "(I)I" } : Jvm.MethodName)) ∈ lw_all := lw_g (lw_at lw_m2 102 rfl) rfl
theorem q418 : (Jvm.Cond.privateMethod ({ cls := "StepDebts", name := "lost", desc := "(I)I" } : Jvm.MethodName)) ∈ lw_tbl := lw_at lw_m2 103 rfl
theorem q419 : (Jvm.Cond.instanceMethod ({ cls := "StepDebts", name := "lost", desc := "(I)I" } : Jvm.MethodName)) ∈ lw_all := lw_g (lw_at lw_m2 104 rfl) rfl
theorem q420 : (Jvm.Cond.code ({ cls := "StepDebts", name := "lost", desc := "(I)I" } : Jvm.MethodName) prog_1_method_51_code (4 : Nat) (Option.some Jvm.ClassFile.FieldType.int)) ∈ lw_all := lw_g (lw_at lw_m2 105 rfl) rfl
theorem q422 : (Jvm.Cond.instanceMethod ({ cls := "StepDebts", name := "seed", desc := "(I)I" } : Jvm.MethodName)) ∈ lw_all := lw_g (lw_at lw_m2 107 rfl) rfl
theorem q423 : (Jvm.Cond.selects "StepDebts" ({ cls := "StepDebts", name := "seed", desc := "(I)I" } : Jvm.MethodName) ({ cls := "StepDebts", name := "seed", desc := "(I)I" } : Jvm.MethodName)) ∈ lw_all := lw_g (lw_at lw_m2 108 rfl) rfl
theorem q424 : (Jvm.Cond.code ({ cls := "StepDebts", name := "seed", desc := "(I)I" } : Jvm.MethodName) prog_1_method_57_code (3 : Nat) (Option.some Jvm.ClassFile.FieldType.int)) ∈ lw_all := lw_g (lw_at lw_m2 109 rfl) rfl
theorem q426 : (Jvm.Cond.instanceMethod ({ cls := "StepDebts", name := "image", desc := "()V" } : Jvm.MethodName)) ∈ lw_all := lw_g (lw_at lw_m2 111 rfl) rfl
theorem q427 : (Jvm.Cond.selects "StepDebts" ({ cls := "StepDebts", name := "image", desc := "()V" } : Jvm.MethodName) ({ cls := "StepDebts", name := "image", desc := "()V" } : Jvm.MethodName)) ∈ lw_all := lw_g (lw_at lw_m2 112 rfl) rfl
theorem q428 : (Jvm.Cond.code ({ cls := "StepDebts", name := "image", desc := "()V" } : Jvm.MethodName) prog_1_method_58_code (1 : Nat) (Option.none : Option Jvm.ClassFile.FieldType)) ∈ lw_all := lw_g (lw_at lw_m2 113 rfl) rfl
theorem q429 : (Jvm.Cond.methodLink "StepDebts" (185 : Nat) ({ cls := "StepDebts$World", name := "copy", desc := "()LStepDebts$World;" } : Jvm.MethodName)) ∈ lw_all := lw_g (lw_at lw_m2 114 rfl) rfl
theorem q448 : (Jvm.Cond.fieldLinkNest "StepDebts" (317 : Nat) "StepDebts$Walker" "sort" "I" "StepDebts") ∈ lw_tbl := lw_at lw_m2 133 rfl
theorem q450 : (Jvm.Cond.fieldLinkNest "StepDebts" (321 : Nat) "StepDebts$Walker" "age" "I" "StepDebts") ∈ lw_tbl := lw_at lw_m2 135 rfl
theorem q452 : (Jvm.Cond.fieldLinkNest "StepDebts" (372 : Nat) "StepDebts$Walker" "zeal" "I" "StepDebts") ∈ lw_tbl := lw_at lw_m2 137 rfl
theorem q455 : (Jvm.Cond.fieldLinkNest "StepDebts" (339 : Nat) "StepDebts$Walker" "house" "I" "StepDebts") ∈ lw_tbl := lw_at lw_m2 140 rfl
theorem q495 : (Jvm.Cond.selects "StepDebts" ({ cls := "java/lang/Object", name := "getClass", desc := "()Ljava/lang/Class;" } : Jvm.MethodName) ({ cls := "java/lang/Object", name := "getClass", desc := "()Ljava/lang/Class;" } : Jvm.MethodName)) ∈ lw_all := lw_g (lw_at lw_m2 180 rfl) rfl
theorem q551 : (Jvm.Cond.fieldLinkNest "StepDebts" (387 : Nat) "StepDebts$Turn" "length" "I" "StepDebts") ∈ lw_tbl := lw_at lw_m2 236 rfl
theorem q554 : (Jvm.Cond.fieldLinkNest "StepDebts" (325 : Nat) "StepDebts$Turn" "wear" "I" "StepDebts") ∈ lw_tbl := lw_at lw_m2 239 rfl
theorem q557 : (Jvm.Cond.fieldLinkNest "StepDebts" (442 : Nat) "StepDebts$Turn" "mended" "I" "StepDebts") ∈ lw_tbl := lw_at lw_m3 2 rfl
theorem q579 : (Jvm.Cond.fieldLinkNest "StepDebts" (382 : Nat) "StepDebts$Entry" "day" "I" "StepDebts") ∈ lw_tbl := lw_at lw_m3 24 rfl
theorem q582 : (Jvm.Cond.fieldLinkNest "StepDebts" (379 : Nat) "StepDebts$Entry" "walker" "I" "StepDebts") ∈ lw_tbl := lw_at lw_m3 27 rfl
theorem q585 : (Jvm.Cond.fieldLinkNest "StepDebts" (399 : Nat) "StepDebts$Entry" "house" "I" "StepDebts") ∈ lw_tbl := lw_at lw_m3 30 rfl
theorem q588 : (Jvm.Cond.fieldLinkNest "StepDebts" (400 : Nat) "StepDebts$Entry" "turns" "I" "StepDebts") ∈ lw_tbl := lw_at lw_m3 33 rfl
theorem q590 : (Jvm.Cond.fieldLinkNest "StepDebts" (393 : Nat) "StepDebts$Entry" "taken" "I" "StepDebts") ∈ lw_tbl := lw_at lw_m3 35 rfl
theorem q593 : (Jvm.Cond.fieldLinkNest "StepDebts" (402 : Nat) "StepDebts$Entry" "night" "Z" "StepDebts") ∈ lw_tbl := lw_at lw_m3 38 rfl
theorem q596 : (Jvm.Cond.fieldLinkNest "StepDebts" (396 : Nat) "StepDebts$Entry" "burnt" "Z" "StepDebts") ∈ lw_tbl := lw_at lw_m3 41 rfl
theorem q629 : (Jvm.Cond.instanceMethod ({ cls := "StepDebts", name := "back", desc := "()Z" } : Jvm.MethodName)) ∈ lw_all := lw_g (lw_at lw_m3 74 rfl) rfl
theorem q630 : (Jvm.Cond.selects "StepDebts" ({ cls := "StepDebts", name := "back", desc := "()Z" } : Jvm.MethodName) ({ cls := "StepDebts", name := "back", desc := "()Z" } : Jvm.MethodName)) ∈ lw_all := lw_g (lw_at lw_m3 75 rfl) rfl
theorem q631 : (Jvm.Cond.code ({ cls := "StepDebts", name := "back", desc := "()Z" } : Jvm.MethodName) prog_1_method_59_code (1 : Nat) (Option.some Jvm.ClassFile.FieldType.boolean)) ∈ lw_all := lw_g (lw_at lw_m3 76 rfl) rfl
theorem q633 : (Jvm.Cond.instanceMethod ({ cls := "StepDebts", name := "count", desc := "(I)I" } : Jvm.MethodName)) ∈ lw_all := lw_g (lw_at lw_m3 78 rfl) rfl
theorem q634 : (Jvm.Cond.selects "StepDebts" ({ cls := "StepDebts", name := "count", desc := "(I)I" } : Jvm.MethodName) ({ cls := "StepDebts", name := "count", desc := "(I)I" } : Jvm.MethodName)) ∈ lw_all := lw_g (lw_at lw_m3 79 rfl) rfl
theorem q635 : (Jvm.Cond.code ({ cls := "StepDebts", name := "count", desc := "(I)I" } : Jvm.MethodName) prog_1_method_61_code (3 : Nat) (Option.some Jvm.ClassFile.FieldType.int)) ∈ lw_all := lw_g (lw_at lw_m3 80 rfl) rfl
theorem q636 : (Jvm.Cond.methodLink "StepDebts" (468 : Nat) ({ cls := "StepDebts$World", name := "burnt", desc := "()I" } : Jvm.MethodName)) ∈ lw_all := lw_g (lw_at lw_m3 81 rfl) rfl
theorem q640 : (Jvm.Cond.methodLink "StepDebts" (495 : Nat) ({ cls := "StepDebts", name := "sum", desc := "(Z)I" } : Jvm.MethodName)) ∈ lw_all := lw_g (lw_at lw_m3 85 rfl) rfl
theorem q641 : (Jvm.Cond.privateMethod ({ cls := "StepDebts", name := "sum", desc := "(Z)I" } : Jvm.MethodName)) ∈ lw_tbl := lw_at lw_m3 86 rfl
theorem q642 : (Jvm.Cond.instanceMethod ({ cls := "StepDebts", name := "sum", desc := "(Z)I" } : Jvm.MethodName)) ∈ lw_all := lw_g (lw_at lw_m3 87 rfl) rfl
theorem q643 : (Jvm.Cond.code ({ cls := "StepDebts", name := "sum", desc := "(Z)I" } : Jvm.MethodName) prog_1_method_60_code (4 : Nat) (Option.some Jvm.ClassFile.FieldType.int)) ∈ lw_all := lw_g (lw_at lw_m3 88 rfl) rfl
theorem q650 : (Jvm.Cond.instanceMethod ({ cls := "StepDebts", name := "people", desc := "()I" } : Jvm.MethodName)) ∈ lw_all := lw_g (lw_at lw_m3 95 rfl) rfl
theorem q651 : (Jvm.Cond.selects "StepDebts" ({ cls := "StepDebts", name := "people", desc := "()I" } : Jvm.MethodName) ({ cls := "StepDebts", name := "people", desc := "()I" } : Jvm.MethodName)) ∈ lw_all := lw_g (lw_at lw_m3 96 rfl) rfl
theorem q652 : (Jvm.Cond.codeWith ({ cls := "StepDebts", name := "people", desc := "()I" } : Jvm.MethodName) prog_1_method_13_code (3 : Nat) (Option.some Jvm.ClassFile.FieldType.int) [((15 : Nat), (28 : Nat), (31 : Nat), (192 : Nat))]) ∈ lw_all := lw_g (lw_at lw_m3 97 rfl) rfl
theorem q653 : (Jvm.Cond.classLink "StepDebts" (192 : Nat) "StepDebts$Wrong") ∈ lw_all := lw_g (lw_at lw_m3 98 rfl) rfl
theorem q654 : (Jvm.Cond.methodLink "StepDebts" (182 : Nat) ({ cls := "StepDebts$Reader", name := "begins", desc := "()V" } : Jvm.MethodName)) ∈ lw_all := lw_g (lw_at lw_m3 99 rfl) rfl
theorem q658 : (Jvm.Cond.methodLink "StepDebts" (189 : Nat) ({ cls := "StepDebts", name := "peopleText", desc := "(LStepDebts$World;)V" } : Jvm.MethodName)) ∈ lw_all := lw_g (lw_at lw_m3 103 rfl) rfl
theorem q659 : (Jvm.Cond.privateMethod ({ cls := "StepDebts", name := "peopleText", desc := "(LStepDebts$World;)V" } : Jvm.MethodName)) ∈ lw_tbl := lw_at lw_m3 104 rfl
theorem q660 : (Jvm.Cond.instanceMethod ({ cls := "StepDebts", name := "peopleText", desc := "(LStepDebts$World;)V" } : Jvm.MethodName)) ∈ lw_all := lw_g (lw_at lw_m3 105 rfl) rfl
theorem q661 : (Jvm.Cond.code ({ cls := "StepDebts", name := "peopleText", desc := "(LStepDebts$World;)V" } : Jvm.MethodName) prog_1_method_9_code (3 : Nat) (Option.none : Option Jvm.ClassFile.FieldType)) ∈ lw_all := lw_g (lw_at lw_m3 106 rfl) rfl
theorem q662 : (Jvm.Cond.methodLink "StepDebts" (160 : Nat) ({ cls := "StepDebts$Reader", name := "isOver", desc := "()Z" } : Jvm.MethodName)) ∈ lw_all := lw_g (lw_at lw_m3 107 rfl) rfl
theorem q674 : (Jvm.Cond.methodLink "StepDebts" (164 : Nat) ({ cls := "StepDebts", name := "noMore", desc := "(II)V" } : Jvm.MethodName)) ∈ lw_all := lw_g (lw_at lw_m3 119 rfl) rfl
theorem q675 : (Jvm.Cond.privateMethod ({ cls := "StepDebts", name := "noMore", desc := "(II)V" } : Jvm.MethodName)) ∈ lw_tbl := lw_at lw_m3 120 rfl
theorem q676 : (Jvm.Cond.instanceMethod ({ cls := "StepDebts", name := "noMore", desc := "(II)V" } : Jvm.MethodName)) ∈ lw_all := lw_g (lw_at lw_m3 121 rfl) rfl
theorem q677 : (Jvm.Cond.code ({ cls := "StepDebts", name := "noMore", desc := "(II)V" } : Jvm.MethodName) prog_1_method_10_code (3 : Nat) (Option.none : Option Jvm.ClassFile.FieldType)) ∈ lw_all := lw_g (lw_at lw_m3 122 rfl) rfl
theorem q678 : (Jvm.Cond.methodLink "StepDebts" (73 : Nat) ({ cls := "StepDebts$Reader", name := "word", desc := "()Ljava/lang/String;" } : Jvm.MethodName)) ∈ lw_all := lw_g (lw_at lw_m3 123 rfl) rfl
theorem q683 : (Jvm.Cond.static ({ cls := "StepDebts", name := "in", desc := "(III)Z" } : Jvm.MethodName)) ∈ lw_all := lw_g (lw_at lw_m3 128 rfl) rfl
theorem q684 : (Jvm.Cond.code ({ cls := "StepDebts", name := "in", desc := "(III)Z" } : Jvm.MethodName) prog_1_method_2_code (3 : Nat) (Option.some Jvm.ClassFile.FieldType.boolean)) ∈ lw_all := lw_g (lw_at lw_m3 129 rfl) rfl
theorem q1002 : (Jvm.Cond.methodLink "StepDebts" (65 : Nat) ({ cls := "StepDebts$Reader", name := "wrong", desc := "()LStepDebts$Wrong;" } : Jvm.MethodName)) ∈ lw_all := lw_g (lw_at lw_m4 207 rfl) rfl
theorem q1026 : (Jvm.Cond.methodLink "StepDebts" (167 : Nat) ({ cls := "StepDebts", name := "peopleLine", desc := "(LStepDebts$World;)V" } : Jvm.MethodName)) ∈ lw_all := lw_g (lw_at lw_m4 231 rfl) rfl
theorem q1027 : (Jvm.Cond.privateMethod ({ cls := "StepDebts", name := "peopleLine", desc := "(LStepDebts$World;)V" } : Jvm.MethodName)) ∈ lw_tbl := lw_at lw_m4 232 rfl
theorem q1028 : (Jvm.Cond.instanceMethod ({ cls := "StepDebts", name := "peopleLine", desc := "(LStepDebts$World;)V" } : Jvm.MethodName)) ∈ lw_all := lw_g (lw_at lw_m4 233 rfl) rfl
theorem q1029 : (Jvm.Cond.code ({ cls := "StepDebts", name := "peopleLine", desc := "(LStepDebts$World;)V" } : Jvm.MethodName) prog_1_method_8_code (5 : Nat) (Option.none : Option Jvm.ClassFile.FieldType)) ∈ lw_all := lw_g (lw_at lw_m4 234 rfl) rfl
theorem q1030 : (Jvm.Cond.methodLink "StepDebts" (116 : Nat) ({ cls := "java/lang/String", name := "hashCode", desc := "()I" } : Jvm.MethodName)) ∈ lw_all := lw_g (lw_at lw_m4 235 rfl) rfl
theorem q1091 : (Jvm.Cond.stringRef "StepDebts" (119 : Nat) "house") ∈ lw_tbl := lw_at lw_m5 56 rfl
theorem q1092 : (Jvm.Cond.methodLink "StepDebts" (79 : Nat) ({ cls := "java/lang/String", name := "equals", desc := "(Ljava/lang/Object;)Z" } : Jvm.MethodName)) ∈ lw_all := lw_g (lw_at lw_m5 57 rfl) rfl
theorem q1100 : (Jvm.Cond.stringRef "StepDebts" (121 : Nat) "man") ∈ lw_tbl := lw_at lw_m5 65 rfl
theorem q1101 : (Jvm.Cond.stringRef "StepDebts" (123 : Nat) "child") ∈ lw_tbl := lw_at lw_m5 66 rfl
theorem q1102 : (Jvm.Cond.stringRef "StepDebts" (125 : Nat) "donkey") ∈ lw_tbl := lw_at lw_m5 67 rfl
theorem q1103 : (Jvm.Cond.stringRef "StepDebts" (127 : Nat) "cripple") ∈ lw_tbl := lw_at lw_m5 68 rfl
theorem q1104 : (Jvm.Cond.stringRef "StepDebts" (129 : Nat) "turn") ∈ lw_tbl := lw_at lw_m5 69 rfl
theorem q1105 : (Jvm.Cond.stringRef "StepDebts" (131 : Nat) "limit") ∈ lw_tbl := lw_at lw_m5 70 rfl
theorem q1106 : (Jvm.Cond.stringRef "StepDebts" (133 : Nat) "rest") ∈ lw_tbl := lw_at lw_m5 71 rfl
theorem q1107 : (Jvm.Cond.stringRef "StepDebts" (135 : Nat) "offer") ∈ lw_tbl := lw_at lw_m5 72 rfl
theorem q1108 : (Jvm.Cond.constant "StepDebts" (104 : Nat) (99999 : Int32)) ∈ lw_all := lw_g (lw_at lw_m5 73 rfl) rfl
theorem q1109 : (Jvm.Cond.methodLink "StepDebts" (105 : Nat) ({ cls := "StepDebts$Reader", name := "figures", desc := "(III)I" } : Jvm.MethodName)) ∈ lw_all := lw_g (lw_at lw_m5 74 rfl) rfl
theorem q1114 : (Jvm.Cond.methodLink "StepDebts" (140 : Nat) ({ cls := "StepDebts", name := "walkerTold", desc := "(LStepDebts$World;I)V" } : Jvm.MethodName)) ∈ lw_all := lw_g (lw_at lw_m5 79 rfl) rfl
theorem q1115 : (Jvm.Cond.privateMethod ({ cls := "StepDebts", name := "walkerTold", desc := "(LStepDebts$World;I)V" } : Jvm.MethodName)) ∈ lw_tbl := lw_at lw_m5 80 rfl
theorem q1116 : (Jvm.Cond.instanceMethod ({ cls := "StepDebts", name := "walkerTold", desc := "(LStepDebts$World;I)V" } : Jvm.MethodName)) ∈ lw_all := lw_g (lw_at lw_m5 81 rfl) rfl
theorem q1117 : (Jvm.Cond.code ({ cls := "StepDebts", name := "walkerTold", desc := "(LStepDebts$World;I)V" } : Jvm.MethodName) prog_1_method_6_code (6 : Nat) (Option.none : Option Jvm.ClassFile.FieldType)) ∈ lw_all := lw_g (lw_at lw_m5 82 rfl) rfl
theorem q1118 : (Jvm.Cond.methodLink "StepDebts" (69 : Nat) ({ cls := "StepDebts$Reader", name := "number", desc := "(II)I" } : Jvm.MethodName)) ∈ lw_all := lw_g (lw_at lw_m5 83 rfl) rfl
theorem q1123 : (Jvm.Cond.stringRef "StepDebts" (77 : Nat) "of") ∈ lw_tbl := lw_at lw_m5 88 rfl
theorem q1124 : (Jvm.Cond.classLink "StepDebts" (88 : Nat) "StepDebts$Walker") ∈ lw_all := lw_g (lw_at lw_m5 89 rfl) rfl
theorem q1125 : (Jvm.Cond.stringRef "StepDebts" (90 : Nat) "zeal") ∈ lw_tbl := lw_at lw_m5 90 rfl
theorem q1126 : (Jvm.Cond.methodLink "StepDebts" (92 : Nat) ({ cls := "StepDebts$Reader", name := "passes", desc := "(Ljava/lang/String;)Z" } : Jvm.MethodName)) ∈ lw_all := lw_g (lw_at lw_m5 91 rfl) rfl
theorem q1132 : (Jvm.Cond.methodLink "StepDebts" (96 : Nat) ({ cls := "StepDebts$Walker", name := "<init>", desc := "(IIII)V" } : Jvm.MethodName)) ∈ lw_all := lw_g (lw_at lw_m5 97 rfl) rfl
theorem q1133 : (Jvm.Cond.methodLink "StepDebts" (99 : Nat) ({ cls := "java/util/ArrayList", name := "add", desc := "(Ljava/lang/Object;)Z" } : Jvm.MethodName)) ∈ lw_all := lw_g (lw_at lw_m5 98 rfl) rfl
theorem q1134 : (Jvm.Cond.methodLink "StepDebts" (149 : Nat) ({ cls := "StepDebts$Turn", name := "<init>", desc := "(I)V" } : Jvm.MethodName)) ∈ lw_all := lw_g (lw_at lw_m5 99 rfl) rfl
theorem q1135 : (Jvm.Cond.methodLink "StepDebts" (156 : Nat) ({ cls := "StepDebts", name := "offerTold", desc := "(LStepDebts$World;)V" } : Jvm.MethodName)) ∈ lw_all := lw_g (lw_at lw_m5 100 rfl) rfl
theorem q1136 : (Jvm.Cond.privateMethod ({ cls := "StepDebts", name := "offerTold", desc := "(LStepDebts$World;)V" } : Jvm.MethodName)) ∈ lw_tbl := lw_at lw_m5 101 rfl
theorem q1137 : (Jvm.Cond.instanceMethod ({ cls := "StepDebts", name := "offerTold", desc := "(LStepDebts$World;)V" } : Jvm.MethodName)) ∈ lw_all := lw_g (lw_at lw_m5 102 rfl) rfl
theorem q1138 : (Jvm.Cond.code ({ cls := "StepDebts", name := "offerTold", desc := "(LStepDebts$World;)V" } : Jvm.MethodName) prog_1_method_7_code (4 : Nat) (Option.none : Option Jvm.ClassFile.FieldType)) ∈ lw_all := lw_g (lw_at lw_m5 103 rfl) rfl
theorem q1139 : (Jvm.Cond.stringRef "StepDebts" (109 : Nat) "for") ∈ lw_tbl := lw_at lw_m5 104 rfl
theorem q1140 : (Jvm.Cond.classLink "StepDebts" (111 : Nat) "StepDebts$Offer") ∈ lw_all := lw_g (lw_at lw_m5 105 rfl) rfl
theorem q1142 : (Jvm.Cond.methodLink "StepDebts" (113 : Nat) ({ cls := "StepDebts$Offer", name := "<init>", desc := "(II)V" } : Jvm.MethodName)) ∈ lw_all := lw_g (lw_at lw_m5 107 rfl) rfl
theorem q1147 : (Jvm.Cond.fieldLinkNest "StepDebts" (445 : Nat) "StepDebts$Offer" "paces" "I" "StepDebts") ∈ lw_tbl := lw_at lw_m5 112 rfl
theorem q1149 : (Jvm.Cond.fieldLinkNest "StepDebts" (446 : Nat) "StepDebts$Offer" "price" "I" "StepDebts") ∈ lw_tbl := lw_at lw_m5 114 rfl
theorem q1155 : (Jvm.Cond.methodLink "StepDebts" (170 : Nat) ({ cls := "StepDebts", name := "goesOn", desc := "()Z" } : Jvm.MethodName)) ∈ lw_all := lw_g (lw_at lw_m5 120 rfl) rfl
theorem q1156 : (Jvm.Cond.privateMethod ({ cls := "StepDebts", name := "goesOn", desc := "()Z" } : Jvm.MethodName)) ∈ lw_tbl := lw_at lw_m5 121 rfl
theorem q1157 : (Jvm.Cond.instanceMethod ({ cls := "StepDebts", name := "goesOn", desc := "()Z" } : Jvm.MethodName)) ∈ lw_all := lw_g (lw_at lw_m5 122 rfl) rfl
theorem q1158 : (Jvm.Cond.code ({ cls := "StepDebts", name := "goesOn", desc := "()Z" } : Jvm.MethodName) prog_1_method_11_code (1 : Nat) (Option.some Jvm.ClassFile.FieldType.boolean)) ∈ lw_all := lw_g (lw_at lw_m5 123 rfl) rfl
theorem q1159 : (Jvm.Cond.methodLink "StepDebts" (173 : Nat) ({ cls := "StepDebts$Reader", name := "sign", desc := "(I)Z" } : Jvm.MethodName)) ∈ lw_all := lw_g (lw_at lw_m5 124 rfl) rfl
theorem q1163 : (Jvm.Cond.methodLink "StepDebts" (194 : Nat) ({ cls := "StepDebts", name := "fails", desc := "()V" } : Jvm.MethodName)) ∈ lw_all := lw_g (lw_at lw_m5 128 rfl) rfl
theorem q1164 : (Jvm.Cond.privateMethod ({ cls := "StepDebts", name := "fails", desc := "()V" } : Jvm.MethodName)) ∈ lw_tbl := lw_at lw_m5 129 rfl
theorem q1165 : (Jvm.Cond.instanceMethod ({ cls := "StepDebts", name := "fails", desc := "()V" } : Jvm.MethodName)) ∈ lw_all := lw_g (lw_at lw_m5 130 rfl) rfl
theorem q1166 : (Jvm.Cond.code ({ cls := "StepDebts", name := "fails", desc := "()V" } : Jvm.MethodName) prog_1_method_12_code (1 : Nat) (Option.none : Option Jvm.ClassFile.FieldType)) ∈ lw_all := lw_g (lw_at lw_m5 131 rfl) rfl
theorem q1167 : (Jvm.Cond.classLink "StepDebts" (179 : Nat) "java/lang/IllegalArgumentException") ∈ lw_all := lw_g (lw_at lw_m5 132 rfl) rfl
theorem q1168 : (Jvm.Cond.methodLink "StepDebts" (181 : Nat) ({ cls := "java/lang/IllegalArgumentException", name := "<init>", desc := "()V" } : Jvm.MethodName)) ∈ lw_all := lw_g (lw_at lw_m5 133 rfl) rfl
theorem q1178 : (Jvm.Cond.classLink "StepDebts" (200 : Nat) "java/lang/UnsupportedOperationException") ∈ lw_all := lw_g (lw_at lw_m5 143 rfl) rfl
theorem q1187 : (Jvm.Cond.methodLink "StepDebts" (202 : Nat) ({ cls := "java/lang/UnsupportedOperationException", name := "<init>", desc := "()V" } : Jvm.MethodName)) ∈ lw_all := lw_g (lw_at lw_m5 152 rfl) rfl
theorem q1197 : (Jvm.Cond.instanceMethod ({ cls := "StepDebts", name := "law", desc := "()I" } : Jvm.MethodName)) ∈ lw_all := lw_g (lw_at lw_m5 162 rfl) rfl
theorem q1198 : (Jvm.Cond.selects "StepDebts" ({ cls := "StepDebts", name := "law", desc := "()I" } : Jvm.MethodName) ({ cls := "StepDebts", name := "law", desc := "()I" } : Jvm.MethodName)) ∈ lw_all := lw_g (lw_at lw_m5 163 rfl) rfl
theorem q1199 : (Jvm.Cond.codeWith ({ cls := "StepDebts", name := "law", desc := "()I" } : Jvm.MethodName) prog_1_method_21_code (2 : Nat) (Option.some Jvm.ClassFile.FieldType.int) [((7 : Nat), (26 : Nat), (29 : Nat), (192 : Nat))]) ∈ lw_all := lw_g (lw_at lw_m5 164 rfl) rfl
theorem q1200 : (Jvm.Cond.methodLink "StepDebts" (301 : Nat) ({ cls := "StepDebts", name := "lawText", desc := "()LStepDebts$Law;" } : Jvm.MethodName)) ∈ lw_all := lw_g (lw_at lw_m5 165 rfl) rfl
theorem q1201 : (Jvm.Cond.privateMethod ({ cls := "StepDebts", name := "lawText", desc := "()LStepDebts$Law;" } : Jvm.MethodName)) ∈ lw_tbl := lw_at lw_m5 166 rfl
theorem q1202 : (Jvm.Cond.instanceMethod ({ cls := "StepDebts", name := "lawText", desc := "()LStepDebts$Law;" } : Jvm.MethodName)) ∈ lw_all := lw_g (lw_at lw_m5 167 rfl) rfl
theorem q1203 : (Jvm.Cond.code ({ cls := "StepDebts", name := "lawText", desc := "()LStepDebts$Law;" } : Jvm.MethodName) prog_1_method_20_code (2 : Nat) (Option.some (Jvm.ClassFile.FieldType.object "StepDebts$Law"))) ∈ lw_all := lw_g (lw_at lw_m5 168 rfl) rfl
theorem q1204 : (Jvm.Cond.classLink "StepDebts" (291 : Nat) "StepDebts$Law") ∈ lw_all := lw_g (lw_at lw_m5 169 rfl) rfl
theorem q1206 : (Jvm.Cond.methodLinkNest "StepDebts" (293 : Nat) ({ cls := "StepDebts$Law", name := "<init>", desc := "()V" } : Jvm.MethodName) "StepDebts") ∈ lw_tbl := lw_at lw_m5 171 rfl
theorem q1213 : (Jvm.Cond.fieldLinkNest "StepDebts" (294 : Nat) "StepDebts$Law" "lines" "Ljava/util/ArrayList;" "StepDebts") ∈ lw_tbl := lw_at lw_m5 178 rfl
theorem q1217 : (Jvm.Cond.methodLink "StepDebts" (297 : Nat) ({ cls := "StepDebts", name := "lawLine", desc := "()LStepDebts$Line;" } : Jvm.MethodName)) ∈ lw_all := lw_g (lw_at lw_m5 182 rfl) rfl
theorem q1218 : (Jvm.Cond.privateMethod ({ cls := "StepDebts", name := "lawLine", desc := "()LStepDebts$Line;" } : Jvm.MethodName)) ∈ lw_tbl := lw_at lw_m5 183 rfl
theorem q1219 : (Jvm.Cond.instanceMethod ({ cls := "StepDebts", name := "lawLine", desc := "()LStepDebts$Line;" } : Jvm.MethodName)) ∈ lw_all := lw_g (lw_at lw_m5 184 rfl) rfl
theorem q1220 : (Jvm.Cond.code ({ cls := "StepDebts", name := "lawLine", desc := "()LStepDebts$Line;" } : Jvm.MethodName) prog_1_method_19_code (2 : Nat) (Option.some (Jvm.ClassFile.FieldType.object "StepDebts$Line"))) ∈ lw_all := lw_g (lw_at lw_m5 185 rfl) rfl
theorem q1221 : (Jvm.Cond.stringRef "StepDebts" (282 : Nat) "count") ∈ lw_tbl := lw_at lw_m5 186 rfl
theorem q1222 : (Jvm.Cond.classLink "StepDebts" (284 : Nat) "StepDebts$Line") ∈ lw_all := lw_g (lw_at lw_m5 187 rfl) rfl
theorem q1224 : (Jvm.Cond.stringRef "StepDebts" (286 : Nat) "if") ∈ lw_tbl := lw_at lw_m5 189 rfl
theorem q1225 : (Jvm.Cond.methodLink "StepDebts" (229 : Nat) ({ cls := "StepDebts", name := "cond", desc := "()LStepDebts$Cond;" } : Jvm.MethodName)) ∈ lw_all := lw_g (lw_at lw_m5 190 rfl) rfl
theorem q1226 : (Jvm.Cond.privateMethod ({ cls := "StepDebts", name := "cond", desc := "()LStepDebts$Cond;" } : Jvm.MethodName)) ∈ lw_tbl := lw_at lw_m5 191 rfl
theorem q1227 : (Jvm.Cond.instanceMethod ({ cls := "StepDebts", name := "cond", desc := "()LStepDebts$Cond;" } : Jvm.MethodName)) ∈ lw_all := lw_g (lw_at lw_m5 192 rfl) rfl
theorem q1228 : (Jvm.Cond.code ({ cls := "StepDebts", name := "cond", desc := "()LStepDebts$Cond;" } : Jvm.MethodName) prog_1_method_18_code (2 : Nat) (Option.some (Jvm.ClassFile.FieldType.object "StepDebts$Cond"))) ∈ lw_all := lw_g (lw_at lw_m5 193 rfl) rfl
theorem q1229 : (Jvm.Cond.classLink "StepDebts" (267 : Nat) "StepDebts$Row") ∈ lw_all := lw_g (lw_at lw_m5 194 rfl) rfl
theorem q1231 : (Jvm.Cond.methodLink "StepDebts" (269 : Nat) ({ cls := "StepDebts$Row", name := "<init>", desc := "(Z)V" } : Jvm.MethodName)) ∈ lw_all := lw_g (lw_at lw_m5 196 rfl) rfl
theorem q1239 : (Jvm.Cond.fieldLinkNest "StepDebts" (272 : Nat) "StepDebts$Row" "row" "Ljava/util/ArrayList;" "StepDebts") ∈ lw_tbl := lw_at lw_m5 204 rfl
theorem q1245 : (Jvm.Cond.methodLink "StepDebts" (277 : Nat) ({ cls := "StepDebts", name := "allOf", desc := "()LStepDebts$Cond;" } : Jvm.MethodName)) ∈ lw_all := lw_g (lw_at lw_m5 210 rfl) rfl
theorem q1246 : (Jvm.Cond.privateMethod ({ cls := "StepDebts", name := "allOf", desc := "()LStepDebts$Cond;" } : Jvm.MethodName)) ∈ lw_tbl := lw_at lw_m5 211 rfl
theorem q1247 : (Jvm.Cond.instanceMethod ({ cls := "StepDebts", name := "allOf", desc := "()LStepDebts$Cond;" } : Jvm.MethodName)) ∈ lw_all := lw_g (lw_at lw_m5 212 rfl) rfl
theorem q1248 : (Jvm.Cond.code ({ cls := "StepDebts", name := "allOf", desc := "()LStepDebts$Cond;" } : Jvm.MethodName) prog_1_method_17_code (2 : Nat) (Option.some (Jvm.ClassFile.FieldType.object "StepDebts$Cond"))) ∈ lw_all := lw_g (lw_at lw_m5 213 rfl) rfl
theorem q1249 : (Jvm.Cond.methodLink "StepDebts" (238 : Nat) ({ cls := "StepDebts", name := "atom", desc := "()LStepDebts$Cond;" } : Jvm.MethodName)) ∈ lw_all := lw_g (lw_at lw_m5 214 rfl) rfl
theorem q1250 : (Jvm.Cond.privateMethod ({ cls := "StepDebts", name := "atom", desc := "()LStepDebts$Cond;" } : Jvm.MethodName)) ∈ lw_tbl := lw_at lw_m5 215 rfl
theorem q1251 : (Jvm.Cond.instanceMethod ({ cls := "StepDebts", name := "atom", desc := "()LStepDebts$Cond;" } : Jvm.MethodName)) ∈ lw_all := lw_g (lw_at lw_m5 216 rfl) rfl
theorem q1252 : (Jvm.Cond.code ({ cls := "StepDebts", name := "atom", desc := "()LStepDebts$Cond;" } : Jvm.MethodName) prog_1_method_16_code (6 : Nat) (Option.some (Jvm.ClassFile.FieldType.object "StepDebts$Cond"))) ∈ lw_all := lw_g (lw_at lw_m5 217 rfl) rfl
theorem q1253 : (Jvm.Cond.methodLink "StepDebts" (226 : Nat) ({ cls := "StepDebts$Reader", name := "goesDeeper", desc := "()V" } : Jvm.MethodName)) ∈ lw_all := lw_g (lw_at lw_m5 218 rfl) rfl
theorem q1257 : (Jvm.Cond.methodLink "StepDebts" (233 : Nat) ({ cls := "StepDebts$Reader", name := "comesUp", desc := "()V" } : Jvm.MethodName)) ∈ lw_all := lw_g (lw_at lw_m5 222 rfl) rfl
theorem q1261 : (Jvm.Cond.stringRef "StepDebts" (236 : Nat) "not") ∈ lw_tbl := lw_at lw_m5 226 rfl
theorem q1262 : (Jvm.Cond.classLink "StepDebts" (241 : Nat) "StepDebts$Not") ∈ lw_all := lw_g (lw_at lw_m5 227 rfl) rfl
theorem q1264 : (Jvm.Cond.methodLink "StepDebts" (243 : Nat) ({ cls := "StepDebts$Not", name := "<init>", desc := "(LStepDebts$Cond;)V" } : Jvm.MethodName)) ∈ lw_all := lw_g (lw_at lw_m5 229 rfl) rfl
theorem q1272 : (Jvm.Cond.methodLink "StepDebts" (246 : Nat) ({ cls := "StepDebts$Tag", name := "values", desc := "()[LStepDebts$Tag;" } : Jvm.MethodName)) ∈ lw_all := lw_g (lw_at lw_m5 237 rfl) rfl
theorem q1283 : (Jvm.Cond.methodLink "StepDebts" (252 : Nat) ({ cls := "StepDebts$Tag", name := "word", desc := "()Ljava/lang/String;" } : Jvm.MethodName)) ∈ lw_all := lw_g (lw_at lw_m6 8 rfl) rfl
theorem q1287 : (Jvm.Cond.classLink "StepDebts" (253 : Nat) "StepDebts$Is") ∈ lw_all := lw_g (lw_at lw_m6 12 rfl) rfl
theorem q1289 : (Jvm.Cond.methodLink "StepDebts" (255 : Nat) ({ cls := "StepDebts$Is", name := "<init>", desc := "(LStepDebts$Tag;)V" } : Jvm.MethodName)) ∈ lw_all := lw_g (lw_at lw_m6 14 rfl) rfl
theorem q1297 : (Jvm.Cond.methodLink "StepDebts" (258 : Nat) ({ cls := "StepDebts", name := "sum", desc := "()LStepDebts$Sum;" } : Jvm.MethodName)) ∈ lw_all := lw_g (lw_at lw_m6 22 rfl) rfl
theorem q1298 : (Jvm.Cond.privateMethod ({ cls := "StepDebts", name := "sum", desc := "()LStepDebts$Sum;" } : Jvm.MethodName)) ∈ lw_tbl := lw_at lw_m6 23 rfl
theorem q1299 : (Jvm.Cond.instanceMethod ({ cls := "StepDebts", name := "sum", desc := "()LStepDebts$Sum;" } : Jvm.MethodName)) ∈ lw_all := lw_g (lw_at lw_m6 24 rfl) rfl
theorem q1300 : (Jvm.Cond.code ({ cls := "StepDebts", name := "sum", desc := "()LStepDebts$Sum;" } : Jvm.MethodName) prog_1_method_15_code (2 : Nat) (Option.some (Jvm.ClassFile.FieldType.object "StepDebts$Sum"))) ∈ lw_all := lw_g (lw_at lw_m6 25 rfl) rfl
theorem q1301 : (Jvm.Cond.classLink "StepDebts" (216 : Nat) "StepDebts$Sum") ∈ lw_all := lw_g (lw_at lw_m6 26 rfl) rfl
theorem q1303 : (Jvm.Cond.methodLinkNest "StepDebts" (218 : Nat) ({ cls := "StepDebts$Sum", name := "<init>", desc := "()V" } : Jvm.MethodName) "StepDebts") ∈ lw_tbl := lw_at lw_m6 28 rfl
theorem q1310 : (Jvm.Cond.fieldLinkNest "StepDebts" (219 : Nat) "StepDebts$Sum" "parts" "Ljava/util/ArrayList;" "StepDebts") ∈ lw_tbl := lw_at lw_m6 35 rfl
theorem q1314 : (Jvm.Cond.methodLink "StepDebts" (222 : Nat) ({ cls := "StepDebts", name := "onePart", desc := "()LStepDebts$Part;" } : Jvm.MethodName)) ∈ lw_all := lw_g (lw_at lw_m6 39 rfl) rfl
theorem q1315 : (Jvm.Cond.privateMethod ({ cls := "StepDebts", name := "onePart", desc := "()LStepDebts$Part;" } : Jvm.MethodName)) ∈ lw_tbl := lw_at lw_m6 40 rfl
theorem q1316 : (Jvm.Cond.instanceMethod ({ cls := "StepDebts", name := "onePart", desc := "()LStepDebts$Part;" } : Jvm.MethodName)) ∈ lw_all := lw_g (lw_at lw_m6 41 rfl) rfl
theorem q1317 : (Jvm.Cond.code ({ cls := "StepDebts", name := "onePart", desc := "()LStepDebts$Part;" } : Jvm.MethodName) prog_1_method_14_code (2 : Nat) (Option.some (Jvm.ClassFile.FieldType.object "StepDebts$Part"))) ∈ lw_all := lw_g (lw_at lw_m6 42 rfl) rfl
theorem q1318 : (Jvm.Cond.methodLink "StepDebts" (203 : Nat) ({ cls := "StepDebts$Reader", name := "isFigure", desc := "()Z" } : Jvm.MethodName)) ∈ lw_all := lw_g (lw_at lw_m6 43 rfl) rfl
theorem q1322 : (Jvm.Cond.classLink "StepDebts" (206 : Nat) "StepDebts$Part") ∈ lw_all := lw_g (lw_at lw_m6 47 rfl) rfl
theorem q1324 : (Jvm.Cond.methodLink "StepDebts" (208 : Nat) ({ cls := "StepDebts$Part", name := "<init>", desc := "(ILStepDebts$Fact;)V" } : Jvm.MethodName)) ∈ lw_all := lw_g (lw_at lw_m6 49 rfl) rfl
theorem q1335 : (Jvm.Cond.methodLink "StepDebts" (211 : Nat) ({ cls := "StepDebts$Fact", name := "of", desc := "(Ljava/lang/String;)LStepDebts$Fact;" } : Jvm.MethodName)) ∈ lw_all := lw_g (lw_at lw_m6 60 rfl) rfl
theorem q1350 : (Jvm.Cond.classLink "StepDebts" (262 : Nat) "StepDebts$Less") ∈ lw_all := lw_g (lw_at lw_m6 75 rfl) rfl
theorem q1352 : (Jvm.Cond.methodLink "StepDebts" (264 : Nat) ({ cls := "StepDebts$Less", name := "<init>", desc := "(LStepDebts$Sum;LStepDebts$Sum;)V" } : Jvm.MethodName)) ∈ lw_all := lw_g (lw_at lw_m6 77 rfl) rfl
theorem q1363 : (Jvm.Cond.stringRef "StepDebts" (275 : Nat) "and") ∈ lw_tbl := lw_at lw_m6 88 rfl
theorem q1364 : (Jvm.Cond.stringRef "StepDebts" (280 : Nat) "or") ∈ lw_tbl := lw_at lw_m6 89 rfl
theorem q1365 : (Jvm.Cond.methodLink "StepDebts" (288 : Nat) ({ cls := "StepDebts$Line", name := "<init>", desc := "(ILStepDebts$Cond;)V" } : Jvm.MethodName)) ∈ lw_all := lw_g (lw_at lw_m6 90 rfl) rfl
theorem q1402 : (Jvm.Cond.instanceMethod ({ cls := "StepDebts", name := "house", desc := "(II)I" } : Jvm.MethodName)) ∈ lw_all := lw_g (lw_at lw_m6 127 rfl) rfl
theorem q1403 : (Jvm.Cond.selects "StepDebts" ({ cls := "StepDebts", name := "house", desc := "(II)I" } : Jvm.MethodName) ({ cls := "StepDebts", name := "house", desc := "(II)I" } : Jvm.MethodName)) ∈ lw_all := lw_g (lw_at lw_m6 128 rfl) rfl
theorem q1404 : (Jvm.Cond.code ({ cls := "StepDebts", name := "house", desc := "(II)I" } : Jvm.MethodName) prog_1_method_28_code (5 : Nat) (Option.some Jvm.ClassFile.FieldType.int)) ∈ lw_all := lw_g (lw_at lw_m6 129 rfl) rfl
theorem q1405 : (Jvm.Cond.methodLink "StepDebts" (363 : Nat) ({ cls := "StepDebts", name := "houseAt", desc := "(I)V" } : Jvm.MethodName)) ∈ lw_all := lw_g (lw_at lw_m6 130 rfl) rfl
theorem q1406 : (Jvm.Cond.privateMethod ({ cls := "StepDebts", name := "houseAt", desc := "(I)V" } : Jvm.MethodName)) ∈ lw_tbl := lw_at lw_m6 131 rfl
theorem q1407 : (Jvm.Cond.instanceMethod ({ cls := "StepDebts", name := "houseAt", desc := "(I)V" } : Jvm.MethodName)) ∈ lw_all := lw_g (lw_at lw_m6 132 rfl) rfl
theorem q1408 : (Jvm.Cond.code ({ cls := "StepDebts", name := "houseAt", desc := "(I)V" } : Jvm.MethodName) prog_1_method_27_code (2 : Nat) (Option.none : Option Jvm.ClassFile.FieldType)) ∈ lw_all := lw_g (lw_at lw_m6 133 rfl) rfl
theorem q1409 : (Jvm.Cond.methodLink "StepDebts" (360 : Nat) ({ cls := "StepDebts", name := "there", desc := "(II)V" } : Jvm.MethodName)) ∈ lw_all := lw_g (lw_at lw_m6 134 rfl) rfl
theorem q1410 : (Jvm.Cond.static ({ cls := "StepDebts", name := "there", desc := "(II)V" } : Jvm.MethodName)) ∈ lw_all := lw_g (lw_at lw_m6 135 rfl) rfl
theorem q1411 : (Jvm.Cond.code ({ cls := "StepDebts", name := "there", desc := "(II)V" } : Jvm.MethodName) prog_1_method_23_code (2 : Nat) (Option.none : Option Jvm.ClassFile.FieldType)) ∈ lw_all := lw_g (lw_at lw_m6 136 rfl) rfl
theorem q1412 : (Jvm.Cond.methodLink "StepDebts" (347 : Nat) ({ cls := "StepDebts", name := "in", desc := "(III)Z" } : Jvm.MethodName)) ∈ lw_all := lw_g (lw_at lw_m6 137 rfl) rfl
theorem q1413 : (Jvm.Cond.classLink "StepDebts" (351 : Nat) "java/lang/IndexOutOfBoundsException") ∈ lw_all := lw_g (lw_at lw_m6 138 rfl) rfl
theorem q1422 : (Jvm.Cond.methodLink "StepDebts" (353 : Nat) ({ cls := "java/lang/IndexOutOfBoundsException", name := "<init>", desc := "()V" } : Jvm.MethodName)) ∈ lw_all := lw_g (lw_at lw_m6 147 rfl) rfl
theorem q1428 : (Jvm.Cond.methodLink "StepDebts" (366 : Nat) ({ cls := "StepDebts", name := "asked", desc := "(II)V" } : Jvm.MethodName)) ∈ lw_all := lw_g (lw_at lw_m6 153 rfl) rfl
theorem q1429 : (Jvm.Cond.static ({ cls := "StepDebts", name := "asked", desc := "(II)V" } : Jvm.MethodName)) ∈ lw_all := lw_g (lw_at lw_m6 154 rfl) rfl
theorem q1430 : (Jvm.Cond.code ({ cls := "StepDebts", name := "asked", desc := "(II)V" } : Jvm.MethodName) prog_1_method_26_code (2 : Nat) (Option.none : Option Jvm.ClassFile.FieldType)) ∈ lw_all := lw_g (lw_at lw_m6 155 rfl) rfl
theorem q1431 : (Jvm.Cond.classLink "StepDebts" (357 : Nat) "java/util/NoSuchElementException") ∈ lw_all := lw_g (lw_at lw_m6 156 rfl) rfl
theorem q1440 : (Jvm.Cond.methodLink "StepDebts" (359 : Nat) ({ cls := "java/util/NoSuchElementException", name := "<init>", desc := "()V" } : Jvm.MethodName)) ∈ lw_all := lw_g (lw_at lw_m6 165 rfl) rfl
theorem q1446 : (Jvm.Cond.methodLink "StepDebts" (369 : Nat) ({ cls := "StepDebts$World", name := "beads", desc := "(I)I" } : Jvm.MethodName)) ∈ lw_all := lw_g (lw_at lw_m6 171 rfl) rfl
theorem q1454 : (Jvm.Cond.instanceMethod ({ cls := "StepDebts", name := "walker", desc := "(II)I" } : Jvm.MethodName)) ∈ lw_all := lw_g (lw_at lw_m6 179 rfl) rfl
theorem q1455 : (Jvm.Cond.selects "StepDebts" ({ cls := "StepDebts", name := "walker", desc := "(II)I" } : Jvm.MethodName) ({ cls := "StepDebts", name := "walker", desc := "(II)I" } : Jvm.MethodName)) ∈ lw_all := lw_g (lw_at lw_m6 180 rfl) rfl
theorem q1456 : (Jvm.Cond.code ({ cls := "StepDebts", name := "walker", desc := "(II)I" } : Jvm.MethodName) prog_1_method_29_code (5 : Nat) (Option.some Jvm.ClassFile.FieldType.int)) ∈ lw_all := lw_g (lw_at lw_m6 181 rfl) rfl
theorem q1461 : (Jvm.Cond.instanceMethod ({ cls := "StepDebts", name := "turn", desc := "(II)I" } : Jvm.MethodName)) ∈ lw_all := lw_g (lw_at lw_m6 186 rfl) rfl
theorem q1462 : (Jvm.Cond.selects "StepDebts" ({ cls := "StepDebts", name := "turn", desc := "(II)I" } : Jvm.MethodName) ({ cls := "StepDebts", name := "turn", desc := "(II)I" } : Jvm.MethodName)) ∈ lw_all := lw_g (lw_at lw_m6 187 rfl) rfl
theorem q1463 : (Jvm.Cond.code ({ cls := "StepDebts", name := "turn", desc := "(II)I" } : Jvm.MethodName) prog_1_method_31_code (4 : Nat) (Option.some Jvm.ClassFile.FieldType.int)) ∈ lw_all := lw_g (lw_at lw_m6 188 rfl) rfl
theorem q1464 : (Jvm.Cond.methodLink "StepDebts" (383 : Nat) ({ cls := "StepDebts", name := "turnAt", desc := "(I)LStepDebts$Turn;" } : Jvm.MethodName)) ∈ lw_all := lw_g (lw_at lw_m6 189 rfl) rfl
theorem q1465 : (Jvm.Cond.privateMethod ({ cls := "StepDebts", name := "turnAt", desc := "(I)LStepDebts$Turn;" } : Jvm.MethodName)) ∈ lw_tbl := lw_at lw_m6 190 rfl
theorem q1466 : (Jvm.Cond.instanceMethod ({ cls := "StepDebts", name := "turnAt", desc := "(I)LStepDebts$Turn;" } : Jvm.MethodName)) ∈ lw_all := lw_g (lw_at lw_m6 191 rfl) rfl
theorem q1467 : (Jvm.Cond.code ({ cls := "StepDebts", name := "turnAt", desc := "(I)LStepDebts$Turn;" } : Jvm.MethodName) prog_1_method_30_code (2 : Nat) (Option.some (Jvm.ClassFile.FieldType.object "StepDebts$Turn"))) ∈ lw_all := lw_g (lw_at lw_m6 192 rfl) rfl
theorem q1472 : (Jvm.Cond.instanceMethod ({ cls := "StepDebts", name := "entry", desc := "(II)I" } : Jvm.MethodName)) ∈ lw_all := lw_g (lw_at lw_m6 197 rfl) rfl
theorem q1473 : (Jvm.Cond.selects "StepDebts" ({ cls := "StepDebts", name := "entry", desc := "(II)I" } : Jvm.MethodName) ({ cls := "StepDebts", name := "entry", desc := "(II)I" } : Jvm.MethodName)) ∈ lw_all := lw_g (lw_at lw_m6 198 rfl) rfl
theorem q1474 : (Jvm.Cond.code ({ cls := "StepDebts", name := "entry", desc := "(II)I" } : Jvm.MethodName) prog_1_method_32_code (4 : Nat) (Option.some Jvm.ClassFile.FieldType.int)) ∈ lw_all := lw_g (lw_at lw_m6 199 rfl) rfl
theorem q1479 : (Jvm.Cond.instanceMethod ({ cls := "StepDebts", name := "counts", desc := "(IIIZ)I" } : Jvm.MethodName)) ∈ lw_all := lw_g (lw_at lw_m6 204 rfl) rfl
theorem q1480 : (Jvm.Cond.selects "StepDebts" ({ cls := "StepDebts", name := "counts", desc := "(IIIZ)I" } : Jvm.MethodName) ({ cls := "StepDebts", name := "counts", desc := "(IIIZ)I" } : Jvm.MethodName)) ∈ lw_all := lw_g (lw_at lw_m6 205 rfl) rfl
theorem q1481 : (Jvm.Cond.code ({ cls := "StepDebts", name := "counts", desc := "(IIIZ)I" } : Jvm.MethodName) prog_1_method_34_code (5 : Nat) (Option.some Jvm.ClassFile.FieldType.int)) ∈ lw_all := lw_g (lw_at lw_m6 206 rfl) rfl
theorem q1482 : (Jvm.Cond.methodLink "StepDebts" (406 : Nat) ({ cls := "StepDebts", name := "aWalk", desc := "(III)V" } : Jvm.MethodName)) ∈ lw_all := lw_g (lw_at lw_m6 207 rfl) rfl
theorem q1483 : (Jvm.Cond.privateMethod ({ cls := "StepDebts", name := "aWalk", desc := "(III)V" } : Jvm.MethodName)) ∈ lw_tbl := lw_at lw_m6 208 rfl
theorem q1484 : (Jvm.Cond.instanceMethod ({ cls := "StepDebts", name := "aWalk", desc := "(III)V" } : Jvm.MethodName)) ∈ lw_all := lw_g (lw_at lw_m6 209 rfl) rfl
theorem q1485 : (Jvm.Cond.code ({ cls := "StepDebts", name := "aWalk", desc := "(III)V" } : Jvm.MethodName) prog_1_method_33_code (4 : Nat) (Option.none : Option Jvm.ClassFile.FieldType)) ∈ lw_all := lw_g (lw_at lw_m6 210 rfl) rfl
theorem q1486 : (Jvm.Cond.methodLink "StepDebts" (403 : Nat) ({ cls := "StepDebts", name := "demand", desc := "(Z)V" } : Jvm.MethodName)) ∈ lw_all := lw_g (lw_at lw_m6 211 rfl) rfl
theorem q1487 : (Jvm.Cond.static ({ cls := "StepDebts", name := "demand", desc := "(Z)V" } : Jvm.MethodName)) ∈ lw_all := lw_g (lw_at lw_m6 212 rfl) rfl
theorem q1488 : (Jvm.Cond.code ({ cls := "StepDebts", name := "demand", desc := "(Z)V" } : Jvm.MethodName) prog_1_method_24_code (1 : Nat) (Option.none : Option Jvm.ClassFile.FieldType)) ∈ lw_all := lw_g (lw_at lw_m6 213 rfl) rfl
theorem q1489 : (Jvm.Cond.methodLink "StepDebts" (410 : Nat) ({ cls := "StepDebts", name := "counted", desc := "(IIIZ)I" } : Jvm.MethodName)) ∈ lw_all := lw_g (lw_at lw_m6 214 rfl) rfl
theorem q1490 : (Jvm.Cond.privateMethod ({ cls := "StepDebts", name := "counted", desc := "(IIIZ)I" } : Jvm.MethodName)) ∈ lw_tbl := lw_at lw_m6 215 rfl
theorem q1491 : (Jvm.Cond.instanceMethod ({ cls := "StepDebts", name := "counted", desc := "(IIIZ)I" } : Jvm.MethodName)) ∈ lw_all := lw_g (lw_at lw_m6 216 rfl) rfl
theorem q1492 : (Jvm.Cond.code ({ cls := "StepDebts", name := "counted", desc := "(IIIZ)I" } : Jvm.MethodName) prog_1_method_22_code (8 : Nat) (Option.some Jvm.ClassFile.FieldType.int)) ∈ lw_all := lw_g (lw_at lw_m6 217 rfl) rfl
theorem q1493 : (Jvm.Cond.methodLink "StepDebts" (309 : Nat) ({ cls := "StepDebts$World", name := "paces", desc := "(I)I" } : Jvm.MethodName)) ∈ lw_all := lw_g (lw_at lw_m6 218 rfl) rfl
theorem q1497 : (Jvm.Cond.methodLink "StepDebts" (344 : Nat) ({ cls := "StepDebts$Law", name := "number", desc := "(LStepDebts$Scene;)I" } : Jvm.MethodName)) ∈ lw_all := lw_g (lw_at lw_m6 222 rfl) rfl
theorem q1576 : (Jvm.Cond.instanceMethod ({ cls := "StepDebts", name := "walk", desc := "(IIIZ)I" } : Jvm.MethodName)) ∈ lw_all := lw_g (lw_at lw_m7 61 rfl) rfl
theorem q1577 : (Jvm.Cond.selects "StepDebts" ({ cls := "StepDebts", name := "walk", desc := "(IIIZ)I" } : Jvm.MethodName) ({ cls := "StepDebts", name := "walk", desc := "(IIIZ)I" } : Jvm.MethodName)) ∈ lw_all := lw_g (lw_at lw_m7 62 rfl) rfl
theorem q1578 : (Jvm.Cond.code ({ cls := "StepDebts", name := "walk", desc := "(IIIZ)I" } : Jvm.MethodName) prog_1_method_35_code (5 : Nat) (Option.some Jvm.ClassFile.FieldType.int)) ∈ lw_all := lw_g (lw_at lw_m7 63 rfl) rfl
theorem q1579 : (Jvm.Cond.methodLink "StepDebts" (414 : Nat) ({ cls := "StepDebts$World", name := "may", desc := "(IIZ)Z" } : Jvm.MethodName)) ∈ lw_all := lw_g (lw_at lw_m7 64 rfl) rfl
theorem q1583 : (Jvm.Cond.methodLink "StepDebts" (418 : Nat) ({ cls := "StepDebts", name := "can", desc := "(Z)V" } : Jvm.MethodName)) ∈ lw_all := lw_g (lw_at lw_m7 68 rfl) rfl
theorem q1584 : (Jvm.Cond.static ({ cls := "StepDebts", name := "can", desc := "(Z)V" } : Jvm.MethodName)) ∈ lw_all := lw_g (lw_at lw_m7 69 rfl) rfl
theorem q1585 : (Jvm.Cond.code ({ cls := "StepDebts", name := "can", desc := "(Z)V" } : Jvm.MethodName) prog_1_method_25_code (1 : Nat) (Option.none : Option Jvm.ClassFile.FieldType)) ∈ lw_all := lw_g (lw_at lw_m7 70 rfl) rfl
theorem q1586 : (Jvm.Cond.classLink "StepDebts" (354 : Nat) "java/lang/IllegalStateException") ∈ lw_all := lw_g (lw_at lw_m7 71 rfl) rfl
theorem q1595 : (Jvm.Cond.methodLink "StepDebts" (356 : Nat) ({ cls := "java/lang/IllegalStateException", name := "<init>", desc := "()V" } : Jvm.MethodName)) ∈ lw_all := lw_g (lw_at lw_m7 80 rfl) rfl
theorem q1601 : (Jvm.Cond.methodLink "StepDebts" (421 : Nat) ({ cls := "StepDebts$World", name := "walks", desc := "(IIIZI)I" } : Jvm.MethodName)) ∈ lw_all := lw_g (lw_at lw_m7 86 rfl) rfl
theorem q1611 : (Jvm.Cond.instanceMethod ({ cls := "StepDebts", name := "days", desc := "(I)I" } : Jvm.MethodName)) ∈ lw_all := lw_g (lw_at lw_m7 96 rfl) rfl
theorem q1612 : (Jvm.Cond.selects "StepDebts" ({ cls := "StepDebts", name := "days", desc := "(I)I" } : Jvm.MethodName) ({ cls := "StepDebts", name := "days", desc := "(I)I" } : Jvm.MethodName)) ∈ lw_all := lw_g (lw_at lw_m7 97 rfl) rfl
theorem q1613 : (Jvm.Cond.code ({ cls := "StepDebts", name := "days", desc := "(I)I" } : Jvm.MethodName) prog_1_method_37_code (2 : Nat) (Option.some Jvm.ClassFile.FieldType.int)) ∈ lw_all := lw_g (lw_at lw_m7 98 rfl) rfl
theorem q1618 : (Jvm.Cond.instanceMethod ({ cls := "StepDebts", name := "pass", desc := "(III)I" } : Jvm.MethodName)) ∈ lw_all := lw_g (lw_at lw_m7 103 rfl) rfl
theorem q1619 : (Jvm.Cond.selects "StepDebts" ({ cls := "StepDebts", name := "pass", desc := "(III)I" } : Jvm.MethodName) ({ cls := "StepDebts", name := "pass", desc := "(III)I" } : Jvm.MethodName)) ∈ lw_all := lw_g (lw_at lw_m7 104 rfl) rfl
theorem q1620 : (Jvm.Cond.code ({ cls := "StepDebts", name := "pass", desc := "(III)I" } : Jvm.MethodName) prog_1_method_39_code (5 : Nat) (Option.some Jvm.ClassFile.FieldType.int)) ∈ lw_all := lw_g (lw_at lw_m7 105 rfl) rfl
theorem q1621 : (Jvm.Cond.methodLink "StepDebts" (433 : Nat) ({ cls := "StepDebts", name := "twoHouses", desc := "(II)V" } : Jvm.MethodName)) ∈ lw_all := lw_g (lw_at lw_m7 106 rfl) rfl
theorem q1622 : (Jvm.Cond.privateMethod ({ cls := "StepDebts", name := "twoHouses", desc := "(II)V" } : Jvm.MethodName)) ∈ lw_tbl := lw_at lw_m7 107 rfl
theorem q1623 : (Jvm.Cond.instanceMethod ({ cls := "StepDebts", name := "twoHouses", desc := "(II)V" } : Jvm.MethodName)) ∈ lw_all := lw_g (lw_at lw_m7 108 rfl) rfl
theorem q1624 : (Jvm.Cond.code ({ cls := "StepDebts", name := "twoHouses", desc := "(II)V" } : Jvm.MethodName) prog_1_method_38_code (3 : Nat) (Option.none : Option Jvm.ClassFile.FieldType)) ∈ lw_all := lw_g (lw_at lw_m7 109 rfl) rfl
theorem q1625 : (Jvm.Cond.methodLink "StepDebts" (436 : Nat) ({ cls := "java/lang/Math", name := "min", desc := "(II)I" } : Jvm.MethodName)) ∈ lw_all := lw_g (lw_at lw_m7 110 rfl) rfl
theorem q1630 : (Jvm.Cond.instanceMethod ({ cls := "StepDebts", name := "marry", desc := "(II)I" } : Jvm.MethodName)) ∈ lw_all := lw_g (lw_at lw_m7 115 rfl) rfl
theorem q1631 : (Jvm.Cond.selects "StepDebts" ({ cls := "StepDebts", name := "marry", desc := "(II)I" } : Jvm.MethodName) ({ cls := "StepDebts", name := "marry", desc := "(II)I" } : Jvm.MethodName)) ∈ lw_all := lw_g (lw_at lw_m7 116 rfl) rfl
theorem q1632 : (Jvm.Cond.code ({ cls := "StepDebts", name := "marry", desc := "(II)I" } : Jvm.MethodName) prog_1_method_40_code (4 : Nat) (Option.some Jvm.ClassFile.FieldType.int)) ∈ lw_all := lw_g (lw_at lw_m7 117 rfl) rfl
theorem q1637 : (Jvm.Cond.instanceMethod ({ cls := "StepDebts", name := "mend", desc := "(I)I" } : Jvm.MethodName)) ∈ lw_all := lw_g (lw_at lw_m7 122 rfl) rfl
theorem q1638 : (Jvm.Cond.selects "StepDebts" ({ cls := "StepDebts", name := "mend", desc := "(I)I" } : Jvm.MethodName) ({ cls := "StepDebts", name := "mend", desc := "(I)I" } : Jvm.MethodName)) ∈ lw_all := lw_g (lw_at lw_m7 123 rfl) rfl
theorem q1639 : (Jvm.Cond.code ({ cls := "StepDebts", name := "mend", desc := "(I)I" } : Jvm.MethodName) prog_1_method_41_code (4 : Nat) (Option.some Jvm.ClassFile.FieldType.int)) ∈ lw_all := lw_g (lw_at lw_m7 124 rfl) rfl
theorem q1644 : (Jvm.Cond.instanceMethod ({ cls := "StepDebts", name := "worn", desc := "(II)I" } : Jvm.MethodName)) ∈ lw_all := lw_g (lw_at lw_m7 129 rfl) rfl
theorem q1645 : (Jvm.Cond.selects "StepDebts" ({ cls := "StepDebts", name := "worn", desc := "(II)I" } : Jvm.MethodName) ({ cls := "StepDebts", name := "worn", desc := "(II)I" } : Jvm.MethodName)) ∈ lw_all := lw_g (lw_at lw_m7 130 rfl) rfl
theorem q1646 : (Jvm.Cond.code ({ cls := "StepDebts", name := "worn", desc := "(II)I" } : Jvm.MethodName) prog_1_method_42_code (5 : Nat) (Option.some Jvm.ClassFile.FieldType.int)) ∈ lw_all := lw_g (lw_at lw_m7 131 rfl) rfl
theorem q1651 : (Jvm.Cond.instanceMethod ({ cls := "StepDebts", name := "deal", desc := "(IZ)I" } : Jvm.MethodName)) ∈ lw_all := lw_g (lw_at lw_m7 136 rfl) rfl
theorem q1652 : (Jvm.Cond.selects "StepDebts" ({ cls := "StepDebts", name := "deal", desc := "(IZ)I" } : Jvm.MethodName) ({ cls := "StepDebts", name := "deal", desc := "(IZ)I" } : Jvm.MethodName)) ∈ lw_all := lw_g (lw_at lw_m7 137 rfl) rfl
theorem q1653 : (Jvm.Cond.code ({ cls := "StepDebts", name := "deal", desc := "(IZ)I" } : Jvm.MethodName) prog_1_method_46_code (4 : Nat) (Option.some Jvm.ClassFile.FieldType.int)) ∈ lw_all := lw_g (lw_at lw_m7 138 rfl) rfl
theorem q1654 : (Jvm.Cond.methodLink "StepDebts" (454 : Nat) ({ cls := "StepDebts", name := "bestDeal", desc := "(I)I" } : Jvm.MethodName)) ∈ lw_all := lw_g (lw_at lw_m7 139 rfl) rfl
theorem q1655 : (Jvm.Cond.privateMethod ({ cls := "StepDebts", name := "bestDeal", desc := "(I)I" } : Jvm.MethodName)) ∈ lw_tbl := lw_at lw_m7 140 rfl
theorem q1656 : (Jvm.Cond.instanceMethod ({ cls := "StepDebts", name := "bestDeal", desc := "(I)I" } : Jvm.MethodName)) ∈ lw_all := lw_g (lw_at lw_m7 141 rfl) rfl
theorem q1657 : (Jvm.Cond.code ({ cls := "StepDebts", name := "bestDeal", desc := "(I)I" } : Jvm.MethodName) prog_1_method_44_code (8 : Nat) (Option.some Jvm.ClassFile.FieldType.int)) ∈ lw_all := lw_g (lw_at lw_m7 142 rfl) rfl
theorem q1658 : (Jvm.Cond.methodLink "StepDebts" (449 : Nat) ({ cls := "java/lang/Integer", name := "bitCount", desc := "(I)I" } : Jvm.MethodName)) ∈ lw_all := lw_g (lw_at lw_m7 143 rfl) rfl
theorem q1664 : (Jvm.Cond.methodLink "StepDebts" (457 : Nat) ({ cls := "StepDebts", name := "priceOf", desc := "(I)I" } : Jvm.MethodName)) ∈ lw_all := lw_g (lw_at lw_m7 149 rfl) rfl
theorem q1665 : (Jvm.Cond.privateMethod ({ cls := "StepDebts", name := "priceOf", desc := "(I)I" } : Jvm.MethodName)) ∈ lw_tbl := lw_at lw_m7 150 rfl
theorem q1666 : (Jvm.Cond.instanceMethod ({ cls := "StepDebts", name := "priceOf", desc := "(I)I" } : Jvm.MethodName)) ∈ lw_all := lw_g (lw_at lw_m7 151 rfl) rfl
theorem q1667 : (Jvm.Cond.code ({ cls := "StepDebts", name := "priceOf", desc := "(I)I" } : Jvm.MethodName) prog_1_method_45_code (4 : Nat) (Option.some Jvm.ClassFile.FieldType.int)) ∈ lw_all := lw_g (lw_at lw_m7 152 rfl) rfl
theorem q1672 : (Jvm.Cond.instanceMethod ({ cls := "StepDebts", name := "plan", desc := "(IIZ)I" } : Jvm.MethodName)) ∈ lw_all := lw_g (lw_at lw_m7 157 rfl) rfl
theorem q1673 : (Jvm.Cond.selects "StepDebts" ({ cls := "StepDebts", name := "plan", desc := "(IIZ)I" } : Jvm.MethodName) ({ cls := "StepDebts", name := "plan", desc := "(IIZ)I" } : Jvm.MethodName)) ∈ lw_all := lw_g (lw_at lw_m7 158 rfl) rfl
theorem q1674 : (Jvm.Cond.code ({ cls := "StepDebts", name := "plan", desc := "(IIZ)I" } : Jvm.MethodName) prog_1_method_47_code (5 : Nat) (Option.some Jvm.ClassFile.FieldType.int)) ∈ lw_all := lw_g (lw_at lw_m7 159 rfl) rfl
theorem q1675 : (Jvm.Cond.methodLink "StepDebts" (460 : Nat) ({ cls := "StepDebts$Plan", name := "begins", desc := "(II)V" } : Jvm.MethodName)) ∈ lw_all := lw_g (lw_at lw_m7 160 rfl) rfl
theorem q1683 : (Jvm.Cond.methodLink "StepDebts" (462 : Nat) ({ cls := "StepDebts$Plan", name := "fewest", desc := "(I)I" } : Jvm.MethodName)) ∈ lw_all := lw_g (lw_at lw_m7 168 rfl) rfl
theorem q1708 : (Jvm.Cond.methodLink "StepDebts" (465 : Nat) ({ cls := "StepDebts$Plan", name := "first", desc := "(I)I" } : Jvm.MethodName)) ∈ lw_all := lw_g (lw_at lw_m7 193 rfl) rfl
theorem q1716 : (Jvm.Cond.instanceMethod ({ cls := "StepDebts", name := "burn", desc := "(II)I" } : Jvm.MethodName)) ∈ lw_all := lw_g (lw_at lw_m7 201 rfl) rfl
theorem q1717 : (Jvm.Cond.selects "StepDebts" ({ cls := "StepDebts", name := "burn", desc := "(II)I" } : Jvm.MethodName) ({ cls := "StepDebts", name := "burn", desc := "(II)I" } : Jvm.MethodName)) ∈ lw_all := lw_g (lw_at lw_m7 202 rfl) rfl
theorem q1718 : (Jvm.Cond.code ({ cls := "StepDebts", name := "burn", desc := "(II)I" } : Jvm.MethodName) prog_1_method_48_code (5 : Nat) (Option.some Jvm.ClassFile.FieldType.int)) ∈ lw_all := lw_g (lw_at lw_m7 203 rfl) rfl
theorem q1723 : (Jvm.Cond.instanceMethod ({ cls := "StepDebts", name := "span", desc := "(IZ)I" } : Jvm.MethodName)) ∈ lw_all := lw_g (lw_at lw_m7 208 rfl) rfl
theorem q1724 : (Jvm.Cond.selects "StepDebts" ({ cls := "StepDebts", name := "span", desc := "(IZ)I" } : Jvm.MethodName) ({ cls := "StepDebts", name := "span", desc := "(IZ)I" } : Jvm.MethodName)) ∈ lw_all := lw_g (lw_at lw_m7 209 rfl) rfl
theorem q1725 : (Jvm.Cond.code ({ cls := "StepDebts", name := "span", desc := "(IZ)I" } : Jvm.MethodName) prog_1_method_52_code (5 : Nat) (Option.some Jvm.ClassFile.FieldType.int)) ∈ lw_all := lw_g (lw_at lw_m7 210 rfl) rfl
theorem q1726 : (Jvm.Cond.methodLink "StepDebts" (473 : Nat) ({ cls := "StepDebts", name := "sifts", desc := "()V" } : Jvm.MethodName)) ∈ lw_all := lw_g (lw_at lw_m7 211 rfl) rfl
theorem q1727 : (Jvm.Cond.privateMethod ({ cls := "StepDebts", name := "sifts", desc := "()V" } : Jvm.MethodName)) ∈ lw_tbl := lw_at lw_m7 212 rfl
theorem q1728 : (Jvm.Cond.instanceMethod ({ cls := "StepDebts", name := "sifts", desc := "()V" } : Jvm.MethodName)) ∈ lw_all := lw_g (lw_at lw_m7 213 rfl) rfl
theorem q1729 : (Jvm.Cond.code ({ cls := "StepDebts", name := "sifts", desc := "()V" } : Jvm.MethodName) prog_1_method_49_code (4 : Nat) (Option.none : Option Jvm.ClassFile.FieldType)) ∈ lw_all := lw_g (lw_at lw_m7 214 rfl) rfl
theorem q1730 : (Jvm.Cond.methodLink "StepDebts" (476 : Nat) ({ cls := "StepDebts", name := "known", desc := "(I)I" } : Jvm.MethodName)) ∈ lw_all := lw_g (lw_at lw_m7 215 rfl) rfl
theorem q1731 : (Jvm.Cond.privateMethod ({ cls := "StepDebts", name := "known", desc := "(I)I" } : Jvm.MethodName)) ∈ lw_tbl := lw_at lw_m7 216 rfl
theorem q1732 : (Jvm.Cond.instanceMethod ({ cls := "StepDebts", name := "known", desc := "(I)I" } : Jvm.MethodName)) ∈ lw_all := lw_g (lw_at lw_m7 217 rfl) rfl
theorem q1733 : (Jvm.Cond.code ({ cls := "StepDebts", name := "known", desc := "(I)I" } : Jvm.MethodName) prog_1_method_50_code (5 : Nat) (Option.some Jvm.ClassFile.FieldType.int)) ∈ lw_all := lw_g (lw_at lw_m7 218 rfl) rfl
theorem q1738 : (Jvm.Cond.instanceMethod ({ cls := "StepDebts", name := "proof", desc := "(II)I" } : Jvm.MethodName)) ∈ lw_all := lw_g (lw_at lw_m7 223 rfl) rfl
theorem q1739 : (Jvm.Cond.selects "StepDebts" ({ cls := "StepDebts", name := "proof", desc := "(II)I" } : Jvm.MethodName) ({ cls := "StepDebts", name := "proof", desc := "(II)I" } : Jvm.MethodName)) ∈ lw_all := lw_g (lw_at lw_m7 224 rfl) rfl
theorem q1740 : (Jvm.Cond.code ({ cls := "StepDebts", name := "proof", desc := "(II)I" } : Jvm.MethodName) prog_1_method_53_code (12 : Nat) (Option.some Jvm.ClassFile.FieldType.int)) ∈ lw_all := lw_g (lw_at lw_m7 225 rfl) rfl
theorem q1745 : (Jvm.Cond.instanceMethod ({ cls := "StepDebts", name := "live", desc := "(I)I" } : Jvm.MethodName)) ∈ lw_all := lw_g (lw_at lw_m7 230 rfl) rfl
theorem q1746 : (Jvm.Cond.selects "StepDebts" ({ cls := "StepDebts", name := "live", desc := "(I)I" } : Jvm.MethodName) ({ cls := "StepDebts", name := "live", desc := "(I)I" } : Jvm.MethodName)) ∈ lw_all := lw_g (lw_at lw_m7 231 rfl) rfl
theorem q1747 : (Jvm.Cond.code ({ cls := "StepDebts", name := "live", desc := "(I)I" } : Jvm.MethodName) prog_1_method_56_code (9 : Nat) (Option.some Jvm.ClassFile.FieldType.int)) ∈ lw_all := lw_g (lw_at lw_m7 232 rfl) rfl
theorem q1748 : (Jvm.Cond.methodLink "StepDebts" (486 : Nat) ({ cls := "java/util/ArrayList", name := "isEmpty", desc := "()Z" } : Jvm.MethodName)) ∈ lw_all := lw_g (lw_at lw_m7 233 rfl) rfl
theorem q1752 : (Jvm.Cond.methodLink "StepDebts" (489 : Nat) ({ cls := "StepDebts", name := "draw", desc := "(I)I" } : Jvm.MethodName)) ∈ lw_all := lw_g (lw_at lw_m7 237 rfl) rfl
theorem q1753 : (Jvm.Cond.privateMethod ({ cls := "StepDebts", name := "draw", desc := "(I)I" } : Jvm.MethodName)) ∈ lw_tbl := lw_at lw_m7 238 rfl
theorem q1754 : (Jvm.Cond.instanceMethod ({ cls := "StepDebts", name := "draw", desc := "(I)I" } : Jvm.MethodName)) ∈ lw_all := lw_g (lw_at lw_m7 239 rfl) rfl
theorem q1755 : (Jvm.Cond.code ({ cls := "StepDebts", name := "draw", desc := "(I)I" } : Jvm.MethodName) prog_1_method_55_code (2 : Nat) (Option.some Jvm.ClassFile.FieldType.int)) ∈ lw_all := lw_g (lw_at lw_m8 0 rfl) rfl
theorem q1756 : (Jvm.Cond.constant "StepDebts" (485 : Nat) (1103515245 : Int32)) ∈ lw_all := lw_g (lw_at lw_m8 1 rfl) rfl
theorem q2174 : (Jvm.Cond.castable "StepDebts" "java/lang/Object") ∈ lw_tbl := lw_at lw_m9 179 rfl
theorem in_X1 : ∀ w ∈ wsX10, w ∈ lw_all := lw_in wsX10 [328, 330, 332, 334, 336, 338, 340] (by decide +kernel) (by decide +kernel)
