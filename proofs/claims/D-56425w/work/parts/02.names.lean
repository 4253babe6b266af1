/-! DECODE ROWS BY BYTES: one lemma an opcode; a method's code is cut into short pieces once, and a row reads its own piece alone. -/
set_option maxRecDepth 100000
/-- the code has just these bytes from pc on -/
def DkAt (code : ByteArray) (pc : Nat) (bs : List UInt8) : Prop := ∀ (j : Nat) (b : UInt8), bs[j]? = some b → code.data.toList[pc + j]? = some b
/-- the piece W has the bytes bs from its place j on -/
def dkIn (W : List UInt8) (j : Nat) (bs : List UInt8) : Bool := decide ((W.drop j).take bs.length = bs)
theorem dk_seg {l W T : List UInt8} {o o2 : Nat} (h : l.drop o = W ++ T) (n : Nat) (hn : W.length = n) (ho : o + n = o2) : l.drop o2 = T := by
  subst ho
  rw [← List.drop_drop, h, List.drop_left' hn]
theorem dk_at {code : ByteArray} {W T bs : List UInt8} {o pc : Nat} (h : code.data.toList.drop o = W ++ T) (j : Nat) (hp : o + j = pc) (hw : dkIn W j bs = true) : DkAt code pc bs := by
  subst hp
  intro i b e
  have h1 := of_decide_eq_true hw
  have h2 : i < bs.length := (List.getElem?_eq_some_iff.mp e).1
  have h3 : W[j + i]? = some b := by
    rw [← h1, List.getElem?_take, if_pos h2, List.getElem?_drop] at e
    exact e
  have h4 : j + i < W.length := (List.getElem?_eq_some_iff.mp h3).1
  have h5 : (code.data.toList.drop o)[j + i]? = some b := by
    rw [h, List.getElem?_append_left h4]
    exact h3
  rw [List.getElem?_drop, ← Nat.add_assoc] at h5
  exact h5
theorem dk_u1 {A : ByteArray} {p : Nat} {b : UInt8} (h : A.data.toList[p]? = some b) : (Reader.u1 : Reader DecodeError Nat) A p = .ok (b.toNat, p + 1) := by
  obtain ⟨h1, h2⟩ := List.getElem?_eq_some_iff.mp h
  have h3 : p < A.size := by simpa using h1
  have h4 : A[p]'h3 = b := h2
  have e : (Reader.u1 : Reader DecodeError Nat) A p = (if h : p < A.size then .ok (A[p].toNat, p + 1) else .error (HasTruncated.truncated p)) := by
    show (do if h : p < A.size then do set (p + 1); Pure.pure A[p].toNat else MonadExcept.throw (HasTruncated.truncated p) : Reader DecodeError Nat) A p = _
    by_cases hi : p < A.size
    · rw [dif_pos hi, dif_pos hi]; rfl
    · rw [dif_neg hi, dif_neg hi]; rfl
  rw [e, dif_pos h3, h4]
theorem dk_bind {α β : Type} {r : Reader DecodeError α} {f : α → Reader DecodeError β} {A : ByteArray} {p s : Nat} {a : α} (h : r A p = .ok (a, s)) : (r >>= f) A p = f a A s := by
  show (do let (a, s) ← r A p; f a A s : Except DecodeError (β × Nat)) = _
  rw [h]
  rfl
theorem dk_map {α β : Type} {r : Reader DecodeError α} {g : α → β} {A : ByteArray} {p s : Nat} {a : α} (h : r A p = .ok (a, s)) : (g <$> r) A p = .ok (g a, s) := by
  show (do let (a, s) ← r A p; .ok (g a, s) : Except DecodeError (β × Nat)) = _
  rw [h]
  rfl
theorem dk_u2 {A : ByteArray} {p : Nat} {a b : UInt8} (h : A.data.toList[p]? = some a) (h2 : A.data.toList[p + 1]? = some b) : (Reader.u2 : Reader DecodeError Nat) A p = .ok (a.toNat * 256 + b.toNat, p + 2) := by
  show (Reader.u1 >>= fun hi => Reader.u1 >>= fun lo => Pure.pure (hi * 256 + lo) : Reader DecodeError Nat) A p = _
  rw [dk_bind (dk_u1 h), dk_bind (dk_u1 h2)]
  rfl
theorem dk_of {code : ByteArray} {pc n : Nat} {i : Instr} (h : Decoder.instr pc code pc = .ok (i, pc + n)) : decode code pc = .ok (i, n) := by
  have e : decode code pc = (match Decoder.instr pc code pc with | .error x => .error x | .ok (j, s) => .ok (j, s - pc)) := by
    show (do let (j, s) ← Decoder.instr pc code pc; Pure.pure (j, s - pc) : Except DecodeError (Instr × Nat)) = _
    cases Decoder.instr pc code pc <;> rfl
  rw [e, h]
  show Except.ok (i, pc + n - pc) = _
  rw [Nat.add_sub_cancel_left]
theorem dk_1 {code : ByteArray} {pc : Nat} (h : DkAt code pc [1]) : decode code pc = .ok (.aconst_null, 1) := dk_of ((dk_bind (dk_u1 (h 0 _ rfl))).trans rfl)
theorem dk_2 {code : ByteArray} {pc : Nat} (h : DkAt code pc [2]) : decode code pc = .ok (.iconst (-1), 1) := dk_of ((dk_bind (dk_u1 (h 0 _ rfl))).trans rfl)
theorem dk_3 {code : ByteArray} {pc : Nat} (h : DkAt code pc [3]) : decode code pc = .ok (.iconst 0, 1) := dk_of ((dk_bind (dk_u1 (h 0 _ rfl))).trans rfl)
theorem dk_4 {code : ByteArray} {pc : Nat} (h : DkAt code pc [4]) : decode code pc = .ok (.iconst 1, 1) := dk_of ((dk_bind (dk_u1 (h 0 _ rfl))).trans rfl)
theorem dk_5 {code : ByteArray} {pc : Nat} (h : DkAt code pc [5]) : decode code pc = .ok (.iconst 2, 1) := dk_of ((dk_bind (dk_u1 (h 0 _ rfl))).trans rfl)
theorem dk_6 {code : ByteArray} {pc : Nat} (h : DkAt code pc [6]) : decode code pc = .ok (.iconst 3, 1) := dk_of ((dk_bind (dk_u1 (h 0 _ rfl))).trans rfl)
theorem dk_7 {code : ByteArray} {pc : Nat} (h : DkAt code pc [7]) : decode code pc = .ok (.iconst 4, 1) := dk_of ((dk_bind (dk_u1 (h 0 _ rfl))).trans rfl)
theorem dk_8 {code : ByteArray} {pc : Nat} (h : DkAt code pc [8]) : decode code pc = .ok (.iconst 5, 1) := dk_of ((dk_bind (dk_u1 (h 0 _ rfl))).trans rfl)
theorem dk_9 {code : ByteArray} {pc : Nat} (h : DkAt code pc [9]) : decode code pc = .ok (.lconst 0, 1) := dk_of ((dk_bind (dk_u1 (h 0 _ rfl))).trans rfl)
theorem dk_10 {code : ByteArray} {pc : Nat} (h : DkAt code pc [10]) : decode code pc = .ok (.lconst 1, 1) := dk_of ((dk_bind (dk_u1 (h 0 _ rfl))).trans rfl)
theorem dk_11 {code : ByteArray} {pc : Nat} (h : DkAt code pc [11]) : decode code pc = .ok (.fconst 0, 1) := dk_of ((dk_bind (dk_u1 (h 0 _ rfl))).trans rfl)
theorem dk_14 {code : ByteArray} {pc : Nat} (h : DkAt code pc [14]) : decode code pc = .ok (.dconst 0, 1) := dk_of ((dk_bind (dk_u1 (h 0 _ rfl))).trans rfl)
theorem dk_16 {code : ByteArray} {pc : Nat} (a : UInt8) (h : DkAt code pc [16, a]) : decode code pc = .ok (.bipush (Reader.signed 8 a.toNat), 2) := dk_of ((dk_bind (dk_u1 (h 0 _ rfl))).trans ((dk_bind (dk_map (dk_u1 (h 1 _ rfl)))).trans rfl))
theorem dk_17 {code : ByteArray} {pc : Nat} (a b : UInt8) (h : DkAt code pc [17, a, b]) : decode code pc = .ok (.sipush (Reader.signed 16 (a.toNat * 256 + b.toNat)), 3) := dk_of ((dk_bind (dk_u1 (h 0 _ rfl))).trans ((dk_bind (dk_map (dk_u2 (h 1 _ rfl) (h 2 _ rfl)))).trans rfl))
theorem dk_18 {code : ByteArray} {pc : Nat} (a : UInt8) (h : DkAt code pc [18, a]) : decode code pc = .ok (.ldc a.toNat, 2) := dk_of ((dk_bind (dk_u1 (h 0 _ rfl))).trans ((dk_bind (dk_u1 (h 1 _ rfl))).trans rfl))
theorem dk_19 {code : ByteArray} {pc : Nat} (a b : UInt8) (h : DkAt code pc [19, a, b]) : decode code pc = .ok (.ldc_w (a.toNat * 256 + b.toNat), 3) := dk_of ((dk_bind (dk_u1 (h 0 _ rfl))).trans ((dk_bind (dk_u2 (h 1 _ rfl) (h 2 _ rfl))).trans rfl))
theorem dk_21 {code : ByteArray} {pc : Nat} (a : UInt8) (h : DkAt code pc [21, a]) : decode code pc = .ok (.iload a.toNat, 2) := dk_of ((dk_bind (dk_u1 (h 0 _ rfl))).trans ((dk_bind (dk_u1 (h 1 _ rfl))).trans rfl))
theorem dk_22 {code : ByteArray} {pc : Nat} (a : UInt8) (h : DkAt code pc [22, a]) : decode code pc = .ok (.lload a.toNat, 2) := dk_of ((dk_bind (dk_u1 (h 0 _ rfl))).trans ((dk_bind (dk_u1 (h 1 _ rfl))).trans rfl))
theorem dk_23 {code : ByteArray} {pc : Nat} (a : UInt8) (h : DkAt code pc [23, a]) : decode code pc = .ok (.fload a.toNat, 2) := dk_of ((dk_bind (dk_u1 (h 0 _ rfl))).trans ((dk_bind (dk_u1 (h 1 _ rfl))).trans rfl))
theorem dk_24 {code : ByteArray} {pc : Nat} (a : UInt8) (h : DkAt code pc [24, a]) : decode code pc = .ok (.dload a.toNat, 2) := dk_of ((dk_bind (dk_u1 (h 0 _ rfl))).trans ((dk_bind (dk_u1 (h 1 _ rfl))).trans rfl))
theorem dk_25 {code : ByteArray} {pc : Nat} (a : UInt8) (h : DkAt code pc [25, a]) : decode code pc = .ok (.aload a.toNat, 2) := dk_of ((dk_bind (dk_u1 (h 0 _ rfl))).trans ((dk_bind (dk_u1 (h 1 _ rfl))).trans rfl))
theorem dk_26 {code : ByteArray} {pc : Nat} (h : DkAt code pc [26]) : decode code pc = .ok (.iload_n 0, 1) := dk_of ((dk_bind (dk_u1 (h 0 _ rfl))).trans rfl)
theorem dk_27 {code : ByteArray} {pc : Nat} (h : DkAt code pc [27]) : decode code pc = .ok (.iload_n 1, 1) := dk_of ((dk_bind (dk_u1 (h 0 _ rfl))).trans rfl)
theorem dk_28 {code : ByteArray} {pc : Nat} (h : DkAt code pc [28]) : decode code pc = .ok (.iload_n 2, 1) := dk_of ((dk_bind (dk_u1 (h 0 _ rfl))).trans rfl)
theorem dk_29 {code : ByteArray} {pc : Nat} (h : DkAt code pc [29]) : decode code pc = .ok (.iload_n 3, 1) := dk_of ((dk_bind (dk_u1 (h 0 _ rfl))).trans rfl)
theorem dk_31 {code : ByteArray} {pc : Nat} (h : DkAt code pc [31]) : decode code pc = .ok (.lload_n 1, 1) := dk_of ((dk_bind (dk_u1 (h 0 _ rfl))).trans rfl)
theorem dk_42 {code : ByteArray} {pc : Nat} (h : DkAt code pc [42]) : decode code pc = .ok (.aload_n 0, 1) := dk_of ((dk_bind (dk_u1 (h 0 _ rfl))).trans rfl)
theorem dk_43 {code : ByteArray} {pc : Nat} (h : DkAt code pc [43]) : decode code pc = .ok (.aload_n 1, 1) := dk_of ((dk_bind (dk_u1 (h 0 _ rfl))).trans rfl)
theorem dk_44 {code : ByteArray} {pc : Nat} (h : DkAt code pc [44]) : decode code pc = .ok (.aload_n 2, 1) := dk_of ((dk_bind (dk_u1 (h 0 _ rfl))).trans rfl)
theorem dk_45 {code : ByteArray} {pc : Nat} (h : DkAt code pc [45]) : decode code pc = .ok (.aload_n 3, 1) := dk_of ((dk_bind (dk_u1 (h 0 _ rfl))).trans rfl)
theorem dk_46 {code : ByteArray} {pc : Nat} (h : DkAt code pc [46]) : decode code pc = .ok (.iaload, 1) := dk_of ((dk_bind (dk_u1 (h 0 _ rfl))).trans rfl)
theorem dk_47 {code : ByteArray} {pc : Nat} (h : DkAt code pc [47]) : decode code pc = .ok (.laload, 1) := dk_of ((dk_bind (dk_u1 (h 0 _ rfl))).trans rfl)
theorem dk_49 {code : ByteArray} {pc : Nat} (h : DkAt code pc [49]) : decode code pc = .ok (.daload, 1) := dk_of ((dk_bind (dk_u1 (h 0 _ rfl))).trans rfl)
theorem dk_50 {code : ByteArray} {pc : Nat} (h : DkAt code pc [50]) : decode code pc = .ok (.aaload, 1) := dk_of ((dk_bind (dk_u1 (h 0 _ rfl))).trans rfl)
theorem dk_51 {code : ByteArray} {pc : Nat} (h : DkAt code pc [51]) : decode code pc = .ok (.baload, 1) := dk_of ((dk_bind (dk_u1 (h 0 _ rfl))).trans rfl)
theorem dk_54 {code : ByteArray} {pc : Nat} (a : UInt8) (h : DkAt code pc [54, a]) : decode code pc = .ok (.istore a.toNat, 2) := dk_of ((dk_bind (dk_u1 (h 0 _ rfl))).trans ((dk_bind (dk_u1 (h 1 _ rfl))).trans rfl))
theorem dk_56 {code : ByteArray} {pc : Nat} (a : UInt8) (h : DkAt code pc [56, a]) : decode code pc = .ok (.fstore a.toNat, 2) := dk_of ((dk_bind (dk_u1 (h 0 _ rfl))).trans ((dk_bind (dk_u1 (h 1 _ rfl))).trans rfl))
theorem dk_57 {code : ByteArray} {pc : Nat} (a : UInt8) (h : DkAt code pc [57, a]) : decode code pc = .ok (.dstore a.toNat, 2) := dk_of ((dk_bind (dk_u1 (h 0 _ rfl))).trans ((dk_bind (dk_u1 (h 1 _ rfl))).trans rfl))
theorem dk_58 {code : ByteArray} {pc : Nat} (a : UInt8) (h : DkAt code pc [58, a]) : decode code pc = .ok (.astore a.toNat, 2) := dk_of ((dk_bind (dk_u1 (h 0 _ rfl))).trans ((dk_bind (dk_u1 (h 1 _ rfl))).trans rfl))
theorem dk_60 {code : ByteArray} {pc : Nat} (h : DkAt code pc [60]) : decode code pc = .ok (.istore_n 1, 1) := dk_of ((dk_bind (dk_u1 (h 0 _ rfl))).trans rfl)
theorem dk_61 {code : ByteArray} {pc : Nat} (h : DkAt code pc [61]) : decode code pc = .ok (.istore_n 2, 1) := dk_of ((dk_bind (dk_u1 (h 0 _ rfl))).trans rfl)
theorem dk_62 {code : ByteArray} {pc : Nat} (h : DkAt code pc [62]) : decode code pc = .ok (.istore_n 3, 1) := dk_of ((dk_bind (dk_u1 (h 0 _ rfl))).trans rfl)
theorem dk_76 {code : ByteArray} {pc : Nat} (h : DkAt code pc [76]) : decode code pc = .ok (.astore_n 1, 1) := dk_of ((dk_bind (dk_u1 (h 0 _ rfl))).trans rfl)
theorem dk_77 {code : ByteArray} {pc : Nat} (h : DkAt code pc [77]) : decode code pc = .ok (.astore_n 2, 1) := dk_of ((dk_bind (dk_u1 (h 0 _ rfl))).trans rfl)
theorem dk_78 {code : ByteArray} {pc : Nat} (h : DkAt code pc [78]) : decode code pc = .ok (.astore_n 3, 1) := dk_of ((dk_bind (dk_u1 (h 0 _ rfl))).trans rfl)
theorem dk_79 {code : ByteArray} {pc : Nat} (h : DkAt code pc [79]) : decode code pc = .ok (.iastore, 1) := dk_of ((dk_bind (dk_u1 (h 0 _ rfl))).trans rfl)
theorem dk_80 {code : ByteArray} {pc : Nat} (h : DkAt code pc [80]) : decode code pc = .ok (.lastore, 1) := dk_of ((dk_bind (dk_u1 (h 0 _ rfl))).trans rfl)
theorem dk_82 {code : ByteArray} {pc : Nat} (h : DkAt code pc [82]) : decode code pc = .ok (.dastore, 1) := dk_of ((dk_bind (dk_u1 (h 0 _ rfl))).trans rfl)
theorem dk_83 {code : ByteArray} {pc : Nat} (h : DkAt code pc [83]) : decode code pc = .ok (.aastore, 1) := dk_of ((dk_bind (dk_u1 (h 0 _ rfl))).trans rfl)
theorem dk_84 {code : ByteArray} {pc : Nat} (h : DkAt code pc [84]) : decode code pc = .ok (.bastore, 1) := dk_of ((dk_bind (dk_u1 (h 0 _ rfl))).trans rfl)
theorem dk_87 {code : ByteArray} {pc : Nat} (h : DkAt code pc [87]) : decode code pc = .ok (.pop, 1) := dk_of ((dk_bind (dk_u1 (h 0 _ rfl))).trans rfl)
theorem dk_89 {code : ByteArray} {pc : Nat} (h : DkAt code pc [89]) : decode code pc = .ok (.dup, 1) := dk_of ((dk_bind (dk_u1 (h 0 _ rfl))).trans rfl)
theorem dk_90 {code : ByteArray} {pc : Nat} (h : DkAt code pc [90]) : decode code pc = .ok (.dup_x1, 1) := dk_of ((dk_bind (dk_u1 (h 0 _ rfl))).trans rfl)
theorem dk_92 {code : ByteArray} {pc : Nat} (h : DkAt code pc [92]) : decode code pc = .ok (.dup2, 1) := dk_of ((dk_bind (dk_u1 (h 0 _ rfl))).trans rfl)
theorem dk_96 {code : ByteArray} {pc : Nat} (h : DkAt code pc [96]) : decode code pc = .ok (.iadd, 1) := dk_of ((dk_bind (dk_u1 (h 0 _ rfl))).trans rfl)
theorem dk_97 {code : ByteArray} {pc : Nat} (h : DkAt code pc [97]) : decode code pc = .ok (.ladd, 1) := dk_of ((dk_bind (dk_u1 (h 0 _ rfl))).trans rfl)
theorem dk_100 {code : ByteArray} {pc : Nat} (h : DkAt code pc [100]) : decode code pc = .ok (.isub, 1) := dk_of ((dk_bind (dk_u1 (h 0 _ rfl))).trans rfl)
theorem dk_104 {code : ByteArray} {pc : Nat} (h : DkAt code pc [104]) : decode code pc = .ok (.imul, 1) := dk_of ((dk_bind (dk_u1 (h 0 _ rfl))).trans rfl)
theorem dk_105 {code : ByteArray} {pc : Nat} (h : DkAt code pc [105]) : decode code pc = .ok (.lmul, 1) := dk_of ((dk_bind (dk_u1 (h 0 _ rfl))).trans rfl)
theorem dk_108 {code : ByteArray} {pc : Nat} (h : DkAt code pc [108]) : decode code pc = .ok (.idiv, 1) := dk_of ((dk_bind (dk_u1 (h 0 _ rfl))).trans rfl)
theorem dk_110 {code : ByteArray} {pc : Nat} (h : DkAt code pc [110]) : decode code pc = .ok (.fdiv, 1) := dk_of ((dk_bind (dk_u1 (h 0 _ rfl))).trans rfl)
theorem dk_111 {code : ByteArray} {pc : Nat} (h : DkAt code pc [111]) : decode code pc = .ok (.ddiv, 1) := dk_of ((dk_bind (dk_u1 (h 0 _ rfl))).trans rfl)
theorem dk_112 {code : ByteArray} {pc : Nat} (h : DkAt code pc [112]) : decode code pc = .ok (.irem, 1) := dk_of ((dk_bind (dk_u1 (h 0 _ rfl))).trans rfl)
theorem dk_116 {code : ByteArray} {pc : Nat} (h : DkAt code pc [116]) : decode code pc = .ok (.ineg, 1) := dk_of ((dk_bind (dk_u1 (h 0 _ rfl))).trans rfl)
theorem dk_120 {code : ByteArray} {pc : Nat} (h : DkAt code pc [120]) : decode code pc = .ok (.ishl, 1) := dk_of ((dk_bind (dk_u1 (h 0 _ rfl))).trans rfl)
theorem dk_122 {code : ByteArray} {pc : Nat} (h : DkAt code pc [122]) : decode code pc = .ok (.ishr, 1) := dk_of ((dk_bind (dk_u1 (h 0 _ rfl))).trans rfl)
theorem dk_126 {code : ByteArray} {pc : Nat} (h : DkAt code pc [126]) : decode code pc = .ok (.iand, 1) := dk_of ((dk_bind (dk_u1 (h 0 _ rfl))).trans rfl)
theorem dk_132 {code : ByteArray} {pc : Nat} (a b : UInt8) (h : DkAt code pc [132, a, b]) : decode code pc = .ok (.iinc a.toNat (Reader.signed 8 b.toNat), 3) := dk_of ((dk_bind (dk_u1 (h 0 _ rfl))).trans ((dk_bind (dk_u1 (h 1 _ rfl))).trans ((dk_bind (dk_map (dk_u1 (h 2 _ rfl)))).trans rfl)))
theorem dk_133 {code : ByteArray} {pc : Nat} (h : DkAt code pc [133]) : decode code pc = .ok (.i2l, 1) := dk_of ((dk_bind (dk_u1 (h 0 _ rfl))).trans rfl)
theorem dk_134 {code : ByteArray} {pc : Nat} (h : DkAt code pc [134]) : decode code pc = .ok (.i2f, 1) := dk_of ((dk_bind (dk_u1 (h 0 _ rfl))).trans rfl)
theorem dk_135 {code : ByteArray} {pc : Nat} (h : DkAt code pc [135]) : decode code pc = .ok (.i2d, 1) := dk_of ((dk_bind (dk_u1 (h 0 _ rfl))).trans rfl)
theorem dk_138 {code : ByteArray} {pc : Nat} (h : DkAt code pc [138]) : decode code pc = .ok (.l2d, 1) := dk_of ((dk_bind (dk_u1 (h 0 _ rfl))).trans rfl)
theorem dk_141 {code : ByteArray} {pc : Nat} (h : DkAt code pc [141]) : decode code pc = .ok (.f2d, 1) := dk_of ((dk_bind (dk_u1 (h 0 _ rfl))).trans rfl)
theorem dk_146 {code : ByteArray} {pc : Nat} (h : DkAt code pc [146]) : decode code pc = .ok (.i2c, 1) := dk_of ((dk_bind (dk_u1 (h 0 _ rfl))).trans rfl)
theorem dk_148 {code : ByteArray} {pc : Nat} (h : DkAt code pc [148]) : decode code pc = .ok (.lcmp, 1) := dk_of ((dk_bind (dk_u1 (h 0 _ rfl))).trans rfl)
theorem dk_149 {code : ByteArray} {pc : Nat} (h : DkAt code pc [149]) : decode code pc = .ok (.fcmp .l, 1) := dk_of ((dk_bind (dk_u1 (h 0 _ rfl))).trans rfl)
theorem dk_151 {code : ByteArray} {pc : Nat} (h : DkAt code pc [151]) : decode code pc = .ok (.dcmp .l, 1) := dk_of ((dk_bind (dk_u1 (h 0 _ rfl))).trans rfl)
theorem dk_153 {code : ByteArray} {pc : Nat} (a b : UInt8) (h : DkAt code pc [153, a, b]) : decode code pc = .ok (.ifCond .eq (Reader.signed 16 (a.toNat * 256 + b.toNat)), 3) := dk_of ((dk_bind (dk_u1 (h 0 _ rfl))).trans ((dk_bind (dk_map (dk_u2 (h 1 _ rfl) (h 2 _ rfl)))).trans rfl))
theorem dk_154 {code : ByteArray} {pc : Nat} (a b : UInt8) (h : DkAt code pc [154, a, b]) : decode code pc = .ok (.ifCond .ne (Reader.signed 16 (a.toNat * 256 + b.toNat)), 3) := dk_of ((dk_bind (dk_u1 (h 0 _ rfl))).trans ((dk_bind (dk_map (dk_u2 (h 1 _ rfl) (h 2 _ rfl)))).trans rfl))
theorem dk_155 {code : ByteArray} {pc : Nat} (a b : UInt8) (h : DkAt code pc [155, a, b]) : decode code pc = .ok (.ifCond .lt (Reader.signed 16 (a.toNat * 256 + b.toNat)), 3) := dk_of ((dk_bind (dk_u1 (h 0 _ rfl))).trans ((dk_bind (dk_map (dk_u2 (h 1 _ rfl) (h 2 _ rfl)))).trans rfl))
theorem dk_156 {code : ByteArray} {pc : Nat} (a b : UInt8) (h : DkAt code pc [156, a, b]) : decode code pc = .ok (.ifCond .ge (Reader.signed 16 (a.toNat * 256 + b.toNat)), 3) := dk_of ((dk_bind (dk_u1 (h 0 _ rfl))).trans ((dk_bind (dk_map (dk_u2 (h 1 _ rfl) (h 2 _ rfl)))).trans rfl))
theorem dk_157 {code : ByteArray} {pc : Nat} (a b : UInt8) (h : DkAt code pc [157, a, b]) : decode code pc = .ok (.ifCond .gt (Reader.signed 16 (a.toNat * 256 + b.toNat)), 3) := dk_of ((dk_bind (dk_u1 (h 0 _ rfl))).trans ((dk_bind (dk_map (dk_u2 (h 1 _ rfl) (h 2 _ rfl)))).trans rfl))
theorem dk_158 {code : ByteArray} {pc : Nat} (a b : UInt8) (h : DkAt code pc [158, a, b]) : decode code pc = .ok (.ifCond .le (Reader.signed 16 (a.toNat * 256 + b.toNat)), 3) := dk_of ((dk_bind (dk_u1 (h 0 _ rfl))).trans ((dk_bind (dk_map (dk_u2 (h 1 _ rfl) (h 2 _ rfl)))).trans rfl))
theorem dk_159 {code : ByteArray} {pc : Nat} (a b : UInt8) (h : DkAt code pc [159, a, b]) : decode code pc = .ok (.if_icmp .eq (Reader.signed 16 (a.toNat * 256 + b.toNat)), 3) := dk_of ((dk_bind (dk_u1 (h 0 _ rfl))).trans ((dk_bind (dk_map (dk_u2 (h 1 _ rfl) (h 2 _ rfl)))).trans rfl))
theorem dk_160 {code : ByteArray} {pc : Nat} (a b : UInt8) (h : DkAt code pc [160, a, b]) : decode code pc = .ok (.if_icmp .ne (Reader.signed 16 (a.toNat * 256 + b.toNat)), 3) := dk_of ((dk_bind (dk_u1 (h 0 _ rfl))).trans ((dk_bind (dk_map (dk_u2 (h 1 _ rfl) (h 2 _ rfl)))).trans rfl))
theorem dk_161 {code : ByteArray} {pc : Nat} (a b : UInt8) (h : DkAt code pc [161, a, b]) : decode code pc = .ok (.if_icmp .lt (Reader.signed 16 (a.toNat * 256 + b.toNat)), 3) := dk_of ((dk_bind (dk_u1 (h 0 _ rfl))).trans ((dk_bind (dk_map (dk_u2 (h 1 _ rfl) (h 2 _ rfl)))).trans rfl))
theorem dk_162 {code : ByteArray} {pc : Nat} (a b : UInt8) (h : DkAt code pc [162, a, b]) : decode code pc = .ok (.if_icmp .ge (Reader.signed 16 (a.toNat * 256 + b.toNat)), 3) := dk_of ((dk_bind (dk_u1 (h 0 _ rfl))).trans ((dk_bind (dk_map (dk_u2 (h 1 _ rfl) (h 2 _ rfl)))).trans rfl))
theorem dk_163 {code : ByteArray} {pc : Nat} (a b : UInt8) (h : DkAt code pc [163, a, b]) : decode code pc = .ok (.if_icmp .gt (Reader.signed 16 (a.toNat * 256 + b.toNat)), 3) := dk_of ((dk_bind (dk_u1 (h 0 _ rfl))).trans ((dk_bind (dk_map (dk_u2 (h 1 _ rfl) (h 2 _ rfl)))).trans rfl))
theorem dk_164 {code : ByteArray} {pc : Nat} (a b : UInt8) (h : DkAt code pc [164, a, b]) : decode code pc = .ok (.if_icmp .le (Reader.signed 16 (a.toNat * 256 + b.toNat)), 3) := dk_of ((dk_bind (dk_u1 (h 0 _ rfl))).trans ((dk_bind (dk_map (dk_u2 (h 1 _ rfl) (h 2 _ rfl)))).trans rfl))
theorem dk_165 {code : ByteArray} {pc : Nat} (a b : UInt8) (h : DkAt code pc [165, a, b]) : decode code pc = .ok (.if_acmp .eq (Reader.signed 16 (a.toNat * 256 + b.toNat)), 3) := dk_of ((dk_bind (dk_u1 (h 0 _ rfl))).trans ((dk_bind (dk_map (dk_u2 (h 1 _ rfl) (h 2 _ rfl)))).trans rfl))
theorem dk_166 {code : ByteArray} {pc : Nat} (a b : UInt8) (h : DkAt code pc [166, a, b]) : decode code pc = .ok (.if_acmp .ne (Reader.signed 16 (a.toNat * 256 + b.toNat)), 3) := dk_of ((dk_bind (dk_u1 (h 0 _ rfl))).trans ((dk_bind (dk_map (dk_u2 (h 1 _ rfl) (h 2 _ rfl)))).trans rfl))
theorem dk_167 {code : ByteArray} {pc : Nat} (a b : UInt8) (h : DkAt code pc [167, a, b]) : decode code pc = .ok (.goto (Reader.signed 16 (a.toNat * 256 + b.toNat)), 3) := dk_of ((dk_bind (dk_u1 (h 0 _ rfl))).trans ((dk_bind (dk_map (dk_u2 (h 1 _ rfl) (h 2 _ rfl)))).trans rfl))
theorem dk_172 {code : ByteArray} {pc : Nat} (h : DkAt code pc [172]) : decode code pc = .ok (.ireturn, 1) := dk_of ((dk_bind (dk_u1 (h 0 _ rfl))).trans rfl)
theorem dk_173 {code : ByteArray} {pc : Nat} (h : DkAt code pc [173]) : decode code pc = .ok (.lreturn, 1) := dk_of ((dk_bind (dk_u1 (h 0 _ rfl))).trans rfl)
theorem dk_174 {code : ByteArray} {pc : Nat} (h : DkAt code pc [174]) : decode code pc = .ok (.freturn, 1) := dk_of ((dk_bind (dk_u1 (h 0 _ rfl))).trans rfl)
theorem dk_175 {code : ByteArray} {pc : Nat} (h : DkAt code pc [175]) : decode code pc = .ok (.dreturn, 1) := dk_of ((dk_bind (dk_u1 (h 0 _ rfl))).trans rfl)
theorem dk_176 {code : ByteArray} {pc : Nat} (h : DkAt code pc [176]) : decode code pc = .ok (.areturn, 1) := dk_of ((dk_bind (dk_u1 (h 0 _ rfl))).trans rfl)
theorem dk_177 {code : ByteArray} {pc : Nat} (h : DkAt code pc [177]) : decode code pc = .ok (.return_, 1) := dk_of ((dk_bind (dk_u1 (h 0 _ rfl))).trans rfl)
theorem dk_178 {code : ByteArray} {pc : Nat} (a b : UInt8) (h : DkAt code pc [178, a, b]) : decode code pc = .ok (.getstatic (a.toNat * 256 + b.toNat), 3) := dk_of ((dk_bind (dk_u1 (h 0 _ rfl))).trans ((dk_bind (dk_u2 (h 1 _ rfl) (h 2 _ rfl))).trans rfl))
theorem dk_180 {code : ByteArray} {pc : Nat} (a b : UInt8) (h : DkAt code pc [180, a, b]) : decode code pc = .ok (.getfield (a.toNat * 256 + b.toNat), 3) := dk_of ((dk_bind (dk_u1 (h 0 _ rfl))).trans ((dk_bind (dk_u2 (h 1 _ rfl) (h 2 _ rfl))).trans rfl))
theorem dk_181 {code : ByteArray} {pc : Nat} (a b : UInt8) (h : DkAt code pc [181, a, b]) : decode code pc = .ok (.putfield (a.toNat * 256 + b.toNat), 3) := dk_of ((dk_bind (dk_u1 (h 0 _ rfl))).trans ((dk_bind (dk_u2 (h 1 _ rfl) (h 2 _ rfl))).trans rfl))
theorem dk_182 {code : ByteArray} {pc : Nat} (a b : UInt8) (h : DkAt code pc [182, a, b]) : decode code pc = .ok (.invokevirtual (a.toNat * 256 + b.toNat), 3) := dk_of ((dk_bind (dk_u1 (h 0 _ rfl))).trans ((dk_bind (dk_u2 (h 1 _ rfl) (h 2 _ rfl))).trans rfl))
theorem dk_183 {code : ByteArray} {pc : Nat} (a b : UInt8) (h : DkAt code pc [183, a, b]) : decode code pc = .ok (.invokespecial (a.toNat * 256 + b.toNat), 3) := dk_of ((dk_bind (dk_u1 (h 0 _ rfl))).trans ((dk_bind (dk_u2 (h 1 _ rfl) (h 2 _ rfl))).trans rfl))
theorem dk_184 {code : ByteArray} {pc : Nat} (a b : UInt8) (h : DkAt code pc [184, a, b]) : decode code pc = .ok (.invokestatic (a.toNat * 256 + b.toNat), 3) := dk_of ((dk_bind (dk_u1 (h 0 _ rfl))).trans ((dk_bind (dk_u2 (h 1 _ rfl) (h 2 _ rfl))).trans rfl))
theorem dk_187 {code : ByteArray} {pc : Nat} (a b : UInt8) (h : DkAt code pc [187, a, b]) : decode code pc = .ok (.new (a.toNat * 256 + b.toNat), 3) := dk_of ((dk_bind (dk_u1 (h 0 _ rfl))).trans ((dk_bind (dk_u2 (h 1 _ rfl) (h 2 _ rfl))).trans rfl))
theorem dk_188_4 {code : ByteArray} {pc : Nat} (h : DkAt code pc [188, 4]) : decode code pc = .ok (.newarray .boolean, 2) := dk_of ((dk_bind (dk_u1 (h 0 _ rfl))).trans ((dk_bind (dk_u1 (h 1 _ rfl))).trans rfl))
theorem dk_188_7 {code : ByteArray} {pc : Nat} (h : DkAt code pc [188, 7]) : decode code pc = .ok (.newarray .double, 2) := dk_of ((dk_bind (dk_u1 (h 0 _ rfl))).trans ((dk_bind (dk_u1 (h 1 _ rfl))).trans rfl))
theorem dk_188_10 {code : ByteArray} {pc : Nat} (h : DkAt code pc [188, 10]) : decode code pc = .ok (.newarray .int, 2) := dk_of ((dk_bind (dk_u1 (h 0 _ rfl))).trans ((dk_bind (dk_u1 (h 1 _ rfl))).trans rfl))
theorem dk_188_11 {code : ByteArray} {pc : Nat} (h : DkAt code pc [188, 11]) : decode code pc = .ok (.newarray .long, 2) := dk_of ((dk_bind (dk_u1 (h 0 _ rfl))).trans ((dk_bind (dk_u1 (h 1 _ rfl))).trans rfl))
theorem dk_189 {code : ByteArray} {pc : Nat} (a b : UInt8) (h : DkAt code pc [189, a, b]) : decode code pc = .ok (.anewarray (a.toNat * 256 + b.toNat), 3) := dk_of ((dk_bind (dk_u1 (h 0 _ rfl))).trans ((dk_bind (dk_u2 (h 1 _ rfl) (h 2 _ rfl))).trans rfl))
theorem dk_190 {code : ByteArray} {pc : Nat} (h : DkAt code pc [190]) : decode code pc = .ok (.arraylength, 1) := dk_of ((dk_bind (dk_u1 (h 0 _ rfl))).trans rfl)
theorem dk_191 {code : ByteArray} {pc : Nat} (h : DkAt code pc [191]) : decode code pc = .ok (.athrow, 1) := dk_of ((dk_bind (dk_u1 (h 0 _ rfl))).trans rfl)
theorem dk_192 {code : ByteArray} {pc : Nat} (a b : UInt8) (h : DkAt code pc [192, a, b]) : decode code pc = .ok (.checkcast (a.toNat * 256 + b.toNat), 3) := dk_of ((dk_bind (dk_u1 (h 0 _ rfl))).trans ((dk_bind (dk_u2 (h 1 _ rfl) (h 2 _ rfl))).trans rfl))
theorem dk_193 {code : ByteArray} {pc : Nat} (a b : UInt8) (h : DkAt code pc [193, a, b]) : decode code pc = .ok (.instanceof (a.toNat * 256 + b.toNat), 3) := dk_of ((dk_bind (dk_u1 (h 0 _ rfl))).trans ((dk_bind (dk_u2 (h 1 _ rfl) (h 2 _ rfl))).trans rfl))
theorem dk_198 {code : ByteArray} {pc : Nat} (a b : UInt8) (h : DkAt code pc [198, a, b]) : decode code pc = .ok (.ifnull (Reader.signed 16 (a.toNat * 256 + b.toNat)), 3) := dk_of ((dk_bind (dk_u1 (h 0 _ rfl))).trans ((dk_bind (dk_map (dk_u2 (h 1 _ rfl) (h 2 _ rfl)))).trans rfl))
theorem dk_199 {code : ByteArray} {pc : Nat} (a b : UInt8) (h : DkAt code pc [199, a, b]) : decode code pc = .ok (.ifnonnull (Reader.signed 16 (a.toNat * 256 + b.toNat)), 3) := dk_of ((dk_bind (dk_u1 (h 0 _ rfl))).trans ((dk_bind (dk_map (dk_u2 (h 1 _ rfl) (h 2 _ rfl)))).trans rfl))

/-! ToneGraphModel -/
set_option maxRecDepth 100000
def RX6 : String := "ToneGraphModel"
def TX6 : u_T := fun k => match k with
  | 0 => ("ToneGraphModel", "now", "[I", true)
  | 1 => ("ToneGraphModel", "spare", "[I", true)
  | 2 => ("ToneGraphModel", "kinds", "[I", true)
  | 3 => ("ToneGraphModel", "firsts", "[I", true)
  | 4 => ("ToneGraphModel", "seconds", "[I", true)
  | 5 => ("ToneGraphModel", "thirds", "[I", true)
  | 6 => ("ToneGraphModel", "sources", "[I", true)
  | 7 => ("ToneGraphModel", "percents", "[I", true)
  | 8 => ("ToneGraphModel", "counts", "[I", true)
  | 9 => ("ToneGraphModel", "order", "[I", true)
  | 10 => ("ToneGraphModel", "heard", "[I", true)
  | 11 => ("ToneGraphModel", "isIn", "[Z", true)
  | 12 => ("ToneGraphModel", "thrown", "I", false)
  | 13 => ("ToneGraphModel", "nodes", "I", false)
  | 14 => ("ToneGraphModel", "output", "I", false)
  | 15 => ("ToneGraphModel", "wave", "I", false)
  | 16 => ("ToneGraphModel", "attack", "I", false)
  | 17 => ("ToneGraphModel", "decay", "I", false)
  | 18 => ("ToneGraphModel", "sustain", "I", false)
  | 19 => ("ToneGraphModel", "release", "I", false)
  | 20 => ("ToneGraphModel", "stolen", "I", false)
  | 21 => ("ToneGraphModel", "calls", "I", false)
  | 22 => ("ToneGraphModel", "time", "I", false)
  | 23 => ("ToneGraphModel", "greatest", "I", false)
  | 24 => ("ToneGraphModel", "quiet", "I", false)
  | _ => ("ToneGraphModel", "energy", "J", false)
def tyX6 : Nat → FieldType := fun k => match k with
  | 0 => .array .int
  | 1 => .array .int
  | 2 => .array .int
  | 3 => .array .int
  | 4 => .array .int
  | 5 => .array .int
  | 6 => .array .int
  | 7 => .array .int
  | 8 => .array .int
  | 9 => .array .int
  | 10 => .array .int
  | 11 => .array .boolean
  | 12 => .int
  | 13 => .int
  | 14 => .int
  | 15 => .int
  | 16 => .int
  | 17 => .int
  | 18 => .int
  | 19 => .int
  | 20 => .int
  | 21 => .int
  | 22 => .int
  | 23 => .int
  | 24 => .int
  | _ => .long
abbrev wsX60 : List Cond := u_ws RX6 TX6 26
set_option maxRecDepth 100000 in
theorem nmX6 : ∀ a, a < 26 → ∀ b, b < 26 → a ≠ b → (TX6 a).2.1 ≠ (TX6 b).2.1 := by decide +kernel
set_option maxRecDepth 100000 in
theorem tyX6_ok : ∀ k, k < 26 → parseFieldDescriptor (TX6 k).2.2.1 = some (tyX6 k) := by decide +kernel
abbrev cX6_init : ByteArray := prog_14_method_1_code
def yX6_init : MethodName := ⟨RX6, "<init>", "()V"⟩
def dkwX6_init_7 : List UInt8 := [3, 181, 0, 84, 42, 9, 181, 0, 87, 42, 182, 0, 91, 177]
abbrev dktX6_init_7 : List UInt8 := dkwX6_init_7 ++ []
def dkwX6_init_6 : List UInt8 := [181, 0, 69, 42, 3, 181, 0, 72, 42, 3, 181, 0, 75, 42, 3, 181, 0, 78, 42, 3, 181, 0, 81, 42]
abbrev dktX6_init_6 : List UInt8 := dkwX6_init_6 ++ dktX6_init_7
def dkwX6_init_5 : List UInt8 := [16, 115, 181, 0, 57, 42, 3, 181, 0, 60, 42, 3, 181, 0, 63, 42, 17, 3, 232, 181, 0, 66, 42, 3]
abbrev dktX6_init_5 : List UInt8 := dkwX6_init_5 ++ dktX6_init_6
def dkwX6_init_4 : List UInt8 := [16, 10, 188, 4, 181, 0, 43, 42, 3, 181, 0, 47, 42, 4, 181, 0, 51, 42, 3, 181, 0, 54, 42]
abbrev dktX6_init_4 : List UInt8 := dkwX6_init_4 ++ dktX6_init_5
def dkwX6_init_3 : List UInt8 := [16, 10, 188, 10, 181, 0, 34, 42, 16, 10, 188, 10, 181, 0, 37, 42, 16, 64, 188, 10, 181, 0, 40, 42]
abbrev dktX6_init_3 : List UInt8 := dkwX6_init_3 ++ dktX6_init_4
def dkwX6_init_2 : List UInt8 := [16, 10, 188, 10, 181, 0, 25, 42, 16, 40, 188, 10, 181, 0, 28, 42, 16, 40, 188, 10, 181, 0, 31, 42]
abbrev dktX6_init_2 : List UInt8 := dkwX6_init_2 ++ dktX6_init_3
def dkwX6_init_1 : List UInt8 := [16, 10, 188, 10, 181, 0, 16, 42, 16, 10, 188, 10, 181, 0, 19, 42, 16, 10, 188, 10, 181, 0, 22, 42]
abbrev dktX6_init_1 : List UInt8 := dkwX6_init_1 ++ dktX6_init_2
def dkwX6_init_0 : List UInt8 := [42, 183, 0, 1, 42, 17, 2, 192, 188, 10, 181, 0, 7, 42, 17, 2, 192, 188, 10, 181, 0, 13, 42]
abbrev dktX6_init_0 : List UInt8 := dkwX6_init_0 ++ dktX6_init_1
theorem dksX6_init_0 : cX6_init.data.toList.drop 0 = dktX6_init_0 := by decide +kernel
theorem dksX6_init_1 : cX6_init.data.toList.drop 23 = dktX6_init_1 := dk_seg dksX6_init_0 23 rfl rfl
theorem dksX6_init_2 : cX6_init.data.toList.drop 47 = dktX6_init_2 := dk_seg dksX6_init_1 24 rfl rfl
theorem dksX6_init_3 : cX6_init.data.toList.drop 71 = dktX6_init_3 := dk_seg dksX6_init_2 24 rfl rfl
theorem dksX6_init_4 : cX6_init.data.toList.drop 95 = dktX6_init_4 := dk_seg dksX6_init_3 24 rfl rfl
theorem dksX6_init_5 : cX6_init.data.toList.drop 118 = dktX6_init_5 := dk_seg dksX6_init_4 23 rfl rfl
theorem dksX6_init_6 : cX6_init.data.toList.drop 142 = dktX6_init_6 := dk_seg dksX6_init_5 24 rfl rfl
theorem dksX6_init_7 : cX6_init.data.toList.drop 166 = dktX6_init_7 := dk_seg dksX6_init_6 24 rfl rfl
theorem dX6_init_0 : decode cX6_init 0 = .ok (.aload_n 0, 1) := dk_42 (dk_at dksX6_init_0 0 rfl rfl)
theorem dX6_init_1 : decode cX6_init 1 = .ok (.invokespecial 1, 3) := dk_183 0 1 (dk_at dksX6_init_0 1 rfl rfl)
theorem dX6_init_4 : decode cX6_init 4 = .ok (.aload_n 0, 1) := dk_42 (dk_at dksX6_init_0 4 rfl rfl)
theorem dX6_init_5 : decode cX6_init 5 = .ok (.sipush 704, 3) := dk_17 2 192 (dk_at dksX6_init_0 5 rfl rfl)
theorem dX6_init_8 : decode cX6_init 8 = .ok (.newarray .int, 2) := dk_188_10 (dk_at dksX6_init_0 8 rfl rfl)
theorem dX6_init_10 : decode cX6_init 10 = .ok (.putfield 7, 3) := dk_181 0 7 (dk_at dksX6_init_0 10 rfl rfl)
theorem dX6_init_13 : decode cX6_init 13 = .ok (.aload_n 0, 1) := dk_42 (dk_at dksX6_init_0 13 rfl rfl)
theorem dX6_init_14 : decode cX6_init 14 = .ok (.sipush 704, 3) := dk_17 2 192 (dk_at dksX6_init_0 14 rfl rfl)
theorem dX6_init_17 : decode cX6_init 17 = .ok (.newarray .int, 2) := dk_188_10 (dk_at dksX6_init_0 17 rfl rfl)
theorem dX6_init_19 : decode cX6_init 19 = .ok (.putfield 13, 3) := dk_181 0 13 (dk_at dksX6_init_0 19 rfl rfl)
theorem dX6_init_22 : decode cX6_init 22 = .ok (.aload_n 0, 1) := dk_42 (dk_at dksX6_init_0 22 rfl rfl)
theorem dX6_init_23 : decode cX6_init 23 = .ok (.bipush 10, 2) := dk_16 10 (dk_at dksX6_init_1 0 rfl rfl)
theorem dX6_init_25 : decode cX6_init 25 = .ok (.newarray .int, 2) := dk_188_10 (dk_at dksX6_init_1 2 rfl rfl)
theorem dX6_init_27 : decode cX6_init 27 = .ok (.putfield 16, 3) := dk_181 0 16 (dk_at dksX6_init_1 4 rfl rfl)
theorem dX6_init_30 : decode cX6_init 30 = .ok (.aload_n 0, 1) := dk_42 (dk_at dksX6_init_1 7 rfl rfl)
theorem dX6_init_31 : decode cX6_init 31 = .ok (.bipush 10, 2) := dk_16 10 (dk_at dksX6_init_1 8 rfl rfl)
theorem dX6_init_33 : decode cX6_init 33 = .ok (.newarray .int, 2) := dk_188_10 (dk_at dksX6_init_1 10 rfl rfl)
theorem dX6_init_35 : decode cX6_init 35 = .ok (.putfield 19, 3) := dk_181 0 19 (dk_at dksX6_init_1 12 rfl rfl)
theorem dX6_init_38 : decode cX6_init 38 = .ok (.aload_n 0, 1) := dk_42 (dk_at dksX6_init_1 15 rfl rfl)
theorem dX6_init_39 : decode cX6_init 39 = .ok (.bipush 10, 2) := dk_16 10 (dk_at dksX6_init_1 16 rfl rfl)
theorem dX6_init_41 : decode cX6_init 41 = .ok (.newarray .int, 2) := dk_188_10 (dk_at dksX6_init_1 18 rfl rfl)
theorem dX6_init_43 : decode cX6_init 43 = .ok (.putfield 22, 3) := dk_181 0 22 (dk_at dksX6_init_1 20 rfl rfl)
theorem dX6_init_46 : decode cX6_init 46 = .ok (.aload_n 0, 1) := dk_42 (dk_at dksX6_init_1 23 rfl rfl)
theorem dX6_init_47 : decode cX6_init 47 = .ok (.bipush 10, 2) := dk_16 10 (dk_at dksX6_init_2 0 rfl rfl)
theorem dX6_init_49 : decode cX6_init 49 = .ok (.newarray .int, 2) := dk_188_10 (dk_at dksX6_init_2 2 rfl rfl)
theorem dX6_init_51 : decode cX6_init 51 = .ok (.putfield 25, 3) := dk_181 0 25 (dk_at dksX6_init_2 4 rfl rfl)
theorem dX6_init_54 : decode cX6_init 54 = .ok (.aload_n 0, 1) := dk_42 (dk_at dksX6_init_2 7 rfl rfl)
theorem dX6_init_55 : decode cX6_init 55 = .ok (.bipush 40, 2) := dk_16 40 (dk_at dksX6_init_2 8 rfl rfl)
theorem dX6_init_57 : decode cX6_init 57 = .ok (.newarray .int, 2) := dk_188_10 (dk_at dksX6_init_2 10 rfl rfl)
theorem dX6_init_59 : decode cX6_init 59 = .ok (.putfield 28, 3) := dk_181 0 28 (dk_at dksX6_init_2 12 rfl rfl)
theorem dX6_init_62 : decode cX6_init 62 = .ok (.aload_n 0, 1) := dk_42 (dk_at dksX6_init_2 15 rfl rfl)
theorem dX6_init_63 : decode cX6_init 63 = .ok (.bipush 40, 2) := dk_16 40 (dk_at dksX6_init_2 16 rfl rfl)
theorem dX6_init_65 : decode cX6_init 65 = .ok (.newarray .int, 2) := dk_188_10 (dk_at dksX6_init_2 18 rfl rfl)
theorem dX6_init_67 : decode cX6_init 67 = .ok (.putfield 31, 3) := dk_181 0 31 (dk_at dksX6_init_2 20 rfl rfl)
theorem dX6_init_70 : decode cX6_init 70 = .ok (.aload_n 0, 1) := dk_42 (dk_at dksX6_init_2 23 rfl rfl)
theorem dX6_init_71 : decode cX6_init 71 = .ok (.bipush 10, 2) := dk_16 10 (dk_at dksX6_init_3 0 rfl rfl)
theorem dX6_init_73 : decode cX6_init 73 = .ok (.newarray .int, 2) := dk_188_10 (dk_at dksX6_init_3 2 rfl rfl)
theorem dX6_init_75 : decode cX6_init 75 = .ok (.putfield 34, 3) := dk_181 0 34 (dk_at dksX6_init_3 4 rfl rfl)
theorem dX6_init_78 : decode cX6_init 78 = .ok (.aload_n 0, 1) := dk_42 (dk_at dksX6_init_3 7 rfl rfl)
theorem dX6_init_79 : decode cX6_init 79 = .ok (.bipush 10, 2) := dk_16 10 (dk_at dksX6_init_3 8 rfl rfl)
theorem dX6_init_81 : decode cX6_init 81 = .ok (.newarray .int, 2) := dk_188_10 (dk_at dksX6_init_3 10 rfl rfl)
theorem dX6_init_83 : decode cX6_init 83 = .ok (.putfield 37, 3) := dk_181 0 37 (dk_at dksX6_init_3 12 rfl rfl)
theorem dX6_init_86 : decode cX6_init 86 = .ok (.aload_n 0, 1) := dk_42 (dk_at dksX6_init_3 15 rfl rfl)
theorem dX6_init_87 : decode cX6_init 87 = .ok (.bipush 64, 2) := dk_16 64 (dk_at dksX6_init_3 16 rfl rfl)
theorem dX6_init_89 : decode cX6_init 89 = .ok (.newarray .int, 2) := dk_188_10 (dk_at dksX6_init_3 18 rfl rfl)
theorem dX6_init_91 : decode cX6_init 91 = .ok (.putfield 40, 3) := dk_181 0 40 (dk_at dksX6_init_3 20 rfl rfl)
theorem dX6_init_94 : decode cX6_init 94 = .ok (.aload_n 0, 1) := dk_42 (dk_at dksX6_init_3 23 rfl rfl)
theorem dX6_init_95 : decode cX6_init 95 = .ok (.bipush 10, 2) := dk_16 10 (dk_at dksX6_init_4 0 rfl rfl)
theorem dX6_init_97 : decode cX6_init 97 = .ok (.newarray .boolean, 2) := dk_188_4 (dk_at dksX6_init_4 2 rfl rfl)
theorem dX6_init_99 : decode cX6_init 99 = .ok (.putfield 43, 3) := dk_181 0 43 (dk_at dksX6_init_4 4 rfl rfl)
theorem dX6_init_102 : decode cX6_init 102 = .ok (.aload_n 0, 1) := dk_42 (dk_at dksX6_init_4 7 rfl rfl)
theorem dX6_init_103 : decode cX6_init 103 = .ok (.iconst 0, 1) := dk_3 (dk_at dksX6_init_4 8 rfl rfl)
theorem dX6_init_104 : decode cX6_init 104 = .ok (.putfield 47, 3) := dk_181 0 47 (dk_at dksX6_init_4 9 rfl rfl)
theorem dX6_init_107 : decode cX6_init 107 = .ok (.aload_n 0, 1) := dk_42 (dk_at dksX6_init_4 12 rfl rfl)
theorem dX6_init_108 : decode cX6_init 108 = .ok (.iconst 1, 1) := dk_4 (dk_at dksX6_init_4 13 rfl rfl)
theorem dX6_init_109 : decode cX6_init 109 = .ok (.putfield 51, 3) := dk_181 0 51 (dk_at dksX6_init_4 14 rfl rfl)
theorem dX6_init_112 : decode cX6_init 112 = .ok (.aload_n 0, 1) := dk_42 (dk_at dksX6_init_4 17 rfl rfl)
theorem dX6_init_113 : decode cX6_init 113 = .ok (.iconst 0, 1) := dk_3 (dk_at dksX6_init_4 18 rfl rfl)
theorem dX6_init_114 : decode cX6_init 114 = .ok (.putfield 54, 3) := dk_181 0 54 (dk_at dksX6_init_4 19 rfl rfl)
theorem dX6_init_117 : decode cX6_init 117 = .ok (.aload_n 0, 1) := dk_42 (dk_at dksX6_init_4 22 rfl rfl)
theorem dX6_init_118 : decode cX6_init 118 = .ok (.bipush 115, 2) := dk_16 115 (dk_at dksX6_init_5 0 rfl rfl)
theorem dX6_init_120 : decode cX6_init 120 = .ok (.putfield 57, 3) := dk_181 0 57 (dk_at dksX6_init_5 2 rfl rfl)
theorem dX6_init_123 : decode cX6_init 123 = .ok (.aload_n 0, 1) := dk_42 (dk_at dksX6_init_5 5 rfl rfl)
theorem dX6_init_124 : decode cX6_init 124 = .ok (.iconst 0, 1) := dk_3 (dk_at dksX6_init_5 6 rfl rfl)
theorem dX6_init_125 : decode cX6_init 125 = .ok (.putfield 60, 3) := dk_181 0 60 (dk_at dksX6_init_5 7 rfl rfl)
theorem dX6_init_128 : decode cX6_init 128 = .ok (.aload_n 0, 1) := dk_42 (dk_at dksX6_init_5 10 rfl rfl)
theorem dX6_init_129 : decode cX6_init 129 = .ok (.iconst 0, 1) := dk_3 (dk_at dksX6_init_5 11 rfl rfl)
theorem dX6_init_130 : decode cX6_init 130 = .ok (.putfield 63, 3) := dk_181 0 63 (dk_at dksX6_init_5 12 rfl rfl)
theorem dX6_init_133 : decode cX6_init 133 = .ok (.aload_n 0, 1) := dk_42 (dk_at dksX6_init_5 15 rfl rfl)
theorem dX6_init_134 : decode cX6_init 134 = .ok (.sipush 1000, 3) := dk_17 3 232 (dk_at dksX6_init_5 16 rfl rfl)
theorem dX6_init_137 : decode cX6_init 137 = .ok (.putfield 66, 3) := dk_181 0 66 (dk_at dksX6_init_5 19 rfl rfl)
theorem dX6_init_140 : decode cX6_init 140 = .ok (.aload_n 0, 1) := dk_42 (dk_at dksX6_init_5 22 rfl rfl)
theorem dX6_init_141 : decode cX6_init 141 = .ok (.iconst 0, 1) := dk_3 (dk_at dksX6_init_5 23 rfl rfl)
theorem dX6_init_142 : decode cX6_init 142 = .ok (.putfield 69, 3) := dk_181 0 69 (dk_at dksX6_init_6 0 rfl rfl)
theorem dX6_init_145 : decode cX6_init 145 = .ok (.aload_n 0, 1) := dk_42 (dk_at dksX6_init_6 3 rfl rfl)
theorem dX6_init_146 : decode cX6_init 146 = .ok (.iconst 0, 1) := dk_3 (dk_at dksX6_init_6 4 rfl rfl)
theorem dX6_init_147 : decode cX6_init 147 = .ok (.putfield 72, 3) := dk_181 0 72 (dk_at dksX6_init_6 5 rfl rfl)
theorem dX6_init_150 : decode cX6_init 150 = .ok (.aload_n 0, 1) := dk_42 (dk_at dksX6_init_6 8 rfl rfl)
theorem dX6_init_151 : decode cX6_init 151 = .ok (.iconst 0, 1) := dk_3 (dk_at dksX6_init_6 9 rfl rfl)
theorem dX6_init_152 : decode cX6_init 152 = .ok (.putfield 75, 3) := dk_181 0 75 (dk_at dksX6_init_6 10 rfl rfl)
theorem dX6_init_155 : decode cX6_init 155 = .ok (.aload_n 0, 1) := dk_42 (dk_at dksX6_init_6 13 rfl rfl)
theorem dX6_init_156 : decode cX6_init 156 = .ok (.iconst 0, 1) := dk_3 (dk_at dksX6_init_6 14 rfl rfl)
theorem dX6_init_157 : decode cX6_init 157 = .ok (.putfield 78, 3) := dk_181 0 78 (dk_at dksX6_init_6 15 rfl rfl)
theorem dX6_init_160 : decode cX6_init 160 = .ok (.aload_n 0, 1) := dk_42 (dk_at dksX6_init_6 18 rfl rfl)
theorem dX6_init_161 : decode cX6_init 161 = .ok (.iconst 0, 1) := dk_3 (dk_at dksX6_init_6 19 rfl rfl)
theorem dX6_init_162 : decode cX6_init 162 = .ok (.putfield 81, 3) := dk_181 0 81 (dk_at dksX6_init_6 20 rfl rfl)
theorem dX6_init_165 : decode cX6_init 165 = .ok (.aload_n 0, 1) := dk_42 (dk_at dksX6_init_6 23 rfl rfl)
theorem dX6_init_166 : decode cX6_init 166 = .ok (.iconst 0, 1) := dk_3 (dk_at dksX6_init_7 0 rfl rfl)
theorem dX6_init_167 : decode cX6_init 167 = .ok (.putfield 84, 3) := dk_181 0 84 (dk_at dksX6_init_7 1 rfl rfl)
theorem dX6_init_170 : decode cX6_init 170 = .ok (.aload_n 0, 1) := dk_42 (dk_at dksX6_init_7 4 rfl rfl)
theorem dX6_init_171 : decode cX6_init 171 = .ok (.lconst 0, 1) := dk_9 (dk_at dksX6_init_7 5 rfl rfl)
theorem dX6_init_172 : decode cX6_init 172 = .ok (.putfield 87, 3) := dk_181 0 87 (dk_at dksX6_init_7 6 rfl rfl)
theorem dX6_init_175 : decode cX6_init 175 = .ok (.aload_n 0, 1) := dk_42 (dk_at dksX6_init_7 9 rfl rfl)
theorem dX6_init_176 : decode cX6_init 176 = .ok (.invokevirtual 91, 3) := dk_182 0 91 (dk_at dksX6_init_7 10 rfl rfl)
theorem dX6_init_179 : decode cX6_init 179 = .ok (.return_, 1) := dk_177 (dk_at dksX6_init_7 13 rfl rfl)
abbrev cX6_lays : ByteArray := prog_14_method_20_code
def yX6_lays : MethodName := ⟨RX6, "lays", "()V"⟩
def dkwX6_lays_2 : List UInt8 := [180, 0, 43, 28, 4, 84, 42, 180, 0, 37, 27, 28, 79, 132, 1, 1, 167, 255, 215, 177]
abbrev dktX6_lays_2 : List UInt8 := dkwX6_lays_2 ++ []
def dkwX6_lays_1 : List UInt8 := [42, 180, 0, 51, 162, 0, 39, 3, 61, 42, 28, 182, 0, 118, 154, 0, 9, 132, 2, 1, 167, 255, 245, 42]
abbrev dktX6_lays_1 : List UInt8 := dkwX6_lays_1 ++ dktX6_lays_2
def dkwX6_lays_0 : List UInt8 := [3, 60, 27, 16, 10, 162, 0, 16, 42, 180, 0, 43, 27, 3, 84, 132, 1, 1, 167, 255, 240, 3, 60, 27]
abbrev dktX6_lays_0 : List UInt8 := dkwX6_lays_0 ++ dktX6_lays_1
theorem dksX6_lays_0 : cX6_lays.data.toList.drop 0 = dktX6_lays_0 := by decide +kernel
theorem dksX6_lays_1 : cX6_lays.data.toList.drop 24 = dktX6_lays_1 := dk_seg dksX6_lays_0 24 rfl rfl
theorem dksX6_lays_2 : cX6_lays.data.toList.drop 48 = dktX6_lays_2 := dk_seg dksX6_lays_1 24 rfl rfl
theorem dX6_lays_0 : decode cX6_lays 0 = .ok (.iconst 0, 1) := dk_3 (dk_at dksX6_lays_0 0 rfl rfl)
theorem dX6_lays_1 : decode cX6_lays 1 = .ok (.istore_n 1, 1) := dk_60 (dk_at dksX6_lays_0 1 rfl rfl)
theorem dX6_lays_2 : decode cX6_lays 2 = .ok (.iload_n 1, 1) := dk_27 (dk_at dksX6_lays_0 2 rfl rfl)
theorem dX6_lays_3 : decode cX6_lays 3 = .ok (.bipush 10, 2) := dk_16 10 (dk_at dksX6_lays_0 3 rfl rfl)
theorem dX6_lays_5 : decode cX6_lays 5 = .ok (.if_icmp .ge 16, 3) := dk_162 0 16 (dk_at dksX6_lays_0 5 rfl rfl)
theorem dX6_lays_8 : decode cX6_lays 8 = .ok (.aload_n 0, 1) := dk_42 (dk_at dksX6_lays_0 8 rfl rfl)
theorem dX6_lays_9 : decode cX6_lays 9 = .ok (.getfield 43, 3) := dk_180 0 43 (dk_at dksX6_lays_0 9 rfl rfl)
theorem dX6_lays_12 : decode cX6_lays 12 = .ok (.iload_n 1, 1) := dk_27 (dk_at dksX6_lays_0 12 rfl rfl)
theorem dX6_lays_13 : decode cX6_lays 13 = .ok (.iconst 0, 1) := dk_3 (dk_at dksX6_lays_0 13 rfl rfl)
theorem dX6_lays_14 : decode cX6_lays 14 = .ok (.bastore, 1) := dk_84 (dk_at dksX6_lays_0 14 rfl rfl)
theorem dX6_lays_15 : decode cX6_lays 15 = .ok (.iinc 1 1, 3) := dk_132 1 1 (dk_at dksX6_lays_0 15 rfl rfl)
theorem dX6_lays_18 : decode cX6_lays 18 = .ok (.goto (-16), 3) := dk_167 255 240 (dk_at dksX6_lays_0 18 rfl rfl)
theorem dX6_lays_21 : decode cX6_lays 21 = .ok (.iconst 0, 1) := dk_3 (dk_at dksX6_lays_0 21 rfl rfl)
theorem dX6_lays_22 : decode cX6_lays 22 = .ok (.istore_n 1, 1) := dk_60 (dk_at dksX6_lays_0 22 rfl rfl)
theorem dX6_lays_23 : decode cX6_lays 23 = .ok (.iload_n 1, 1) := dk_27 (dk_at dksX6_lays_0 23 rfl rfl)
theorem dX6_lays_24 : decode cX6_lays 24 = .ok (.aload_n 0, 1) := dk_42 (dk_at dksX6_lays_1 0 rfl rfl)
theorem dX6_lays_25 : decode cX6_lays 25 = .ok (.getfield 51, 3) := dk_180 0 51 (dk_at dksX6_lays_1 1 rfl rfl)
theorem dX6_lays_28 : decode cX6_lays 28 = .ok (.if_icmp .ge 39, 3) := dk_162 0 39 (dk_at dksX6_lays_1 4 rfl rfl)
theorem dX6_lays_31 : decode cX6_lays 31 = .ok (.iconst 0, 1) := dk_3 (dk_at dksX6_lays_1 7 rfl rfl)
theorem dX6_lays_32 : decode cX6_lays 32 = .ok (.istore_n 2, 1) := dk_61 (dk_at dksX6_lays_1 8 rfl rfl)
theorem dX6_lays_33 : decode cX6_lays 33 = .ok (.aload_n 0, 1) := dk_42 (dk_at dksX6_lays_1 9 rfl rfl)
theorem dX6_lays_34 : decode cX6_lays 34 = .ok (.iload_n 2, 1) := dk_28 (dk_at dksX6_lays_1 10 rfl rfl)
theorem dX6_lays_35 : decode cX6_lays 35 = .ok (.invokevirtual 118, 3) := dk_182 0 118 (dk_at dksX6_lays_1 11 rfl rfl)
theorem dX6_lays_38 : decode cX6_lays 38 = .ok (.ifCond .ne 9, 3) := dk_154 0 9 (dk_at dksX6_lays_1 14 rfl rfl)
theorem dX6_lays_41 : decode cX6_lays 41 = .ok (.iinc 2 1, 3) := dk_132 2 1 (dk_at dksX6_lays_1 17 rfl rfl)
theorem dX6_lays_44 : decode cX6_lays 44 = .ok (.goto (-11), 3) := dk_167 255 245 (dk_at dksX6_lays_1 20 rfl rfl)
theorem dX6_lays_47 : decode cX6_lays 47 = .ok (.aload_n 0, 1) := dk_42 (dk_at dksX6_lays_1 23 rfl rfl)
theorem dX6_lays_48 : decode cX6_lays 48 = .ok (.getfield 43, 3) := dk_180 0 43 (dk_at dksX6_lays_2 0 rfl rfl)
theorem dX6_lays_51 : decode cX6_lays 51 = .ok (.iload_n 2, 1) := dk_28 (dk_at dksX6_lays_2 3 rfl rfl)
theorem dX6_lays_52 : decode cX6_lays 52 = .ok (.iconst 1, 1) := dk_4 (dk_at dksX6_lays_2 4 rfl rfl)
theorem dX6_lays_53 : decode cX6_lays 53 = .ok (.bastore, 1) := dk_84 (dk_at dksX6_lays_2 5 rfl rfl)
theorem dX6_lays_54 : decode cX6_lays 54 = .ok (.aload_n 0, 1) := dk_42 (dk_at dksX6_lays_2 6 rfl rfl)
theorem dX6_lays_55 : decode cX6_lays 55 = .ok (.getfield 37, 3) := dk_180 0 37 (dk_at dksX6_lays_2 7 rfl rfl)
theorem dX6_lays_58 : decode cX6_lays 58 = .ok (.iload_n 1, 1) := dk_27 (dk_at dksX6_lays_2 10 rfl rfl)
theorem dX6_lays_59 : decode cX6_lays 59 = .ok (.iload_n 2, 1) := dk_28 (dk_at dksX6_lays_2 11 rfl rfl)
theorem dX6_lays_60 : decode cX6_lays 60 = .ok (.iastore, 1) := dk_79 (dk_at dksX6_lays_2 12 rfl rfl)
theorem dX6_lays_61 : decode cX6_lays 61 = .ok (.iinc 1 1, 3) := dk_132 1 1 (dk_at dksX6_lays_2 13 rfl rfl)
theorem dX6_lays_64 : decode cX6_lays 64 = .ok (.goto (-41), 3) := dk_167 255 215 (dk_at dksX6_lays_2 16 rfl rfl)
theorem dX6_lays_67 : decode cX6_lays 67 = .ok (.return_, 1) := dk_177 (dk_at dksX6_lays_2 19 rfl rfl)
abbrev cX6_canCome : ByteArray := prog_14_method_19_code
def yX6_canCome : MethodName := ⟨RX6, "canCome", "(I)Z"⟩
def dkwX6_canCome_2 : List UInt8 := [154, 0, 5, 3, 172, 132, 2, 1, 167, 255, 213, 4, 172]
abbrev dktX6_canCome_2 : List UInt8 := dkwX6_canCome_2 ++ []
def dkwX6_canCome_1 : List UInt8 := [180, 0, 16, 27, 46, 5, 159, 0, 29, 42, 180, 0, 43, 42, 180, 0, 28, 7, 27, 104, 28, 96, 46, 51]
abbrev dktX6_canCome_1 : List UInt8 := dkwX6_canCome_1 ++ dktX6_canCome_2
def dkwX6_canCome_0 : List UInt8 := [42, 180, 0, 43, 27, 51, 153, 0, 5, 3, 172, 3, 61, 28, 42, 180, 0, 34, 27, 46, 162, 0, 39, 42]
abbrev dktX6_canCome_0 : List UInt8 := dkwX6_canCome_0 ++ dktX6_canCome_1
theorem dksX6_canCome_0 : cX6_canCome.data.toList.drop 0 = dktX6_canCome_0 := by decide +kernel
theorem dksX6_canCome_1 : cX6_canCome.data.toList.drop 24 = dktX6_canCome_1 := dk_seg dksX6_canCome_0 24 rfl rfl
theorem dksX6_canCome_2 : cX6_canCome.data.toList.drop 48 = dktX6_canCome_2 := dk_seg dksX6_canCome_1 24 rfl rfl
theorem dX6_canCome_0 : decode cX6_canCome 0 = .ok (.aload_n 0, 1) := dk_42 (dk_at dksX6_canCome_0 0 rfl rfl)
theorem dX6_canCome_1 : decode cX6_canCome 1 = .ok (.getfield 43, 3) := dk_180 0 43 (dk_at dksX6_canCome_0 1 rfl rfl)
theorem dX6_canCome_4 : decode cX6_canCome 4 = .ok (.iload_n 1, 1) := dk_27 (dk_at dksX6_canCome_0 4 rfl rfl)
theorem dX6_canCome_5 : decode cX6_canCome 5 = .ok (.baload, 1) := dk_51 (dk_at dksX6_canCome_0 5 rfl rfl)
theorem dX6_canCome_6 : decode cX6_canCome 6 = .ok (.ifCond .eq 5, 3) := dk_153 0 5 (dk_at dksX6_canCome_0 6 rfl rfl)
theorem dX6_canCome_9 : decode cX6_canCome 9 = .ok (.iconst 0, 1) := dk_3 (dk_at dksX6_canCome_0 9 rfl rfl)
theorem dX6_canCome_10 : decode cX6_canCome 10 = .ok (.ireturn, 1) := dk_172 (dk_at dksX6_canCome_0 10 rfl rfl)
theorem dX6_canCome_11 : decode cX6_canCome 11 = .ok (.iconst 0, 1) := dk_3 (dk_at dksX6_canCome_0 11 rfl rfl)
theorem dX6_canCome_12 : decode cX6_canCome 12 = .ok (.istore_n 2, 1) := dk_61 (dk_at dksX6_canCome_0 12 rfl rfl)
theorem dX6_canCome_13 : decode cX6_canCome 13 = .ok (.iload_n 2, 1) := dk_28 (dk_at dksX6_canCome_0 13 rfl rfl)
theorem dX6_canCome_14 : decode cX6_canCome 14 = .ok (.aload_n 0, 1) := dk_42 (dk_at dksX6_canCome_0 14 rfl rfl)
theorem dX6_canCome_15 : decode cX6_canCome 15 = .ok (.getfield 34, 3) := dk_180 0 34 (dk_at dksX6_canCome_0 15 rfl rfl)
theorem dX6_canCome_18 : decode cX6_canCome 18 = .ok (.iload_n 1, 1) := dk_27 (dk_at dksX6_canCome_0 18 rfl rfl)
theorem dX6_canCome_19 : decode cX6_canCome 19 = .ok (.iaload, 1) := dk_46 (dk_at dksX6_canCome_0 19 rfl rfl)
theorem dX6_canCome_20 : decode cX6_canCome 20 = .ok (.if_icmp .ge 39, 3) := dk_162 0 39 (dk_at dksX6_canCome_0 20 rfl rfl)
theorem dX6_canCome_23 : decode cX6_canCome 23 = .ok (.aload_n 0, 1) := dk_42 (dk_at dksX6_canCome_0 23 rfl rfl)
theorem dX6_canCome_24 : decode cX6_canCome 24 = .ok (.getfield 16, 3) := dk_180 0 16 (dk_at dksX6_canCome_1 0 rfl rfl)
theorem dX6_canCome_27 : decode cX6_canCome 27 = .ok (.iload_n 1, 1) := dk_27 (dk_at dksX6_canCome_1 3 rfl rfl)
theorem dX6_canCome_28 : decode cX6_canCome 28 = .ok (.iaload, 1) := dk_46 (dk_at dksX6_canCome_1 4 rfl rfl)
theorem dX6_canCome_29 : decode cX6_canCome 29 = .ok (.iconst 2, 1) := dk_5 (dk_at dksX6_canCome_1 5 rfl rfl)
theorem dX6_canCome_30 : decode cX6_canCome 30 = .ok (.if_icmp .eq 29, 3) := dk_159 0 29 (dk_at dksX6_canCome_1 6 rfl rfl)
theorem dX6_canCome_33 : decode cX6_canCome 33 = .ok (.aload_n 0, 1) := dk_42 (dk_at dksX6_canCome_1 9 rfl rfl)
theorem dX6_canCome_34 : decode cX6_canCome 34 = .ok (.getfield 43, 3) := dk_180 0 43 (dk_at dksX6_canCome_1 10 rfl rfl)
theorem dX6_canCome_37 : decode cX6_canCome 37 = .ok (.aload_n 0, 1) := dk_42 (dk_at dksX6_canCome_1 13 rfl rfl)
theorem dX6_canCome_38 : decode cX6_canCome 38 = .ok (.getfield 28, 3) := dk_180 0 28 (dk_at dksX6_canCome_1 14 rfl rfl)
theorem dX6_canCome_41 : decode cX6_canCome 41 = .ok (.iconst 4, 1) := dk_7 (dk_at dksX6_canCome_1 17 rfl rfl)
theorem dX6_canCome_42 : decode cX6_canCome 42 = .ok (.iload_n 1, 1) := dk_27 (dk_at dksX6_canCome_1 18 rfl rfl)
theorem dX6_canCome_43 : decode cX6_canCome 43 = .ok (.imul, 1) := dk_104 (dk_at dksX6_canCome_1 19 rfl rfl)
theorem dX6_canCome_44 : decode cX6_canCome 44 = .ok (.iload_n 2, 1) := dk_28 (dk_at dksX6_canCome_1 20 rfl rfl)
theorem dX6_canCome_45 : decode cX6_canCome 45 = .ok (.iadd, 1) := dk_96 (dk_at dksX6_canCome_1 21 rfl rfl)
theorem dX6_canCome_46 : decode cX6_canCome 46 = .ok (.iaload, 1) := dk_46 (dk_at dksX6_canCome_1 22 rfl rfl)
theorem dX6_canCome_47 : decode cX6_canCome 47 = .ok (.baload, 1) := dk_51 (dk_at dksX6_canCome_1 23 rfl rfl)
theorem dX6_canCome_48 : decode cX6_canCome 48 = .ok (.ifCond .ne 5, 3) := dk_154 0 5 (dk_at dksX6_canCome_2 0 rfl rfl)
theorem dX6_canCome_51 : decode cX6_canCome 51 = .ok (.iconst 0, 1) := dk_3 (dk_at dksX6_canCome_2 3 rfl rfl)
theorem dX6_canCome_52 : decode cX6_canCome 52 = .ok (.ireturn, 1) := dk_172 (dk_at dksX6_canCome_2 4 rfl rfl)
theorem dX6_canCome_53 : decode cX6_canCome 53 = .ok (.iinc 2 1, 3) := dk_132 2 1 (dk_at dksX6_canCome_2 5 rfl rfl)
theorem dX6_canCome_56 : decode cX6_canCome 56 = .ok (.goto (-43), 3) := dk_167 255 213 (dk_at dksX6_canCome_2 8 rfl rfl)
theorem dX6_canCome_59 : decode cX6_canCome 59 = .ok (.iconst 1, 1) := dk_4 (dk_at dksX6_canCome_2 11 rfl rfl)
theorem dX6_canCome_60 : decode cX6_canCome 60 = .ok (.ireturn, 1) := dk_172 (dk_at dksX6_canCome_2 12 rfl rfl)
abbrev cX6_thrown : ByteArray := prog_14_method_2_code
def yX6_thrown : MethodName := ⟨RX6, "thrown", "()I"⟩
theorem dX6_thrown_0 : decode cX6_thrown 0 = .ok (.aload_n 0, 1) := by decide +kernel
theorem dX6_thrown_1 : decode cX6_thrown 1 = .ok (.getfield 47, 3) := by decide +kernel
theorem dX6_thrown_4 : decode cX6_thrown 4 = .ok (.ireturn, 1) := by decide +kernel
abbrev cX6_addGain : ByteArray := prog_14_method_11_code
def yX6_addGain : MethodName := ⟨RX6, "addGain", "(I)I"⟩
def dkwX6_addGain_1 : List UInt8 := [153, 0, 7, 3, 167, 0, 11, 42, 4, 27, 3, 3, 182, 0, 102, 172]
abbrev dktX6_addGain_1 : List UInt8 := dkwX6_addGain_1 ++ []
def dkwX6_addGain_0 : List UInt8 := [42, 27, 17, 255, 56, 17, 0, 200, 184, 0, 94, 154, 0, 7, 4, 167, 0, 4, 3, 182, 0, 98]
abbrev dktX6_addGain_0 : List UInt8 := dkwX6_addGain_0 ++ dktX6_addGain_1
theorem dksX6_addGain_0 : cX6_addGain.data.toList.drop 0 = dktX6_addGain_0 := by decide +kernel
theorem dksX6_addGain_1 : cX6_addGain.data.toList.drop 22 = dktX6_addGain_1 := dk_seg dksX6_addGain_0 22 rfl rfl
theorem dX6_addGain_0 : decode cX6_addGain 0 = .ok (.aload_n 0, 1) := dk_42 (dk_at dksX6_addGain_0 0 rfl rfl)
theorem dX6_addGain_1 : decode cX6_addGain 1 = .ok (.iload_n 1, 1) := dk_27 (dk_at dksX6_addGain_0 1 rfl rfl)
theorem dX6_addGain_2 : decode cX6_addGain 2 = .ok (.sipush (-200), 3) := dk_17 255 56 (dk_at dksX6_addGain_0 2 rfl rfl)
theorem dX6_addGain_5 : decode cX6_addGain 5 = .ok (.sipush 200, 3) := dk_17 0 200 (dk_at dksX6_addGain_0 5 rfl rfl)
theorem dX6_addGain_8 : decode cX6_addGain 8 = .ok (.invokestatic 94, 3) := dk_184 0 94 (dk_at dksX6_addGain_0 8 rfl rfl)
theorem dX6_addGain_11 : decode cX6_addGain 11 = .ok (.ifCond .ne 7, 3) := dk_154 0 7 (dk_at dksX6_addGain_0 11 rfl rfl)
theorem dX6_addGain_14 : decode cX6_addGain 14 = .ok (.iconst 1, 1) := dk_4 (dk_at dksX6_addGain_0 14 rfl rfl)
theorem dX6_addGain_15 : decode cX6_addGain 15 = .ok (.goto 4, 3) := dk_167 0 4 (dk_at dksX6_addGain_0 15 rfl rfl)
theorem dX6_addGain_18 : decode cX6_addGain 18 = .ok (.iconst 0, 1) := dk_3 (dk_at dksX6_addGain_0 18 rfl rfl)
theorem dX6_addGain_19 : decode cX6_addGain 19 = .ok (.invokevirtual 98, 3) := dk_182 0 98 (dk_at dksX6_addGain_0 19 rfl rfl)
theorem dX6_addGain_22 : decode cX6_addGain 22 = .ok (.ifCond .eq 7, 3) := dk_153 0 7 (dk_at dksX6_addGain_1 0 rfl rfl)
theorem dX6_addGain_25 : decode cX6_addGain 25 = .ok (.iconst 0, 1) := dk_3 (dk_at dksX6_addGain_1 3 rfl rfl)
theorem dX6_addGain_26 : decode cX6_addGain 26 = .ok (.goto 11, 3) := dk_167 0 11 (dk_at dksX6_addGain_1 4 rfl rfl)
theorem dX6_addGain_29 : decode cX6_addGain 29 = .ok (.aload_n 0, 1) := dk_42 (dk_at dksX6_addGain_1 7 rfl rfl)
theorem dX6_addGain_30 : decode cX6_addGain 30 = .ok (.iconst 1, 1) := dk_4 (dk_at dksX6_addGain_1 8 rfl rfl)
theorem dX6_addGain_31 : decode cX6_addGain 31 = .ok (.iload_n 1, 1) := dk_27 (dk_at dksX6_addGain_1 9 rfl rfl)
theorem dX6_addGain_32 : decode cX6_addGain 32 = .ok (.iconst 0, 1) := dk_3 (dk_at dksX6_addGain_1 10 rfl rfl)
theorem dX6_addGain_33 : decode cX6_addGain 33 = .ok (.iconst 0, 1) := dk_3 (dk_at dksX6_addGain_1 11 rfl rfl)
theorem dX6_addGain_34 : decode cX6_addGain 34 = .ok (.invokevirtual 102, 3) := dk_182 0 102 (dk_at dksX6_addGain_1 12 rfl rfl)
theorem dX6_addGain_37 : decode cX6_addGain 37 = .ok (.ireturn, 1) := dk_172 (dk_at dksX6_addGain_1 15 rfl rfl)
abbrev cX6_in : ByteArray := prog_14_method_3_code
def yX6_in : MethodName := ⟨RX6, "in", "(III)Z"⟩
def dkwX6_in_0 : List UInt8 := [26, 27, 161, 0, 12, 26, 28, 163, 0, 7, 4, 167, 0, 4, 3, 172]
abbrev dktX6_in_0 : List UInt8 := dkwX6_in_0 ++ []
theorem dksX6_in_0 : cX6_in.data.toList.drop 0 = dktX6_in_0 := by decide +kernel
theorem dX6_in_0 : decode cX6_in 0 = .ok (.iload_n 0, 1) := dk_26 (dk_at dksX6_in_0 0 rfl rfl)
theorem dX6_in_1 : decode cX6_in 1 = .ok (.iload_n 1, 1) := dk_27 (dk_at dksX6_in_0 1 rfl rfl)
theorem dX6_in_2 : decode cX6_in 2 = .ok (.if_icmp .lt 12, 3) := dk_161 0 12 (dk_at dksX6_in_0 2 rfl rfl)
theorem dX6_in_5 : decode cX6_in 5 = .ok (.iload_n 0, 1) := dk_26 (dk_at dksX6_in_0 5 rfl rfl)
theorem dX6_in_6 : decode cX6_in 6 = .ok (.iload_n 2, 1) := dk_28 (dk_at dksX6_in_0 6 rfl rfl)
theorem dX6_in_7 : decode cX6_in 7 = .ok (.if_icmp .gt 7, 3) := dk_163 0 7 (dk_at dksX6_in_0 7 rfl rfl)
theorem dX6_in_10 : decode cX6_in 10 = .ok (.iconst 1, 1) := dk_4 (dk_at dksX6_in_0 10 rfl rfl)
theorem dX6_in_11 : decode cX6_in 11 = .ok (.goto 4, 3) := dk_167 0 4 (dk_at dksX6_in_0 11 rfl rfl)
theorem dX6_in_14 : decode cX6_in 14 = .ok (.iconst 0, 1) := dk_3 (dk_at dksX6_in_0 14 rfl rfl)
theorem dX6_in_15 : decode cX6_in 15 = .ok (.ireturn, 1) := dk_172 (dk_at dksX6_in_0 15 rfl rfl)
abbrev cX6_isFull : ByteArray := prog_14_method_10_code
def yX6_isFull : MethodName := ⟨RX6, "isFull", "(Z)Z"⟩
def dkwX6_isFull_1 : List UInt8 := [181, 0, 47, 42, 180, 0, 47, 158, 0, 7, 4, 167, 0, 4, 3, 172]
abbrev dktX6_isFull_1 : List UInt8 := dkwX6_isFull_1 ++ []
def dkwX6_isFull_0 : List UInt8 := [42, 27, 153, 0, 7, 4, 167, 0, 17, 42, 180, 0, 51, 16, 10, 160, 0, 7, 5, 167, 0, 4, 3]
abbrev dktX6_isFull_0 : List UInt8 := dkwX6_isFull_0 ++ dktX6_isFull_1
theorem dksX6_isFull_0 : cX6_isFull.data.toList.drop 0 = dktX6_isFull_0 := by decide +kernel
theorem dksX6_isFull_1 : cX6_isFull.data.toList.drop 23 = dktX6_isFull_1 := dk_seg dksX6_isFull_0 23 rfl rfl
theorem dX6_isFull_0 : decode cX6_isFull 0 = .ok (.aload_n 0, 1) := dk_42 (dk_at dksX6_isFull_0 0 rfl rfl)
theorem dX6_isFull_1 : decode cX6_isFull 1 = .ok (.iload_n 1, 1) := dk_27 (dk_at dksX6_isFull_0 1 rfl rfl)
theorem dX6_isFull_2 : decode cX6_isFull 2 = .ok (.ifCond .eq 7, 3) := dk_153 0 7 (dk_at dksX6_isFull_0 2 rfl rfl)
theorem dX6_isFull_5 : decode cX6_isFull 5 = .ok (.iconst 1, 1) := dk_4 (dk_at dksX6_isFull_0 5 rfl rfl)
theorem dX6_isFull_6 : decode cX6_isFull 6 = .ok (.goto 17, 3) := dk_167 0 17 (dk_at dksX6_isFull_0 6 rfl rfl)
theorem dX6_isFull_9 : decode cX6_isFull 9 = .ok (.aload_n 0, 1) := dk_42 (dk_at dksX6_isFull_0 9 rfl rfl)
theorem dX6_isFull_10 : decode cX6_isFull 10 = .ok (.getfield 51, 3) := dk_180 0 51 (dk_at dksX6_isFull_0 10 rfl rfl)
theorem dX6_isFull_13 : decode cX6_isFull 13 = .ok (.bipush 10, 2) := dk_16 10 (dk_at dksX6_isFull_0 13 rfl rfl)
theorem dX6_isFull_15 : decode cX6_isFull 15 = .ok (.if_icmp .ne 7, 3) := dk_160 0 7 (dk_at dksX6_isFull_0 15 rfl rfl)
theorem dX6_isFull_18 : decode cX6_isFull 18 = .ok (.iconst 2, 1) := dk_5 (dk_at dksX6_isFull_0 18 rfl rfl)
theorem dX6_isFull_19 : decode cX6_isFull 19 = .ok (.goto 4, 3) := dk_167 0 4 (dk_at dksX6_isFull_0 19 rfl rfl)
theorem dX6_isFull_22 : decode cX6_isFull 22 = .ok (.iconst 0, 1) := dk_3 (dk_at dksX6_isFull_0 22 rfl rfl)
theorem dX6_isFull_23 : decode cX6_isFull 23 = .ok (.putfield 47, 3) := dk_181 0 47 (dk_at dksX6_isFull_1 0 rfl rfl)
theorem dX6_isFull_26 : decode cX6_isFull 26 = .ok (.aload_n 0, 1) := dk_42 (dk_at dksX6_isFull_1 3 rfl rfl)
theorem dX6_isFull_27 : decode cX6_isFull 27 = .ok (.getfield 47, 3) := dk_180 0 47 (dk_at dksX6_isFull_1 4 rfl rfl)
theorem dX6_isFull_30 : decode cX6_isFull 30 = .ok (.ifCond .le 7, 3) := dk_158 0 7 (dk_at dksX6_isFull_1 7 rfl rfl)
theorem dX6_isFull_33 : decode cX6_isFull 33 = .ok (.iconst 1, 1) := dk_4 (dk_at dksX6_isFull_1 10 rfl rfl)
theorem dX6_isFull_34 : decode cX6_isFull 34 = .ok (.goto 4, 3) := dk_167 0 4 (dk_at dksX6_isFull_1 11 rfl rfl)
theorem dX6_isFull_37 : decode cX6_isFull 37 = .ok (.iconst 0, 1) := dk_3 (dk_at dksX6_isFull_1 14 rfl rfl)
theorem dX6_isFull_38 : decode cX6_isFull 38 = .ok (.ireturn, 1) := dk_172 (dk_at dksX6_isFull_1 15 rfl rfl)
abbrev cX6_adds : ByteArray := prog_14_method_9_code
def yX6_adds : MethodName := ⟨RX6, "adds", "(IIII)I"⟩
def dkwX6_adds_2 : List UInt8 := [181, 0, 51, 42, 182, 0, 91, 42, 180, 0, 51, 4, 100, 172]
abbrev dktX6_adds_2 : List UInt8 := dkwX6_adds_2 ++ []
def dkwX6_adds_1 : List UInt8 := [42, 180, 0, 51, 29, 79, 42, 180, 0, 25, 42, 180, 0, 51, 21, 4, 79, 42, 89, 180, 0, 51, 4, 96]
abbrev dktX6_adds_1 : List UInt8 := dkwX6_adds_1 ++ dktX6_adds_2
def dkwX6_adds_0 : List UInt8 := [42, 180, 0, 16, 42, 180, 0, 51, 27, 79, 42, 180, 0, 19, 42, 180, 0, 51, 28, 79, 42, 180, 0, 22]
abbrev dktX6_adds_0 : List UInt8 := dkwX6_adds_0 ++ dktX6_adds_1
theorem dksX6_adds_0 : cX6_adds.data.toList.drop 0 = dktX6_adds_0 := by decide +kernel
theorem dksX6_adds_1 : cX6_adds.data.toList.drop 24 = dktX6_adds_1 := dk_seg dksX6_adds_0 24 rfl rfl
theorem dksX6_adds_2 : cX6_adds.data.toList.drop 48 = dktX6_adds_2 := dk_seg dksX6_adds_1 24 rfl rfl
theorem dX6_adds_0 : decode cX6_adds 0 = .ok (.aload_n 0, 1) := dk_42 (dk_at dksX6_adds_0 0 rfl rfl)
theorem dX6_adds_1 : decode cX6_adds 1 = .ok (.getfield 16, 3) := dk_180 0 16 (dk_at dksX6_adds_0 1 rfl rfl)
theorem dX6_adds_4 : decode cX6_adds 4 = .ok (.aload_n 0, 1) := dk_42 (dk_at dksX6_adds_0 4 rfl rfl)
theorem dX6_adds_5 : decode cX6_adds 5 = .ok (.getfield 51, 3) := dk_180 0 51 (dk_at dksX6_adds_0 5 rfl rfl)
theorem dX6_adds_8 : decode cX6_adds 8 = .ok (.iload_n 1, 1) := dk_27 (dk_at dksX6_adds_0 8 rfl rfl)
theorem dX6_adds_9 : decode cX6_adds 9 = .ok (.iastore, 1) := dk_79 (dk_at dksX6_adds_0 9 rfl rfl)
theorem dX6_adds_10 : decode cX6_adds 10 = .ok (.aload_n 0, 1) := dk_42 (dk_at dksX6_adds_0 10 rfl rfl)
theorem dX6_adds_11 : decode cX6_adds 11 = .ok (.getfield 19, 3) := dk_180 0 19 (dk_at dksX6_adds_0 11 rfl rfl)
theorem dX6_adds_14 : decode cX6_adds 14 = .ok (.aload_n 0, 1) := dk_42 (dk_at dksX6_adds_0 14 rfl rfl)
theorem dX6_adds_15 : decode cX6_adds 15 = .ok (.getfield 51, 3) := dk_180 0 51 (dk_at dksX6_adds_0 15 rfl rfl)
theorem dX6_adds_18 : decode cX6_adds 18 = .ok (.iload_n 2, 1) := dk_28 (dk_at dksX6_adds_0 18 rfl rfl)
theorem dX6_adds_19 : decode cX6_adds 19 = .ok (.iastore, 1) := dk_79 (dk_at dksX6_adds_0 19 rfl rfl)
theorem dX6_adds_20 : decode cX6_adds 20 = .ok (.aload_n 0, 1) := dk_42 (dk_at dksX6_adds_0 20 rfl rfl)
theorem dX6_adds_21 : decode cX6_adds 21 = .ok (.getfield 22, 3) := dk_180 0 22 (dk_at dksX6_adds_0 21 rfl rfl)
theorem dX6_adds_24 : decode cX6_adds 24 = .ok (.aload_n 0, 1) := dk_42 (dk_at dksX6_adds_1 0 rfl rfl)
theorem dX6_adds_25 : decode cX6_adds 25 = .ok (.getfield 51, 3) := dk_180 0 51 (dk_at dksX6_adds_1 1 rfl rfl)
theorem dX6_adds_28 : decode cX6_adds 28 = .ok (.iload_n 3, 1) := dk_29 (dk_at dksX6_adds_1 4 rfl rfl)
theorem dX6_adds_29 : decode cX6_adds 29 = .ok (.iastore, 1) := dk_79 (dk_at dksX6_adds_1 5 rfl rfl)
theorem dX6_adds_30 : decode cX6_adds 30 = .ok (.aload_n 0, 1) := dk_42 (dk_at dksX6_adds_1 6 rfl rfl)
theorem dX6_adds_31 : decode cX6_adds 31 = .ok (.getfield 25, 3) := dk_180 0 25 (dk_at dksX6_adds_1 7 rfl rfl)
theorem dX6_adds_34 : decode cX6_adds 34 = .ok (.aload_n 0, 1) := dk_42 (dk_at dksX6_adds_1 10 rfl rfl)
theorem dX6_adds_35 : decode cX6_adds 35 = .ok (.getfield 51, 3) := dk_180 0 51 (dk_at dksX6_adds_1 11 rfl rfl)
theorem dX6_adds_38 : decode cX6_adds 38 = .ok (.iload 4, 2) := dk_21 4 (dk_at dksX6_adds_1 14 rfl rfl)
theorem dX6_adds_40 : decode cX6_adds 40 = .ok (.iastore, 1) := dk_79 (dk_at dksX6_adds_1 16 rfl rfl)
theorem dX6_adds_41 : decode cX6_adds 41 = .ok (.aload_n 0, 1) := dk_42 (dk_at dksX6_adds_1 17 rfl rfl)
theorem dX6_adds_42 : decode cX6_adds 42 = .ok (.dup, 1) := dk_89 (dk_at dksX6_adds_1 18 rfl rfl)
theorem dX6_adds_43 : decode cX6_adds 43 = .ok (.getfield 51, 3) := dk_180 0 51 (dk_at dksX6_adds_1 19 rfl rfl)
theorem dX6_adds_46 : decode cX6_adds 46 = .ok (.iconst 1, 1) := dk_4 (dk_at dksX6_adds_1 22 rfl rfl)
theorem dX6_adds_47 : decode cX6_adds 47 = .ok (.iadd, 1) := dk_96 (dk_at dksX6_adds_1 23 rfl rfl)
theorem dX6_adds_48 : decode cX6_adds 48 = .ok (.putfield 51, 3) := dk_181 0 51 (dk_at dksX6_adds_2 0 rfl rfl)
theorem dX6_adds_51 : decode cX6_adds 51 = .ok (.aload_n 0, 1) := dk_42 (dk_at dksX6_adds_2 3 rfl rfl)
theorem dX6_adds_52 : decode cX6_adds 52 = .ok (.invokevirtual 91, 3) := dk_182 0 91 (dk_at dksX6_adds_2 4 rfl rfl)
theorem dX6_adds_55 : decode cX6_adds 55 = .ok (.aload_n 0, 1) := dk_42 (dk_at dksX6_adds_2 7 rfl rfl)
theorem dX6_adds_56 : decode cX6_adds 56 = .ok (.getfield 51, 3) := dk_180 0 51 (dk_at dksX6_adds_2 8 rfl rfl)
theorem dX6_adds_59 : decode cX6_adds 59 = .ok (.iconst 1, 1) := dk_4 (dk_at dksX6_adds_2 11 rfl rfl)
theorem dX6_adds_60 : decode cX6_adds 60 = .ok (.isub, 1) := dk_100 (dk_at dksX6_adds_2 12 rfl rfl)
theorem dX6_adds_61 : decode cX6_adds 61 = .ok (.ireturn, 1) := dk_172 (dk_at dksX6_adds_2 13 rfl rfl)
abbrev cX6_addDelay : ByteArray := prog_14_method_12_code
def yX6_addDelay : MethodName := ⟨RX6, "addDelay", "(II)I"⟩
def dkwX6_addDelay_1 : List UInt8 := [167, 0, 4, 3, 182, 0, 98, 153, 0, 7, 3, 167, 0, 11, 42, 5, 27, 28, 3, 182, 0, 102, 172]
abbrev dktX6_addDelay_1 : List UInt8 := dkwX6_addDelay_1 ++ []
def dkwX6_addDelay_0 : List UInt8 := [42, 27, 4, 16, 60, 184, 0, 94, 153, 0, 14, 28, 16, 161, 16, 95, 184, 0, 94, 154, 0, 7, 4]
abbrev dktX6_addDelay_0 : List UInt8 := dkwX6_addDelay_0 ++ dktX6_addDelay_1
theorem dksX6_addDelay_0 : cX6_addDelay.data.toList.drop 0 = dktX6_addDelay_0 := by decide +kernel
theorem dksX6_addDelay_1 : cX6_addDelay.data.toList.drop 23 = dktX6_addDelay_1 := dk_seg dksX6_addDelay_0 23 rfl rfl
theorem dX6_addDelay_0 : decode cX6_addDelay 0 = .ok (.aload_n 0, 1) := dk_42 (dk_at dksX6_addDelay_0 0 rfl rfl)
theorem dX6_addDelay_1 : decode cX6_addDelay 1 = .ok (.iload_n 1, 1) := dk_27 (dk_at dksX6_addDelay_0 1 rfl rfl)
theorem dX6_addDelay_2 : decode cX6_addDelay 2 = .ok (.iconst 1, 1) := dk_4 (dk_at dksX6_addDelay_0 2 rfl rfl)
theorem dX6_addDelay_3 : decode cX6_addDelay 3 = .ok (.bipush 60, 2) := dk_16 60 (dk_at dksX6_addDelay_0 3 rfl rfl)
theorem dX6_addDelay_5 : decode cX6_addDelay 5 = .ok (.invokestatic 94, 3) := dk_184 0 94 (dk_at dksX6_addDelay_0 5 rfl rfl)
theorem dX6_addDelay_8 : decode cX6_addDelay 8 = .ok (.ifCond .eq 14, 3) := dk_153 0 14 (dk_at dksX6_addDelay_0 8 rfl rfl)
theorem dX6_addDelay_11 : decode cX6_addDelay 11 = .ok (.iload_n 2, 1) := dk_28 (dk_at dksX6_addDelay_0 11 rfl rfl)
theorem dX6_addDelay_12 : decode cX6_addDelay 12 = .ok (.bipush (-95), 2) := dk_16 161 (dk_at dksX6_addDelay_0 12 rfl rfl)
theorem dX6_addDelay_14 : decode cX6_addDelay 14 = .ok (.bipush 95, 2) := dk_16 95 (dk_at dksX6_addDelay_0 14 rfl rfl)
theorem dX6_addDelay_16 : decode cX6_addDelay 16 = .ok (.invokestatic 94, 3) := dk_184 0 94 (dk_at dksX6_addDelay_0 16 rfl rfl)
theorem dX6_addDelay_19 : decode cX6_addDelay 19 = .ok (.ifCond .ne 7, 3) := dk_154 0 7 (dk_at dksX6_addDelay_0 19 rfl rfl)
theorem dX6_addDelay_22 : decode cX6_addDelay 22 = .ok (.iconst 1, 1) := dk_4 (dk_at dksX6_addDelay_0 22 rfl rfl)
theorem dX6_addDelay_23 : decode cX6_addDelay 23 = .ok (.goto 4, 3) := dk_167 0 4 (dk_at dksX6_addDelay_1 0 rfl rfl)
theorem dX6_addDelay_26 : decode cX6_addDelay 26 = .ok (.iconst 0, 1) := dk_3 (dk_at dksX6_addDelay_1 3 rfl rfl)
theorem dX6_addDelay_27 : decode cX6_addDelay 27 = .ok (.invokevirtual 98, 3) := dk_182 0 98 (dk_at dksX6_addDelay_1 4 rfl rfl)
theorem dX6_addDelay_30 : decode cX6_addDelay 30 = .ok (.ifCond .eq 7, 3) := dk_153 0 7 (dk_at dksX6_addDelay_1 7 rfl rfl)
theorem dX6_addDelay_33 : decode cX6_addDelay 33 = .ok (.iconst 0, 1) := dk_3 (dk_at dksX6_addDelay_1 10 rfl rfl)
theorem dX6_addDelay_34 : decode cX6_addDelay 34 = .ok (.goto 11, 3) := dk_167 0 11 (dk_at dksX6_addDelay_1 11 rfl rfl)
theorem dX6_addDelay_37 : decode cX6_addDelay 37 = .ok (.aload_n 0, 1) := dk_42 (dk_at dksX6_addDelay_1 14 rfl rfl)
theorem dX6_addDelay_38 : decode cX6_addDelay 38 = .ok (.iconst 2, 1) := dk_5 (dk_at dksX6_addDelay_1 15 rfl rfl)
theorem dX6_addDelay_39 : decode cX6_addDelay 39 = .ok (.iload_n 1, 1) := dk_27 (dk_at dksX6_addDelay_1 16 rfl rfl)
theorem dX6_addDelay_40 : decode cX6_addDelay 40 = .ok (.iload_n 2, 1) := dk_28 (dk_at dksX6_addDelay_1 17 rfl rfl)
theorem dX6_addDelay_41 : decode cX6_addDelay 41 = .ok (.iconst 0, 1) := dk_3 (dk_at dksX6_addDelay_1 18 rfl rfl)
theorem dX6_addDelay_42 : decode cX6_addDelay 42 = .ok (.invokevirtual 102, 3) := dk_182 0 102 (dk_at dksX6_addDelay_1 19 rfl rfl)
theorem dX6_addDelay_45 : decode cX6_addDelay 45 = .ok (.ireturn, 1) := dk_172 (dk_at dksX6_addDelay_1 22 rfl rfl)
abbrev cX6_addFilter : ByteArray := prog_14_method_13_code
def yX6_addFilter : MethodName := ⟨RX6, "addFilter", "(III)I"⟩
def dkwX6_addFilter_2 : List UInt8 := [167, 0, 11, 42, 6, 27, 28, 29, 182, 0, 102, 172]
abbrev dktX6_addFilter_2 : List UInt8 := dkwX6_addFilter_2 ++ []
def dkwX6_addFilter_1 : List UInt8 := [16, 192, 16, 64, 184, 0, 94, 154, 0, 7, 4, 167, 0, 4, 3, 182, 0, 98, 153, 0, 7, 3]
abbrev dktX6_addFilter_1 : List UInt8 := dkwX6_addFilter_1 ++ dktX6_addFilter_2
def dkwX6_addFilter_0 : List UInt8 := [42, 27, 16, 192, 16, 64, 184, 0, 94, 153, 0, 25, 28, 16, 192, 16, 64, 184, 0, 94, 153, 0, 14, 29]
abbrev dktX6_addFilter_0 : List UInt8 := dkwX6_addFilter_0 ++ dktX6_addFilter_1
theorem dksX6_addFilter_0 : cX6_addFilter.data.toList.drop 0 = dktX6_addFilter_0 := by decide +kernel
theorem dksX6_addFilter_1 : cX6_addFilter.data.toList.drop 24 = dktX6_addFilter_1 := dk_seg dksX6_addFilter_0 24 rfl rfl
theorem dksX6_addFilter_2 : cX6_addFilter.data.toList.drop 46 = dktX6_addFilter_2 := dk_seg dksX6_addFilter_1 22 rfl rfl
theorem dX6_addFilter_0 : decode cX6_addFilter 0 = .ok (.aload_n 0, 1) := dk_42 (dk_at dksX6_addFilter_0 0 rfl rfl)
theorem dX6_addFilter_1 : decode cX6_addFilter 1 = .ok (.iload_n 1, 1) := dk_27 (dk_at dksX6_addFilter_0 1 rfl rfl)
theorem dX6_addFilter_2 : decode cX6_addFilter 2 = .ok (.bipush (-64), 2) := dk_16 192 (dk_at dksX6_addFilter_0 2 rfl rfl)
theorem dX6_addFilter_4 : decode cX6_addFilter 4 = .ok (.bipush 64, 2) := dk_16 64 (dk_at dksX6_addFilter_0 4 rfl rfl)
theorem dX6_addFilter_6 : decode cX6_addFilter 6 = .ok (.invokestatic 94, 3) := dk_184 0 94 (dk_at dksX6_addFilter_0 6 rfl rfl)
theorem dX6_addFilter_9 : decode cX6_addFilter 9 = .ok (.ifCond .eq 25, 3) := dk_153 0 25 (dk_at dksX6_addFilter_0 9 rfl rfl)
theorem dX6_addFilter_12 : decode cX6_addFilter 12 = .ok (.iload_n 2, 1) := dk_28 (dk_at dksX6_addFilter_0 12 rfl rfl)
theorem dX6_addFilter_13 : decode cX6_addFilter 13 = .ok (.bipush (-64), 2) := dk_16 192 (dk_at dksX6_addFilter_0 13 rfl rfl)
theorem dX6_addFilter_15 : decode cX6_addFilter 15 = .ok (.bipush 64, 2) := dk_16 64 (dk_at dksX6_addFilter_0 15 rfl rfl)
theorem dX6_addFilter_17 : decode cX6_addFilter 17 = .ok (.invokestatic 94, 3) := dk_184 0 94 (dk_at dksX6_addFilter_0 17 rfl rfl)
theorem dX6_addFilter_20 : decode cX6_addFilter 20 = .ok (.ifCond .eq 14, 3) := dk_153 0 14 (dk_at dksX6_addFilter_0 20 rfl rfl)
theorem dX6_addFilter_23 : decode cX6_addFilter 23 = .ok (.iload_n 3, 1) := dk_29 (dk_at dksX6_addFilter_0 23 rfl rfl)
theorem dX6_addFilter_24 : decode cX6_addFilter 24 = .ok (.bipush (-64), 2) := dk_16 192 (dk_at dksX6_addFilter_1 0 rfl rfl)
theorem dX6_addFilter_26 : decode cX6_addFilter 26 = .ok (.bipush 64, 2) := dk_16 64 (dk_at dksX6_addFilter_1 2 rfl rfl)
theorem dX6_addFilter_28 : decode cX6_addFilter 28 = .ok (.invokestatic 94, 3) := dk_184 0 94 (dk_at dksX6_addFilter_1 4 rfl rfl)
theorem dX6_addFilter_31 : decode cX6_addFilter 31 = .ok (.ifCond .ne 7, 3) := dk_154 0 7 (dk_at dksX6_addFilter_1 7 rfl rfl)
theorem dX6_addFilter_34 : decode cX6_addFilter 34 = .ok (.iconst 1, 1) := dk_4 (dk_at dksX6_addFilter_1 10 rfl rfl)
theorem dX6_addFilter_35 : decode cX6_addFilter 35 = .ok (.goto 4, 3) := dk_167 0 4 (dk_at dksX6_addFilter_1 11 rfl rfl)
theorem dX6_addFilter_38 : decode cX6_addFilter 38 = .ok (.iconst 0, 1) := dk_3 (dk_at dksX6_addFilter_1 14 rfl rfl)
theorem dX6_addFilter_39 : decode cX6_addFilter 39 = .ok (.invokevirtual 98, 3) := dk_182 0 98 (dk_at dksX6_addFilter_1 15 rfl rfl)
theorem dX6_addFilter_42 : decode cX6_addFilter 42 = .ok (.ifCond .eq 7, 3) := dk_153 0 7 (dk_at dksX6_addFilter_1 18 rfl rfl)
theorem dX6_addFilter_45 : decode cX6_addFilter 45 = .ok (.iconst 0, 1) := dk_3 (dk_at dksX6_addFilter_1 21 rfl rfl)
theorem dX6_addFilter_46 : decode cX6_addFilter 46 = .ok (.goto 11, 3) := dk_167 0 11 (dk_at dksX6_addFilter_2 0 rfl rfl)
theorem dX6_addFilter_49 : decode cX6_addFilter 49 = .ok (.aload_n 0, 1) := dk_42 (dk_at dksX6_addFilter_2 3 rfl rfl)
theorem dX6_addFilter_50 : decode cX6_addFilter 50 = .ok (.iconst 3, 1) := dk_6 (dk_at dksX6_addFilter_2 4 rfl rfl)
theorem dX6_addFilter_51 : decode cX6_addFilter 51 = .ok (.iload_n 1, 1) := dk_27 (dk_at dksX6_addFilter_2 5 rfl rfl)
theorem dX6_addFilter_52 : decode cX6_addFilter 52 = .ok (.iload_n 2, 1) := dk_28 (dk_at dksX6_addFilter_2 6 rfl rfl)
theorem dX6_addFilter_53 : decode cX6_addFilter 53 = .ok (.iload_n 3, 1) := dk_29 (dk_at dksX6_addFilter_2 7 rfl rfl)
theorem dX6_addFilter_54 : decode cX6_addFilter 54 = .ok (.invokevirtual 102, 3) := dk_182 0 102 (dk_at dksX6_addFilter_2 8 rfl rfl)
theorem dX6_addFilter_57 : decode cX6_addFilter 57 = .ok (.ireturn, 1) := dk_172 (dk_at dksX6_addFilter_2 11 rfl rfl)
abbrev cX6_addBus : ByteArray := prog_14_method_14_code
def yX6_addBus : MethodName := ⟨RX6, "addBus", "(I)I"⟩
def dkwX6_addBus_1 : List UInt8 := [167, 0, 11, 42, 7, 27, 3, 3, 182, 0, 102, 172]
abbrev dktX6_addBus_1 : List UInt8 := dkwX6_addBus_1 ++ []
def dkwX6_addBus_0 : List UInt8 := [42, 27, 3, 17, 127, 255, 184, 0, 94, 154, 0, 7, 4, 167, 0, 4, 3, 182, 0, 98, 153, 0, 7, 3]
abbrev dktX6_addBus_0 : List UInt8 := dkwX6_addBus_0 ++ dktX6_addBus_1
theorem dksX6_addBus_0 : cX6_addBus.data.toList.drop 0 = dktX6_addBus_0 := by decide +kernel
theorem dksX6_addBus_1 : cX6_addBus.data.toList.drop 24 = dktX6_addBus_1 := dk_seg dksX6_addBus_0 24 rfl rfl
theorem dX6_addBus_0 : decode cX6_addBus 0 = .ok (.aload_n 0, 1) := dk_42 (dk_at dksX6_addBus_0 0 rfl rfl)
theorem dX6_addBus_1 : decode cX6_addBus 1 = .ok (.iload_n 1, 1) := dk_27 (dk_at dksX6_addBus_0 1 rfl rfl)
theorem dX6_addBus_2 : decode cX6_addBus 2 = .ok (.iconst 0, 1) := dk_3 (dk_at dksX6_addBus_0 2 rfl rfl)
theorem dX6_addBus_3 : decode cX6_addBus 3 = .ok (.sipush 32767, 3) := dk_17 127 255 (dk_at dksX6_addBus_0 3 rfl rfl)
theorem dX6_addBus_6 : decode cX6_addBus 6 = .ok (.invokestatic 94, 3) := dk_184 0 94 (dk_at dksX6_addBus_0 6 rfl rfl)
theorem dX6_addBus_9 : decode cX6_addBus 9 = .ok (.ifCond .ne 7, 3) := dk_154 0 7 (dk_at dksX6_addBus_0 9 rfl rfl)
theorem dX6_addBus_12 : decode cX6_addBus 12 = .ok (.iconst 1, 1) := dk_4 (dk_at dksX6_addBus_0 12 rfl rfl)
theorem dX6_addBus_13 : decode cX6_addBus 13 = .ok (.goto 4, 3) := dk_167 0 4 (dk_at dksX6_addBus_0 13 rfl rfl)
theorem dX6_addBus_16 : decode cX6_addBus 16 = .ok (.iconst 0, 1) := dk_3 (dk_at dksX6_addBus_0 16 rfl rfl)
theorem dX6_addBus_17 : decode cX6_addBus 17 = .ok (.invokevirtual 98, 3) := dk_182 0 98 (dk_at dksX6_addBus_0 17 rfl rfl)
theorem dX6_addBus_20 : decode cX6_addBus 20 = .ok (.ifCond .eq 7, 3) := dk_153 0 7 (dk_at dksX6_addBus_0 20 rfl rfl)
theorem dX6_addBus_23 : decode cX6_addBus 23 = .ok (.iconst 0, 1) := dk_3 (dk_at dksX6_addBus_0 23 rfl rfl)
theorem dX6_addBus_24 : decode cX6_addBus 24 = .ok (.goto 11, 3) := dk_167 0 11 (dk_at dksX6_addBus_1 0 rfl rfl)
theorem dX6_addBus_27 : decode cX6_addBus 27 = .ok (.aload_n 0, 1) := dk_42 (dk_at dksX6_addBus_1 3 rfl rfl)
theorem dX6_addBus_28 : decode cX6_addBus 28 = .ok (.iconst 4, 1) := dk_7 (dk_at dksX6_addBus_1 4 rfl rfl)
theorem dX6_addBus_29 : decode cX6_addBus 29 = .ok (.iload_n 1, 1) := dk_27 (dk_at dksX6_addBus_1 5 rfl rfl)
theorem dX6_addBus_30 : decode cX6_addBus 30 = .ok (.iconst 0, 1) := dk_3 (dk_at dksX6_addBus_1 6 rfl rfl)
theorem dX6_addBus_31 : decode cX6_addBus 31 = .ok (.iconst 0, 1) := dk_3 (dk_at dksX6_addBus_1 7 rfl rfl)
theorem dX6_addBus_32 : decode cX6_addBus 32 = .ok (.invokevirtual 102, 3) := dk_182 0 102 (dk_at dksX6_addBus_1 8 rfl rfl)
theorem dX6_addBus_35 : decode cX6_addBus 35 = .ok (.ireturn, 1) := dk_172 (dk_at dksX6_addBus_1 11 rfl rfl)
abbrev cX6_connect : ByteArray := prog_14_method_17_code
def yX6_connect : MethodName := ⟨RX6, "connect", "(III)I"⟩
def dkwX6_connect_6 : List UInt8 := [180, 0, 34, 28, 46, 172]
abbrev dktX6_connect_6 : List UInt8 := dkwX6_connect_6 ++ []
def dkwX6_connect_5 : List UInt8 := [180, 0, 34, 28, 46, 96, 29, 79, 42, 180, 0, 34, 28, 92, 46, 4, 96, 79, 42, 182, 0, 91, 42]
abbrev dktX6_connect_5 : List UInt8 := dkwX6_connect_5 ++ dktX6_connect_6
def dkwX6_connect_4 : List UInt8 := [180, 0, 28, 7, 28, 104, 42, 180, 0, 34, 28, 46, 96, 27, 79, 42, 180, 0, 31, 7, 28, 104, 42]
abbrev dktX6_connect_4 : List UInt8 := dkwX6_connect_4 ++ dktX6_connect_5
def dkwX6_connect_3 : List UInt8 := [182, 0, 114, 153, 0, 7, 7, 167, 0, 4, 3, 181, 0, 47, 42, 180, 0, 47, 158, 0, 5, 3, 172, 42]
abbrev dktX6_connect_3 : List UInt8 := dkwX6_connect_3 ++ dktX6_connect_4
def dkwX6_connect_2 : List UInt8 := [156, 0, 13, 42, 180, 0, 34, 28, 46, 7, 160, 0, 7, 6, 167, 0, 21, 28, 153, 0, 12, 42, 28, 27]
abbrev dktX6_connect_2 : List UInt8 := dkwX6_connect_2 ++ dktX6_connect_3
def dkwX6_connect_1 : List UInt8 := [153, 0, 14, 29, 16, 156, 16, 100, 184, 0, 94, 154, 0, 7, 5, 167, 0, 44, 42, 27, 28, 182, 0, 106]
abbrev dktX6_connect_1 : List UInt8 := dkwX6_connect_1 ++ dktX6_connect_2
def dkwX6_connect_0 : List UInt8 := [42, 42, 27, 182, 0, 110, 153, 0, 11, 42, 28, 182, 0, 110, 154, 0, 7, 4, 167, 0, 63, 29]
abbrev dktX6_connect_0 : List UInt8 := dkwX6_connect_0 ++ dktX6_connect_1
theorem dksX6_connect_0 : cX6_connect.data.toList.drop 0 = dktX6_connect_0 := by decide +kernel
theorem dksX6_connect_1 : cX6_connect.data.toList.drop 22 = dktX6_connect_1 := dk_seg dksX6_connect_0 22 rfl rfl
theorem dksX6_connect_2 : cX6_connect.data.toList.drop 46 = dktX6_connect_2 := dk_seg dksX6_connect_1 24 rfl rfl
theorem dksX6_connect_3 : cX6_connect.data.toList.drop 70 = dktX6_connect_3 := dk_seg dksX6_connect_2 24 rfl rfl
theorem dksX6_connect_4 : cX6_connect.data.toList.drop 94 = dktX6_connect_4 := dk_seg dksX6_connect_3 24 rfl rfl
theorem dksX6_connect_5 : cX6_connect.data.toList.drop 117 = dktX6_connect_5 := dk_seg dksX6_connect_4 23 rfl rfl
theorem dksX6_connect_6 : cX6_connect.data.toList.drop 140 = dktX6_connect_6 := dk_seg dksX6_connect_5 23 rfl rfl
theorem dX6_connect_0 : decode cX6_connect 0 = .ok (.aload_n 0, 1) := dk_42 (dk_at dksX6_connect_0 0 rfl rfl)
theorem dX6_connect_1 : decode cX6_connect 1 = .ok (.aload_n 0, 1) := dk_42 (dk_at dksX6_connect_0 1 rfl rfl)
theorem dX6_connect_2 : decode cX6_connect 2 = .ok (.iload_n 1, 1) := dk_27 (dk_at dksX6_connect_0 2 rfl rfl)
theorem dX6_connect_3 : decode cX6_connect 3 = .ok (.invokevirtual 110, 3) := dk_182 0 110 (dk_at dksX6_connect_0 3 rfl rfl)
theorem dX6_connect_6 : decode cX6_connect 6 = .ok (.ifCond .eq 11, 3) := dk_153 0 11 (dk_at dksX6_connect_0 6 rfl rfl)
theorem dX6_connect_9 : decode cX6_connect 9 = .ok (.aload_n 0, 1) := dk_42 (dk_at dksX6_connect_0 9 rfl rfl)
theorem dX6_connect_10 : decode cX6_connect 10 = .ok (.iload_n 2, 1) := dk_28 (dk_at dksX6_connect_0 10 rfl rfl)
theorem dX6_connect_11 : decode cX6_connect 11 = .ok (.invokevirtual 110, 3) := dk_182 0 110 (dk_at dksX6_connect_0 11 rfl rfl)
theorem dX6_connect_14 : decode cX6_connect 14 = .ok (.ifCond .ne 7, 3) := dk_154 0 7 (dk_at dksX6_connect_0 14 rfl rfl)
theorem dX6_connect_17 : decode cX6_connect 17 = .ok (.iconst 1, 1) := dk_4 (dk_at dksX6_connect_0 17 rfl rfl)
theorem dX6_connect_18 : decode cX6_connect 18 = .ok (.goto 63, 3) := dk_167 0 63 (dk_at dksX6_connect_0 18 rfl rfl)
theorem dX6_connect_21 : decode cX6_connect 21 = .ok (.iload_n 3, 1) := dk_29 (dk_at dksX6_connect_0 21 rfl rfl)
theorem dX6_connect_22 : decode cX6_connect 22 = .ok (.ifCond .eq 14, 3) := dk_153 0 14 (dk_at dksX6_connect_1 0 rfl rfl)
theorem dX6_connect_25 : decode cX6_connect 25 = .ok (.iload_n 3, 1) := dk_29 (dk_at dksX6_connect_1 3 rfl rfl)
theorem dX6_connect_26 : decode cX6_connect 26 = .ok (.bipush (-100), 2) := dk_16 156 (dk_at dksX6_connect_1 4 rfl rfl)
theorem dX6_connect_28 : decode cX6_connect 28 = .ok (.bipush 100, 2) := dk_16 100 (dk_at dksX6_connect_1 6 rfl rfl)
theorem dX6_connect_30 : decode cX6_connect 30 = .ok (.invokestatic 94, 3) := dk_184 0 94 (dk_at dksX6_connect_1 8 rfl rfl)
theorem dX6_connect_33 : decode cX6_connect 33 = .ok (.ifCond .ne 7, 3) := dk_154 0 7 (dk_at dksX6_connect_1 11 rfl rfl)
theorem dX6_connect_36 : decode cX6_connect 36 = .ok (.iconst 2, 1) := dk_5 (dk_at dksX6_connect_1 14 rfl rfl)
theorem dX6_connect_37 : decode cX6_connect 37 = .ok (.goto 44, 3) := dk_167 0 44 (dk_at dksX6_connect_1 15 rfl rfl)
theorem dX6_connect_40 : decode cX6_connect 40 = .ok (.aload_n 0, 1) := dk_42 (dk_at dksX6_connect_1 18 rfl rfl)
theorem dX6_connect_41 : decode cX6_connect 41 = .ok (.iload_n 1, 1) := dk_27 (dk_at dksX6_connect_1 19 rfl rfl)
theorem dX6_connect_42 : decode cX6_connect 42 = .ok (.iload_n 2, 1) := dk_28 (dk_at dksX6_connect_1 20 rfl rfl)
theorem dX6_connect_43 : decode cX6_connect 43 = .ok (.invokevirtual 106, 3) := dk_182 0 106 (dk_at dksX6_connect_1 21 rfl rfl)
theorem dX6_connect_46 : decode cX6_connect 46 = .ok (.ifCond .ge 13, 3) := dk_156 0 13 (dk_at dksX6_connect_2 0 rfl rfl)
theorem dX6_connect_49 : decode cX6_connect 49 = .ok (.aload_n 0, 1) := dk_42 (dk_at dksX6_connect_2 3 rfl rfl)
theorem dX6_connect_50 : decode cX6_connect 50 = .ok (.getfield 34, 3) := dk_180 0 34 (dk_at dksX6_connect_2 4 rfl rfl)
theorem dX6_connect_53 : decode cX6_connect 53 = .ok (.iload_n 2, 1) := dk_28 (dk_at dksX6_connect_2 7 rfl rfl)
theorem dX6_connect_54 : decode cX6_connect 54 = .ok (.iaload, 1) := dk_46 (dk_at dksX6_connect_2 8 rfl rfl)
theorem dX6_connect_55 : decode cX6_connect 55 = .ok (.iconst 4, 1) := dk_7 (dk_at dksX6_connect_2 9 rfl rfl)
theorem dX6_connect_56 : decode cX6_connect 56 = .ok (.if_icmp .ne 7, 3) := dk_160 0 7 (dk_at dksX6_connect_2 10 rfl rfl)
theorem dX6_connect_59 : decode cX6_connect 59 = .ok (.iconst 3, 1) := dk_6 (dk_at dksX6_connect_2 13 rfl rfl)
theorem dX6_connect_60 : decode cX6_connect 60 = .ok (.goto 21, 3) := dk_167 0 21 (dk_at dksX6_connect_2 14 rfl rfl)
theorem dX6_connect_63 : decode cX6_connect 63 = .ok (.iload_n 2, 1) := dk_28 (dk_at dksX6_connect_2 17 rfl rfl)
theorem dX6_connect_64 : decode cX6_connect 64 = .ok (.ifCond .eq 12, 3) := dk_153 0 12 (dk_at dksX6_connect_2 18 rfl rfl)
theorem dX6_connect_67 : decode cX6_connect 67 = .ok (.aload_n 0, 1) := dk_42 (dk_at dksX6_connect_2 21 rfl rfl)
theorem dX6_connect_68 : decode cX6_connect 68 = .ok (.iload_n 2, 1) := dk_28 (dk_at dksX6_connect_2 22 rfl rfl)
theorem dX6_connect_69 : decode cX6_connect 69 = .ok (.iload_n 1, 1) := dk_27 (dk_at dksX6_connect_2 23 rfl rfl)
theorem dX6_connect_70 : decode cX6_connect 70 = .ok (.invokevirtual 114, 3) := dk_182 0 114 (dk_at dksX6_connect_3 0 rfl rfl)
theorem dX6_connect_73 : decode cX6_connect 73 = .ok (.ifCond .eq 7, 3) := dk_153 0 7 (dk_at dksX6_connect_3 3 rfl rfl)
theorem dX6_connect_76 : decode cX6_connect 76 = .ok (.iconst 4, 1) := dk_7 (dk_at dksX6_connect_3 6 rfl rfl)
theorem dX6_connect_77 : decode cX6_connect 77 = .ok (.goto 4, 3) := dk_167 0 4 (dk_at dksX6_connect_3 7 rfl rfl)
theorem dX6_connect_80 : decode cX6_connect 80 = .ok (.iconst 0, 1) := dk_3 (dk_at dksX6_connect_3 10 rfl rfl)
theorem dX6_connect_81 : decode cX6_connect 81 = .ok (.putfield 47, 3) := dk_181 0 47 (dk_at dksX6_connect_3 11 rfl rfl)
theorem dX6_connect_84 : decode cX6_connect 84 = .ok (.aload_n 0, 1) := dk_42 (dk_at dksX6_connect_3 14 rfl rfl)
theorem dX6_connect_85 : decode cX6_connect 85 = .ok (.getfield 47, 3) := dk_180 0 47 (dk_at dksX6_connect_3 15 rfl rfl)
theorem dX6_connect_88 : decode cX6_connect 88 = .ok (.ifCond .le 5, 3) := dk_158 0 5 (dk_at dksX6_connect_3 18 rfl rfl)
theorem dX6_connect_91 : decode cX6_connect 91 = .ok (.iconst 0, 1) := dk_3 (dk_at dksX6_connect_3 21 rfl rfl)
theorem dX6_connect_92 : decode cX6_connect 92 = .ok (.ireturn, 1) := dk_172 (dk_at dksX6_connect_3 22 rfl rfl)
theorem dX6_connect_93 : decode cX6_connect 93 = .ok (.aload_n 0, 1) := dk_42 (dk_at dksX6_connect_3 23 rfl rfl)
theorem dX6_connect_94 : decode cX6_connect 94 = .ok (.getfield 28, 3) := dk_180 0 28 (dk_at dksX6_connect_4 0 rfl rfl)
theorem dX6_connect_97 : decode cX6_connect 97 = .ok (.iconst 4, 1) := dk_7 (dk_at dksX6_connect_4 3 rfl rfl)
theorem dX6_connect_98 : decode cX6_connect 98 = .ok (.iload_n 2, 1) := dk_28 (dk_at dksX6_connect_4 4 rfl rfl)
theorem dX6_connect_99 : decode cX6_connect 99 = .ok (.imul, 1) := dk_104 (dk_at dksX6_connect_4 5 rfl rfl)
theorem dX6_connect_100 : decode cX6_connect 100 = .ok (.aload_n 0, 1) := dk_42 (dk_at dksX6_connect_4 6 rfl rfl)
theorem dX6_connect_101 : decode cX6_connect 101 = .ok (.getfield 34, 3) := dk_180 0 34 (dk_at dksX6_connect_4 7 rfl rfl)
theorem dX6_connect_104 : decode cX6_connect 104 = .ok (.iload_n 2, 1) := dk_28 (dk_at dksX6_connect_4 10 rfl rfl)
theorem dX6_connect_105 : decode cX6_connect 105 = .ok (.iaload, 1) := dk_46 (dk_at dksX6_connect_4 11 rfl rfl)
theorem dX6_connect_106 : decode cX6_connect 106 = .ok (.iadd, 1) := dk_96 (dk_at dksX6_connect_4 12 rfl rfl)
theorem dX6_connect_107 : decode cX6_connect 107 = .ok (.iload_n 1, 1) := dk_27 (dk_at dksX6_connect_4 13 rfl rfl)
theorem dX6_connect_108 : decode cX6_connect 108 = .ok (.iastore, 1) := dk_79 (dk_at dksX6_connect_4 14 rfl rfl)
theorem dX6_connect_109 : decode cX6_connect 109 = .ok (.aload_n 0, 1) := dk_42 (dk_at dksX6_connect_4 15 rfl rfl)
theorem dX6_connect_110 : decode cX6_connect 110 = .ok (.getfield 31, 3) := dk_180 0 31 (dk_at dksX6_connect_4 16 rfl rfl)
theorem dX6_connect_113 : decode cX6_connect 113 = .ok (.iconst 4, 1) := dk_7 (dk_at dksX6_connect_4 19 rfl rfl)
theorem dX6_connect_114 : decode cX6_connect 114 = .ok (.iload_n 2, 1) := dk_28 (dk_at dksX6_connect_4 20 rfl rfl)
theorem dX6_connect_115 : decode cX6_connect 115 = .ok (.imul, 1) := dk_104 (dk_at dksX6_connect_4 21 rfl rfl)
theorem dX6_connect_116 : decode cX6_connect 116 = .ok (.aload_n 0, 1) := dk_42 (dk_at dksX6_connect_4 22 rfl rfl)
theorem dX6_connect_117 : decode cX6_connect 117 = .ok (.getfield 34, 3) := dk_180 0 34 (dk_at dksX6_connect_5 0 rfl rfl)
theorem dX6_connect_120 : decode cX6_connect 120 = .ok (.iload_n 2, 1) := dk_28 (dk_at dksX6_connect_5 3 rfl rfl)
theorem dX6_connect_121 : decode cX6_connect 121 = .ok (.iaload, 1) := dk_46 (dk_at dksX6_connect_5 4 rfl rfl)
theorem dX6_connect_122 : decode cX6_connect 122 = .ok (.iadd, 1) := dk_96 (dk_at dksX6_connect_5 5 rfl rfl)
theorem dX6_connect_123 : decode cX6_connect 123 = .ok (.iload_n 3, 1) := dk_29 (dk_at dksX6_connect_5 6 rfl rfl)
theorem dX6_connect_124 : decode cX6_connect 124 = .ok (.iastore, 1) := dk_79 (dk_at dksX6_connect_5 7 rfl rfl)
theorem dX6_connect_125 : decode cX6_connect 125 = .ok (.aload_n 0, 1) := dk_42 (dk_at dksX6_connect_5 8 rfl rfl)
theorem dX6_connect_126 : decode cX6_connect 126 = .ok (.getfield 34, 3) := dk_180 0 34 (dk_at dksX6_connect_5 9 rfl rfl)
theorem dX6_connect_129 : decode cX6_connect 129 = .ok (.iload_n 2, 1) := dk_28 (dk_at dksX6_connect_5 12 rfl rfl)
theorem dX6_connect_130 : decode cX6_connect 130 = .ok (.dup2, 1) := dk_92 (dk_at dksX6_connect_5 13 rfl rfl)
theorem dX6_connect_131 : decode cX6_connect 131 = .ok (.iaload, 1) := dk_46 (dk_at dksX6_connect_5 14 rfl rfl)
theorem dX6_connect_132 : decode cX6_connect 132 = .ok (.iconst 1, 1) := dk_4 (dk_at dksX6_connect_5 15 rfl rfl)
theorem dX6_connect_133 : decode cX6_connect 133 = .ok (.iadd, 1) := dk_96 (dk_at dksX6_connect_5 16 rfl rfl)
theorem dX6_connect_134 : decode cX6_connect 134 = .ok (.iastore, 1) := dk_79 (dk_at dksX6_connect_5 17 rfl rfl)
theorem dX6_connect_135 : decode cX6_connect 135 = .ok (.aload_n 0, 1) := dk_42 (dk_at dksX6_connect_5 18 rfl rfl)
theorem dX6_connect_136 : decode cX6_connect 136 = .ok (.invokevirtual 91, 3) := dk_182 0 91 (dk_at dksX6_connect_5 19 rfl rfl)
theorem dX6_connect_139 : decode cX6_connect 139 = .ok (.aload_n 0, 1) := dk_42 (dk_at dksX6_connect_5 22 rfl rfl)
theorem dX6_connect_140 : decode cX6_connect 140 = .ok (.getfield 34, 3) := dk_180 0 34 (dk_at dksX6_connect_6 0 rfl rfl)
theorem dX6_connect_143 : decode cX6_connect 143 = .ok (.iload_n 2, 1) := dk_28 (dk_at dksX6_connect_6 3 rfl rfl)
theorem dX6_connect_144 : decode cX6_connect 144 = .ok (.iaload, 1) := dk_46 (dk_at dksX6_connect_6 4 rfl rfl)
theorem dX6_connect_145 : decode cX6_connect 145 = .ok (.ireturn, 1) := dk_172 (dk_at dksX6_connect_6 5 rfl rfl)
abbrev cX6_isNode : ByteArray := prog_14_method_6_code
def yX6_isNode : MethodName := ⟨RX6, "isNode", "(I)Z"⟩
def dkwX6_isNode_0 : List UInt8 := [27, 3, 42, 180, 0, 51, 4, 100, 184, 0, 94, 172]
abbrev dktX6_isNode_0 : List UInt8 := dkwX6_isNode_0 ++ []
theorem dksX6_isNode_0 : cX6_isNode.data.toList.drop 0 = dktX6_isNode_0 := by decide +kernel
theorem dX6_isNode_0 : decode cX6_isNode 0 = .ok (.iload_n 1, 1) := dk_27 (dk_at dksX6_isNode_0 0 rfl rfl)
theorem dX6_isNode_1 : decode cX6_isNode 1 = .ok (.iconst 0, 1) := dk_3 (dk_at dksX6_isNode_0 1 rfl rfl)
theorem dX6_isNode_2 : decode cX6_isNode 2 = .ok (.aload_n 0, 1) := dk_42 (dk_at dksX6_isNode_0 2 rfl rfl)
theorem dX6_isNode_3 : decode cX6_isNode 3 = .ok (.getfield 51, 3) := dk_180 0 51 (dk_at dksX6_isNode_0 3 rfl rfl)
theorem dX6_isNode_6 : decode cX6_isNode 6 = .ok (.iconst 1, 1) := dk_4 (dk_at dksX6_isNode_0 6 rfl rfl)
theorem dX6_isNode_7 : decode cX6_isNode 7 = .ok (.isub, 1) := dk_100 (dk_at dksX6_isNode_0 7 rfl rfl)
theorem dX6_isNode_8 : decode cX6_isNode 8 = .ok (.invokestatic 94, 3) := dk_184 0 94 (dk_at dksX6_isNode_0 8 rfl rfl)
theorem dX6_isNode_11 : decode cX6_isNode 11 = .ok (.ireturn, 1) := dk_172 (dk_at dksX6_isNode_0 11 rfl rfl)
abbrev cX6_wire : ByteArray := prog_14_method_15_code
def yX6_wire : MethodName := ⟨RX6, "wire", "(II)I"⟩
def dkwX6_wire_1 : List UInt8 := [160, 0, 5, 29, 172, 132, 3, 1, 167, 255, 227, 2, 172]
abbrev dktX6_wire_1 : List UInt8 := dkwX6_wire_1 ++ []
def dkwX6_wire_0 : List UInt8 := [3, 62, 29, 42, 180, 0, 34, 28, 46, 162, 0, 25, 42, 180, 0, 28, 7, 28, 104, 29, 96, 46, 27]
abbrev dktX6_wire_0 : List UInt8 := dkwX6_wire_0 ++ dktX6_wire_1
theorem dksX6_wire_0 : cX6_wire.data.toList.drop 0 = dktX6_wire_0 := by decide +kernel
theorem dksX6_wire_1 : cX6_wire.data.toList.drop 23 = dktX6_wire_1 := dk_seg dksX6_wire_0 23 rfl rfl
theorem dX6_wire_0 : decode cX6_wire 0 = .ok (.iconst 0, 1) := dk_3 (dk_at dksX6_wire_0 0 rfl rfl)
theorem dX6_wire_1 : decode cX6_wire 1 = .ok (.istore_n 3, 1) := dk_62 (dk_at dksX6_wire_0 1 rfl rfl)
theorem dX6_wire_2 : decode cX6_wire 2 = .ok (.iload_n 3, 1) := dk_29 (dk_at dksX6_wire_0 2 rfl rfl)
theorem dX6_wire_3 : decode cX6_wire 3 = .ok (.aload_n 0, 1) := dk_42 (dk_at dksX6_wire_0 3 rfl rfl)
theorem dX6_wire_4 : decode cX6_wire 4 = .ok (.getfield 34, 3) := dk_180 0 34 (dk_at dksX6_wire_0 4 rfl rfl)
theorem dX6_wire_7 : decode cX6_wire 7 = .ok (.iload_n 2, 1) := dk_28 (dk_at dksX6_wire_0 7 rfl rfl)
theorem dX6_wire_8 : decode cX6_wire 8 = .ok (.iaload, 1) := dk_46 (dk_at dksX6_wire_0 8 rfl rfl)
theorem dX6_wire_9 : decode cX6_wire 9 = .ok (.if_icmp .ge 25, 3) := dk_162 0 25 (dk_at dksX6_wire_0 9 rfl rfl)
theorem dX6_wire_12 : decode cX6_wire 12 = .ok (.aload_n 0, 1) := dk_42 (dk_at dksX6_wire_0 12 rfl rfl)
theorem dX6_wire_13 : decode cX6_wire 13 = .ok (.getfield 28, 3) := dk_180 0 28 (dk_at dksX6_wire_0 13 rfl rfl)
theorem dX6_wire_16 : decode cX6_wire 16 = .ok (.iconst 4, 1) := dk_7 (dk_at dksX6_wire_0 16 rfl rfl)
theorem dX6_wire_17 : decode cX6_wire 17 = .ok (.iload_n 2, 1) := dk_28 (dk_at dksX6_wire_0 17 rfl rfl)
theorem dX6_wire_18 : decode cX6_wire 18 = .ok (.imul, 1) := dk_104 (dk_at dksX6_wire_0 18 rfl rfl)
theorem dX6_wire_19 : decode cX6_wire 19 = .ok (.iload_n 3, 1) := dk_29 (dk_at dksX6_wire_0 19 rfl rfl)
theorem dX6_wire_20 : decode cX6_wire 20 = .ok (.iadd, 1) := dk_96 (dk_at dksX6_wire_0 20 rfl rfl)
theorem dX6_wire_21 : decode cX6_wire 21 = .ok (.iaload, 1) := dk_46 (dk_at dksX6_wire_0 21 rfl rfl)
theorem dX6_wire_22 : decode cX6_wire 22 = .ok (.iload_n 1, 1) := dk_27 (dk_at dksX6_wire_0 22 rfl rfl)
theorem dX6_wire_23 : decode cX6_wire 23 = .ok (.if_icmp .ne 5, 3) := dk_160 0 5 (dk_at dksX6_wire_1 0 rfl rfl)
theorem dX6_wire_26 : decode cX6_wire 26 = .ok (.iload_n 3, 1) := dk_29 (dk_at dksX6_wire_1 3 rfl rfl)
theorem dX6_wire_27 : decode cX6_wire 27 = .ok (.ireturn, 1) := dk_172 (dk_at dksX6_wire_1 4 rfl rfl)
theorem dX6_wire_28 : decode cX6_wire 28 = .ok (.iinc 3 1, 3) := dk_132 3 1 (dk_at dksX6_wire_1 5 rfl rfl)
theorem dX6_wire_31 : decode cX6_wire 31 = .ok (.goto (-29), 3) := dk_167 255 227 (dk_at dksX6_wire_1 8 rfl rfl)
theorem dX6_wire_34 : decode cX6_wire 34 = .ok (.iconst (-1), 1) := dk_2 (dk_at dksX6_wire_1 11 rfl rfl)
theorem dX6_wire_35 : decode cX6_wire 35 = .ok (.ireturn, 1) := dk_172 (dk_at dksX6_wire_1 12 rfl rfl)
abbrev cX6_leads : ByteArray := prog_14_method_16_code
def yX6_leads : MethodName := ⟨RX6, "leads", "(II)Z"⟩
def dkwX6_leads_5 : List UInt8 := [167, 255, 204, 132, 4, 1, 167, 255, 186, 132, 3, 1, 167, 255, 169, 42, 180, 0, 43, 28, 51, 172]
abbrev dktX6_leads_5 : List UInt8 := dkwX6_leads_5 ++ []
def dkwX6_leads_4 : List UInt8 := [42, 21, 4, 21, 5, 182, 0, 106, 155, 0, 11, 42, 180, 0, 43, 21, 5, 4, 84, 132, 5, 1]
abbrev dktX6_leads_4 : List UInt8 := dkwX6_leads_4 ++ dktX6_leads_5
def dkwX6_leads_3 : List UInt8 := [162, 0, 49, 42, 180, 0, 43, 21, 4, 51, 153, 0, 33, 42, 180, 0, 16, 21, 5, 46, 5, 159, 0, 22]
abbrev dktX6_leads_3 : List UInt8 := dkwX6_leads_3 ++ dktX6_leads_4
def dkwX6_leads_2 : List UInt8 := [162, 0, 85, 3, 54, 4, 21, 4, 42, 180, 0, 51, 162, 0, 67, 3, 54, 5, 21, 5, 42, 180, 0, 51]
abbrev dktX6_leads_2 : List UInt8 := dkwX6_leads_2 ++ dktX6_leads_3
def dkwX6_leads_1 : List UInt8 := [5, 159, 0, 7, 4, 167, 0, 4, 3, 84, 132, 3, 1, 167, 255, 221, 3, 62, 29, 42, 180, 0, 51]
abbrev dktX6_leads_1 : List UInt8 := dkwX6_leads_1 ++ dktX6_leads_2
def dkwX6_leads_0 : List UInt8 := [3, 62, 29, 16, 10, 162, 0, 35, 42, 180, 0, 43, 29, 29, 27, 160, 0, 17, 42, 180, 0, 16, 29, 46]
abbrev dktX6_leads_0 : List UInt8 := dkwX6_leads_0 ++ dktX6_leads_1
theorem dksX6_leads_0 : cX6_leads.data.toList.drop 0 = dktX6_leads_0 := by decide +kernel
theorem dksX6_leads_1 : cX6_leads.data.toList.drop 24 = dktX6_leads_1 := dk_seg dksX6_leads_0 24 rfl rfl
theorem dksX6_leads_2 : cX6_leads.data.toList.drop 47 = dktX6_leads_2 := dk_seg dksX6_leads_1 23 rfl rfl
theorem dksX6_leads_3 : cX6_leads.data.toList.drop 71 = dktX6_leads_3 := dk_seg dksX6_leads_2 24 rfl rfl
theorem dksX6_leads_4 : cX6_leads.data.toList.drop 95 = dktX6_leads_4 := dk_seg dksX6_leads_3 24 rfl rfl
theorem dksX6_leads_5 : cX6_leads.data.toList.drop 117 = dktX6_leads_5 := dk_seg dksX6_leads_4 22 rfl rfl
theorem dX6_leads_0 : decode cX6_leads 0 = .ok (.iconst 0, 1) := dk_3 (dk_at dksX6_leads_0 0 rfl rfl)
theorem dX6_leads_1 : decode cX6_leads 1 = .ok (.istore_n 3, 1) := dk_62 (dk_at dksX6_leads_0 1 rfl rfl)
theorem dX6_leads_2 : decode cX6_leads 2 = .ok (.iload_n 3, 1) := dk_29 (dk_at dksX6_leads_0 2 rfl rfl)
theorem dX6_leads_3 : decode cX6_leads 3 = .ok (.bipush 10, 2) := dk_16 10 (dk_at dksX6_leads_0 3 rfl rfl)
theorem dX6_leads_5 : decode cX6_leads 5 = .ok (.if_icmp .ge 35, 3) := dk_162 0 35 (dk_at dksX6_leads_0 5 rfl rfl)
theorem dX6_leads_8 : decode cX6_leads 8 = .ok (.aload_n 0, 1) := dk_42 (dk_at dksX6_leads_0 8 rfl rfl)
theorem dX6_leads_9 : decode cX6_leads 9 = .ok (.getfield 43, 3) := dk_180 0 43 (dk_at dksX6_leads_0 9 rfl rfl)
theorem dX6_leads_12 : decode cX6_leads 12 = .ok (.iload_n 3, 1) := dk_29 (dk_at dksX6_leads_0 12 rfl rfl)
theorem dX6_leads_13 : decode cX6_leads 13 = .ok (.iload_n 3, 1) := dk_29 (dk_at dksX6_leads_0 13 rfl rfl)
theorem dX6_leads_14 : decode cX6_leads 14 = .ok (.iload_n 1, 1) := dk_27 (dk_at dksX6_leads_0 14 rfl rfl)
theorem dX6_leads_15 : decode cX6_leads 15 = .ok (.if_icmp .ne 17, 3) := dk_160 0 17 (dk_at dksX6_leads_0 15 rfl rfl)
theorem dX6_leads_18 : decode cX6_leads 18 = .ok (.aload_n 0, 1) := dk_42 (dk_at dksX6_leads_0 18 rfl rfl)
theorem dX6_leads_19 : decode cX6_leads 19 = .ok (.getfield 16, 3) := dk_180 0 16 (dk_at dksX6_leads_0 19 rfl rfl)
theorem dX6_leads_22 : decode cX6_leads 22 = .ok (.iload_n 3, 1) := dk_29 (dk_at dksX6_leads_0 22 rfl rfl)
theorem dX6_leads_23 : decode cX6_leads 23 = .ok (.iaload, 1) := dk_46 (dk_at dksX6_leads_0 23 rfl rfl)
theorem dX6_leads_24 : decode cX6_leads 24 = .ok (.iconst 2, 1) := dk_5 (dk_at dksX6_leads_1 0 rfl rfl)
theorem dX6_leads_25 : decode cX6_leads 25 = .ok (.if_icmp .eq 7, 3) := dk_159 0 7 (dk_at dksX6_leads_1 1 rfl rfl)
theorem dX6_leads_28 : decode cX6_leads 28 = .ok (.iconst 1, 1) := dk_4 (dk_at dksX6_leads_1 4 rfl rfl)
theorem dX6_leads_29 : decode cX6_leads 29 = .ok (.goto 4, 3) := dk_167 0 4 (dk_at dksX6_leads_1 5 rfl rfl)
theorem dX6_leads_32 : decode cX6_leads 32 = .ok (.iconst 0, 1) := dk_3 (dk_at dksX6_leads_1 8 rfl rfl)
theorem dX6_leads_33 : decode cX6_leads 33 = .ok (.bastore, 1) := dk_84 (dk_at dksX6_leads_1 9 rfl rfl)
theorem dX6_leads_34 : decode cX6_leads 34 = .ok (.iinc 3 1, 3) := dk_132 3 1 (dk_at dksX6_leads_1 10 rfl rfl)
theorem dX6_leads_37 : decode cX6_leads 37 = .ok (.goto (-35), 3) := dk_167 255 221 (dk_at dksX6_leads_1 13 rfl rfl)
theorem dX6_leads_40 : decode cX6_leads 40 = .ok (.iconst 0, 1) := dk_3 (dk_at dksX6_leads_1 16 rfl rfl)
theorem dX6_leads_41 : decode cX6_leads 41 = .ok (.istore_n 3, 1) := dk_62 (dk_at dksX6_leads_1 17 rfl rfl)
theorem dX6_leads_42 : decode cX6_leads 42 = .ok (.iload_n 3, 1) := dk_29 (dk_at dksX6_leads_1 18 rfl rfl)
theorem dX6_leads_43 : decode cX6_leads 43 = .ok (.aload_n 0, 1) := dk_42 (dk_at dksX6_leads_1 19 rfl rfl)
theorem dX6_leads_44 : decode cX6_leads 44 = .ok (.getfield 51, 3) := dk_180 0 51 (dk_at dksX6_leads_1 20 rfl rfl)
theorem dX6_leads_47 : decode cX6_leads 47 = .ok (.if_icmp .ge 85, 3) := dk_162 0 85 (dk_at dksX6_leads_2 0 rfl rfl)
theorem dX6_leads_50 : decode cX6_leads 50 = .ok (.iconst 0, 1) := dk_3 (dk_at dksX6_leads_2 3 rfl rfl)
theorem dX6_leads_51 : decode cX6_leads 51 = .ok (.istore 4, 2) := dk_54 4 (dk_at dksX6_leads_2 4 rfl rfl)
theorem dX6_leads_53 : decode cX6_leads 53 = .ok (.iload 4, 2) := dk_21 4 (dk_at dksX6_leads_2 6 rfl rfl)
theorem dX6_leads_55 : decode cX6_leads 55 = .ok (.aload_n 0, 1) := dk_42 (dk_at dksX6_leads_2 8 rfl rfl)
theorem dX6_leads_56 : decode cX6_leads 56 = .ok (.getfield 51, 3) := dk_180 0 51 (dk_at dksX6_leads_2 9 rfl rfl)
theorem dX6_leads_59 : decode cX6_leads 59 = .ok (.if_icmp .ge 67, 3) := dk_162 0 67 (dk_at dksX6_leads_2 12 rfl rfl)
theorem dX6_leads_62 : decode cX6_leads 62 = .ok (.iconst 0, 1) := dk_3 (dk_at dksX6_leads_2 15 rfl rfl)
theorem dX6_leads_63 : decode cX6_leads 63 = .ok (.istore 5, 2) := dk_54 5 (dk_at dksX6_leads_2 16 rfl rfl)
theorem dX6_leads_65 : decode cX6_leads 65 = .ok (.iload 5, 2) := dk_21 5 (dk_at dksX6_leads_2 18 rfl rfl)
theorem dX6_leads_67 : decode cX6_leads 67 = .ok (.aload_n 0, 1) := dk_42 (dk_at dksX6_leads_2 20 rfl rfl)
theorem dX6_leads_68 : decode cX6_leads 68 = .ok (.getfield 51, 3) := dk_180 0 51 (dk_at dksX6_leads_2 21 rfl rfl)
theorem dX6_leads_71 : decode cX6_leads 71 = .ok (.if_icmp .ge 49, 3) := dk_162 0 49 (dk_at dksX6_leads_3 0 rfl rfl)
theorem dX6_leads_74 : decode cX6_leads 74 = .ok (.aload_n 0, 1) := dk_42 (dk_at dksX6_leads_3 3 rfl rfl)
theorem dX6_leads_75 : decode cX6_leads 75 = .ok (.getfield 43, 3) := dk_180 0 43 (dk_at dksX6_leads_3 4 rfl rfl)
theorem dX6_leads_78 : decode cX6_leads 78 = .ok (.iload 4, 2) := dk_21 4 (dk_at dksX6_leads_3 7 rfl rfl)
theorem dX6_leads_80 : decode cX6_leads 80 = .ok (.baload, 1) := dk_51 (dk_at dksX6_leads_3 9 rfl rfl)
theorem dX6_leads_81 : decode cX6_leads 81 = .ok (.ifCond .eq 33, 3) := dk_153 0 33 (dk_at dksX6_leads_3 10 rfl rfl)
theorem dX6_leads_84 : decode cX6_leads 84 = .ok (.aload_n 0, 1) := dk_42 (dk_at dksX6_leads_3 13 rfl rfl)
theorem dX6_leads_85 : decode cX6_leads 85 = .ok (.getfield 16, 3) := dk_180 0 16 (dk_at dksX6_leads_3 14 rfl rfl)
theorem dX6_leads_88 : decode cX6_leads 88 = .ok (.iload 5, 2) := dk_21 5 (dk_at dksX6_leads_3 17 rfl rfl)
theorem dX6_leads_90 : decode cX6_leads 90 = .ok (.iaload, 1) := dk_46 (dk_at dksX6_leads_3 19 rfl rfl)
theorem dX6_leads_91 : decode cX6_leads 91 = .ok (.iconst 2, 1) := dk_5 (dk_at dksX6_leads_3 20 rfl rfl)
theorem dX6_leads_92 : decode cX6_leads 92 = .ok (.if_icmp .eq 22, 3) := dk_159 0 22 (dk_at dksX6_leads_3 21 rfl rfl)
theorem dX6_leads_95 : decode cX6_leads 95 = .ok (.aload_n 0, 1) := dk_42 (dk_at dksX6_leads_4 0 rfl rfl)
theorem dX6_leads_96 : decode cX6_leads 96 = .ok (.iload 4, 2) := dk_21 4 (dk_at dksX6_leads_4 1 rfl rfl)
theorem dX6_leads_98 : decode cX6_leads 98 = .ok (.iload 5, 2) := dk_21 5 (dk_at dksX6_leads_4 3 rfl rfl)
theorem dX6_leads_100 : decode cX6_leads 100 = .ok (.invokevirtual 106, 3) := dk_182 0 106 (dk_at dksX6_leads_4 5 rfl rfl)
theorem dX6_leads_103 : decode cX6_leads 103 = .ok (.ifCond .lt 11, 3) := dk_155 0 11 (dk_at dksX6_leads_4 8 rfl rfl)
theorem dX6_leads_106 : decode cX6_leads 106 = .ok (.aload_n 0, 1) := dk_42 (dk_at dksX6_leads_4 11 rfl rfl)
theorem dX6_leads_107 : decode cX6_leads 107 = .ok (.getfield 43, 3) := dk_180 0 43 (dk_at dksX6_leads_4 12 rfl rfl)
theorem dX6_leads_110 : decode cX6_leads 110 = .ok (.iload 5, 2) := dk_21 5 (dk_at dksX6_leads_4 15 rfl rfl)
theorem dX6_leads_112 : decode cX6_leads 112 = .ok (.iconst 1, 1) := dk_4 (dk_at dksX6_leads_4 17 rfl rfl)
theorem dX6_leads_113 : decode cX6_leads 113 = .ok (.bastore, 1) := dk_84 (dk_at dksX6_leads_4 18 rfl rfl)
theorem dX6_leads_114 : decode cX6_leads 114 = .ok (.iinc 5 1, 3) := dk_132 5 1 (dk_at dksX6_leads_4 19 rfl rfl)
theorem dX6_leads_117 : decode cX6_leads 117 = .ok (.goto (-52), 3) := dk_167 255 204 (dk_at dksX6_leads_5 0 rfl rfl)
theorem dX6_leads_120 : decode cX6_leads 120 = .ok (.iinc 4 1, 3) := dk_132 4 1 (dk_at dksX6_leads_5 3 rfl rfl)
theorem dX6_leads_123 : decode cX6_leads 123 = .ok (.goto (-70), 3) := dk_167 255 186 (dk_at dksX6_leads_5 6 rfl rfl)
theorem dX6_leads_126 : decode cX6_leads 126 = .ok (.iinc 3 1, 3) := dk_132 3 1 (dk_at dksX6_leads_5 9 rfl rfl)
theorem dX6_leads_129 : decode cX6_leads 129 = .ok (.goto (-87), 3) := dk_167 255 169 (dk_at dksX6_leads_5 12 rfl rfl)
theorem dX6_leads_132 : decode cX6_leads 132 = .ok (.aload_n 0, 1) := dk_42 (dk_at dksX6_leads_5 15 rfl rfl)
theorem dX6_leads_133 : decode cX6_leads 133 = .ok (.getfield 43, 3) := dk_180 0 43 (dk_at dksX6_leads_5 16 rfl rfl)
theorem dX6_leads_136 : decode cX6_leads 136 = .ok (.iload_n 2, 1) := dk_28 (dk_at dksX6_leads_5 19 rfl rfl)
theorem dX6_leads_137 : decode cX6_leads 137 = .ok (.baload, 1) := dk_51 (dk_at dksX6_leads_5 20 rfl rfl)
theorem dX6_leads_138 : decode cX6_leads 138 = .ok (.ireturn, 1) := dk_172 (dk_at dksX6_leads_5 21 rfl rfl)
abbrev cX6_disconnect : ByteArray := prog_14_method_18_code
def yX6_disconnect : MethodName := ⟨RX6, "disconnect", "(II)I"⟩
def dkwX6_disconnect_6 : List UInt8 := [172]
abbrev dktX6_disconnect_6 : List UInt8 := dkwX6_disconnect_6 ++ []
def dkwX6_disconnect_5 : List UInt8 := [21, 5, 42, 180, 0, 31, 21, 5, 4, 96, 46, 79, 132, 5, 1, 167, 255, 206, 42, 182, 0, 91, 21, 4]
abbrev dktX6_disconnect_5 : List UInt8 := dkwX6_disconnect_5 ++ dktX6_disconnect_6
def dkwX6_disconnect_4 : List UInt8 := [162, 0, 41, 42, 180, 0, 28, 21, 5, 42, 180, 0, 28, 21, 5, 4, 96, 46, 79, 42, 180, 0, 31]
abbrev dktX6_disconnect_4 : List UInt8 := dkwX6_disconnect_4 ++ dktX6_disconnect_5
def dkwX6_disconnect_3 : List UInt8 := [46, 4, 100, 79, 7, 28, 104, 29, 96, 54, 5, 21, 5, 7, 28, 104, 42, 180, 0, 34, 28, 46, 96]
abbrev dktX6_disconnect_3 : List UInt8 := dkwX6_disconnect_3 ++ dktX6_disconnect_4
def dkwX6_disconnect_2 : List UInt8 := [27, 28, 182, 0, 106, 62, 42, 180, 0, 31, 7, 28, 104, 29, 96, 46, 54, 4, 42, 180, 0, 34, 28, 92]
abbrev dktX6_disconnect_2 : List UInt8 := dkwX6_disconnect_2 ++ dktX6_disconnect_3
def dkwX6_disconnect_1 : List UInt8 := [182, 0, 106, 156, 0, 7, 5, 167, 0, 4, 3, 181, 0, 47, 42, 180, 0, 47, 158, 0, 5, 3, 172, 42]
abbrev dktX6_disconnect_1 : List UInt8 := dkwX6_disconnect_1 ++ dktX6_disconnect_2
def dkwX6_disconnect_0 : List UInt8 := [42, 42, 27, 182, 0, 110, 153, 0, 11, 42, 28, 182, 0, 110, 154, 0, 7, 4, 167, 0, 17, 42, 27, 28]
abbrev dktX6_disconnect_0 : List UInt8 := dkwX6_disconnect_0 ++ dktX6_disconnect_1
theorem dksX6_disconnect_0 : cX6_disconnect.data.toList.drop 0 = dktX6_disconnect_0 := by decide +kernel
theorem dksX6_disconnect_1 : cX6_disconnect.data.toList.drop 24 = dktX6_disconnect_1 := dk_seg dksX6_disconnect_0 24 rfl rfl
theorem dksX6_disconnect_2 : cX6_disconnect.data.toList.drop 48 = dktX6_disconnect_2 := dk_seg dksX6_disconnect_1 24 rfl rfl
theorem dksX6_disconnect_3 : cX6_disconnect.data.toList.drop 72 = dktX6_disconnect_3 := dk_seg dksX6_disconnect_2 24 rfl rfl
theorem dksX6_disconnect_4 : cX6_disconnect.data.toList.drop 95 = dktX6_disconnect_4 := dk_seg dksX6_disconnect_3 23 rfl rfl
theorem dksX6_disconnect_5 : cX6_disconnect.data.toList.drop 118 = dktX6_disconnect_5 := dk_seg dksX6_disconnect_4 23 rfl rfl
theorem dksX6_disconnect_6 : cX6_disconnect.data.toList.drop 142 = dktX6_disconnect_6 := dk_seg dksX6_disconnect_5 24 rfl rfl
theorem dX6_disconnect_0 : decode cX6_disconnect 0 = .ok (.aload_n 0, 1) := dk_42 (dk_at dksX6_disconnect_0 0 rfl rfl)
theorem dX6_disconnect_1 : decode cX6_disconnect 1 = .ok (.aload_n 0, 1) := dk_42 (dk_at dksX6_disconnect_0 1 rfl rfl)
theorem dX6_disconnect_2 : decode cX6_disconnect 2 = .ok (.iload_n 1, 1) := dk_27 (dk_at dksX6_disconnect_0 2 rfl rfl)
theorem dX6_disconnect_3 : decode cX6_disconnect 3 = .ok (.invokevirtual 110, 3) := dk_182 0 110 (dk_at dksX6_disconnect_0 3 rfl rfl)
theorem dX6_disconnect_6 : decode cX6_disconnect 6 = .ok (.ifCond .eq 11, 3) := dk_153 0 11 (dk_at dksX6_disconnect_0 6 rfl rfl)
theorem dX6_disconnect_9 : decode cX6_disconnect 9 = .ok (.aload_n 0, 1) := dk_42 (dk_at dksX6_disconnect_0 9 rfl rfl)
theorem dX6_disconnect_10 : decode cX6_disconnect 10 = .ok (.iload_n 2, 1) := dk_28 (dk_at dksX6_disconnect_0 10 rfl rfl)
theorem dX6_disconnect_11 : decode cX6_disconnect 11 = .ok (.invokevirtual 110, 3) := dk_182 0 110 (dk_at dksX6_disconnect_0 11 rfl rfl)
theorem dX6_disconnect_14 : decode cX6_disconnect 14 = .ok (.ifCond .ne 7, 3) := dk_154 0 7 (dk_at dksX6_disconnect_0 14 rfl rfl)
theorem dX6_disconnect_17 : decode cX6_disconnect 17 = .ok (.iconst 1, 1) := dk_4 (dk_at dksX6_disconnect_0 17 rfl rfl)
theorem dX6_disconnect_18 : decode cX6_disconnect 18 = .ok (.goto 17, 3) := dk_167 0 17 (dk_at dksX6_disconnect_0 18 rfl rfl)
theorem dX6_disconnect_21 : decode cX6_disconnect 21 = .ok (.aload_n 0, 1) := dk_42 (dk_at dksX6_disconnect_0 21 rfl rfl)
theorem dX6_disconnect_22 : decode cX6_disconnect 22 = .ok (.iload_n 1, 1) := dk_27 (dk_at dksX6_disconnect_0 22 rfl rfl)
theorem dX6_disconnect_23 : decode cX6_disconnect 23 = .ok (.iload_n 2, 1) := dk_28 (dk_at dksX6_disconnect_0 23 rfl rfl)
theorem dX6_disconnect_24 : decode cX6_disconnect 24 = .ok (.invokevirtual 106, 3) := dk_182 0 106 (dk_at dksX6_disconnect_1 0 rfl rfl)
theorem dX6_disconnect_27 : decode cX6_disconnect 27 = .ok (.ifCond .ge 7, 3) := dk_156 0 7 (dk_at dksX6_disconnect_1 3 rfl rfl)
theorem dX6_disconnect_30 : decode cX6_disconnect 30 = .ok (.iconst 2, 1) := dk_5 (dk_at dksX6_disconnect_1 6 rfl rfl)
theorem dX6_disconnect_31 : decode cX6_disconnect 31 = .ok (.goto 4, 3) := dk_167 0 4 (dk_at dksX6_disconnect_1 7 rfl rfl)
theorem dX6_disconnect_34 : decode cX6_disconnect 34 = .ok (.iconst 0, 1) := dk_3 (dk_at dksX6_disconnect_1 10 rfl rfl)
theorem dX6_disconnect_35 : decode cX6_disconnect 35 = .ok (.putfield 47, 3) := dk_181 0 47 (dk_at dksX6_disconnect_1 11 rfl rfl)
theorem dX6_disconnect_38 : decode cX6_disconnect 38 = .ok (.aload_n 0, 1) := dk_42 (dk_at dksX6_disconnect_1 14 rfl rfl)
theorem dX6_disconnect_39 : decode cX6_disconnect 39 = .ok (.getfield 47, 3) := dk_180 0 47 (dk_at dksX6_disconnect_1 15 rfl rfl)
theorem dX6_disconnect_42 : decode cX6_disconnect 42 = .ok (.ifCond .le 5, 3) := dk_158 0 5 (dk_at dksX6_disconnect_1 18 rfl rfl)
theorem dX6_disconnect_45 : decode cX6_disconnect 45 = .ok (.iconst 0, 1) := dk_3 (dk_at dksX6_disconnect_1 21 rfl rfl)
theorem dX6_disconnect_46 : decode cX6_disconnect 46 = .ok (.ireturn, 1) := dk_172 (dk_at dksX6_disconnect_1 22 rfl rfl)
theorem dX6_disconnect_47 : decode cX6_disconnect 47 = .ok (.aload_n 0, 1) := dk_42 (dk_at dksX6_disconnect_1 23 rfl rfl)
theorem dX6_disconnect_48 : decode cX6_disconnect 48 = .ok (.iload_n 1, 1) := dk_27 (dk_at dksX6_disconnect_2 0 rfl rfl)
theorem dX6_disconnect_49 : decode cX6_disconnect 49 = .ok (.iload_n 2, 1) := dk_28 (dk_at dksX6_disconnect_2 1 rfl rfl)
theorem dX6_disconnect_50 : decode cX6_disconnect 50 = .ok (.invokevirtual 106, 3) := dk_182 0 106 (dk_at dksX6_disconnect_2 2 rfl rfl)
theorem dX6_disconnect_53 : decode cX6_disconnect 53 = .ok (.istore_n 3, 1) := dk_62 (dk_at dksX6_disconnect_2 5 rfl rfl)
theorem dX6_disconnect_54 : decode cX6_disconnect 54 = .ok (.aload_n 0, 1) := dk_42 (dk_at dksX6_disconnect_2 6 rfl rfl)
theorem dX6_disconnect_55 : decode cX6_disconnect 55 = .ok (.getfield 31, 3) := dk_180 0 31 (dk_at dksX6_disconnect_2 7 rfl rfl)
theorem dX6_disconnect_58 : decode cX6_disconnect 58 = .ok (.iconst 4, 1) := dk_7 (dk_at dksX6_disconnect_2 10 rfl rfl)
theorem dX6_disconnect_59 : decode cX6_disconnect 59 = .ok (.iload_n 2, 1) := dk_28 (dk_at dksX6_disconnect_2 11 rfl rfl)
theorem dX6_disconnect_60 : decode cX6_disconnect 60 = .ok (.imul, 1) := dk_104 (dk_at dksX6_disconnect_2 12 rfl rfl)
theorem dX6_disconnect_61 : decode cX6_disconnect 61 = .ok (.iload_n 3, 1) := dk_29 (dk_at dksX6_disconnect_2 13 rfl rfl)
theorem dX6_disconnect_62 : decode cX6_disconnect 62 = .ok (.iadd, 1) := dk_96 (dk_at dksX6_disconnect_2 14 rfl rfl)
theorem dX6_disconnect_63 : decode cX6_disconnect 63 = .ok (.iaload, 1) := dk_46 (dk_at dksX6_disconnect_2 15 rfl rfl)
theorem dX6_disconnect_64 : decode cX6_disconnect 64 = .ok (.istore 4, 2) := dk_54 4 (dk_at dksX6_disconnect_2 16 rfl rfl)
theorem dX6_disconnect_66 : decode cX6_disconnect 66 = .ok (.aload_n 0, 1) := dk_42 (dk_at dksX6_disconnect_2 18 rfl rfl)
theorem dX6_disconnect_67 : decode cX6_disconnect 67 = .ok (.getfield 34, 3) := dk_180 0 34 (dk_at dksX6_disconnect_2 19 rfl rfl)
theorem dX6_disconnect_70 : decode cX6_disconnect 70 = .ok (.iload_n 2, 1) := dk_28 (dk_at dksX6_disconnect_2 22 rfl rfl)
theorem dX6_disconnect_71 : decode cX6_disconnect 71 = .ok (.dup2, 1) := dk_92 (dk_at dksX6_disconnect_2 23 rfl rfl)
theorem dX6_disconnect_72 : decode cX6_disconnect 72 = .ok (.iaload, 1) := dk_46 (dk_at dksX6_disconnect_3 0 rfl rfl)
theorem dX6_disconnect_73 : decode cX6_disconnect 73 = .ok (.iconst 1, 1) := dk_4 (dk_at dksX6_disconnect_3 1 rfl rfl)
theorem dX6_disconnect_74 : decode cX6_disconnect 74 = .ok (.isub, 1) := dk_100 (dk_at dksX6_disconnect_3 2 rfl rfl)
theorem dX6_disconnect_75 : decode cX6_disconnect 75 = .ok (.iastore, 1) := dk_79 (dk_at dksX6_disconnect_3 3 rfl rfl)
theorem dX6_disconnect_76 : decode cX6_disconnect 76 = .ok (.iconst 4, 1) := dk_7 (dk_at dksX6_disconnect_3 4 rfl rfl)
theorem dX6_disconnect_77 : decode cX6_disconnect 77 = .ok (.iload_n 2, 1) := dk_28 (dk_at dksX6_disconnect_3 5 rfl rfl)
theorem dX6_disconnect_78 : decode cX6_disconnect 78 = .ok (.imul, 1) := dk_104 (dk_at dksX6_disconnect_3 6 rfl rfl)
theorem dX6_disconnect_79 : decode cX6_disconnect 79 = .ok (.iload_n 3, 1) := dk_29 (dk_at dksX6_disconnect_3 7 rfl rfl)
theorem dX6_disconnect_80 : decode cX6_disconnect 80 = .ok (.iadd, 1) := dk_96 (dk_at dksX6_disconnect_3 8 rfl rfl)
theorem dX6_disconnect_81 : decode cX6_disconnect 81 = .ok (.istore 5, 2) := dk_54 5 (dk_at dksX6_disconnect_3 9 rfl rfl)
theorem dX6_disconnect_83 : decode cX6_disconnect 83 = .ok (.iload 5, 2) := dk_21 5 (dk_at dksX6_disconnect_3 11 rfl rfl)
theorem dX6_disconnect_85 : decode cX6_disconnect 85 = .ok (.iconst 4, 1) := dk_7 (dk_at dksX6_disconnect_3 13 rfl rfl)
theorem dX6_disconnect_86 : decode cX6_disconnect 86 = .ok (.iload_n 2, 1) := dk_28 (dk_at dksX6_disconnect_3 14 rfl rfl)
theorem dX6_disconnect_87 : decode cX6_disconnect 87 = .ok (.imul, 1) := dk_104 (dk_at dksX6_disconnect_3 15 rfl rfl)
theorem dX6_disconnect_88 : decode cX6_disconnect 88 = .ok (.aload_n 0, 1) := dk_42 (dk_at dksX6_disconnect_3 16 rfl rfl)
theorem dX6_disconnect_89 : decode cX6_disconnect 89 = .ok (.getfield 34, 3) := dk_180 0 34 (dk_at dksX6_disconnect_3 17 rfl rfl)
theorem dX6_disconnect_92 : decode cX6_disconnect 92 = .ok (.iload_n 2, 1) := dk_28 (dk_at dksX6_disconnect_3 20 rfl rfl)
theorem dX6_disconnect_93 : decode cX6_disconnect 93 = .ok (.iaload, 1) := dk_46 (dk_at dksX6_disconnect_3 21 rfl rfl)
theorem dX6_disconnect_94 : decode cX6_disconnect 94 = .ok (.iadd, 1) := dk_96 (dk_at dksX6_disconnect_3 22 rfl rfl)
theorem dX6_disconnect_95 : decode cX6_disconnect 95 = .ok (.if_icmp .ge 41, 3) := dk_162 0 41 (dk_at dksX6_disconnect_4 0 rfl rfl)
theorem dX6_disconnect_98 : decode cX6_disconnect 98 = .ok (.aload_n 0, 1) := dk_42 (dk_at dksX6_disconnect_4 3 rfl rfl)
theorem dX6_disconnect_99 : decode cX6_disconnect 99 = .ok (.getfield 28, 3) := dk_180 0 28 (dk_at dksX6_disconnect_4 4 rfl rfl)
theorem dX6_disconnect_102 : decode cX6_disconnect 102 = .ok (.iload 5, 2) := dk_21 5 (dk_at dksX6_disconnect_4 7 rfl rfl)
theorem dX6_disconnect_104 : decode cX6_disconnect 104 = .ok (.aload_n 0, 1) := dk_42 (dk_at dksX6_disconnect_4 9 rfl rfl)
theorem dX6_disconnect_105 : decode cX6_disconnect 105 = .ok (.getfield 28, 3) := dk_180 0 28 (dk_at dksX6_disconnect_4 10 rfl rfl)
theorem dX6_disconnect_108 : decode cX6_disconnect 108 = .ok (.iload 5, 2) := dk_21 5 (dk_at dksX6_disconnect_4 13 rfl rfl)
theorem dX6_disconnect_110 : decode cX6_disconnect 110 = .ok (.iconst 1, 1) := dk_4 (dk_at dksX6_disconnect_4 15 rfl rfl)
theorem dX6_disconnect_111 : decode cX6_disconnect 111 = .ok (.iadd, 1) := dk_96 (dk_at dksX6_disconnect_4 16 rfl rfl)
theorem dX6_disconnect_112 : decode cX6_disconnect 112 = .ok (.iaload, 1) := dk_46 (dk_at dksX6_disconnect_4 17 rfl rfl)
theorem dX6_disconnect_113 : decode cX6_disconnect 113 = .ok (.iastore, 1) := dk_79 (dk_at dksX6_disconnect_4 18 rfl rfl)
theorem dX6_disconnect_114 : decode cX6_disconnect 114 = .ok (.aload_n 0, 1) := dk_42 (dk_at dksX6_disconnect_4 19 rfl rfl)
theorem dX6_disconnect_115 : decode cX6_disconnect 115 = .ok (.getfield 31, 3) := dk_180 0 31 (dk_at dksX6_disconnect_4 20 rfl rfl)
theorem dX6_disconnect_118 : decode cX6_disconnect 118 = .ok (.iload 5, 2) := dk_21 5 (dk_at dksX6_disconnect_5 0 rfl rfl)
theorem dX6_disconnect_120 : decode cX6_disconnect 120 = .ok (.aload_n 0, 1) := dk_42 (dk_at dksX6_disconnect_5 2 rfl rfl)
theorem dX6_disconnect_121 : decode cX6_disconnect 121 = .ok (.getfield 31, 3) := dk_180 0 31 (dk_at dksX6_disconnect_5 3 rfl rfl)
theorem dX6_disconnect_124 : decode cX6_disconnect 124 = .ok (.iload 5, 2) := dk_21 5 (dk_at dksX6_disconnect_5 6 rfl rfl)
theorem dX6_disconnect_126 : decode cX6_disconnect 126 = .ok (.iconst 1, 1) := dk_4 (dk_at dksX6_disconnect_5 8 rfl rfl)
theorem dX6_disconnect_127 : decode cX6_disconnect 127 = .ok (.iadd, 1) := dk_96 (dk_at dksX6_disconnect_5 9 rfl rfl)
theorem dX6_disconnect_128 : decode cX6_disconnect 128 = .ok (.iaload, 1) := dk_46 (dk_at dksX6_disconnect_5 10 rfl rfl)
theorem dX6_disconnect_129 : decode cX6_disconnect 129 = .ok (.iastore, 1) := dk_79 (dk_at dksX6_disconnect_5 11 rfl rfl)
theorem dX6_disconnect_130 : decode cX6_disconnect 130 = .ok (.iinc 5 1, 3) := dk_132 5 1 (dk_at dksX6_disconnect_5 12 rfl rfl)
theorem dX6_disconnect_133 : decode cX6_disconnect 133 = .ok (.goto (-50), 3) := dk_167 255 206 (dk_at dksX6_disconnect_5 15 rfl rfl)
theorem dX6_disconnect_136 : decode cX6_disconnect 136 = .ok (.aload_n 0, 1) := dk_42 (dk_at dksX6_disconnect_5 18 rfl rfl)
theorem dX6_disconnect_137 : decode cX6_disconnect 137 = .ok (.invokevirtual 91, 3) := dk_182 0 91 (dk_at dksX6_disconnect_5 19 rfl rfl)
theorem dX6_disconnect_140 : decode cX6_disconnect 140 = .ok (.iload 4, 2) := dk_21 4 (dk_at dksX6_disconnect_5 22 rfl rfl)
theorem dX6_disconnect_142 : decode cX6_disconnect 142 = .ok (.ireturn, 1) := dk_172 (dk_at dksX6_disconnect_6 0 rfl rfl)
abbrev cX6_setGain : ByteArray := prog_14_method_21_code
def yX6_setGain : MethodName := ⟨RX6, "setGain", "(II)I"⟩
def dkwX6_setGain_3 : List UInt8 := [172]
abbrev dktX6_setGain_3 : List UInt8 := dkwX6_setGain_3 ++ []
def dkwX6_setGain_2 : List UInt8 := [42, 180, 0, 47, 158, 0, 5, 3, 172, 42, 180, 0, 19, 27, 46, 62, 42, 180, 0, 19, 27, 28, 79, 29]
abbrev dktX6_setGain_2 : List UInt8 := dkwX6_setGain_2 ++ dktX6_setGain_3
def dkwX6_setGain_1 : List UInt8 := [167, 0, 21, 28, 17, 255, 56, 17, 0, 200, 184, 0, 94, 154, 0, 7, 6, 167, 0, 4, 3, 181, 0, 47]
abbrev dktX6_setGain_1 : List UInt8 := dkwX6_setGain_1 ++ dktX6_setGain_2
def dkwX6_setGain_0 : List UInt8 := [42, 42, 27, 182, 0, 110, 154, 0, 7, 4, 167, 0, 35, 42, 180, 0, 16, 27, 46, 4, 159, 0, 7, 5]
abbrev dktX6_setGain_0 : List UInt8 := dkwX6_setGain_0 ++ dktX6_setGain_1
theorem dksX6_setGain_0 : cX6_setGain.data.toList.drop 0 = dktX6_setGain_0 := by decide +kernel
theorem dksX6_setGain_1 : cX6_setGain.data.toList.drop 24 = dktX6_setGain_1 := dk_seg dksX6_setGain_0 24 rfl rfl
theorem dksX6_setGain_2 : cX6_setGain.data.toList.drop 48 = dktX6_setGain_2 := dk_seg dksX6_setGain_1 24 rfl rfl
theorem dksX6_setGain_3 : cX6_setGain.data.toList.drop 72 = dktX6_setGain_3 := dk_seg dksX6_setGain_2 24 rfl rfl
theorem dX6_setGain_0 : decode cX6_setGain 0 = .ok (.aload_n 0, 1) := dk_42 (dk_at dksX6_setGain_0 0 rfl rfl)
theorem dX6_setGain_1 : decode cX6_setGain 1 = .ok (.aload_n 0, 1) := dk_42 (dk_at dksX6_setGain_0 1 rfl rfl)
theorem dX6_setGain_2 : decode cX6_setGain 2 = .ok (.iload_n 1, 1) := dk_27 (dk_at dksX6_setGain_0 2 rfl rfl)
theorem dX6_setGain_3 : decode cX6_setGain 3 = .ok (.invokevirtual 110, 3) := dk_182 0 110 (dk_at dksX6_setGain_0 3 rfl rfl)
theorem dX6_setGain_6 : decode cX6_setGain 6 = .ok (.ifCond .ne 7, 3) := dk_154 0 7 (dk_at dksX6_setGain_0 6 rfl rfl)
theorem dX6_setGain_9 : decode cX6_setGain 9 = .ok (.iconst 1, 1) := dk_4 (dk_at dksX6_setGain_0 9 rfl rfl)
theorem dX6_setGain_10 : decode cX6_setGain 10 = .ok (.goto 35, 3) := dk_167 0 35 (dk_at dksX6_setGain_0 10 rfl rfl)
theorem dX6_setGain_13 : decode cX6_setGain 13 = .ok (.aload_n 0, 1) := dk_42 (dk_at dksX6_setGain_0 13 rfl rfl)
theorem dX6_setGain_14 : decode cX6_setGain 14 = .ok (.getfield 16, 3) := dk_180 0 16 (dk_at dksX6_setGain_0 14 rfl rfl)
theorem dX6_setGain_17 : decode cX6_setGain 17 = .ok (.iload_n 1, 1) := dk_27 (dk_at dksX6_setGain_0 17 rfl rfl)
theorem dX6_setGain_18 : decode cX6_setGain 18 = .ok (.iaload, 1) := dk_46 (dk_at dksX6_setGain_0 18 rfl rfl)
theorem dX6_setGain_19 : decode cX6_setGain 19 = .ok (.iconst 1, 1) := dk_4 (dk_at dksX6_setGain_0 19 rfl rfl)
theorem dX6_setGain_20 : decode cX6_setGain 20 = .ok (.if_icmp .eq 7, 3) := dk_159 0 7 (dk_at dksX6_setGain_0 20 rfl rfl)
theorem dX6_setGain_23 : decode cX6_setGain 23 = .ok (.iconst 2, 1) := dk_5 (dk_at dksX6_setGain_0 23 rfl rfl)
theorem dX6_setGain_24 : decode cX6_setGain 24 = .ok (.goto 21, 3) := dk_167 0 21 (dk_at dksX6_setGain_1 0 rfl rfl)
theorem dX6_setGain_27 : decode cX6_setGain 27 = .ok (.iload_n 2, 1) := dk_28 (dk_at dksX6_setGain_1 3 rfl rfl)
theorem dX6_setGain_28 : decode cX6_setGain 28 = .ok (.sipush (-200), 3) := dk_17 255 56 (dk_at dksX6_setGain_1 4 rfl rfl)
theorem dX6_setGain_31 : decode cX6_setGain 31 = .ok (.sipush 200, 3) := dk_17 0 200 (dk_at dksX6_setGain_1 7 rfl rfl)
theorem dX6_setGain_34 : decode cX6_setGain 34 = .ok (.invokestatic 94, 3) := dk_184 0 94 (dk_at dksX6_setGain_1 10 rfl rfl)
theorem dX6_setGain_37 : decode cX6_setGain 37 = .ok (.ifCond .ne 7, 3) := dk_154 0 7 (dk_at dksX6_setGain_1 13 rfl rfl)
theorem dX6_setGain_40 : decode cX6_setGain 40 = .ok (.iconst 3, 1) := dk_6 (dk_at dksX6_setGain_1 16 rfl rfl)
theorem dX6_setGain_41 : decode cX6_setGain 41 = .ok (.goto 4, 3) := dk_167 0 4 (dk_at dksX6_setGain_1 17 rfl rfl)
theorem dX6_setGain_44 : decode cX6_setGain 44 = .ok (.iconst 0, 1) := dk_3 (dk_at dksX6_setGain_1 20 rfl rfl)
theorem dX6_setGain_45 : decode cX6_setGain 45 = .ok (.putfield 47, 3) := dk_181 0 47 (dk_at dksX6_setGain_1 21 rfl rfl)
theorem dX6_setGain_48 : decode cX6_setGain 48 = .ok (.aload_n 0, 1) := dk_42 (dk_at dksX6_setGain_2 0 rfl rfl)
theorem dX6_setGain_49 : decode cX6_setGain 49 = .ok (.getfield 47, 3) := dk_180 0 47 (dk_at dksX6_setGain_2 1 rfl rfl)
theorem dX6_setGain_52 : decode cX6_setGain 52 = .ok (.ifCond .le 5, 3) := dk_158 0 5 (dk_at dksX6_setGain_2 4 rfl rfl)
theorem dX6_setGain_55 : decode cX6_setGain 55 = .ok (.iconst 0, 1) := dk_3 (dk_at dksX6_setGain_2 7 rfl rfl)
theorem dX6_setGain_56 : decode cX6_setGain 56 = .ok (.ireturn, 1) := dk_172 (dk_at dksX6_setGain_2 8 rfl rfl)
theorem dX6_setGain_57 : decode cX6_setGain 57 = .ok (.aload_n 0, 1) := dk_42 (dk_at dksX6_setGain_2 9 rfl rfl)
theorem dX6_setGain_58 : decode cX6_setGain 58 = .ok (.getfield 19, 3) := dk_180 0 19 (dk_at dksX6_setGain_2 10 rfl rfl)
theorem dX6_setGain_61 : decode cX6_setGain 61 = .ok (.iload_n 1, 1) := dk_27 (dk_at dksX6_setGain_2 13 rfl rfl)
theorem dX6_setGain_62 : decode cX6_setGain 62 = .ok (.iaload, 1) := dk_46 (dk_at dksX6_setGain_2 14 rfl rfl)
theorem dX6_setGain_63 : decode cX6_setGain 63 = .ok (.istore_n 3, 1) := dk_62 (dk_at dksX6_setGain_2 15 rfl rfl)
theorem dX6_setGain_64 : decode cX6_setGain 64 = .ok (.aload_n 0, 1) := dk_42 (dk_at dksX6_setGain_2 16 rfl rfl)
theorem dX6_setGain_65 : decode cX6_setGain 65 = .ok (.getfield 19, 3) := dk_180 0 19 (dk_at dksX6_setGain_2 17 rfl rfl)
theorem dX6_setGain_68 : decode cX6_setGain 68 = .ok (.iload_n 1, 1) := dk_27 (dk_at dksX6_setGain_2 20 rfl rfl)
theorem dX6_setGain_69 : decode cX6_setGain 69 = .ok (.iload_n 2, 1) := dk_28 (dk_at dksX6_setGain_2 21 rfl rfl)
theorem dX6_setGain_70 : decode cX6_setGain 70 = .ok (.iastore, 1) := dk_79 (dk_at dksX6_setGain_2 22 rfl rfl)
theorem dX6_setGain_71 : decode cX6_setGain 71 = .ok (.iload_n 3, 1) := dk_29 (dk_at dksX6_setGain_2 23 rfl rfl)
theorem dX6_setGain_72 : decode cX6_setGain 72 = .ok (.ireturn, 1) := dk_172 (dk_at dksX6_setGain_3 0 rfl rfl)
abbrev cX6_setOutput : ByteArray := prog_14_method_22_code
def yX6_setOutput : MethodName := ⟨RX6, "setOutput", "(I)I"⟩
def dkwX6_setOutput_1 : List UInt8 := [28, 172]
abbrev dktX6_setOutput_1 : List UInt8 := dkwX6_setOutput_1 ++ []
def dkwX6_setOutput_0 : List UInt8 := [42, 42, 27, 182, 0, 110, 182, 0, 121, 158, 0, 5, 3, 172, 42, 180, 0, 54, 61, 42, 27, 181, 0, 54]
abbrev dktX6_setOutput_0 : List UInt8 := dkwX6_setOutput_0 ++ dktX6_setOutput_1
theorem dksX6_setOutput_0 : cX6_setOutput.data.toList.drop 0 = dktX6_setOutput_0 := by decide +kernel
theorem dksX6_setOutput_1 : cX6_setOutput.data.toList.drop 24 = dktX6_setOutput_1 := dk_seg dksX6_setOutput_0 24 rfl rfl
theorem dX6_setOutput_0 : decode cX6_setOutput 0 = .ok (.aload_n 0, 1) := dk_42 (dk_at dksX6_setOutput_0 0 rfl rfl)
theorem dX6_setOutput_1 : decode cX6_setOutput 1 = .ok (.aload_n 0, 1) := dk_42 (dk_at dksX6_setOutput_0 1 rfl rfl)
theorem dX6_setOutput_2 : decode cX6_setOutput 2 = .ok (.iload_n 1, 1) := dk_27 (dk_at dksX6_setOutput_0 2 rfl rfl)
theorem dX6_setOutput_3 : decode cX6_setOutput 3 = .ok (.invokevirtual 110, 3) := dk_182 0 110 (dk_at dksX6_setOutput_0 3 rfl rfl)
theorem dX6_setOutput_6 : decode cX6_setOutput 6 = .ok (.invokevirtual 121, 3) := dk_182 0 121 (dk_at dksX6_setOutput_0 6 rfl rfl)
theorem dX6_setOutput_9 : decode cX6_setOutput 9 = .ok (.ifCond .le 5, 3) := dk_158 0 5 (dk_at dksX6_setOutput_0 9 rfl rfl)
theorem dX6_setOutput_12 : decode cX6_setOutput 12 = .ok (.iconst 0, 1) := dk_3 (dk_at dksX6_setOutput_0 12 rfl rfl)
theorem dX6_setOutput_13 : decode cX6_setOutput 13 = .ok (.ireturn, 1) := dk_172 (dk_at dksX6_setOutput_0 13 rfl rfl)
theorem dX6_setOutput_14 : decode cX6_setOutput 14 = .ok (.aload_n 0, 1) := dk_42 (dk_at dksX6_setOutput_0 14 rfl rfl)
theorem dX6_setOutput_15 : decode cX6_setOutput 15 = .ok (.getfield 54, 3) := dk_180 0 54 (dk_at dksX6_setOutput_0 15 rfl rfl)
theorem dX6_setOutput_18 : decode cX6_setOutput 18 = .ok (.istore_n 2, 1) := dk_61 (dk_at dksX6_setOutput_0 18 rfl rfl)
theorem dX6_setOutput_19 : decode cX6_setOutput 19 = .ok (.aload_n 0, 1) := dk_42 (dk_at dksX6_setOutput_0 19 rfl rfl)
theorem dX6_setOutput_20 : decode cX6_setOutput 20 = .ok (.iload_n 1, 1) := dk_27 (dk_at dksX6_setOutput_0 20 rfl rfl)
theorem dX6_setOutput_21 : decode cX6_setOutput 21 = .ok (.putfield 54, 3) := dk_181 0 54 (dk_at dksX6_setOutput_0 21 rfl rfl)
theorem dX6_setOutput_24 : decode cX6_setOutput 24 = .ok (.iload_n 2, 1) := dk_28 (dk_at dksX6_setOutput_1 0 rfl rfl)
theorem dX6_setOutput_25 : decode cX6_setOutput 25 = .ok (.ireturn, 1) := dk_172 (dk_at dksX6_setOutput_1 1 rfl rfl)
abbrev cX6_checked : ByteArray := prog_14_method_5_code
def yX6_checked : MethodName := ⟨RX6, "checked", "(Z)I"⟩
def dkwX6_checked_0 : List UInt8 := [42, 27, 153, 0, 7, 3, 167, 0, 4, 4, 181, 0, 47, 42, 180, 0, 47, 172]
abbrev dktX6_checked_0 : List UInt8 := dkwX6_checked_0 ++ []
theorem dksX6_checked_0 : cX6_checked.data.toList.drop 0 = dktX6_checked_0 := by decide +kernel
theorem dX6_checked_0 : decode cX6_checked 0 = .ok (.aload_n 0, 1) := dk_42 (dk_at dksX6_checked_0 0 rfl rfl)
theorem dX6_checked_1 : decode cX6_checked 1 = .ok (.iload_n 1, 1) := dk_27 (dk_at dksX6_checked_0 1 rfl rfl)
theorem dX6_checked_2 : decode cX6_checked 2 = .ok (.ifCond .eq 7, 3) := dk_153 0 7 (dk_at dksX6_checked_0 2 rfl rfl)
theorem dX6_checked_5 : decode cX6_checked 5 = .ok (.iconst 0, 1) := dk_3 (dk_at dksX6_checked_0 5 rfl rfl)
theorem dX6_checked_6 : decode cX6_checked 6 = .ok (.goto 4, 3) := dk_167 0 4 (dk_at dksX6_checked_0 6 rfl rfl)
theorem dX6_checked_9 : decode cX6_checked 9 = .ok (.iconst 1, 1) := dk_4 (dk_at dksX6_checked_0 9 rfl rfl)
theorem dX6_checked_10 : decode cX6_checked 10 = .ok (.putfield 47, 3) := dk_181 0 47 (dk_at dksX6_checked_0 10 rfl rfl)
theorem dX6_checked_13 : decode cX6_checked 13 = .ok (.aload_n 0, 1) := dk_42 (dk_at dksX6_checked_0 13 rfl rfl)
theorem dX6_checked_14 : decode cX6_checked 14 = .ok (.getfield 47, 3) := dk_180 0 47 (dk_at dksX6_checked_0 14 rfl rfl)
theorem dX6_checked_17 : decode cX6_checked 17 = .ok (.ireturn, 1) := dk_172 (dk_at dksX6_checked_0 17 rfl rfl)
abbrev cX6_nodes : ByteArray := prog_14_method_23_code
def yX6_nodes : MethodName := ⟨RX6, "nodes", "()I"⟩
def dkwX6_nodes_0 : List UInt8 := [42, 42, 180, 0, 51, 182, 0, 125, 172]
abbrev dktX6_nodes_0 : List UInt8 := dkwX6_nodes_0 ++ []
theorem dksX6_nodes_0 : cX6_nodes.data.toList.drop 0 = dktX6_nodes_0 := by decide +kernel
theorem dX6_nodes_0 : decode cX6_nodes 0 = .ok (.aload_n 0, 1) := dk_42 (dk_at dksX6_nodes_0 0 rfl rfl)
theorem dX6_nodes_1 : decode cX6_nodes 1 = .ok (.aload_n 0, 1) := dk_42 (dk_at dksX6_nodes_0 1 rfl rfl)
theorem dX6_nodes_2 : decode cX6_nodes 2 = .ok (.getfield 51, 3) := dk_180 0 51 (dk_at dksX6_nodes_0 2 rfl rfl)
theorem dX6_nodes_5 : decode cX6_nodes 5 = .ok (.invokevirtual 125, 3) := dk_182 0 125 (dk_at dksX6_nodes_0 5 rfl rfl)
theorem dX6_nodes_8 : decode cX6_nodes 8 = .ok (.ireturn, 1) := dk_172 (dk_at dksX6_nodes_0 8 rfl rfl)
abbrev cX6_plain : ByteArray := prog_14_method_4_code
def yX6_plain : MethodName := ⟨RX6, "plain", "(I)I"⟩
def dkwX6_plain_0 : List UInt8 := [42, 3, 181, 0, 47, 27, 172]
abbrev dktX6_plain_0 : List UInt8 := dkwX6_plain_0 ++ []
theorem dksX6_plain_0 : cX6_plain.data.toList.drop 0 = dktX6_plain_0 := by decide +kernel
theorem dX6_plain_0 : decode cX6_plain 0 = .ok (.aload_n 0, 1) := dk_42 (dk_at dksX6_plain_0 0 rfl rfl)
theorem dX6_plain_1 : decode cX6_plain 1 = .ok (.iconst 0, 1) := dk_3 (dk_at dksX6_plain_0 1 rfl rfl)
theorem dX6_plain_2 : decode cX6_plain 2 = .ok (.putfield 47, 3) := dk_181 0 47 (dk_at dksX6_plain_0 2 rfl rfl)
theorem dX6_plain_5 : decode cX6_plain 5 = .ok (.iload_n 1, 1) := dk_27 (dk_at dksX6_plain_0 5 rfl rfl)
theorem dX6_plain_6 : decode cX6_plain 6 = .ok (.ireturn, 1) := dk_172 (dk_at dksX6_plain_0 6 rfl rfl)
abbrev cX6_kindOf : ByteArray := prog_14_method_24_code
def yX6_kindOf : MethodName := ⟨RX6, "kindOf", "(I)C"⟩
def dkwX6_kindOf_2 : List UInt8 := [16, 100, 167, 0, 15, 28, 6, 160, 0, 8, 16, 102, 167, 0, 5, 16, 98, 172]
abbrev dktX6_kindOf_2 : List UInt8 := dkwX6_kindOf_2 ++ []
def dkwX6_kindOf_1 : List UInt8 := [154, 0, 8, 16, 118, 167, 0, 35, 28, 4, 160, 0, 8, 16, 103, 167, 0, 25, 28, 5, 160, 0, 8]
abbrev dktX6_kindOf_1 : List UInt8 := dkwX6_kindOf_1 ++ dktX6_kindOf_2
def dkwX6_kindOf_0 : List UInt8 := [42, 42, 27, 182, 0, 110, 182, 0, 121, 158, 0, 6, 16, 97, 172, 42, 180, 0, 16, 27, 46, 61, 28]
abbrev dktX6_kindOf_0 : List UInt8 := dkwX6_kindOf_0 ++ dktX6_kindOf_1
theorem dksX6_kindOf_0 : cX6_kindOf.data.toList.drop 0 = dktX6_kindOf_0 := by decide +kernel
theorem dksX6_kindOf_1 : cX6_kindOf.data.toList.drop 23 = dktX6_kindOf_1 := dk_seg dksX6_kindOf_0 23 rfl rfl
theorem dksX6_kindOf_2 : cX6_kindOf.data.toList.drop 46 = dktX6_kindOf_2 := dk_seg dksX6_kindOf_1 23 rfl rfl
theorem dX6_kindOf_0 : decode cX6_kindOf 0 = .ok (.aload_n 0, 1) := dk_42 (dk_at dksX6_kindOf_0 0 rfl rfl)
theorem dX6_kindOf_1 : decode cX6_kindOf 1 = .ok (.aload_n 0, 1) := dk_42 (dk_at dksX6_kindOf_0 1 rfl rfl)
theorem dX6_kindOf_2 : decode cX6_kindOf 2 = .ok (.iload_n 1, 1) := dk_27 (dk_at dksX6_kindOf_0 2 rfl rfl)
theorem dX6_kindOf_3 : decode cX6_kindOf 3 = .ok (.invokevirtual 110, 3) := dk_182 0 110 (dk_at dksX6_kindOf_0 3 rfl rfl)
theorem dX6_kindOf_6 : decode cX6_kindOf 6 = .ok (.invokevirtual 121, 3) := dk_182 0 121 (dk_at dksX6_kindOf_0 6 rfl rfl)
theorem dX6_kindOf_9 : decode cX6_kindOf 9 = .ok (.ifCond .le 6, 3) := dk_158 0 6 (dk_at dksX6_kindOf_0 9 rfl rfl)
theorem dX6_kindOf_12 : decode cX6_kindOf 12 = .ok (.bipush 97, 2) := dk_16 97 (dk_at dksX6_kindOf_0 12 rfl rfl)
theorem dX6_kindOf_14 : decode cX6_kindOf 14 = .ok (.ireturn, 1) := dk_172 (dk_at dksX6_kindOf_0 14 rfl rfl)
theorem dX6_kindOf_15 : decode cX6_kindOf 15 = .ok (.aload_n 0, 1) := dk_42 (dk_at dksX6_kindOf_0 15 rfl rfl)
theorem dX6_kindOf_16 : decode cX6_kindOf 16 = .ok (.getfield 16, 3) := dk_180 0 16 (dk_at dksX6_kindOf_0 16 rfl rfl)
theorem dX6_kindOf_19 : decode cX6_kindOf 19 = .ok (.iload_n 1, 1) := dk_27 (dk_at dksX6_kindOf_0 19 rfl rfl)
theorem dX6_kindOf_20 : decode cX6_kindOf 20 = .ok (.iaload, 1) := dk_46 (dk_at dksX6_kindOf_0 20 rfl rfl)
theorem dX6_kindOf_21 : decode cX6_kindOf 21 = .ok (.istore_n 2, 1) := dk_61 (dk_at dksX6_kindOf_0 21 rfl rfl)
theorem dX6_kindOf_22 : decode cX6_kindOf 22 = .ok (.iload_n 2, 1) := dk_28 (dk_at dksX6_kindOf_0 22 rfl rfl)
theorem dX6_kindOf_23 : decode cX6_kindOf 23 = .ok (.ifCond .ne 8, 3) := dk_154 0 8 (dk_at dksX6_kindOf_1 0 rfl rfl)
theorem dX6_kindOf_26 : decode cX6_kindOf 26 = .ok (.bipush 118, 2) := dk_16 118 (dk_at dksX6_kindOf_1 3 rfl rfl)
theorem dX6_kindOf_28 : decode cX6_kindOf 28 = .ok (.goto 35, 3) := dk_167 0 35 (dk_at dksX6_kindOf_1 5 rfl rfl)
theorem dX6_kindOf_31 : decode cX6_kindOf 31 = .ok (.iload_n 2, 1) := dk_28 (dk_at dksX6_kindOf_1 8 rfl rfl)
theorem dX6_kindOf_32 : decode cX6_kindOf 32 = .ok (.iconst 1, 1) := dk_4 (dk_at dksX6_kindOf_1 9 rfl rfl)
theorem dX6_kindOf_33 : decode cX6_kindOf 33 = .ok (.if_icmp .ne 8, 3) := dk_160 0 8 (dk_at dksX6_kindOf_1 10 rfl rfl)
theorem dX6_kindOf_36 : decode cX6_kindOf 36 = .ok (.bipush 103, 2) := dk_16 103 (dk_at dksX6_kindOf_1 13 rfl rfl)
theorem dX6_kindOf_38 : decode cX6_kindOf 38 = .ok (.goto 25, 3) := dk_167 0 25 (dk_at dksX6_kindOf_1 15 rfl rfl)
theorem dX6_kindOf_41 : decode cX6_kindOf 41 = .ok (.iload_n 2, 1) := dk_28 (dk_at dksX6_kindOf_1 18 rfl rfl)
theorem dX6_kindOf_42 : decode cX6_kindOf 42 = .ok (.iconst 2, 1) := dk_5 (dk_at dksX6_kindOf_1 19 rfl rfl)
theorem dX6_kindOf_43 : decode cX6_kindOf 43 = .ok (.if_icmp .ne 8, 3) := dk_160 0 8 (dk_at dksX6_kindOf_1 20 rfl rfl)
theorem dX6_kindOf_46 : decode cX6_kindOf 46 = .ok (.bipush 100, 2) := dk_16 100 (dk_at dksX6_kindOf_2 0 rfl rfl)
theorem dX6_kindOf_48 : decode cX6_kindOf 48 = .ok (.goto 15, 3) := dk_167 0 15 (dk_at dksX6_kindOf_2 2 rfl rfl)
theorem dX6_kindOf_51 : decode cX6_kindOf 51 = .ok (.iload_n 2, 1) := dk_28 (dk_at dksX6_kindOf_2 5 rfl rfl)
theorem dX6_kindOf_52 : decode cX6_kindOf 52 = .ok (.iconst 3, 1) := dk_6 (dk_at dksX6_kindOf_2 6 rfl rfl)
theorem dX6_kindOf_53 : decode cX6_kindOf 53 = .ok (.if_icmp .ne 8, 3) := dk_160 0 8 (dk_at dksX6_kindOf_2 7 rfl rfl)
theorem dX6_kindOf_56 : decode cX6_kindOf 56 = .ok (.bipush 102, 2) := dk_16 102 (dk_at dksX6_kindOf_2 10 rfl rfl)
theorem dX6_kindOf_58 : decode cX6_kindOf 58 = .ok (.goto 5, 3) := dk_167 0 5 (dk_at dksX6_kindOf_2 12 rfl rfl)
theorem dX6_kindOf_61 : decode cX6_kindOf 61 = .ok (.bipush 98, 2) := dk_16 98 (dk_at dksX6_kindOf_2 15 rfl rfl)
theorem dX6_kindOf_63 : decode cX6_kindOf 63 = .ok (.ireturn, 1) := dk_172 (dk_at dksX6_kindOf_2 17 rfl rfl)
abbrev cX6_wires : ByteArray := prog_14_method_25_code
def yX6_wires : MethodName := ⟨RX6, "wires", "(I)I"⟩
def dkwX6_wires_0 : List UInt8 := [42, 42, 27, 182, 0, 110, 182, 0, 121, 158, 0, 7, 3, 167, 0, 9, 42, 180, 0, 34, 27, 46, 172]
abbrev dktX6_wires_0 : List UInt8 := dkwX6_wires_0 ++ []
theorem dksX6_wires_0 : cX6_wires.data.toList.drop 0 = dktX6_wires_0 := by decide +kernel
theorem dX6_wires_0 : decode cX6_wires 0 = .ok (.aload_n 0, 1) := dk_42 (dk_at dksX6_wires_0 0 rfl rfl)
theorem dX6_wires_1 : decode cX6_wires 1 = .ok (.aload_n 0, 1) := dk_42 (dk_at dksX6_wires_0 1 rfl rfl)
theorem dX6_wires_2 : decode cX6_wires 2 = .ok (.iload_n 1, 1) := dk_27 (dk_at dksX6_wires_0 2 rfl rfl)
theorem dX6_wires_3 : decode cX6_wires 3 = .ok (.invokevirtual 110, 3) := dk_182 0 110 (dk_at dksX6_wires_0 3 rfl rfl)
theorem dX6_wires_6 : decode cX6_wires 6 = .ok (.invokevirtual 121, 3) := dk_182 0 121 (dk_at dksX6_wires_0 6 rfl rfl)
theorem dX6_wires_9 : decode cX6_wires 9 = .ok (.ifCond .le 7, 3) := dk_158 0 7 (dk_at dksX6_wires_0 9 rfl rfl)
theorem dX6_wires_12 : decode cX6_wires 12 = .ok (.iconst 0, 1) := dk_3 (dk_at dksX6_wires_0 12 rfl rfl)
theorem dX6_wires_13 : decode cX6_wires 13 = .ok (.goto 9, 3) := dk_167 0 9 (dk_at dksX6_wires_0 13 rfl rfl)
theorem dX6_wires_16 : decode cX6_wires 16 = .ok (.aload_n 0, 1) := dk_42 (dk_at dksX6_wires_0 16 rfl rfl)
theorem dX6_wires_17 : decode cX6_wires 17 = .ok (.getfield 34, 3) := dk_180 0 34 (dk_at dksX6_wires_0 17 rfl rfl)
theorem dX6_wires_20 : decode cX6_wires 20 = .ok (.iload_n 1, 1) := dk_27 (dk_at dksX6_wires_0 20 rfl rfl)
theorem dX6_wires_21 : decode cX6_wires 21 = .ok (.iaload, 1) := dk_46 (dk_at dksX6_wires_0 21 rfl rfl)
theorem dX6_wires_22 : decode cX6_wires 22 = .ok (.ireturn, 1) := dk_172 (dk_at dksX6_wires_0 22 rfl rfl)
abbrev cX6_wireFrom : ByteArray := prog_14_method_27_code
def yX6_wireFrom : MethodName := ⟨RX6, "wireFrom", "(II)I"⟩
def dkwX6_wireFrom_0 : List UInt8 := [42, 27, 28, 182, 0, 129, 153, 0, 7, 3, 167, 0, 13, 42, 180, 0, 28, 7, 27, 104, 28, 96, 46, 172]
abbrev dktX6_wireFrom_0 : List UInt8 := dkwX6_wireFrom_0 ++ []
theorem dksX6_wireFrom_0 : cX6_wireFrom.data.toList.drop 0 = dktX6_wireFrom_0 := by decide +kernel
theorem dX6_wireFrom_0 : decode cX6_wireFrom 0 = .ok (.aload_n 0, 1) := dk_42 (dk_at dksX6_wireFrom_0 0 rfl rfl)
theorem dX6_wireFrom_1 : decode cX6_wireFrom 1 = .ok (.iload_n 1, 1) := dk_27 (dk_at dksX6_wireFrom_0 1 rfl rfl)
theorem dX6_wireFrom_2 : decode cX6_wireFrom 2 = .ok (.iload_n 2, 1) := dk_28 (dk_at dksX6_wireFrom_0 2 rfl rfl)
theorem dX6_wireFrom_3 : decode cX6_wireFrom 3 = .ok (.invokevirtual 129, 3) := dk_182 0 129 (dk_at dksX6_wireFrom_0 3 rfl rfl)
theorem dX6_wireFrom_6 : decode cX6_wireFrom 6 = .ok (.ifCond .eq 7, 3) := dk_153 0 7 (dk_at dksX6_wireFrom_0 6 rfl rfl)
theorem dX6_wireFrom_9 : decode cX6_wireFrom 9 = .ok (.iconst 0, 1) := dk_3 (dk_at dksX6_wireFrom_0 9 rfl rfl)
theorem dX6_wireFrom_10 : decode cX6_wireFrom 10 = .ok (.goto 13, 3) := dk_167 0 13 (dk_at dksX6_wireFrom_0 10 rfl rfl)
theorem dX6_wireFrom_13 : decode cX6_wireFrom 13 = .ok (.aload_n 0, 1) := dk_42 (dk_at dksX6_wireFrom_0 13 rfl rfl)
theorem dX6_wireFrom_14 : decode cX6_wireFrom 14 = .ok (.getfield 28, 3) := dk_180 0 28 (dk_at dksX6_wireFrom_0 14 rfl rfl)
theorem dX6_wireFrom_17 : decode cX6_wireFrom 17 = .ok (.iconst 4, 1) := dk_7 (dk_at dksX6_wireFrom_0 17 rfl rfl)
theorem dX6_wireFrom_18 : decode cX6_wireFrom 18 = .ok (.iload_n 1, 1) := dk_27 (dk_at dksX6_wireFrom_0 18 rfl rfl)
theorem dX6_wireFrom_19 : decode cX6_wireFrom 19 = .ok (.imul, 1) := dk_104 (dk_at dksX6_wireFrom_0 19 rfl rfl)
theorem dX6_wireFrom_20 : decode cX6_wireFrom 20 = .ok (.iload_n 2, 1) := dk_28 (dk_at dksX6_wireFrom_0 20 rfl rfl)
theorem dX6_wireFrom_21 : decode cX6_wireFrom 21 = .ok (.iadd, 1) := dk_96 (dk_at dksX6_wireFrom_0 21 rfl rfl)
theorem dX6_wireFrom_22 : decode cX6_wireFrom 22 = .ok (.iaload, 1) := dk_46 (dk_at dksX6_wireFrom_0 22 rfl rfl)
theorem dX6_wireFrom_23 : decode cX6_wireFrom 23 = .ok (.ireturn, 1) := dk_172 (dk_at dksX6_wireFrom_0 23 rfl rfl)
abbrev cX6_hasNoWire : ByteArray := prog_14_method_26_code
def yX6_hasNoWire : MethodName := ⟨RX6, "hasNoWire", "(II)Z"⟩
def dkwX6_hasNoWire_2 : List UInt8 := [167, 0, 4, 3, 172]
abbrev dktX6_hasNoWire_2 : List UInt8 := dkwX6_hasNoWire_2 ++ []
def dkwX6_hasNoWire_1 : List UInt8 := [184, 0, 94, 154, 0, 7, 5, 167, 0, 4, 3, 181, 0, 47, 42, 180, 0, 47, 158, 0, 7, 4]
abbrev dktX6_hasNoWire_1 : List UInt8 := dkwX6_hasNoWire_1 ++ dktX6_hasNoWire_2
def dkwX6_hasNoWire_0 : List UInt8 := [42, 42, 27, 182, 0, 110, 154, 0, 7, 4, 167, 0, 24, 28, 3, 42, 180, 0, 34, 27, 46, 4, 100]
abbrev dktX6_hasNoWire_0 : List UInt8 := dkwX6_hasNoWire_0 ++ dktX6_hasNoWire_1
theorem dksX6_hasNoWire_0 : cX6_hasNoWire.data.toList.drop 0 = dktX6_hasNoWire_0 := by decide +kernel
theorem dksX6_hasNoWire_1 : cX6_hasNoWire.data.toList.drop 23 = dktX6_hasNoWire_1 := dk_seg dksX6_hasNoWire_0 23 rfl rfl
theorem dksX6_hasNoWire_2 : cX6_hasNoWire.data.toList.drop 45 = dktX6_hasNoWire_2 := dk_seg dksX6_hasNoWire_1 22 rfl rfl
theorem dX6_hasNoWire_0 : decode cX6_hasNoWire 0 = .ok (.aload_n 0, 1) := dk_42 (dk_at dksX6_hasNoWire_0 0 rfl rfl)
theorem dX6_hasNoWire_1 : decode cX6_hasNoWire 1 = .ok (.aload_n 0, 1) := dk_42 (dk_at dksX6_hasNoWire_0 1 rfl rfl)
theorem dX6_hasNoWire_2 : decode cX6_hasNoWire 2 = .ok (.iload_n 1, 1) := dk_27 (dk_at dksX6_hasNoWire_0 2 rfl rfl)
theorem dX6_hasNoWire_3 : decode cX6_hasNoWire 3 = .ok (.invokevirtual 110, 3) := dk_182 0 110 (dk_at dksX6_hasNoWire_0 3 rfl rfl)
theorem dX6_hasNoWire_6 : decode cX6_hasNoWire 6 = .ok (.ifCond .ne 7, 3) := dk_154 0 7 (dk_at dksX6_hasNoWire_0 6 rfl rfl)
theorem dX6_hasNoWire_9 : decode cX6_hasNoWire 9 = .ok (.iconst 1, 1) := dk_4 (dk_at dksX6_hasNoWire_0 9 rfl rfl)
theorem dX6_hasNoWire_10 : decode cX6_hasNoWire 10 = .ok (.goto 24, 3) := dk_167 0 24 (dk_at dksX6_hasNoWire_0 10 rfl rfl)
theorem dX6_hasNoWire_13 : decode cX6_hasNoWire 13 = .ok (.iload_n 2, 1) := dk_28 (dk_at dksX6_hasNoWire_0 13 rfl rfl)
theorem dX6_hasNoWire_14 : decode cX6_hasNoWire 14 = .ok (.iconst 0, 1) := dk_3 (dk_at dksX6_hasNoWire_0 14 rfl rfl)
theorem dX6_hasNoWire_15 : decode cX6_hasNoWire 15 = .ok (.aload_n 0, 1) := dk_42 (dk_at dksX6_hasNoWire_0 15 rfl rfl)
theorem dX6_hasNoWire_16 : decode cX6_hasNoWire 16 = .ok (.getfield 34, 3) := dk_180 0 34 (dk_at dksX6_hasNoWire_0 16 rfl rfl)
theorem dX6_hasNoWire_19 : decode cX6_hasNoWire 19 = .ok (.iload_n 1, 1) := dk_27 (dk_at dksX6_hasNoWire_0 19 rfl rfl)
theorem dX6_hasNoWire_20 : decode cX6_hasNoWire 20 = .ok (.iaload, 1) := dk_46 (dk_at dksX6_hasNoWire_0 20 rfl rfl)
theorem dX6_hasNoWire_21 : decode cX6_hasNoWire 21 = .ok (.iconst 1, 1) := dk_4 (dk_at dksX6_hasNoWire_0 21 rfl rfl)
theorem dX6_hasNoWire_22 : decode cX6_hasNoWire 22 = .ok (.isub, 1) := dk_100 (dk_at dksX6_hasNoWire_0 22 rfl rfl)
theorem dX6_hasNoWire_23 : decode cX6_hasNoWire 23 = .ok (.invokestatic 94, 3) := dk_184 0 94 (dk_at dksX6_hasNoWire_1 0 rfl rfl)
theorem dX6_hasNoWire_26 : decode cX6_hasNoWire 26 = .ok (.ifCond .ne 7, 3) := dk_154 0 7 (dk_at dksX6_hasNoWire_1 3 rfl rfl)
theorem dX6_hasNoWire_29 : decode cX6_hasNoWire 29 = .ok (.iconst 2, 1) := dk_5 (dk_at dksX6_hasNoWire_1 6 rfl rfl)
theorem dX6_hasNoWire_30 : decode cX6_hasNoWire 30 = .ok (.goto 4, 3) := dk_167 0 4 (dk_at dksX6_hasNoWire_1 7 rfl rfl)
theorem dX6_hasNoWire_33 : decode cX6_hasNoWire 33 = .ok (.iconst 0, 1) := dk_3 (dk_at dksX6_hasNoWire_1 10 rfl rfl)
theorem dX6_hasNoWire_34 : decode cX6_hasNoWire 34 = .ok (.putfield 47, 3) := dk_181 0 47 (dk_at dksX6_hasNoWire_1 11 rfl rfl)
theorem dX6_hasNoWire_37 : decode cX6_hasNoWire 37 = .ok (.aload_n 0, 1) := dk_42 (dk_at dksX6_hasNoWire_1 14 rfl rfl)
theorem dX6_hasNoWire_38 : decode cX6_hasNoWire 38 = .ok (.getfield 47, 3) := dk_180 0 47 (dk_at dksX6_hasNoWire_1 15 rfl rfl)
theorem dX6_hasNoWire_41 : decode cX6_hasNoWire 41 = .ok (.ifCond .le 7, 3) := dk_158 0 7 (dk_at dksX6_hasNoWire_1 18 rfl rfl)
theorem dX6_hasNoWire_44 : decode cX6_hasNoWire 44 = .ok (.iconst 1, 1) := dk_4 (dk_at dksX6_hasNoWire_1 21 rfl rfl)
theorem dX6_hasNoWire_45 : decode cX6_hasNoWire 45 = .ok (.goto 4, 3) := dk_167 0 4 (dk_at dksX6_hasNoWire_2 0 rfl rfl)
theorem dX6_hasNoWire_48 : decode cX6_hasNoWire 48 = .ok (.iconst 0, 1) := dk_3 (dk_at dksX6_hasNoWire_2 3 rfl rfl)
theorem dX6_hasNoWire_49 : decode cX6_hasNoWire 49 = .ok (.ireturn, 1) := dk_172 (dk_at dksX6_hasNoWire_2 4 rfl rfl)
abbrev cX6_wirePercent : ByteArray := prog_14_method_28_code
def yX6_wirePercent : MethodName := ⟨RX6, "wirePercent", "(II)I"⟩
def dkwX6_wirePercent_0 : List UInt8 := [42, 27, 28, 182, 0, 129, 153, 0, 7, 3, 167, 0, 13, 42, 180, 0, 31, 7, 27, 104, 28, 96, 46, 172]
abbrev dktX6_wirePercent_0 : List UInt8 := dkwX6_wirePercent_0 ++ []
theorem dksX6_wirePercent_0 : cX6_wirePercent.data.toList.drop 0 = dktX6_wirePercent_0 := by decide +kernel
theorem dX6_wirePercent_0 : decode cX6_wirePercent 0 = .ok (.aload_n 0, 1) := dk_42 (dk_at dksX6_wirePercent_0 0 rfl rfl)
theorem dX6_wirePercent_1 : decode cX6_wirePercent 1 = .ok (.iload_n 1, 1) := dk_27 (dk_at dksX6_wirePercent_0 1 rfl rfl)
theorem dX6_wirePercent_2 : decode cX6_wirePercent 2 = .ok (.iload_n 2, 1) := dk_28 (dk_at dksX6_wirePercent_0 2 rfl rfl)
theorem dX6_wirePercent_3 : decode cX6_wirePercent 3 = .ok (.invokevirtual 129, 3) := dk_182 0 129 (dk_at dksX6_wirePercent_0 3 rfl rfl)
theorem dX6_wirePercent_6 : decode cX6_wirePercent 6 = .ok (.ifCond .eq 7, 3) := dk_153 0 7 (dk_at dksX6_wirePercent_0 6 rfl rfl)
theorem dX6_wirePercent_9 : decode cX6_wirePercent 9 = .ok (.iconst 0, 1) := dk_3 (dk_at dksX6_wirePercent_0 9 rfl rfl)
theorem dX6_wirePercent_10 : decode cX6_wirePercent 10 = .ok (.goto 13, 3) := dk_167 0 13 (dk_at dksX6_wirePercent_0 10 rfl rfl)
theorem dX6_wirePercent_13 : decode cX6_wirePercent 13 = .ok (.aload_n 0, 1) := dk_42 (dk_at dksX6_wirePercent_0 13 rfl rfl)
theorem dX6_wirePercent_14 : decode cX6_wirePercent 14 = .ok (.getfield 31, 3) := dk_180 0 31 (dk_at dksX6_wirePercent_0 14 rfl rfl)
theorem dX6_wirePercent_17 : decode cX6_wirePercent 17 = .ok (.iconst 4, 1) := dk_7 (dk_at dksX6_wirePercent_0 17 rfl rfl)
theorem dX6_wirePercent_18 : decode cX6_wirePercent 18 = .ok (.iload_n 1, 1) := dk_27 (dk_at dksX6_wirePercent_0 18 rfl rfl)
theorem dX6_wirePercent_19 : decode cX6_wirePercent 19 = .ok (.imul, 1) := dk_104 (dk_at dksX6_wirePercent_0 19 rfl rfl)
theorem dX6_wirePercent_20 : decode cX6_wirePercent 20 = .ok (.iload_n 2, 1) := dk_28 (dk_at dksX6_wirePercent_0 20 rfl rfl)
theorem dX6_wirePercent_21 : decode cX6_wirePercent 21 = .ok (.iadd, 1) := dk_96 (dk_at dksX6_wirePercent_0 21 rfl rfl)
theorem dX6_wirePercent_22 : decode cX6_wirePercent 22 = .ok (.iaload, 1) := dk_46 (dk_at dksX6_wirePercent_0 22 rfl rfl)
theorem dX6_wirePercent_23 : decode cX6_wirePercent 23 = .ok (.ireturn, 1) := dk_172 (dk_at dksX6_wirePercent_0 23 rfl rfl)
abbrev cX6_nodeAt : ByteArray := prog_14_method_29_code
def yX6_nodeAt : MethodName := ⟨RX6, "nodeAt", "(I)I"⟩
def dkwX6_nodeAt_0 : List UInt8 := [42, 42, 27, 182, 0, 110, 182, 0, 121, 158, 0, 7, 3, 167, 0, 9, 42, 180, 0, 37, 27, 46, 172]
abbrev dktX6_nodeAt_0 : List UInt8 := dkwX6_nodeAt_0 ++ []
theorem dksX6_nodeAt_0 : cX6_nodeAt.data.toList.drop 0 = dktX6_nodeAt_0 := by decide +kernel
theorem dX6_nodeAt_0 : decode cX6_nodeAt 0 = .ok (.aload_n 0, 1) := dk_42 (dk_at dksX6_nodeAt_0 0 rfl rfl)
theorem dX6_nodeAt_1 : decode cX6_nodeAt 1 = .ok (.aload_n 0, 1) := dk_42 (dk_at dksX6_nodeAt_0 1 rfl rfl)
theorem dX6_nodeAt_2 : decode cX6_nodeAt 2 = .ok (.iload_n 1, 1) := dk_27 (dk_at dksX6_nodeAt_0 2 rfl rfl)
theorem dX6_nodeAt_3 : decode cX6_nodeAt 3 = .ok (.invokevirtual 110, 3) := dk_182 0 110 (dk_at dksX6_nodeAt_0 3 rfl rfl)
theorem dX6_nodeAt_6 : decode cX6_nodeAt 6 = .ok (.invokevirtual 121, 3) := dk_182 0 121 (dk_at dksX6_nodeAt_0 6 rfl rfl)
theorem dX6_nodeAt_9 : decode cX6_nodeAt 9 = .ok (.ifCond .le 7, 3) := dk_158 0 7 (dk_at dksX6_nodeAt_0 9 rfl rfl)
theorem dX6_nodeAt_12 : decode cX6_nodeAt 12 = .ok (.iconst 0, 1) := dk_3 (dk_at dksX6_nodeAt_0 12 rfl rfl)
theorem dX6_nodeAt_13 : decode cX6_nodeAt 13 = .ok (.goto 9, 3) := dk_167 0 9 (dk_at dksX6_nodeAt_0 13 rfl rfl)
theorem dX6_nodeAt_16 : decode cX6_nodeAt 16 = .ok (.aload_n 0, 1) := dk_42 (dk_at dksX6_nodeAt_0 16 rfl rfl)
theorem dX6_nodeAt_17 : decode cX6_nodeAt 17 = .ok (.getfield 37, 3) := dk_180 0 37 (dk_at dksX6_nodeAt_0 17 rfl rfl)
theorem dX6_nodeAt_20 : decode cX6_nodeAt 20 = .ok (.iload_n 1, 1) := dk_27 (dk_at dksX6_nodeAt_0 20 rfl rfl)
theorem dX6_nodeAt_21 : decode cX6_nodeAt 21 = .ok (.iaload, 1) := dk_46 (dk_at dksX6_nodeAt_0 21 rfl rfl)
theorem dX6_nodeAt_22 : decode cX6_nodeAt 22 = .ok (.ireturn, 1) := dk_172 (dk_at dksX6_nodeAt_0 22 rfl rfl)
abbrev cX6_longestBlock : ByteArray := prog_14_method_30_code
def yX6_longestBlock : MethodName := ⟨RX6, "longestBlock", "()I"⟩
def dkwX6_longestBlock_2 : List UInt8 := [167, 255, 214, 42, 27, 182, 0, 125, 172]
abbrev dktX6_longestBlock_2 : List UInt8 := dkwX6_longestBlock_2 ++ []
def dkwX6_longestBlock_1 : List UInt8 := [180, 0, 19, 28, 46, 27, 162, 0, 12, 42, 180, 0, 19, 28, 46, 167, 0, 4, 27, 60, 132, 2, 1]
abbrev dktX6_longestBlock_1 : List UInt8 := dkwX6_longestBlock_1 ++ dktX6_longestBlock_2
def dkwX6_longestBlock_0 : List UInt8 := [16, 64, 60, 3, 61, 28, 42, 180, 0, 51, 162, 0, 40, 42, 180, 0, 16, 28, 46, 5, 160, 0, 22, 42]
abbrev dktX6_longestBlock_0 : List UInt8 := dkwX6_longestBlock_0 ++ dktX6_longestBlock_1
theorem dksX6_longestBlock_0 : cX6_longestBlock.data.toList.drop 0 = dktX6_longestBlock_0 := by decide +kernel
theorem dksX6_longestBlock_1 : cX6_longestBlock.data.toList.drop 24 = dktX6_longestBlock_1 := dk_seg dksX6_longestBlock_0 24 rfl rfl
theorem dksX6_longestBlock_2 : cX6_longestBlock.data.toList.drop 47 = dktX6_longestBlock_2 := dk_seg dksX6_longestBlock_1 23 rfl rfl
theorem dX6_longestBlock_0 : decode cX6_longestBlock 0 = .ok (.bipush 64, 2) := dk_16 64 (dk_at dksX6_longestBlock_0 0 rfl rfl)
theorem dX6_longestBlock_2 : decode cX6_longestBlock 2 = .ok (.istore_n 1, 1) := dk_60 (dk_at dksX6_longestBlock_0 2 rfl rfl)
theorem dX6_longestBlock_3 : decode cX6_longestBlock 3 = .ok (.iconst 0, 1) := dk_3 (dk_at dksX6_longestBlock_0 3 rfl rfl)
theorem dX6_longestBlock_4 : decode cX6_longestBlock 4 = .ok (.istore_n 2, 1) := dk_61 (dk_at dksX6_longestBlock_0 4 rfl rfl)
theorem dX6_longestBlock_5 : decode cX6_longestBlock 5 = .ok (.iload_n 2, 1) := dk_28 (dk_at dksX6_longestBlock_0 5 rfl rfl)
theorem dX6_longestBlock_6 : decode cX6_longestBlock 6 = .ok (.aload_n 0, 1) := dk_42 (dk_at dksX6_longestBlock_0 6 rfl rfl)
theorem dX6_longestBlock_7 : decode cX6_longestBlock 7 = .ok (.getfield 51, 3) := dk_180 0 51 (dk_at dksX6_longestBlock_0 7 rfl rfl)
theorem dX6_longestBlock_10 : decode cX6_longestBlock 10 = .ok (.if_icmp .ge 40, 3) := dk_162 0 40 (dk_at dksX6_longestBlock_0 10 rfl rfl)
theorem dX6_longestBlock_13 : decode cX6_longestBlock 13 = .ok (.aload_n 0, 1) := dk_42 (dk_at dksX6_longestBlock_0 13 rfl rfl)
theorem dX6_longestBlock_14 : decode cX6_longestBlock 14 = .ok (.getfield 16, 3) := dk_180 0 16 (dk_at dksX6_longestBlock_0 14 rfl rfl)
theorem dX6_longestBlock_17 : decode cX6_longestBlock 17 = .ok (.iload_n 2, 1) := dk_28 (dk_at dksX6_longestBlock_0 17 rfl rfl)
theorem dX6_longestBlock_18 : decode cX6_longestBlock 18 = .ok (.iaload, 1) := dk_46 (dk_at dksX6_longestBlock_0 18 rfl rfl)
theorem dX6_longestBlock_19 : decode cX6_longestBlock 19 = .ok (.iconst 2, 1) := dk_5 (dk_at dksX6_longestBlock_0 19 rfl rfl)
theorem dX6_longestBlock_20 : decode cX6_longestBlock 20 = .ok (.if_icmp .ne 22, 3) := dk_160 0 22 (dk_at dksX6_longestBlock_0 20 rfl rfl)
theorem dX6_longestBlock_23 : decode cX6_longestBlock 23 = .ok (.aload_n 0, 1) := dk_42 (dk_at dksX6_longestBlock_0 23 rfl rfl)
theorem dX6_longestBlock_24 : decode cX6_longestBlock 24 = .ok (.getfield 19, 3) := dk_180 0 19 (dk_at dksX6_longestBlock_1 0 rfl rfl)
theorem dX6_longestBlock_27 : decode cX6_longestBlock 27 = .ok (.iload_n 2, 1) := dk_28 (dk_at dksX6_longestBlock_1 3 rfl rfl)
theorem dX6_longestBlock_28 : decode cX6_longestBlock 28 = .ok (.iaload, 1) := dk_46 (dk_at dksX6_longestBlock_1 4 rfl rfl)
theorem dX6_longestBlock_29 : decode cX6_longestBlock 29 = .ok (.iload_n 1, 1) := dk_27 (dk_at dksX6_longestBlock_1 5 rfl rfl)
theorem dX6_longestBlock_30 : decode cX6_longestBlock 30 = .ok (.if_icmp .ge 12, 3) := dk_162 0 12 (dk_at dksX6_longestBlock_1 6 rfl rfl)
theorem dX6_longestBlock_33 : decode cX6_longestBlock 33 = .ok (.aload_n 0, 1) := dk_42 (dk_at dksX6_longestBlock_1 9 rfl rfl)
theorem dX6_longestBlock_34 : decode cX6_longestBlock 34 = .ok (.getfield 19, 3) := dk_180 0 19 (dk_at dksX6_longestBlock_1 10 rfl rfl)
theorem dX6_longestBlock_37 : decode cX6_longestBlock 37 = .ok (.iload_n 2, 1) := dk_28 (dk_at dksX6_longestBlock_1 13 rfl rfl)
theorem dX6_longestBlock_38 : decode cX6_longestBlock 38 = .ok (.iaload, 1) := dk_46 (dk_at dksX6_longestBlock_1 14 rfl rfl)
theorem dX6_longestBlock_39 : decode cX6_longestBlock 39 = .ok (.goto 4, 3) := dk_167 0 4 (dk_at dksX6_longestBlock_1 15 rfl rfl)
theorem dX6_longestBlock_42 : decode cX6_longestBlock 42 = .ok (.iload_n 1, 1) := dk_27 (dk_at dksX6_longestBlock_1 18 rfl rfl)
theorem dX6_longestBlock_43 : decode cX6_longestBlock 43 = .ok (.istore_n 1, 1) := dk_60 (dk_at dksX6_longestBlock_1 19 rfl rfl)
theorem dX6_longestBlock_44 : decode cX6_longestBlock 44 = .ok (.iinc 2 1, 3) := dk_132 2 1 (dk_at dksX6_longestBlock_1 20 rfl rfl)
theorem dX6_longestBlock_47 : decode cX6_longestBlock 47 = .ok (.goto (-42), 3) := dk_167 255 214 (dk_at dksX6_longestBlock_2 0 rfl rfl)
theorem dX6_longestBlock_50 : decode cX6_longestBlock 50 = .ok (.aload_n 0, 1) := dk_42 (dk_at dksX6_longestBlock_2 3 rfl rfl)
theorem dX6_longestBlock_51 : decode cX6_longestBlock 51 = .ok (.iload_n 1, 1) := dk_27 (dk_at dksX6_longestBlock_2 4 rfl rfl)
theorem dX6_longestBlock_52 : decode cX6_longestBlock 52 = .ok (.invokevirtual 125, 3) := dk_182 0 125 (dk_at dksX6_longestBlock_2 5 rfl rfl)
theorem dX6_longestBlock_55 : decode cX6_longestBlock 55 = .ok (.ireturn, 1) := dk_172 (dk_at dksX6_longestBlock_2 8 rfl rfl)
abbrev cX6_setWave : ByteArray := prog_14_method_31_code
def yX6_setWave : MethodName := ⟨RX6, "setWave", "(C)C"⟩
def dkwX6_setWave_1 : List UInt8 := [182, 0, 121, 158, 0, 6, 16, 97, 172, 42, 180, 0, 57, 61, 42, 27, 181, 0, 57, 28, 146, 172]
abbrev dktX6_setWave_1 : List UInt8 := dkwX6_setWave_1 ++ []
def dkwX6_setWave_0 : List UInt8 := [42, 27, 16, 115, 159, 0, 15, 27, 16, 113, 159, 0, 9, 27, 16, 116, 160, 0, 7, 4, 167, 0, 4, 3]
abbrev dktX6_setWave_0 : List UInt8 := dkwX6_setWave_0 ++ dktX6_setWave_1
theorem dksX6_setWave_0 : cX6_setWave.data.toList.drop 0 = dktX6_setWave_0 := by decide +kernel
theorem dksX6_setWave_1 : cX6_setWave.data.toList.drop 24 = dktX6_setWave_1 := dk_seg dksX6_setWave_0 24 rfl rfl
theorem dX6_setWave_0 : decode cX6_setWave 0 = .ok (.aload_n 0, 1) := dk_42 (dk_at dksX6_setWave_0 0 rfl rfl)
theorem dX6_setWave_1 : decode cX6_setWave 1 = .ok (.iload_n 1, 1) := dk_27 (dk_at dksX6_setWave_0 1 rfl rfl)
theorem dX6_setWave_2 : decode cX6_setWave 2 = .ok (.bipush 115, 2) := dk_16 115 (dk_at dksX6_setWave_0 2 rfl rfl)
theorem dX6_setWave_4 : decode cX6_setWave 4 = .ok (.if_icmp .eq 15, 3) := dk_159 0 15 (dk_at dksX6_setWave_0 4 rfl rfl)
theorem dX6_setWave_7 : decode cX6_setWave 7 = .ok (.iload_n 1, 1) := dk_27 (dk_at dksX6_setWave_0 7 rfl rfl)
theorem dX6_setWave_8 : decode cX6_setWave 8 = .ok (.bipush 113, 2) := dk_16 113 (dk_at dksX6_setWave_0 8 rfl rfl)
theorem dX6_setWave_10 : decode cX6_setWave 10 = .ok (.if_icmp .eq 9, 3) := dk_159 0 9 (dk_at dksX6_setWave_0 10 rfl rfl)
theorem dX6_setWave_13 : decode cX6_setWave 13 = .ok (.iload_n 1, 1) := dk_27 (dk_at dksX6_setWave_0 13 rfl rfl)
theorem dX6_setWave_14 : decode cX6_setWave 14 = .ok (.bipush 116, 2) := dk_16 116 (dk_at dksX6_setWave_0 14 rfl rfl)
theorem dX6_setWave_16 : decode cX6_setWave 16 = .ok (.if_icmp .ne 7, 3) := dk_160 0 7 (dk_at dksX6_setWave_0 16 rfl rfl)
theorem dX6_setWave_19 : decode cX6_setWave 19 = .ok (.iconst 1, 1) := dk_4 (dk_at dksX6_setWave_0 19 rfl rfl)
theorem dX6_setWave_20 : decode cX6_setWave 20 = .ok (.goto 4, 3) := dk_167 0 4 (dk_at dksX6_setWave_0 20 rfl rfl)
theorem dX6_setWave_23 : decode cX6_setWave 23 = .ok (.iconst 0, 1) := dk_3 (dk_at dksX6_setWave_0 23 rfl rfl)
theorem dX6_setWave_24 : decode cX6_setWave 24 = .ok (.invokevirtual 121, 3) := dk_182 0 121 (dk_at dksX6_setWave_1 0 rfl rfl)
theorem dX6_setWave_27 : decode cX6_setWave 27 = .ok (.ifCond .le 6, 3) := dk_158 0 6 (dk_at dksX6_setWave_1 3 rfl rfl)
theorem dX6_setWave_30 : decode cX6_setWave 30 = .ok (.bipush 97, 2) := dk_16 97 (dk_at dksX6_setWave_1 6 rfl rfl)
theorem dX6_setWave_32 : decode cX6_setWave 32 = .ok (.ireturn, 1) := dk_172 (dk_at dksX6_setWave_1 8 rfl rfl)
theorem dX6_setWave_33 : decode cX6_setWave 33 = .ok (.aload_n 0, 1) := dk_42 (dk_at dksX6_setWave_1 9 rfl rfl)
theorem dX6_setWave_34 : decode cX6_setWave 34 = .ok (.getfield 57, 3) := dk_180 0 57 (dk_at dksX6_setWave_1 10 rfl rfl)
theorem dX6_setWave_37 : decode cX6_setWave 37 = .ok (.istore_n 2, 1) := dk_61 (dk_at dksX6_setWave_1 13 rfl rfl)
theorem dX6_setWave_38 : decode cX6_setWave 38 = .ok (.aload_n 0, 1) := dk_42 (dk_at dksX6_setWave_1 14 rfl rfl)
theorem dX6_setWave_39 : decode cX6_setWave 39 = .ok (.iload_n 1, 1) := dk_27 (dk_at dksX6_setWave_1 15 rfl rfl)
theorem dX6_setWave_40 : decode cX6_setWave 40 = .ok (.putfield 57, 3) := dk_181 0 57 (dk_at dksX6_setWave_1 16 rfl rfl)
theorem dX6_setWave_43 : decode cX6_setWave 43 = .ok (.iload_n 2, 1) := dk_28 (dk_at dksX6_setWave_1 19 rfl rfl)
theorem dX6_setWave_44 : decode cX6_setWave 44 = .ok (.i2c, 1) := dk_146 (dk_at dksX6_setWave_1 20 rfl rfl)
theorem dX6_setWave_45 : decode cX6_setWave 45 = .ok (.ireturn, 1) := dk_172 (dk_at dksX6_setWave_1 21 rfl rfl)
abbrev cX6_setEnvelope : ByteArray := prog_14_method_32_code
def yX6_setEnvelope : MethodName := ⟨RX6, "setEnvelope", "(IIII)I"⟩
def dkwX6_setEnvelope_3 : List UInt8 := [28, 181, 0, 63, 42, 29, 181, 0, 66, 42, 21, 4, 181, 0, 69, 21, 5, 172]
abbrev dktX6_setEnvelope_3 : List UInt8 := dkwX6_setEnvelope_3 ++ []
def dkwX6_setEnvelope_2 : List UInt8 := [167, 0, 4, 3, 182, 0, 121, 158, 0, 5, 3, 172, 42, 180, 0, 66, 54, 5, 42, 27, 181, 0, 60, 42]
abbrev dktX6_setEnvelope_2 : List UInt8 := dkwX6_setEnvelope_2 ++ dktX6_setEnvelope_3
def dkwX6_setEnvelope_1 : List UInt8 := [3, 17, 3, 232, 184, 0, 94, 153, 0, 19, 21, 4, 3, 17, 0, 200, 184, 0, 94, 153, 0, 7, 4]
abbrev dktX6_setEnvelope_1 : List UInt8 := dkwX6_setEnvelope_1 ++ dktX6_setEnvelope_2
def dkwX6_setEnvelope_0 : List UInt8 := [42, 27, 3, 17, 0, 200, 184, 0, 94, 153, 0, 41, 28, 3, 17, 0, 200, 184, 0, 94, 153, 0, 30, 29]
abbrev dktX6_setEnvelope_0 : List UInt8 := dkwX6_setEnvelope_0 ++ dktX6_setEnvelope_1
theorem dksX6_setEnvelope_0 : cX6_setEnvelope.data.toList.drop 0 = dktX6_setEnvelope_0 := by decide +kernel
theorem dksX6_setEnvelope_1 : cX6_setEnvelope.data.toList.drop 24 = dktX6_setEnvelope_1 := dk_seg dksX6_setEnvelope_0 24 rfl rfl
theorem dksX6_setEnvelope_2 : cX6_setEnvelope.data.toList.drop 47 = dktX6_setEnvelope_2 := dk_seg dksX6_setEnvelope_1 23 rfl rfl
theorem dksX6_setEnvelope_3 : cX6_setEnvelope.data.toList.drop 71 = dktX6_setEnvelope_3 := dk_seg dksX6_setEnvelope_2 24 rfl rfl
theorem dX6_setEnvelope_0 : decode cX6_setEnvelope 0 = .ok (.aload_n 0, 1) := dk_42 (dk_at dksX6_setEnvelope_0 0 rfl rfl)
theorem dX6_setEnvelope_1 : decode cX6_setEnvelope 1 = .ok (.iload_n 1, 1) := dk_27 (dk_at dksX6_setEnvelope_0 1 rfl rfl)
theorem dX6_setEnvelope_2 : decode cX6_setEnvelope 2 = .ok (.iconst 0, 1) := dk_3 (dk_at dksX6_setEnvelope_0 2 rfl rfl)
theorem dX6_setEnvelope_3 : decode cX6_setEnvelope 3 = .ok (.sipush 200, 3) := dk_17 0 200 (dk_at dksX6_setEnvelope_0 3 rfl rfl)
theorem dX6_setEnvelope_6 : decode cX6_setEnvelope 6 = .ok (.invokestatic 94, 3) := dk_184 0 94 (dk_at dksX6_setEnvelope_0 6 rfl rfl)
theorem dX6_setEnvelope_9 : decode cX6_setEnvelope 9 = .ok (.ifCond .eq 41, 3) := dk_153 0 41 (dk_at dksX6_setEnvelope_0 9 rfl rfl)
theorem dX6_setEnvelope_12 : decode cX6_setEnvelope 12 = .ok (.iload_n 2, 1) := dk_28 (dk_at dksX6_setEnvelope_0 12 rfl rfl)
theorem dX6_setEnvelope_13 : decode cX6_setEnvelope 13 = .ok (.iconst 0, 1) := dk_3 (dk_at dksX6_setEnvelope_0 13 rfl rfl)
theorem dX6_setEnvelope_14 : decode cX6_setEnvelope 14 = .ok (.sipush 200, 3) := dk_17 0 200 (dk_at dksX6_setEnvelope_0 14 rfl rfl)
theorem dX6_setEnvelope_17 : decode cX6_setEnvelope 17 = .ok (.invokestatic 94, 3) := dk_184 0 94 (dk_at dksX6_setEnvelope_0 17 rfl rfl)
theorem dX6_setEnvelope_20 : decode cX6_setEnvelope 20 = .ok (.ifCond .eq 30, 3) := dk_153 0 30 (dk_at dksX6_setEnvelope_0 20 rfl rfl)
theorem dX6_setEnvelope_23 : decode cX6_setEnvelope 23 = .ok (.iload_n 3, 1) := dk_29 (dk_at dksX6_setEnvelope_0 23 rfl rfl)
theorem dX6_setEnvelope_24 : decode cX6_setEnvelope 24 = .ok (.iconst 0, 1) := dk_3 (dk_at dksX6_setEnvelope_1 0 rfl rfl)
theorem dX6_setEnvelope_25 : decode cX6_setEnvelope 25 = .ok (.sipush 1000, 3) := dk_17 3 232 (dk_at dksX6_setEnvelope_1 1 rfl rfl)
theorem dX6_setEnvelope_28 : decode cX6_setEnvelope 28 = .ok (.invokestatic 94, 3) := dk_184 0 94 (dk_at dksX6_setEnvelope_1 4 rfl rfl)
theorem dX6_setEnvelope_31 : decode cX6_setEnvelope 31 = .ok (.ifCond .eq 19, 3) := dk_153 0 19 (dk_at dksX6_setEnvelope_1 7 rfl rfl)
theorem dX6_setEnvelope_34 : decode cX6_setEnvelope 34 = .ok (.iload 4, 2) := dk_21 4 (dk_at dksX6_setEnvelope_1 10 rfl rfl)
theorem dX6_setEnvelope_36 : decode cX6_setEnvelope 36 = .ok (.iconst 0, 1) := dk_3 (dk_at dksX6_setEnvelope_1 12 rfl rfl)
theorem dX6_setEnvelope_37 : decode cX6_setEnvelope 37 = .ok (.sipush 200, 3) := dk_17 0 200 (dk_at dksX6_setEnvelope_1 13 rfl rfl)
theorem dX6_setEnvelope_40 : decode cX6_setEnvelope 40 = .ok (.invokestatic 94, 3) := dk_184 0 94 (dk_at dksX6_setEnvelope_1 16 rfl rfl)
theorem dX6_setEnvelope_43 : decode cX6_setEnvelope 43 = .ok (.ifCond .eq 7, 3) := dk_153 0 7 (dk_at dksX6_setEnvelope_1 19 rfl rfl)
theorem dX6_setEnvelope_46 : decode cX6_setEnvelope 46 = .ok (.iconst 1, 1) := dk_4 (dk_at dksX6_setEnvelope_1 22 rfl rfl)
theorem dX6_setEnvelope_47 : decode cX6_setEnvelope 47 = .ok (.goto 4, 3) := dk_167 0 4 (dk_at dksX6_setEnvelope_2 0 rfl rfl)
theorem dX6_setEnvelope_50 : decode cX6_setEnvelope 50 = .ok (.iconst 0, 1) := dk_3 (dk_at dksX6_setEnvelope_2 3 rfl rfl)
theorem dX6_setEnvelope_51 : decode cX6_setEnvelope 51 = .ok (.invokevirtual 121, 3) := dk_182 0 121 (dk_at dksX6_setEnvelope_2 4 rfl rfl)
theorem dX6_setEnvelope_54 : decode cX6_setEnvelope 54 = .ok (.ifCond .le 5, 3) := dk_158 0 5 (dk_at dksX6_setEnvelope_2 7 rfl rfl)
theorem dX6_setEnvelope_57 : decode cX6_setEnvelope 57 = .ok (.iconst 0, 1) := dk_3 (dk_at dksX6_setEnvelope_2 10 rfl rfl)
theorem dX6_setEnvelope_58 : decode cX6_setEnvelope 58 = .ok (.ireturn, 1) := dk_172 (dk_at dksX6_setEnvelope_2 11 rfl rfl)
theorem dX6_setEnvelope_59 : decode cX6_setEnvelope 59 = .ok (.aload_n 0, 1) := dk_42 (dk_at dksX6_setEnvelope_2 12 rfl rfl)
theorem dX6_setEnvelope_60 : decode cX6_setEnvelope 60 = .ok (.getfield 66, 3) := dk_180 0 66 (dk_at dksX6_setEnvelope_2 13 rfl rfl)
theorem dX6_setEnvelope_63 : decode cX6_setEnvelope 63 = .ok (.istore 5, 2) := dk_54 5 (dk_at dksX6_setEnvelope_2 16 rfl rfl)
theorem dX6_setEnvelope_65 : decode cX6_setEnvelope 65 = .ok (.aload_n 0, 1) := dk_42 (dk_at dksX6_setEnvelope_2 18 rfl rfl)
theorem dX6_setEnvelope_66 : decode cX6_setEnvelope 66 = .ok (.iload_n 1, 1) := dk_27 (dk_at dksX6_setEnvelope_2 19 rfl rfl)
theorem dX6_setEnvelope_67 : decode cX6_setEnvelope 67 = .ok (.putfield 60, 3) := dk_181 0 60 (dk_at dksX6_setEnvelope_2 20 rfl rfl)
theorem dX6_setEnvelope_70 : decode cX6_setEnvelope 70 = .ok (.aload_n 0, 1) := dk_42 (dk_at dksX6_setEnvelope_2 23 rfl rfl)
theorem dX6_setEnvelope_71 : decode cX6_setEnvelope 71 = .ok (.iload_n 2, 1) := dk_28 (dk_at dksX6_setEnvelope_3 0 rfl rfl)
theorem dX6_setEnvelope_72 : decode cX6_setEnvelope 72 = .ok (.putfield 63, 3) := dk_181 0 63 (dk_at dksX6_setEnvelope_3 1 rfl rfl)
theorem dX6_setEnvelope_75 : decode cX6_setEnvelope 75 = .ok (.aload_n 0, 1) := dk_42 (dk_at dksX6_setEnvelope_3 4 rfl rfl)
theorem dX6_setEnvelope_76 : decode cX6_setEnvelope 76 = .ok (.iload_n 3, 1) := dk_29 (dk_at dksX6_setEnvelope_3 5 rfl rfl)
theorem dX6_setEnvelope_77 : decode cX6_setEnvelope 77 = .ok (.putfield 66, 3) := dk_181 0 66 (dk_at dksX6_setEnvelope_3 6 rfl rfl)
theorem dX6_setEnvelope_80 : decode cX6_setEnvelope 80 = .ok (.aload_n 0, 1) := dk_42 (dk_at dksX6_setEnvelope_3 9 rfl rfl)
theorem dX6_setEnvelope_81 : decode cX6_setEnvelope 81 = .ok (.iload 4, 2) := dk_21 4 (dk_at dksX6_setEnvelope_3 10 rfl rfl)
theorem dX6_setEnvelope_83 : decode cX6_setEnvelope 83 = .ok (.putfield 69, 3) := dk_181 0 69 (dk_at dksX6_setEnvelope_3 12 rfl rfl)
theorem dX6_setEnvelope_86 : decode cX6_setEnvelope 86 = .ok (.iload 5, 2) := dk_21 5 (dk_at dksX6_setEnvelope_3 15 rfl rfl)
theorem dX6_setEnvelope_88 : decode cX6_setEnvelope 88 = .ok (.ireturn, 1) := dk_172 (dk_at dksX6_setEnvelope_3 17 rfl rfl)
abbrev cX6_begin : ByteArray := prog_14_method_39_code
def yX6_begin : MethodName := ⟨RX6, "begin", "(II)I"⟩
def dkwX6_begin_7 : List UInt8 := [42, 180, 0, 75, 182, 0, 145, 42, 89, 180, 0, 75, 4, 96, 181, 0, 75, 29, 172]
abbrev dktX6_begin_7 : List UInt8 := dkwX6_begin_7 ++ []
def dkwX6_begin_6 : List UInt8 := [16, 7, 42, 180, 0, 66, 182, 0, 145, 42, 29, 16, 8, 42, 180, 0, 69, 182, 0, 145, 42, 29, 16, 13]
abbrev dktX6_begin_6 : List UInt8 := dkwX6_begin_6 ++ dktX6_begin_7
def dkwX6_begin_5 : List UInt8 := [42, 29, 8, 42, 180, 0, 60, 182, 0, 145, 42, 29, 16, 6, 42, 180, 0, 63, 182, 0, 145, 42, 29]
abbrev dktX6_begin_5 : List UInt8 := dkwX6_begin_5 ++ dktX6_begin_6
def dkwX6_begin_4 : List UInt8 := [42, 29, 5, 27, 182, 0, 145, 42, 29, 6, 28, 182, 0, 145, 42, 29, 7, 42, 180, 0, 57, 182, 0, 145]
abbrev dktX6_begin_4 : List UInt8 := dkwX6_begin_4 ++ dktX6_begin_5
def dkwX6_begin_3 : List UInt8 := [162, 0, 17, 42, 29, 21, 4, 3, 182, 0, 145, 132, 4, 1, 167, 255, 238, 42, 29, 3, 4, 182, 0, 145]
abbrev dktX6_begin_3 : List UInt8 := dkwX6_begin_3 ++ dktX6_begin_4
def dkwX6_begin_2 : List UInt8 := [182, 0, 135, 153, 0, 7, 4, 167, 0, 4, 3, 96, 181, 0, 72, 3, 54, 4, 21, 4, 16, 16]
abbrev dktX6_begin_2 : List UInt8 := dkwX6_begin_2 ++ dktX6_begin_3
def dkwX6_begin_1 : List UInt8 := [167, 0, 4, 3, 182, 0, 121, 158, 0, 5, 3, 172, 42, 182, 0, 141, 62, 42, 89, 180, 0, 72, 42, 29]
abbrev dktX6_begin_1 : List UInt8 := dkwX6_begin_1 ++ dktX6_begin_2
def dkwX6_begin_0 : List UInt8 := [42, 27, 3, 16, 59, 184, 0, 94, 153, 0, 17, 28, 4, 16, 100, 184, 0, 94, 153, 0, 7, 4]
abbrev dktX6_begin_0 : List UInt8 := dkwX6_begin_0 ++ dktX6_begin_1
theorem dksX6_begin_0 : cX6_begin.data.toList.drop 0 = dktX6_begin_0 := by decide +kernel
theorem dksX6_begin_1 : cX6_begin.data.toList.drop 22 = dktX6_begin_1 := dk_seg dksX6_begin_0 22 rfl rfl
theorem dksX6_begin_2 : cX6_begin.data.toList.drop 46 = dktX6_begin_2 := dk_seg dksX6_begin_1 24 rfl rfl
theorem dksX6_begin_3 : cX6_begin.data.toList.drop 68 = dktX6_begin_3 := dk_seg dksX6_begin_2 22 rfl rfl
theorem dksX6_begin_4 : cX6_begin.data.toList.drop 92 = dktX6_begin_4 := dk_seg dksX6_begin_3 24 rfl rfl
theorem dksX6_begin_5 : cX6_begin.data.toList.drop 116 = dktX6_begin_5 := dk_seg dksX6_begin_4 24 rfl rfl
theorem dksX6_begin_6 : cX6_begin.data.toList.drop 139 = dktX6_begin_6 := dk_seg dksX6_begin_5 23 rfl rfl
theorem dksX6_begin_7 : cX6_begin.data.toList.drop 163 = dktX6_begin_7 := dk_seg dksX6_begin_6 24 rfl rfl
theorem dX6_begin_0 : decode cX6_begin 0 = .ok (.aload_n 0, 1) := dk_42 (dk_at dksX6_begin_0 0 rfl rfl)
theorem dX6_begin_1 : decode cX6_begin 1 = .ok (.iload_n 1, 1) := dk_27 (dk_at dksX6_begin_0 1 rfl rfl)
theorem dX6_begin_2 : decode cX6_begin 2 = .ok (.iconst 0, 1) := dk_3 (dk_at dksX6_begin_0 2 rfl rfl)
theorem dX6_begin_3 : decode cX6_begin 3 = .ok (.bipush 59, 2) := dk_16 59 (dk_at dksX6_begin_0 3 rfl rfl)
theorem dX6_begin_5 : decode cX6_begin 5 = .ok (.invokestatic 94, 3) := dk_184 0 94 (dk_at dksX6_begin_0 5 rfl rfl)
theorem dX6_begin_8 : decode cX6_begin 8 = .ok (.ifCond .eq 17, 3) := dk_153 0 17 (dk_at dksX6_begin_0 8 rfl rfl)
theorem dX6_begin_11 : decode cX6_begin 11 = .ok (.iload_n 2, 1) := dk_28 (dk_at dksX6_begin_0 11 rfl rfl)
theorem dX6_begin_12 : decode cX6_begin 12 = .ok (.iconst 1, 1) := dk_4 (dk_at dksX6_begin_0 12 rfl rfl)
theorem dX6_begin_13 : decode cX6_begin 13 = .ok (.bipush 100, 2) := dk_16 100 (dk_at dksX6_begin_0 13 rfl rfl)
theorem dX6_begin_15 : decode cX6_begin 15 = .ok (.invokestatic 94, 3) := dk_184 0 94 (dk_at dksX6_begin_0 15 rfl rfl)
theorem dX6_begin_18 : decode cX6_begin 18 = .ok (.ifCond .eq 7, 3) := dk_153 0 7 (dk_at dksX6_begin_0 18 rfl rfl)
theorem dX6_begin_21 : decode cX6_begin 21 = .ok (.iconst 1, 1) := dk_4 (dk_at dksX6_begin_0 21 rfl rfl)
theorem dX6_begin_22 : decode cX6_begin 22 = .ok (.goto 4, 3) := dk_167 0 4 (dk_at dksX6_begin_1 0 rfl rfl)
theorem dX6_begin_25 : decode cX6_begin 25 = .ok (.iconst 0, 1) := dk_3 (dk_at dksX6_begin_1 3 rfl rfl)
theorem dX6_begin_26 : decode cX6_begin 26 = .ok (.invokevirtual 121, 3) := dk_182 0 121 (dk_at dksX6_begin_1 4 rfl rfl)
theorem dX6_begin_29 : decode cX6_begin 29 = .ok (.ifCond .le 5, 3) := dk_158 0 5 (dk_at dksX6_begin_1 7 rfl rfl)
theorem dX6_begin_32 : decode cX6_begin 32 = .ok (.iconst 0, 1) := dk_3 (dk_at dksX6_begin_1 10 rfl rfl)
theorem dX6_begin_33 : decode cX6_begin 33 = .ok (.ireturn, 1) := dk_172 (dk_at dksX6_begin_1 11 rfl rfl)
theorem dX6_begin_34 : decode cX6_begin 34 = .ok (.aload_n 0, 1) := dk_42 (dk_at dksX6_begin_1 12 rfl rfl)
theorem dX6_begin_35 : decode cX6_begin 35 = .ok (.invokevirtual 141, 3) := dk_182 0 141 (dk_at dksX6_begin_1 13 rfl rfl)
theorem dX6_begin_38 : decode cX6_begin 38 = .ok (.istore_n 3, 1) := dk_62 (dk_at dksX6_begin_1 16 rfl rfl)
theorem dX6_begin_39 : decode cX6_begin 39 = .ok (.aload_n 0, 1) := dk_42 (dk_at dksX6_begin_1 17 rfl rfl)
theorem dX6_begin_40 : decode cX6_begin 40 = .ok (.dup, 1) := dk_89 (dk_at dksX6_begin_1 18 rfl rfl)
theorem dX6_begin_41 : decode cX6_begin 41 = .ok (.getfield 72, 3) := dk_180 0 72 (dk_at dksX6_begin_1 19 rfl rfl)
theorem dX6_begin_44 : decode cX6_begin 44 = .ok (.aload_n 0, 1) := dk_42 (dk_at dksX6_begin_1 22 rfl rfl)
theorem dX6_begin_45 : decode cX6_begin 45 = .ok (.iload_n 3, 1) := dk_29 (dk_at dksX6_begin_1 23 rfl rfl)
theorem dX6_begin_46 : decode cX6_begin 46 = .ok (.invokevirtual 135, 3) := dk_182 0 135 (dk_at dksX6_begin_2 0 rfl rfl)
theorem dX6_begin_49 : decode cX6_begin 49 = .ok (.ifCond .eq 7, 3) := dk_153 0 7 (dk_at dksX6_begin_2 3 rfl rfl)
theorem dX6_begin_52 : decode cX6_begin 52 = .ok (.iconst 1, 1) := dk_4 (dk_at dksX6_begin_2 6 rfl rfl)
theorem dX6_begin_53 : decode cX6_begin 53 = .ok (.goto 4, 3) := dk_167 0 4 (dk_at dksX6_begin_2 7 rfl rfl)
theorem dX6_begin_56 : decode cX6_begin 56 = .ok (.iconst 0, 1) := dk_3 (dk_at dksX6_begin_2 10 rfl rfl)
theorem dX6_begin_57 : decode cX6_begin 57 = .ok (.iadd, 1) := dk_96 (dk_at dksX6_begin_2 11 rfl rfl)
theorem dX6_begin_58 : decode cX6_begin 58 = .ok (.putfield 72, 3) := dk_181 0 72 (dk_at dksX6_begin_2 12 rfl rfl)
theorem dX6_begin_61 : decode cX6_begin 61 = .ok (.iconst 0, 1) := dk_3 (dk_at dksX6_begin_2 15 rfl rfl)
theorem dX6_begin_62 : decode cX6_begin 62 = .ok (.istore 4, 2) := dk_54 4 (dk_at dksX6_begin_2 16 rfl rfl)
theorem dX6_begin_64 : decode cX6_begin 64 = .ok (.iload 4, 2) := dk_21 4 (dk_at dksX6_begin_2 18 rfl rfl)
theorem dX6_begin_66 : decode cX6_begin 66 = .ok (.bipush 16, 2) := dk_16 16 (dk_at dksX6_begin_2 20 rfl rfl)
theorem dX6_begin_68 : decode cX6_begin 68 = .ok (.if_icmp .ge 17, 3) := dk_162 0 17 (dk_at dksX6_begin_3 0 rfl rfl)
theorem dX6_begin_71 : decode cX6_begin 71 = .ok (.aload_n 0, 1) := dk_42 (dk_at dksX6_begin_3 3 rfl rfl)
theorem dX6_begin_72 : decode cX6_begin 72 = .ok (.iload_n 3, 1) := dk_29 (dk_at dksX6_begin_3 4 rfl rfl)
theorem dX6_begin_73 : decode cX6_begin 73 = .ok (.iload 4, 2) := dk_21 4 (dk_at dksX6_begin_3 5 rfl rfl)
theorem dX6_begin_75 : decode cX6_begin 75 = .ok (.iconst 0, 1) := dk_3 (dk_at dksX6_begin_3 7 rfl rfl)
theorem dX6_begin_76 : decode cX6_begin 76 = .ok (.invokevirtual 145, 3) := dk_182 0 145 (dk_at dksX6_begin_3 8 rfl rfl)
theorem dX6_begin_79 : decode cX6_begin 79 = .ok (.iinc 4 1, 3) := dk_132 4 1 (dk_at dksX6_begin_3 11 rfl rfl)
theorem dX6_begin_82 : decode cX6_begin 82 = .ok (.goto (-18), 3) := dk_167 255 238 (dk_at dksX6_begin_3 14 rfl rfl)
theorem dX6_begin_85 : decode cX6_begin 85 = .ok (.aload_n 0, 1) := dk_42 (dk_at dksX6_begin_3 17 rfl rfl)
theorem dX6_begin_86 : decode cX6_begin 86 = .ok (.iload_n 3, 1) := dk_29 (dk_at dksX6_begin_3 18 rfl rfl)
theorem dX6_begin_87 : decode cX6_begin 87 = .ok (.iconst 0, 1) := dk_3 (dk_at dksX6_begin_3 19 rfl rfl)
theorem dX6_begin_88 : decode cX6_begin 88 = .ok (.iconst 1, 1) := dk_4 (dk_at dksX6_begin_3 20 rfl rfl)
theorem dX6_begin_89 : decode cX6_begin 89 = .ok (.invokevirtual 145, 3) := dk_182 0 145 (dk_at dksX6_begin_3 21 rfl rfl)
theorem dX6_begin_92 : decode cX6_begin 92 = .ok (.aload_n 0, 1) := dk_42 (dk_at dksX6_begin_4 0 rfl rfl)
theorem dX6_begin_93 : decode cX6_begin 93 = .ok (.iload_n 3, 1) := dk_29 (dk_at dksX6_begin_4 1 rfl rfl)
theorem dX6_begin_94 : decode cX6_begin 94 = .ok (.iconst 2, 1) := dk_5 (dk_at dksX6_begin_4 2 rfl rfl)
theorem dX6_begin_95 : decode cX6_begin 95 = .ok (.iload_n 1, 1) := dk_27 (dk_at dksX6_begin_4 3 rfl rfl)
theorem dX6_begin_96 : decode cX6_begin 96 = .ok (.invokevirtual 145, 3) := dk_182 0 145 (dk_at dksX6_begin_4 4 rfl rfl)
theorem dX6_begin_99 : decode cX6_begin 99 = .ok (.aload_n 0, 1) := dk_42 (dk_at dksX6_begin_4 7 rfl rfl)
theorem dX6_begin_100 : decode cX6_begin 100 = .ok (.iload_n 3, 1) := dk_29 (dk_at dksX6_begin_4 8 rfl rfl)
theorem dX6_begin_101 : decode cX6_begin 101 = .ok (.iconst 3, 1) := dk_6 (dk_at dksX6_begin_4 9 rfl rfl)
theorem dX6_begin_102 : decode cX6_begin 102 = .ok (.iload_n 2, 1) := dk_28 (dk_at dksX6_begin_4 10 rfl rfl)
theorem dX6_begin_103 : decode cX6_begin 103 = .ok (.invokevirtual 145, 3) := dk_182 0 145 (dk_at dksX6_begin_4 11 rfl rfl)
theorem dX6_begin_106 : decode cX6_begin 106 = .ok (.aload_n 0, 1) := dk_42 (dk_at dksX6_begin_4 14 rfl rfl)
theorem dX6_begin_107 : decode cX6_begin 107 = .ok (.iload_n 3, 1) := dk_29 (dk_at dksX6_begin_4 15 rfl rfl)
theorem dX6_begin_108 : decode cX6_begin 108 = .ok (.iconst 4, 1) := dk_7 (dk_at dksX6_begin_4 16 rfl rfl)
theorem dX6_begin_109 : decode cX6_begin 109 = .ok (.aload_n 0, 1) := dk_42 (dk_at dksX6_begin_4 17 rfl rfl)
theorem dX6_begin_110 : decode cX6_begin 110 = .ok (.getfield 57, 3) := dk_180 0 57 (dk_at dksX6_begin_4 18 rfl rfl)
theorem dX6_begin_113 : decode cX6_begin 113 = .ok (.invokevirtual 145, 3) := dk_182 0 145 (dk_at dksX6_begin_4 21 rfl rfl)
theorem dX6_begin_116 : decode cX6_begin 116 = .ok (.aload_n 0, 1) := dk_42 (dk_at dksX6_begin_5 0 rfl rfl)
theorem dX6_begin_117 : decode cX6_begin 117 = .ok (.iload_n 3, 1) := dk_29 (dk_at dksX6_begin_5 1 rfl rfl)
theorem dX6_begin_118 : decode cX6_begin 118 = .ok (.iconst 5, 1) := dk_8 (dk_at dksX6_begin_5 2 rfl rfl)
theorem dX6_begin_119 : decode cX6_begin 119 = .ok (.aload_n 0, 1) := dk_42 (dk_at dksX6_begin_5 3 rfl rfl)
theorem dX6_begin_120 : decode cX6_begin 120 = .ok (.getfield 60, 3) := dk_180 0 60 (dk_at dksX6_begin_5 4 rfl rfl)
theorem dX6_begin_123 : decode cX6_begin 123 = .ok (.invokevirtual 145, 3) := dk_182 0 145 (dk_at dksX6_begin_5 7 rfl rfl)
theorem dX6_begin_126 : decode cX6_begin 126 = .ok (.aload_n 0, 1) := dk_42 (dk_at dksX6_begin_5 10 rfl rfl)
theorem dX6_begin_127 : decode cX6_begin 127 = .ok (.iload_n 3, 1) := dk_29 (dk_at dksX6_begin_5 11 rfl rfl)
theorem dX6_begin_128 : decode cX6_begin 128 = .ok (.bipush 6, 2) := dk_16 6 (dk_at dksX6_begin_5 12 rfl rfl)
theorem dX6_begin_130 : decode cX6_begin 130 = .ok (.aload_n 0, 1) := dk_42 (dk_at dksX6_begin_5 14 rfl rfl)
theorem dX6_begin_131 : decode cX6_begin 131 = .ok (.getfield 63, 3) := dk_180 0 63 (dk_at dksX6_begin_5 15 rfl rfl)
theorem dX6_begin_134 : decode cX6_begin 134 = .ok (.invokevirtual 145, 3) := dk_182 0 145 (dk_at dksX6_begin_5 18 rfl rfl)
theorem dX6_begin_137 : decode cX6_begin 137 = .ok (.aload_n 0, 1) := dk_42 (dk_at dksX6_begin_5 21 rfl rfl)
theorem dX6_begin_138 : decode cX6_begin 138 = .ok (.iload_n 3, 1) := dk_29 (dk_at dksX6_begin_5 22 rfl rfl)
theorem dX6_begin_139 : decode cX6_begin 139 = .ok (.bipush 7, 2) := dk_16 7 (dk_at dksX6_begin_6 0 rfl rfl)
theorem dX6_begin_141 : decode cX6_begin 141 = .ok (.aload_n 0, 1) := dk_42 (dk_at dksX6_begin_6 2 rfl rfl)
theorem dX6_begin_142 : decode cX6_begin 142 = .ok (.getfield 66, 3) := dk_180 0 66 (dk_at dksX6_begin_6 3 rfl rfl)
theorem dX6_begin_145 : decode cX6_begin 145 = .ok (.invokevirtual 145, 3) := dk_182 0 145 (dk_at dksX6_begin_6 6 rfl rfl)
theorem dX6_begin_148 : decode cX6_begin 148 = .ok (.aload_n 0, 1) := dk_42 (dk_at dksX6_begin_6 9 rfl rfl)
theorem dX6_begin_149 : decode cX6_begin 149 = .ok (.iload_n 3, 1) := dk_29 (dk_at dksX6_begin_6 10 rfl rfl)
theorem dX6_begin_150 : decode cX6_begin 150 = .ok (.bipush 8, 2) := dk_16 8 (dk_at dksX6_begin_6 11 rfl rfl)
theorem dX6_begin_152 : decode cX6_begin 152 = .ok (.aload_n 0, 1) := dk_42 (dk_at dksX6_begin_6 13 rfl rfl)
theorem dX6_begin_153 : decode cX6_begin 153 = .ok (.getfield 69, 3) := dk_180 0 69 (dk_at dksX6_begin_6 14 rfl rfl)
theorem dX6_begin_156 : decode cX6_begin 156 = .ok (.invokevirtual 145, 3) := dk_182 0 145 (dk_at dksX6_begin_6 17 rfl rfl)
theorem dX6_begin_159 : decode cX6_begin 159 = .ok (.aload_n 0, 1) := dk_42 (dk_at dksX6_begin_6 20 rfl rfl)
theorem dX6_begin_160 : decode cX6_begin 160 = .ok (.iload_n 3, 1) := dk_29 (dk_at dksX6_begin_6 21 rfl rfl)
theorem dX6_begin_161 : decode cX6_begin 161 = .ok (.bipush 13, 2) := dk_16 13 (dk_at dksX6_begin_6 22 rfl rfl)
theorem dX6_begin_163 : decode cX6_begin 163 = .ok (.aload_n 0, 1) := dk_42 (dk_at dksX6_begin_7 0 rfl rfl)
theorem dX6_begin_164 : decode cX6_begin 164 = .ok (.getfield 75, 3) := dk_180 0 75 (dk_at dksX6_begin_7 1 rfl rfl)
theorem dX6_begin_167 : decode cX6_begin 167 = .ok (.invokevirtual 145, 3) := dk_182 0 145 (dk_at dksX6_begin_7 4 rfl rfl)
theorem dX6_begin_170 : decode cX6_begin 170 = .ok (.aload_n 0, 1) := dk_42 (dk_at dksX6_begin_7 7 rfl rfl)
theorem dX6_begin_171 : decode cX6_begin 171 = .ok (.dup, 1) := dk_89 (dk_at dksX6_begin_7 8 rfl rfl)
theorem dX6_begin_172 : decode cX6_begin 172 = .ok (.getfield 75, 3) := dk_180 0 75 (dk_at dksX6_begin_7 9 rfl rfl)
theorem dX6_begin_175 : decode cX6_begin 175 = .ok (.iconst 1, 1) := dk_4 (dk_at dksX6_begin_7 12 rfl rfl)
theorem dX6_begin_176 : decode cX6_begin 176 = .ok (.iadd, 1) := dk_96 (dk_at dksX6_begin_7 13 rfl rfl)
theorem dX6_begin_177 : decode cX6_begin 177 = .ok (.putfield 75, 3) := dk_181 0 75 (dk_at dksX6_begin_7 14 rfl rfl)
theorem dX6_begin_180 : decode cX6_begin 180 = .ok (.iload_n 3, 1) := dk_29 (dk_at dksX6_begin_7 17 rfl rfl)
theorem dX6_begin_181 : decode cX6_begin 181 = .ok (.ireturn, 1) := dk_172 (dk_at dksX6_begin_7 18 rfl rfl)
abbrev cX6_voiceFor : ByteArray := prog_14_method_38_code
def yX6_voiceFor : MethodName := ⟨RX6, "voiceFor", "()I"⟩
def dkwX6_voiceFor_4 : List UInt8 := [16, 13, 182, 0, 132, 162, 0, 5, 28, 60, 132, 2, 1, 167, 255, 229, 27, 172]
abbrev dktX6_voiceFor_4 : List UInt8 := dkwX6_voiceFor_4 ++ []
def dkwX6_voiceFor_3 : List UInt8 := [155, 0, 5, 27, 172, 3, 60, 4, 61, 28, 7, 162, 0, 28, 42, 28, 16, 13, 182, 0, 132, 42, 27]
abbrev dktX6_voiceFor_3 : List UInt8 := dkwX6_voiceFor_3 ++ dktX6_voiceFor_4
def dkwX6_voiceFor_2 : List UInt8 := [182, 0, 132, 42, 27, 16, 14, 182, 0, 132, 162, 0, 5, 28, 60, 132, 2, 1, 167, 255, 217, 27]
abbrev dktX6_voiceFor_2 : List UInt8 := dkwX6_voiceFor_2 ++ dktX6_voiceFor_3
def dkwX6_voiceFor_1 : List UInt8 := [60, 3, 61, 28, 7, 162, 0, 40, 42, 28, 182, 0, 138, 153, 0, 26, 27, 155, 0, 20, 42, 28, 16, 14]
abbrev dktX6_voiceFor_1 : List UInt8 := dkwX6_voiceFor_1 ++ dktX6_voiceFor_2
def dkwX6_voiceFor_0 : List UInt8 := [3, 60, 27, 7, 162, 0, 19, 42, 27, 182, 0, 135, 154, 0, 5, 27, 172, 132, 1, 1, 167, 255, 238, 2]
abbrev dktX6_voiceFor_0 : List UInt8 := dkwX6_voiceFor_0 ++ dktX6_voiceFor_1
theorem dksX6_voiceFor_0 : cX6_voiceFor.data.toList.drop 0 = dktX6_voiceFor_0 := by decide +kernel
theorem dksX6_voiceFor_1 : cX6_voiceFor.data.toList.drop 24 = dktX6_voiceFor_1 := dk_seg dksX6_voiceFor_0 24 rfl rfl
theorem dksX6_voiceFor_2 : cX6_voiceFor.data.toList.drop 48 = dktX6_voiceFor_2 := dk_seg dksX6_voiceFor_1 24 rfl rfl
theorem dksX6_voiceFor_3 : cX6_voiceFor.data.toList.drop 70 = dktX6_voiceFor_3 := dk_seg dksX6_voiceFor_2 22 rfl rfl
theorem dksX6_voiceFor_4 : cX6_voiceFor.data.toList.drop 93 = dktX6_voiceFor_4 := dk_seg dksX6_voiceFor_3 23 rfl rfl
theorem dX6_voiceFor_0 : decode cX6_voiceFor 0 = .ok (.iconst 0, 1) := dk_3 (dk_at dksX6_voiceFor_0 0 rfl rfl)
theorem dX6_voiceFor_1 : decode cX6_voiceFor 1 = .ok (.istore_n 1, 1) := dk_60 (dk_at dksX6_voiceFor_0 1 rfl rfl)
theorem dX6_voiceFor_2 : decode cX6_voiceFor 2 = .ok (.iload_n 1, 1) := dk_27 (dk_at dksX6_voiceFor_0 2 rfl rfl)
theorem dX6_voiceFor_3 : decode cX6_voiceFor 3 = .ok (.iconst 4, 1) := dk_7 (dk_at dksX6_voiceFor_0 3 rfl rfl)
theorem dX6_voiceFor_4 : decode cX6_voiceFor 4 = .ok (.if_icmp .ge 19, 3) := dk_162 0 19 (dk_at dksX6_voiceFor_0 4 rfl rfl)
theorem dX6_voiceFor_7 : decode cX6_voiceFor 7 = .ok (.aload_n 0, 1) := dk_42 (dk_at dksX6_voiceFor_0 7 rfl rfl)
theorem dX6_voiceFor_8 : decode cX6_voiceFor 8 = .ok (.iload_n 1, 1) := dk_27 (dk_at dksX6_voiceFor_0 8 rfl rfl)
theorem dX6_voiceFor_9 : decode cX6_voiceFor 9 = .ok (.invokevirtual 135, 3) := dk_182 0 135 (dk_at dksX6_voiceFor_0 9 rfl rfl)
theorem dX6_voiceFor_12 : decode cX6_voiceFor 12 = .ok (.ifCond .ne 5, 3) := dk_154 0 5 (dk_at dksX6_voiceFor_0 12 rfl rfl)
theorem dX6_voiceFor_15 : decode cX6_voiceFor 15 = .ok (.iload_n 1, 1) := dk_27 (dk_at dksX6_voiceFor_0 15 rfl rfl)
theorem dX6_voiceFor_16 : decode cX6_voiceFor 16 = .ok (.ireturn, 1) := dk_172 (dk_at dksX6_voiceFor_0 16 rfl rfl)
theorem dX6_voiceFor_17 : decode cX6_voiceFor 17 = .ok (.iinc 1 1, 3) := dk_132 1 1 (dk_at dksX6_voiceFor_0 17 rfl rfl)
theorem dX6_voiceFor_20 : decode cX6_voiceFor 20 = .ok (.goto (-18), 3) := dk_167 255 238 (dk_at dksX6_voiceFor_0 20 rfl rfl)
theorem dX6_voiceFor_23 : decode cX6_voiceFor 23 = .ok (.iconst (-1), 1) := dk_2 (dk_at dksX6_voiceFor_0 23 rfl rfl)
theorem dX6_voiceFor_24 : decode cX6_voiceFor 24 = .ok (.istore_n 1, 1) := dk_60 (dk_at dksX6_voiceFor_1 0 rfl rfl)
theorem dX6_voiceFor_25 : decode cX6_voiceFor 25 = .ok (.iconst 0, 1) := dk_3 (dk_at dksX6_voiceFor_1 1 rfl rfl)
theorem dX6_voiceFor_26 : decode cX6_voiceFor 26 = .ok (.istore_n 2, 1) := dk_61 (dk_at dksX6_voiceFor_1 2 rfl rfl)
theorem dX6_voiceFor_27 : decode cX6_voiceFor 27 = .ok (.iload_n 2, 1) := dk_28 (dk_at dksX6_voiceFor_1 3 rfl rfl)
theorem dX6_voiceFor_28 : decode cX6_voiceFor 28 = .ok (.iconst 4, 1) := dk_7 (dk_at dksX6_voiceFor_1 4 rfl rfl)
theorem dX6_voiceFor_29 : decode cX6_voiceFor 29 = .ok (.if_icmp .ge 40, 3) := dk_162 0 40 (dk_at dksX6_voiceFor_1 5 rfl rfl)
theorem dX6_voiceFor_32 : decode cX6_voiceFor 32 = .ok (.aload_n 0, 1) := dk_42 (dk_at dksX6_voiceFor_1 8 rfl rfl)
theorem dX6_voiceFor_33 : decode cX6_voiceFor 33 = .ok (.iload_n 2, 1) := dk_28 (dk_at dksX6_voiceFor_1 9 rfl rfl)
theorem dX6_voiceFor_34 : decode cX6_voiceFor 34 = .ok (.invokevirtual 138, 3) := dk_182 0 138 (dk_at dksX6_voiceFor_1 10 rfl rfl)
theorem dX6_voiceFor_37 : decode cX6_voiceFor 37 = .ok (.ifCond .eq 26, 3) := dk_153 0 26 (dk_at dksX6_voiceFor_1 13 rfl rfl)
theorem dX6_voiceFor_40 : decode cX6_voiceFor 40 = .ok (.iload_n 1, 1) := dk_27 (dk_at dksX6_voiceFor_1 16 rfl rfl)
theorem dX6_voiceFor_41 : decode cX6_voiceFor 41 = .ok (.ifCond .lt 20, 3) := dk_155 0 20 (dk_at dksX6_voiceFor_1 17 rfl rfl)
theorem dX6_voiceFor_44 : decode cX6_voiceFor 44 = .ok (.aload_n 0, 1) := dk_42 (dk_at dksX6_voiceFor_1 20 rfl rfl)
theorem dX6_voiceFor_45 : decode cX6_voiceFor 45 = .ok (.iload_n 2, 1) := dk_28 (dk_at dksX6_voiceFor_1 21 rfl rfl)
theorem dX6_voiceFor_46 : decode cX6_voiceFor 46 = .ok (.bipush 14, 2) := dk_16 14 (dk_at dksX6_voiceFor_1 22 rfl rfl)
theorem dX6_voiceFor_48 : decode cX6_voiceFor 48 = .ok (.invokevirtual 132, 3) := dk_182 0 132 (dk_at dksX6_voiceFor_2 0 rfl rfl)
theorem dX6_voiceFor_51 : decode cX6_voiceFor 51 = .ok (.aload_n 0, 1) := dk_42 (dk_at dksX6_voiceFor_2 3 rfl rfl)
theorem dX6_voiceFor_52 : decode cX6_voiceFor 52 = .ok (.iload_n 1, 1) := dk_27 (dk_at dksX6_voiceFor_2 4 rfl rfl)
theorem dX6_voiceFor_53 : decode cX6_voiceFor 53 = .ok (.bipush 14, 2) := dk_16 14 (dk_at dksX6_voiceFor_2 5 rfl rfl)
theorem dX6_voiceFor_55 : decode cX6_voiceFor 55 = .ok (.invokevirtual 132, 3) := dk_182 0 132 (dk_at dksX6_voiceFor_2 7 rfl rfl)
theorem dX6_voiceFor_58 : decode cX6_voiceFor 58 = .ok (.if_icmp .ge 5, 3) := dk_162 0 5 (dk_at dksX6_voiceFor_2 10 rfl rfl)
theorem dX6_voiceFor_61 : decode cX6_voiceFor 61 = .ok (.iload_n 2, 1) := dk_28 (dk_at dksX6_voiceFor_2 13 rfl rfl)
theorem dX6_voiceFor_62 : decode cX6_voiceFor 62 = .ok (.istore_n 1, 1) := dk_60 (dk_at dksX6_voiceFor_2 14 rfl rfl)
theorem dX6_voiceFor_63 : decode cX6_voiceFor 63 = .ok (.iinc 2 1, 3) := dk_132 2 1 (dk_at dksX6_voiceFor_2 15 rfl rfl)
theorem dX6_voiceFor_66 : decode cX6_voiceFor 66 = .ok (.goto (-39), 3) := dk_167 255 217 (dk_at dksX6_voiceFor_2 18 rfl rfl)
theorem dX6_voiceFor_69 : decode cX6_voiceFor 69 = .ok (.iload_n 1, 1) := dk_27 (dk_at dksX6_voiceFor_2 21 rfl rfl)
theorem dX6_voiceFor_70 : decode cX6_voiceFor 70 = .ok (.ifCond .lt 5, 3) := dk_155 0 5 (dk_at dksX6_voiceFor_3 0 rfl rfl)
theorem dX6_voiceFor_73 : decode cX6_voiceFor 73 = .ok (.iload_n 1, 1) := dk_27 (dk_at dksX6_voiceFor_3 3 rfl rfl)
theorem dX6_voiceFor_74 : decode cX6_voiceFor 74 = .ok (.ireturn, 1) := dk_172 (dk_at dksX6_voiceFor_3 4 rfl rfl)
theorem dX6_voiceFor_75 : decode cX6_voiceFor 75 = .ok (.iconst 0, 1) := dk_3 (dk_at dksX6_voiceFor_3 5 rfl rfl)
theorem dX6_voiceFor_76 : decode cX6_voiceFor 76 = .ok (.istore_n 1, 1) := dk_60 (dk_at dksX6_voiceFor_3 6 rfl rfl)
theorem dX6_voiceFor_77 : decode cX6_voiceFor 77 = .ok (.iconst 1, 1) := dk_4 (dk_at dksX6_voiceFor_3 7 rfl rfl)
theorem dX6_voiceFor_78 : decode cX6_voiceFor 78 = .ok (.istore_n 2, 1) := dk_61 (dk_at dksX6_voiceFor_3 8 rfl rfl)
theorem dX6_voiceFor_79 : decode cX6_voiceFor 79 = .ok (.iload_n 2, 1) := dk_28 (dk_at dksX6_voiceFor_3 9 rfl rfl)
theorem dX6_voiceFor_80 : decode cX6_voiceFor 80 = .ok (.iconst 4, 1) := dk_7 (dk_at dksX6_voiceFor_3 10 rfl rfl)
theorem dX6_voiceFor_81 : decode cX6_voiceFor 81 = .ok (.if_icmp .ge 28, 3) := dk_162 0 28 (dk_at dksX6_voiceFor_3 11 rfl rfl)
theorem dX6_voiceFor_84 : decode cX6_voiceFor 84 = .ok (.aload_n 0, 1) := dk_42 (dk_at dksX6_voiceFor_3 14 rfl rfl)
theorem dX6_voiceFor_85 : decode cX6_voiceFor 85 = .ok (.iload_n 2, 1) := dk_28 (dk_at dksX6_voiceFor_3 15 rfl rfl)
theorem dX6_voiceFor_86 : decode cX6_voiceFor 86 = .ok (.bipush 13, 2) := dk_16 13 (dk_at dksX6_voiceFor_3 16 rfl rfl)
theorem dX6_voiceFor_88 : decode cX6_voiceFor 88 = .ok (.invokevirtual 132, 3) := dk_182 0 132 (dk_at dksX6_voiceFor_3 18 rfl rfl)
theorem dX6_voiceFor_91 : decode cX6_voiceFor 91 = .ok (.aload_n 0, 1) := dk_42 (dk_at dksX6_voiceFor_3 21 rfl rfl)
theorem dX6_voiceFor_92 : decode cX6_voiceFor 92 = .ok (.iload_n 1, 1) := dk_27 (dk_at dksX6_voiceFor_3 22 rfl rfl)
theorem dX6_voiceFor_93 : decode cX6_voiceFor 93 = .ok (.bipush 13, 2) := dk_16 13 (dk_at dksX6_voiceFor_4 0 rfl rfl)
theorem dX6_voiceFor_95 : decode cX6_voiceFor 95 = .ok (.invokevirtual 132, 3) := dk_182 0 132 (dk_at dksX6_voiceFor_4 2 rfl rfl)
theorem dX6_voiceFor_98 : decode cX6_voiceFor 98 = .ok (.if_icmp .ge 5, 3) := dk_162 0 5 (dk_at dksX6_voiceFor_4 5 rfl rfl)
theorem dX6_voiceFor_101 : decode cX6_voiceFor 101 = .ok (.iload_n 2, 1) := dk_28 (dk_at dksX6_voiceFor_4 8 rfl rfl)
theorem dX6_voiceFor_102 : decode cX6_voiceFor 102 = .ok (.istore_n 1, 1) := dk_60 (dk_at dksX6_voiceFor_4 9 rfl rfl)
theorem dX6_voiceFor_103 : decode cX6_voiceFor 103 = .ok (.iinc 2 1, 3) := dk_132 2 1 (dk_at dksX6_voiceFor_4 10 rfl rfl)
theorem dX6_voiceFor_106 : decode cX6_voiceFor 106 = .ok (.goto (-27), 3) := dk_167 255 229 (dk_at dksX6_voiceFor_4 13 rfl rfl)
theorem dX6_voiceFor_109 : decode cX6_voiceFor 109 = .ok (.iload_n 1, 1) := dk_27 (dk_at dksX6_voiceFor_4 16 rfl rfl)
theorem dX6_voiceFor_110 : decode cX6_voiceFor 110 = .ok (.ireturn, 1) := dk_172 (dk_at dksX6_voiceFor_4 17 rfl rfl)
abbrev cX6_plays : ByteArray := prog_14_method_35_code
def yX6_plays : MethodName := ⟨RX6, "plays", "(I)Z"⟩
def dkwX6_plays_0 : List UInt8 := [42, 27, 3, 182, 0, 132, 4, 160, 0, 7, 4, 167, 0, 4, 3, 172]
abbrev dktX6_plays_0 : List UInt8 := dkwX6_plays_0 ++ []
theorem dksX6_plays_0 : cX6_plays.data.toList.drop 0 = dktX6_plays_0 := by decide +kernel
theorem dX6_plays_0 : decode cX6_plays 0 = .ok (.aload_n 0, 1) := dk_42 (dk_at dksX6_plays_0 0 rfl rfl)
theorem dX6_plays_1 : decode cX6_plays 1 = .ok (.iload_n 1, 1) := dk_27 (dk_at dksX6_plays_0 1 rfl rfl)
theorem dX6_plays_2 : decode cX6_plays 2 = .ok (.iconst 0, 1) := dk_3 (dk_at dksX6_plays_0 2 rfl rfl)
theorem dX6_plays_3 : decode cX6_plays 3 = .ok (.invokevirtual 132, 3) := dk_182 0 132 (dk_at dksX6_plays_0 3 rfl rfl)
theorem dX6_plays_6 : decode cX6_plays 6 = .ok (.iconst 1, 1) := dk_4 (dk_at dksX6_plays_0 6 rfl rfl)
theorem dX6_plays_7 : decode cX6_plays 7 = .ok (.if_icmp .ne 7, 3) := dk_160 0 7 (dk_at dksX6_plays_0 7 rfl rfl)
theorem dX6_plays_10 : decode cX6_plays 10 = .ok (.iconst 1, 1) := dk_4 (dk_at dksX6_plays_0 10 rfl rfl)
theorem dX6_plays_11 : decode cX6_plays 11 = .ok (.goto 4, 3) := dk_167 0 4 (dk_at dksX6_plays_0 11 rfl rfl)
theorem dX6_plays_14 : decode cX6_plays 14 = .ok (.iconst 0, 1) := dk_3 (dk_at dksX6_plays_0 14 rfl rfl)
theorem dX6_plays_15 : decode cX6_plays 15 = .ok (.ireturn, 1) := dk_172 (dk_at dksX6_plays_0 15 rfl rfl)
abbrev cX6_at : ByteArray := prog_14_method_33_code
def yX6_at : MethodName := ⟨RX6, "at", "(II)I"⟩
def dkwX6_at_0 : List UInt8 := [42, 180, 0, 7, 17, 2, 128, 16, 16, 27, 104, 96, 28, 96, 46, 172]
abbrev dktX6_at_0 : List UInt8 := dkwX6_at_0 ++ []
theorem dksX6_at_0 : cX6_at.data.toList.drop 0 = dktX6_at_0 := by decide +kernel
theorem dX6_at_0 : decode cX6_at 0 = .ok (.aload_n 0, 1) := dk_42 (dk_at dksX6_at_0 0 rfl rfl)
theorem dX6_at_1 : decode cX6_at 1 = .ok (.getfield 7, 3) := dk_180 0 7 (dk_at dksX6_at_0 1 rfl rfl)
theorem dX6_at_4 : decode cX6_at 4 = .ok (.sipush 640, 3) := dk_17 2 128 (dk_at dksX6_at_0 4 rfl rfl)
theorem dX6_at_7 : decode cX6_at 7 = .ok (.bipush 16, 2) := dk_16 16 (dk_at dksX6_at_0 7 rfl rfl)
theorem dX6_at_9 : decode cX6_at 9 = .ok (.iload_n 1, 1) := dk_27 (dk_at dksX6_at_0 9 rfl rfl)
theorem dX6_at_10 : decode cX6_at 10 = .ok (.imul, 1) := dk_104 (dk_at dksX6_at_0 10 rfl rfl)
theorem dX6_at_11 : decode cX6_at 11 = .ok (.iadd, 1) := dk_96 (dk_at dksX6_at_0 11 rfl rfl)
theorem dX6_at_12 : decode cX6_at 12 = .ok (.iload_n 2, 1) := dk_28 (dk_at dksX6_at_0 12 rfl rfl)
theorem dX6_at_13 : decode cX6_at 13 = .ok (.iadd, 1) := dk_96 (dk_at dksX6_at_0 13 rfl rfl)
theorem dX6_at_14 : decode cX6_at 14 = .ok (.iaload, 1) := dk_46 (dk_at dksX6_at_0 14 rfl rfl)
theorem dX6_at_15 : decode cX6_at 15 = .ok (.ireturn, 1) := dk_172 (dk_at dksX6_at_0 15 rfl rfl)
abbrev cX6_isReleased : ByteArray := prog_14_method_36_code
def yX6_isReleased : MethodName := ⟨RX6, "isReleased", "(I)Z"⟩
def dkwX6_isReleased_0 : List UInt8 := [42, 27, 182, 0, 135, 153, 0, 17, 42, 27, 4, 182, 0, 132, 4, 160, 0, 7, 4, 167, 0, 4, 3, 172]
abbrev dktX6_isReleased_0 : List UInt8 := dkwX6_isReleased_0 ++ []
theorem dksX6_isReleased_0 : cX6_isReleased.data.toList.drop 0 = dktX6_isReleased_0 := by decide +kernel
theorem dX6_isReleased_0 : decode cX6_isReleased 0 = .ok (.aload_n 0, 1) := dk_42 (dk_at dksX6_isReleased_0 0 rfl rfl)
theorem dX6_isReleased_1 : decode cX6_isReleased 1 = .ok (.iload_n 1, 1) := dk_27 (dk_at dksX6_isReleased_0 1 rfl rfl)
theorem dX6_isReleased_2 : decode cX6_isReleased 2 = .ok (.invokevirtual 135, 3) := dk_182 0 135 (dk_at dksX6_isReleased_0 2 rfl rfl)
theorem dX6_isReleased_5 : decode cX6_isReleased 5 = .ok (.ifCond .eq 17, 3) := dk_153 0 17 (dk_at dksX6_isReleased_0 5 rfl rfl)
theorem dX6_isReleased_8 : decode cX6_isReleased 8 = .ok (.aload_n 0, 1) := dk_42 (dk_at dksX6_isReleased_0 8 rfl rfl)
theorem dX6_isReleased_9 : decode cX6_isReleased 9 = .ok (.iload_n 1, 1) := dk_27 (dk_at dksX6_isReleased_0 9 rfl rfl)
theorem dX6_isReleased_10 : decode cX6_isReleased 10 = .ok (.iconst 1, 1) := dk_4 (dk_at dksX6_isReleased_0 10 rfl rfl)
theorem dX6_isReleased_11 : decode cX6_isReleased 11 = .ok (.invokevirtual 132, 3) := dk_182 0 132 (dk_at dksX6_isReleased_0 11 rfl rfl)
theorem dX6_isReleased_14 : decode cX6_isReleased 14 = .ok (.iconst 1, 1) := dk_4 (dk_at dksX6_isReleased_0 14 rfl rfl)
theorem dX6_isReleased_15 : decode cX6_isReleased 15 = .ok (.if_icmp .ne 7, 3) := dk_160 0 7 (dk_at dksX6_isReleased_0 15 rfl rfl)
theorem dX6_isReleased_18 : decode cX6_isReleased 18 = .ok (.iconst 1, 1) := dk_4 (dk_at dksX6_isReleased_0 18 rfl rfl)
theorem dX6_isReleased_19 : decode cX6_isReleased 19 = .ok (.goto 4, 3) := dk_167 0 4 (dk_at dksX6_isReleased_0 19 rfl rfl)
theorem dX6_isReleased_22 : decode cX6_isReleased 22 = .ok (.iconst 0, 1) := dk_3 (dk_at dksX6_isReleased_0 22 rfl rfl)
theorem dX6_isReleased_23 : decode cX6_isReleased 23 = .ok (.ireturn, 1) := dk_172 (dk_at dksX6_isReleased_0 23 rfl rfl)
abbrev cX6_lay : ByteArray := prog_14_method_34_code
def yX6_lay : MethodName := ⟨RX6, "lay", "(III)V"⟩
def dkwX6_lay_0 : List UInt8 := [42, 180, 0, 7, 17, 2, 128, 16, 16, 27, 104, 96, 28, 96, 29, 79, 177]
abbrev dktX6_lay_0 : List UInt8 := dkwX6_lay_0 ++ []
theorem dksX6_lay_0 : cX6_lay.data.toList.drop 0 = dktX6_lay_0 := by decide +kernel
theorem dX6_lay_0 : decode cX6_lay 0 = .ok (.aload_n 0, 1) := dk_42 (dk_at dksX6_lay_0 0 rfl rfl)
theorem dX6_lay_1 : decode cX6_lay 1 = .ok (.getfield 7, 3) := dk_180 0 7 (dk_at dksX6_lay_0 1 rfl rfl)
theorem dX6_lay_4 : decode cX6_lay 4 = .ok (.sipush 640, 3) := dk_17 2 128 (dk_at dksX6_lay_0 4 rfl rfl)
theorem dX6_lay_7 : decode cX6_lay 7 = .ok (.bipush 16, 2) := dk_16 16 (dk_at dksX6_lay_0 7 rfl rfl)
theorem dX6_lay_9 : decode cX6_lay 9 = .ok (.iload_n 1, 1) := dk_27 (dk_at dksX6_lay_0 9 rfl rfl)
theorem dX6_lay_10 : decode cX6_lay 10 = .ok (.imul, 1) := dk_104 (dk_at dksX6_lay_0 10 rfl rfl)
theorem dX6_lay_11 : decode cX6_lay 11 = .ok (.iadd, 1) := dk_96 (dk_at dksX6_lay_0 11 rfl rfl)
theorem dX6_lay_12 : decode cX6_lay 12 = .ok (.iload_n 2, 1) := dk_28 (dk_at dksX6_lay_0 12 rfl rfl)
theorem dX6_lay_13 : decode cX6_lay 13 = .ok (.iadd, 1) := dk_96 (dk_at dksX6_lay_0 13 rfl rfl)
theorem dX6_lay_14 : decode cX6_lay 14 = .ok (.iload_n 3, 1) := dk_29 (dk_at dksX6_lay_0 14 rfl rfl)
theorem dX6_lay_15 : decode cX6_lay 15 = .ok (.iastore, 1) := dk_79 (dk_at dksX6_lay_0 15 rfl rfl)
theorem dX6_lay_16 : decode cX6_lay 16 = .ok (.return_, 1) := dk_177 (dk_at dksX6_lay_0 16 rfl rfl)
abbrev cX6_end : ByteArray := prog_14_method_42_code
def yX6_end : MethodName := ⟨RX6, "end", "(I)I"⟩
def dkwX6_end_4 : List UInt8 := [182, 0, 155, 28, 172]
abbrev dktX6_end_4 : List UInt8 := dkwX6_end_4 ++ []
def dkwX6_end_3 : List UInt8 := [156, 0, 7, 5, 167, 0, 4, 3, 181, 0, 47, 42, 180, 0, 47, 158, 0, 5, 3, 172, 42, 28]
abbrev dktX6_end_3 : List UInt8 := dkwX6_end_3 ++ dktX6_end_4
def dkwX6_end_2 : List UInt8 := [29, 61, 132, 3, 1, 167, 255, 207, 42, 27, 3, 16, 59, 184, 0, 94, 154, 0, 7, 4, 167, 0, 12, 28]
abbrev dktX6_end_2 : List UInt8 := dkwX6_end_2 ++ dktX6_end_3
def dkwX6_end_1 : List UInt8 := [160, 0, 26, 28, 155, 0, 20, 42, 29, 16, 13, 182, 0, 132, 42, 28, 16, 13, 182, 0, 132, 162, 0, 5]
abbrev dktX6_end_1 : List UInt8 := dkwX6_end_1 ++ dktX6_end_2
def dkwX6_end_0 : List UInt8 := [2, 61, 3, 62, 29, 7, 162, 0, 50, 42, 29, 182, 0, 152, 153, 0, 36, 42, 29, 5, 182, 0, 132, 27]
abbrev dktX6_end_0 : List UInt8 := dkwX6_end_0 ++ dktX6_end_1
theorem dksX6_end_0 : cX6_end.data.toList.drop 0 = dktX6_end_0 := by decide +kernel
theorem dksX6_end_1 : cX6_end.data.toList.drop 24 = dktX6_end_1 := dk_seg dksX6_end_0 24 rfl rfl
theorem dksX6_end_2 : cX6_end.data.toList.drop 48 = dktX6_end_2 := dk_seg dksX6_end_1 24 rfl rfl
theorem dksX6_end_3 : cX6_end.data.toList.drop 72 = dktX6_end_3 := dk_seg dksX6_end_2 24 rfl rfl
theorem dksX6_end_4 : cX6_end.data.toList.drop 94 = dktX6_end_4 := dk_seg dksX6_end_3 22 rfl rfl
theorem dX6_end_0 : decode cX6_end 0 = .ok (.iconst (-1), 1) := dk_2 (dk_at dksX6_end_0 0 rfl rfl)
theorem dX6_end_1 : decode cX6_end 1 = .ok (.istore_n 2, 1) := dk_61 (dk_at dksX6_end_0 1 rfl rfl)
theorem dX6_end_2 : decode cX6_end 2 = .ok (.iconst 0, 1) := dk_3 (dk_at dksX6_end_0 2 rfl rfl)
theorem dX6_end_3 : decode cX6_end 3 = .ok (.istore_n 3, 1) := dk_62 (dk_at dksX6_end_0 3 rfl rfl)
theorem dX6_end_4 : decode cX6_end 4 = .ok (.iload_n 3, 1) := dk_29 (dk_at dksX6_end_0 4 rfl rfl)
theorem dX6_end_5 : decode cX6_end 5 = .ok (.iconst 4, 1) := dk_7 (dk_at dksX6_end_0 5 rfl rfl)
theorem dX6_end_6 : decode cX6_end 6 = .ok (.if_icmp .ge 50, 3) := dk_162 0 50 (dk_at dksX6_end_0 6 rfl rfl)
theorem dX6_end_9 : decode cX6_end 9 = .ok (.aload_n 0, 1) := dk_42 (dk_at dksX6_end_0 9 rfl rfl)
theorem dX6_end_10 : decode cX6_end 10 = .ok (.iload_n 3, 1) := dk_29 (dk_at dksX6_end_0 10 rfl rfl)
theorem dX6_end_11 : decode cX6_end 11 = .ok (.invokevirtual 152, 3) := dk_182 0 152 (dk_at dksX6_end_0 11 rfl rfl)
theorem dX6_end_14 : decode cX6_end 14 = .ok (.ifCond .eq 36, 3) := dk_153 0 36 (dk_at dksX6_end_0 14 rfl rfl)
theorem dX6_end_17 : decode cX6_end 17 = .ok (.aload_n 0, 1) := dk_42 (dk_at dksX6_end_0 17 rfl rfl)
theorem dX6_end_18 : decode cX6_end 18 = .ok (.iload_n 3, 1) := dk_29 (dk_at dksX6_end_0 18 rfl rfl)
theorem dX6_end_19 : decode cX6_end 19 = .ok (.iconst 2, 1) := dk_5 (dk_at dksX6_end_0 19 rfl rfl)
theorem dX6_end_20 : decode cX6_end 20 = .ok (.invokevirtual 132, 3) := dk_182 0 132 (dk_at dksX6_end_0 20 rfl rfl)
theorem dX6_end_23 : decode cX6_end 23 = .ok (.iload_n 1, 1) := dk_27 (dk_at dksX6_end_0 23 rfl rfl)
theorem dX6_end_24 : decode cX6_end 24 = .ok (.if_icmp .ne 26, 3) := dk_160 0 26 (dk_at dksX6_end_1 0 rfl rfl)
theorem dX6_end_27 : decode cX6_end 27 = .ok (.iload_n 2, 1) := dk_28 (dk_at dksX6_end_1 3 rfl rfl)
theorem dX6_end_28 : decode cX6_end 28 = .ok (.ifCond .lt 20, 3) := dk_155 0 20 (dk_at dksX6_end_1 4 rfl rfl)
theorem dX6_end_31 : decode cX6_end 31 = .ok (.aload_n 0, 1) := dk_42 (dk_at dksX6_end_1 7 rfl rfl)
theorem dX6_end_32 : decode cX6_end 32 = .ok (.iload_n 3, 1) := dk_29 (dk_at dksX6_end_1 8 rfl rfl)
theorem dX6_end_33 : decode cX6_end 33 = .ok (.bipush 13, 2) := dk_16 13 (dk_at dksX6_end_1 9 rfl rfl)
theorem dX6_end_35 : decode cX6_end 35 = .ok (.invokevirtual 132, 3) := dk_182 0 132 (dk_at dksX6_end_1 11 rfl rfl)
theorem dX6_end_38 : decode cX6_end 38 = .ok (.aload_n 0, 1) := dk_42 (dk_at dksX6_end_1 14 rfl rfl)
theorem dX6_end_39 : decode cX6_end 39 = .ok (.iload_n 2, 1) := dk_28 (dk_at dksX6_end_1 15 rfl rfl)
theorem dX6_end_40 : decode cX6_end 40 = .ok (.bipush 13, 2) := dk_16 13 (dk_at dksX6_end_1 16 rfl rfl)
theorem dX6_end_42 : decode cX6_end 42 = .ok (.invokevirtual 132, 3) := dk_182 0 132 (dk_at dksX6_end_1 18 rfl rfl)
theorem dX6_end_45 : decode cX6_end 45 = .ok (.if_icmp .ge 5, 3) := dk_162 0 5 (dk_at dksX6_end_1 21 rfl rfl)
theorem dX6_end_48 : decode cX6_end 48 = .ok (.iload_n 3, 1) := dk_29 (dk_at dksX6_end_2 0 rfl rfl)
theorem dX6_end_49 : decode cX6_end 49 = .ok (.istore_n 2, 1) := dk_61 (dk_at dksX6_end_2 1 rfl rfl)
theorem dX6_end_50 : decode cX6_end 50 = .ok (.iinc 3 1, 3) := dk_132 3 1 (dk_at dksX6_end_2 2 rfl rfl)
theorem dX6_end_53 : decode cX6_end 53 = .ok (.goto (-49), 3) := dk_167 255 207 (dk_at dksX6_end_2 5 rfl rfl)
theorem dX6_end_56 : decode cX6_end 56 = .ok (.aload_n 0, 1) := dk_42 (dk_at dksX6_end_2 8 rfl rfl)
theorem dX6_end_57 : decode cX6_end 57 = .ok (.iload_n 1, 1) := dk_27 (dk_at dksX6_end_2 9 rfl rfl)
theorem dX6_end_58 : decode cX6_end 58 = .ok (.iconst 0, 1) := dk_3 (dk_at dksX6_end_2 10 rfl rfl)
theorem dX6_end_59 : decode cX6_end 59 = .ok (.bipush 59, 2) := dk_16 59 (dk_at dksX6_end_2 11 rfl rfl)
theorem dX6_end_61 : decode cX6_end 61 = .ok (.invokestatic 94, 3) := dk_184 0 94 (dk_at dksX6_end_2 13 rfl rfl)
theorem dX6_end_64 : decode cX6_end 64 = .ok (.ifCond .ne 7, 3) := dk_154 0 7 (dk_at dksX6_end_2 16 rfl rfl)
theorem dX6_end_67 : decode cX6_end 67 = .ok (.iconst 1, 1) := dk_4 (dk_at dksX6_end_2 19 rfl rfl)
theorem dX6_end_68 : decode cX6_end 68 = .ok (.goto 12, 3) := dk_167 0 12 (dk_at dksX6_end_2 20 rfl rfl)
theorem dX6_end_71 : decode cX6_end 71 = .ok (.iload_n 2, 1) := dk_28 (dk_at dksX6_end_2 23 rfl rfl)
theorem dX6_end_72 : decode cX6_end 72 = .ok (.ifCond .ge 7, 3) := dk_156 0 7 (dk_at dksX6_end_3 0 rfl rfl)
theorem dX6_end_75 : decode cX6_end 75 = .ok (.iconst 2, 1) := dk_5 (dk_at dksX6_end_3 3 rfl rfl)
theorem dX6_end_76 : decode cX6_end 76 = .ok (.goto 4, 3) := dk_167 0 4 (dk_at dksX6_end_3 4 rfl rfl)
theorem dX6_end_79 : decode cX6_end 79 = .ok (.iconst 0, 1) := dk_3 (dk_at dksX6_end_3 7 rfl rfl)
theorem dX6_end_80 : decode cX6_end 80 = .ok (.putfield 47, 3) := dk_181 0 47 (dk_at dksX6_end_3 8 rfl rfl)
theorem dX6_end_83 : decode cX6_end 83 = .ok (.aload_n 0, 1) := dk_42 (dk_at dksX6_end_3 11 rfl rfl)
theorem dX6_end_84 : decode cX6_end 84 = .ok (.getfield 47, 3) := dk_180 0 47 (dk_at dksX6_end_3 12 rfl rfl)
theorem dX6_end_87 : decode cX6_end 87 = .ok (.ifCond .le 5, 3) := dk_158 0 5 (dk_at dksX6_end_3 15 rfl rfl)
theorem dX6_end_90 : decode cX6_end 90 = .ok (.iconst 0, 1) := dk_3 (dk_at dksX6_end_3 18 rfl rfl)
theorem dX6_end_91 : decode cX6_end 91 = .ok (.ireturn, 1) := dk_172 (dk_at dksX6_end_3 19 rfl rfl)
theorem dX6_end_92 : decode cX6_end 92 = .ok (.aload_n 0, 1) := dk_42 (dk_at dksX6_end_3 20 rfl rfl)
theorem dX6_end_93 : decode cX6_end 93 = .ok (.iload_n 2, 1) := dk_28 (dk_at dksX6_end_3 21 rfl rfl)
theorem dX6_end_94 : decode cX6_end 94 = .ok (.invokevirtual 155, 3) := dk_182 0 155 (dk_at dksX6_end_4 0 rfl rfl)
theorem dX6_end_97 : decode cX6_end 97 = .ok (.iload_n 2, 1) := dk_28 (dk_at dksX6_end_4 3 rfl rfl)
theorem dX6_end_98 : decode cX6_end 98 = .ok (.ireturn, 1) := dk_172 (dk_at dksX6_end_4 4 rfl rfl)
abbrev cX6_isHeld : ByteArray := prog_14_method_37_code
def yX6_isHeld : MethodName := ⟨RX6, "isHeld", "(I)Z"⟩
def dkwX6_isHeld_0 : List UInt8 := [42, 27, 182, 0, 135, 153, 0, 16, 42, 27, 4, 182, 0, 132, 154, 0, 7, 4, 167, 0, 4, 3, 172]
abbrev dktX6_isHeld_0 : List UInt8 := dkwX6_isHeld_0 ++ []
theorem dksX6_isHeld_0 : cX6_isHeld.data.toList.drop 0 = dktX6_isHeld_0 := by decide +kernel
theorem dX6_isHeld_0 : decode cX6_isHeld 0 = .ok (.aload_n 0, 1) := dk_42 (dk_at dksX6_isHeld_0 0 rfl rfl)
theorem dX6_isHeld_1 : decode cX6_isHeld 1 = .ok (.iload_n 1, 1) := dk_27 (dk_at dksX6_isHeld_0 1 rfl rfl)
theorem dX6_isHeld_2 : decode cX6_isHeld 2 = .ok (.invokevirtual 135, 3) := dk_182 0 135 (dk_at dksX6_isHeld_0 2 rfl rfl)
theorem dX6_isHeld_5 : decode cX6_isHeld 5 = .ok (.ifCond .eq 16, 3) := dk_153 0 16 (dk_at dksX6_isHeld_0 5 rfl rfl)
theorem dX6_isHeld_8 : decode cX6_isHeld 8 = .ok (.aload_n 0, 1) := dk_42 (dk_at dksX6_isHeld_0 8 rfl rfl)
theorem dX6_isHeld_9 : decode cX6_isHeld 9 = .ok (.iload_n 1, 1) := dk_27 (dk_at dksX6_isHeld_0 9 rfl rfl)
theorem dX6_isHeld_10 : decode cX6_isHeld 10 = .ok (.iconst 1, 1) := dk_4 (dk_at dksX6_isHeld_0 10 rfl rfl)
theorem dX6_isHeld_11 : decode cX6_isHeld 11 = .ok (.invokevirtual 132, 3) := dk_182 0 132 (dk_at dksX6_isHeld_0 11 rfl rfl)
theorem dX6_isHeld_14 : decode cX6_isHeld 14 = .ok (.ifCond .ne 7, 3) := dk_154 0 7 (dk_at dksX6_isHeld_0 14 rfl rfl)
theorem dX6_isHeld_17 : decode cX6_isHeld 17 = .ok (.iconst 1, 1) := dk_4 (dk_at dksX6_isHeld_0 17 rfl rfl)
theorem dX6_isHeld_18 : decode cX6_isHeld 18 = .ok (.goto 4, 3) := dk_167 0 4 (dk_at dksX6_isHeld_0 18 rfl rfl)
theorem dX6_isHeld_21 : decode cX6_isHeld 21 = .ok (.iconst 0, 1) := dk_3 (dk_at dksX6_isHeld_0 21 rfl rfl)
theorem dX6_isHeld_22 : decode cX6_isHeld 22 = .ok (.ireturn, 1) := dk_172 (dk_at dksX6_isHeld_0 22 rfl rfl)
abbrev cX6_releases : ByteArray := prog_14_method_41_code
def yX6_releases : MethodName := ⟨RX6, "releases", "(I)V"⟩
def dkwX6_releases_2 : List UInt8 := [181, 0, 75, 42, 27, 16, 8, 182, 0, 132, 154, 0, 10, 42, 27, 3, 3, 182, 0, 145, 177]
abbrev dktX6_releases_2 : List UInt8 := dkwX6_releases_2 ++ []
def dkwX6_releases_1 : List UInt8 := [16, 12, 3, 182, 0, 145, 42, 27, 16, 14, 42, 180, 0, 75, 182, 0, 145, 42, 89, 180, 0, 75, 4, 96]
abbrev dktX6_releases_1 : List UInt8 := dkwX6_releases_1 ++ dktX6_releases_2
def dkwX6_releases_0 : List UInt8 := [42, 27, 182, 0, 149, 61, 42, 27, 4, 4, 182, 0, 145, 42, 27, 16, 11, 28, 182, 0, 145, 42, 27]
abbrev dktX6_releases_0 : List UInt8 := dkwX6_releases_0 ++ dktX6_releases_1
theorem dksX6_releases_0 : cX6_releases.data.toList.drop 0 = dktX6_releases_0 := by decide +kernel
theorem dksX6_releases_1 : cX6_releases.data.toList.drop 23 = dktX6_releases_1 := dk_seg dksX6_releases_0 23 rfl rfl
theorem dksX6_releases_2 : cX6_releases.data.toList.drop 47 = dktX6_releases_2 := dk_seg dksX6_releases_1 24 rfl rfl
theorem dX6_releases_0 : decode cX6_releases 0 = .ok (.aload_n 0, 1) := dk_42 (dk_at dksX6_releases_0 0 rfl rfl)
theorem dX6_releases_1 : decode cX6_releases 1 = .ok (.iload_n 1, 1) := dk_27 (dk_at dksX6_releases_0 1 rfl rfl)
theorem dX6_releases_2 : decode cX6_releases 2 = .ok (.invokevirtual 149, 3) := dk_182 0 149 (dk_at dksX6_releases_0 2 rfl rfl)
theorem dX6_releases_5 : decode cX6_releases 5 = .ok (.istore_n 2, 1) := dk_61 (dk_at dksX6_releases_0 5 rfl rfl)
theorem dX6_releases_6 : decode cX6_releases 6 = .ok (.aload_n 0, 1) := dk_42 (dk_at dksX6_releases_0 6 rfl rfl)
theorem dX6_releases_7 : decode cX6_releases 7 = .ok (.iload_n 1, 1) := dk_27 (dk_at dksX6_releases_0 7 rfl rfl)
theorem dX6_releases_8 : decode cX6_releases 8 = .ok (.iconst 1, 1) := dk_4 (dk_at dksX6_releases_0 8 rfl rfl)
theorem dX6_releases_9 : decode cX6_releases 9 = .ok (.iconst 1, 1) := dk_4 (dk_at dksX6_releases_0 9 rfl rfl)
theorem dX6_releases_10 : decode cX6_releases 10 = .ok (.invokevirtual 145, 3) := dk_182 0 145 (dk_at dksX6_releases_0 10 rfl rfl)
theorem dX6_releases_13 : decode cX6_releases 13 = .ok (.aload_n 0, 1) := dk_42 (dk_at dksX6_releases_0 13 rfl rfl)
theorem dX6_releases_14 : decode cX6_releases 14 = .ok (.iload_n 1, 1) := dk_27 (dk_at dksX6_releases_0 14 rfl rfl)
theorem dX6_releases_15 : decode cX6_releases 15 = .ok (.bipush 11, 2) := dk_16 11 (dk_at dksX6_releases_0 15 rfl rfl)
theorem dX6_releases_17 : decode cX6_releases 17 = .ok (.iload_n 2, 1) := dk_28 (dk_at dksX6_releases_0 17 rfl rfl)
theorem dX6_releases_18 : decode cX6_releases 18 = .ok (.invokevirtual 145, 3) := dk_182 0 145 (dk_at dksX6_releases_0 18 rfl rfl)
theorem dX6_releases_21 : decode cX6_releases 21 = .ok (.aload_n 0, 1) := dk_42 (dk_at dksX6_releases_0 21 rfl rfl)
theorem dX6_releases_22 : decode cX6_releases 22 = .ok (.iload_n 1, 1) := dk_27 (dk_at dksX6_releases_0 22 rfl rfl)
theorem dX6_releases_23 : decode cX6_releases 23 = .ok (.bipush 12, 2) := dk_16 12 (dk_at dksX6_releases_1 0 rfl rfl)
theorem dX6_releases_25 : decode cX6_releases 25 = .ok (.iconst 0, 1) := dk_3 (dk_at dksX6_releases_1 2 rfl rfl)
theorem dX6_releases_26 : decode cX6_releases 26 = .ok (.invokevirtual 145, 3) := dk_182 0 145 (dk_at dksX6_releases_1 3 rfl rfl)
theorem dX6_releases_29 : decode cX6_releases 29 = .ok (.aload_n 0, 1) := dk_42 (dk_at dksX6_releases_1 6 rfl rfl)
theorem dX6_releases_30 : decode cX6_releases 30 = .ok (.iload_n 1, 1) := dk_27 (dk_at dksX6_releases_1 7 rfl rfl)
theorem dX6_releases_31 : decode cX6_releases 31 = .ok (.bipush 14, 2) := dk_16 14 (dk_at dksX6_releases_1 8 rfl rfl)
theorem dX6_releases_33 : decode cX6_releases 33 = .ok (.aload_n 0, 1) := dk_42 (dk_at dksX6_releases_1 10 rfl rfl)
theorem dX6_releases_34 : decode cX6_releases 34 = .ok (.getfield 75, 3) := dk_180 0 75 (dk_at dksX6_releases_1 11 rfl rfl)
theorem dX6_releases_37 : decode cX6_releases 37 = .ok (.invokevirtual 145, 3) := dk_182 0 145 (dk_at dksX6_releases_1 14 rfl rfl)
theorem dX6_releases_40 : decode cX6_releases 40 = .ok (.aload_n 0, 1) := dk_42 (dk_at dksX6_releases_1 17 rfl rfl)
theorem dX6_releases_41 : decode cX6_releases 41 = .ok (.dup, 1) := dk_89 (dk_at dksX6_releases_1 18 rfl rfl)
theorem dX6_releases_42 : decode cX6_releases 42 = .ok (.getfield 75, 3) := dk_180 0 75 (dk_at dksX6_releases_1 19 rfl rfl)
theorem dX6_releases_45 : decode cX6_releases 45 = .ok (.iconst 1, 1) := dk_4 (dk_at dksX6_releases_1 22 rfl rfl)
theorem dX6_releases_46 : decode cX6_releases 46 = .ok (.iadd, 1) := dk_96 (dk_at dksX6_releases_1 23 rfl rfl)
theorem dX6_releases_47 : decode cX6_releases 47 = .ok (.putfield 75, 3) := dk_181 0 75 (dk_at dksX6_releases_2 0 rfl rfl)
theorem dX6_releases_50 : decode cX6_releases 50 = .ok (.aload_n 0, 1) := dk_42 (dk_at dksX6_releases_2 3 rfl rfl)
theorem dX6_releases_51 : decode cX6_releases 51 = .ok (.iload_n 1, 1) := dk_27 (dk_at dksX6_releases_2 4 rfl rfl)
theorem dX6_releases_52 : decode cX6_releases 52 = .ok (.bipush 8, 2) := dk_16 8 (dk_at dksX6_releases_2 5 rfl rfl)
theorem dX6_releases_54 : decode cX6_releases 54 = .ok (.invokevirtual 132, 3) := dk_182 0 132 (dk_at dksX6_releases_2 7 rfl rfl)
theorem dX6_releases_57 : decode cX6_releases 57 = .ok (.ifCond .ne 10, 3) := dk_154 0 10 (dk_at dksX6_releases_2 10 rfl rfl)
theorem dX6_releases_60 : decode cX6_releases 60 = .ok (.aload_n 0, 1) := dk_42 (dk_at dksX6_releases_2 13 rfl rfl)
theorem dX6_releases_61 : decode cX6_releases 61 = .ok (.iload_n 1, 1) := dk_27 (dk_at dksX6_releases_2 14 rfl rfl)
theorem dX6_releases_62 : decode cX6_releases 62 = .ok (.iconst 0, 1) := dk_3 (dk_at dksX6_releases_2 15 rfl rfl)
theorem dX6_releases_63 : decode cX6_releases 63 = .ok (.iconst 0, 1) := dk_3 (dk_at dksX6_releases_2 16 rfl rfl)
theorem dX6_releases_64 : decode cX6_releases 64 = .ok (.invokevirtual 145, 3) := dk_182 0 145 (dk_at dksX6_releases_2 17 rfl rfl)
theorem dX6_releases_67 : decode cX6_releases 67 = .ok (.return_, 1) := dk_177 (dk_at dksX6_releases_2 20 rfl rfl)
abbrev cX6_levelAt : ByteArray := prog_14_method_40_code
def yX6_levelAt : MethodName := ⟨RX6, "levelAt", "(I)I"⟩
def dkwX6_levelAt_5 : List UInt8 := [104, 42, 27, 16, 6, 182, 0, 132, 108, 100, 167, 0, 10, 42, 27, 16, 7, 182, 0, 132, 172]
abbrev dktX6_levelAt_5 : List UInt8 := dkwX6_levelAt_5 ++ []
def dkwX6_levelAt_4 : List UInt8 := [27, 16, 6, 182, 0, 132, 162, 0, 31, 17, 3, 232, 17, 3, 232, 42, 27, 16, 7, 182, 0, 132, 100, 29]
abbrev dktX6_levelAt_4 : List UInt8 := dkwX6_levelAt_4 ++ dktX6_levelAt_5
def dkwX6_levelAt_3 : List UInt8 := [17, 3, 232, 28, 104, 42, 27, 8, 182, 0, 132, 108, 172, 28, 42, 27, 8, 182, 0, 132, 100, 62, 29, 42]
abbrev dktX6_levelAt_3 : List UInt8 := dkwX6_levelAt_3 ++ dktX6_levelAt_4
def dkwX6_levelAt_2 : List UInt8 := [182, 0, 132, 108, 100, 172, 42, 27, 16, 10, 182, 0, 132, 61, 28, 42, 27, 8, 182, 0, 132, 162, 0, 16]
abbrev dktX6_levelAt_2 : List UInt8 := dkwX6_levelAt_2 ++ dktX6_levelAt_3
def dkwX6_levelAt_1 : List UInt8 := [182, 0, 132, 42, 27, 16, 11, 182, 0, 132, 42, 27, 16, 12, 182, 0, 132, 104, 42, 27, 16, 8]
abbrev dktX6_levelAt_1 : List UInt8 := dkwX6_levelAt_1 ++ dktX6_levelAt_2
def dkwX6_levelAt_0 : List UInt8 := [42, 27, 182, 0, 135, 154, 0, 5, 3, 172, 42, 27, 182, 0, 138, 153, 0, 35, 42, 27, 16, 11]
abbrev dktX6_levelAt_0 : List UInt8 := dkwX6_levelAt_0 ++ dktX6_levelAt_1
theorem dksX6_levelAt_0 : cX6_levelAt.data.toList.drop 0 = dktX6_levelAt_0 := by decide +kernel
theorem dksX6_levelAt_1 : cX6_levelAt.data.toList.drop 22 = dktX6_levelAt_1 := dk_seg dksX6_levelAt_0 22 rfl rfl
theorem dksX6_levelAt_2 : cX6_levelAt.data.toList.drop 44 = dktX6_levelAt_2 := dk_seg dksX6_levelAt_1 22 rfl rfl
theorem dksX6_levelAt_3 : cX6_levelAt.data.toList.drop 68 = dktX6_levelAt_3 := dk_seg dksX6_levelAt_2 24 rfl rfl
theorem dksX6_levelAt_4 : cX6_levelAt.data.toList.drop 92 = dktX6_levelAt_4 := dk_seg dksX6_levelAt_3 24 rfl rfl
theorem dksX6_levelAt_5 : cX6_levelAt.data.toList.drop 116 = dktX6_levelAt_5 := dk_seg dksX6_levelAt_4 24 rfl rfl
theorem dX6_levelAt_0 : decode cX6_levelAt 0 = .ok (.aload_n 0, 1) := dk_42 (dk_at dksX6_levelAt_0 0 rfl rfl)
theorem dX6_levelAt_1 : decode cX6_levelAt 1 = .ok (.iload_n 1, 1) := dk_27 (dk_at dksX6_levelAt_0 1 rfl rfl)
theorem dX6_levelAt_2 : decode cX6_levelAt 2 = .ok (.invokevirtual 135, 3) := dk_182 0 135 (dk_at dksX6_levelAt_0 2 rfl rfl)
theorem dX6_levelAt_5 : decode cX6_levelAt 5 = .ok (.ifCond .ne 5, 3) := dk_154 0 5 (dk_at dksX6_levelAt_0 5 rfl rfl)
theorem dX6_levelAt_8 : decode cX6_levelAt 8 = .ok (.iconst 0, 1) := dk_3 (dk_at dksX6_levelAt_0 8 rfl rfl)
theorem dX6_levelAt_9 : decode cX6_levelAt 9 = .ok (.ireturn, 1) := dk_172 (dk_at dksX6_levelAt_0 9 rfl rfl)
theorem dX6_levelAt_10 : decode cX6_levelAt 10 = .ok (.aload_n 0, 1) := dk_42 (dk_at dksX6_levelAt_0 10 rfl rfl)
theorem dX6_levelAt_11 : decode cX6_levelAt 11 = .ok (.iload_n 1, 1) := dk_27 (dk_at dksX6_levelAt_0 11 rfl rfl)
theorem dX6_levelAt_12 : decode cX6_levelAt 12 = .ok (.invokevirtual 138, 3) := dk_182 0 138 (dk_at dksX6_levelAt_0 12 rfl rfl)
theorem dX6_levelAt_15 : decode cX6_levelAt 15 = .ok (.ifCond .eq 35, 3) := dk_153 0 35 (dk_at dksX6_levelAt_0 15 rfl rfl)
theorem dX6_levelAt_18 : decode cX6_levelAt 18 = .ok (.aload_n 0, 1) := dk_42 (dk_at dksX6_levelAt_0 18 rfl rfl)
theorem dX6_levelAt_19 : decode cX6_levelAt 19 = .ok (.iload_n 1, 1) := dk_27 (dk_at dksX6_levelAt_0 19 rfl rfl)
theorem dX6_levelAt_20 : decode cX6_levelAt 20 = .ok (.bipush 11, 2) := dk_16 11 (dk_at dksX6_levelAt_0 20 rfl rfl)
theorem dX6_levelAt_22 : decode cX6_levelAt 22 = .ok (.invokevirtual 132, 3) := dk_182 0 132 (dk_at dksX6_levelAt_1 0 rfl rfl)
theorem dX6_levelAt_25 : decode cX6_levelAt 25 = .ok (.aload_n 0, 1) := dk_42 (dk_at dksX6_levelAt_1 3 rfl rfl)
theorem dX6_levelAt_26 : decode cX6_levelAt 26 = .ok (.iload_n 1, 1) := dk_27 (dk_at dksX6_levelAt_1 4 rfl rfl)
theorem dX6_levelAt_27 : decode cX6_levelAt 27 = .ok (.bipush 11, 2) := dk_16 11 (dk_at dksX6_levelAt_1 5 rfl rfl)
theorem dX6_levelAt_29 : decode cX6_levelAt 29 = .ok (.invokevirtual 132, 3) := dk_182 0 132 (dk_at dksX6_levelAt_1 7 rfl rfl)
theorem dX6_levelAt_32 : decode cX6_levelAt 32 = .ok (.aload_n 0, 1) := dk_42 (dk_at dksX6_levelAt_1 10 rfl rfl)
theorem dX6_levelAt_33 : decode cX6_levelAt 33 = .ok (.iload_n 1, 1) := dk_27 (dk_at dksX6_levelAt_1 11 rfl rfl)
theorem dX6_levelAt_34 : decode cX6_levelAt 34 = .ok (.bipush 12, 2) := dk_16 12 (dk_at dksX6_levelAt_1 12 rfl rfl)
theorem dX6_levelAt_36 : decode cX6_levelAt 36 = .ok (.invokevirtual 132, 3) := dk_182 0 132 (dk_at dksX6_levelAt_1 14 rfl rfl)
theorem dX6_levelAt_39 : decode cX6_levelAt 39 = .ok (.imul, 1) := dk_104 (dk_at dksX6_levelAt_1 17 rfl rfl)
theorem dX6_levelAt_40 : decode cX6_levelAt 40 = .ok (.aload_n 0, 1) := dk_42 (dk_at dksX6_levelAt_1 18 rfl rfl)
theorem dX6_levelAt_41 : decode cX6_levelAt 41 = .ok (.iload_n 1, 1) := dk_27 (dk_at dksX6_levelAt_1 19 rfl rfl)
theorem dX6_levelAt_42 : decode cX6_levelAt 42 = .ok (.bipush 8, 2) := dk_16 8 (dk_at dksX6_levelAt_1 20 rfl rfl)
theorem dX6_levelAt_44 : decode cX6_levelAt 44 = .ok (.invokevirtual 132, 3) := dk_182 0 132 (dk_at dksX6_levelAt_2 0 rfl rfl)
theorem dX6_levelAt_47 : decode cX6_levelAt 47 = .ok (.idiv, 1) := dk_108 (dk_at dksX6_levelAt_2 3 rfl rfl)
theorem dX6_levelAt_48 : decode cX6_levelAt 48 = .ok (.isub, 1) := dk_100 (dk_at dksX6_levelAt_2 4 rfl rfl)
theorem dX6_levelAt_49 : decode cX6_levelAt 49 = .ok (.ireturn, 1) := dk_172 (dk_at dksX6_levelAt_2 5 rfl rfl)
theorem dX6_levelAt_50 : decode cX6_levelAt 50 = .ok (.aload_n 0, 1) := dk_42 (dk_at dksX6_levelAt_2 6 rfl rfl)
theorem dX6_levelAt_51 : decode cX6_levelAt 51 = .ok (.iload_n 1, 1) := dk_27 (dk_at dksX6_levelAt_2 7 rfl rfl)
theorem dX6_levelAt_52 : decode cX6_levelAt 52 = .ok (.bipush 10, 2) := dk_16 10 (dk_at dksX6_levelAt_2 8 rfl rfl)
theorem dX6_levelAt_54 : decode cX6_levelAt 54 = .ok (.invokevirtual 132, 3) := dk_182 0 132 (dk_at dksX6_levelAt_2 10 rfl rfl)
theorem dX6_levelAt_57 : decode cX6_levelAt 57 = .ok (.istore_n 2, 1) := dk_61 (dk_at dksX6_levelAt_2 13 rfl rfl)
theorem dX6_levelAt_58 : decode cX6_levelAt 58 = .ok (.iload_n 2, 1) := dk_28 (dk_at dksX6_levelAt_2 14 rfl rfl)
theorem dX6_levelAt_59 : decode cX6_levelAt 59 = .ok (.aload_n 0, 1) := dk_42 (dk_at dksX6_levelAt_2 15 rfl rfl)
theorem dX6_levelAt_60 : decode cX6_levelAt 60 = .ok (.iload_n 1, 1) := dk_27 (dk_at dksX6_levelAt_2 16 rfl rfl)
theorem dX6_levelAt_61 : decode cX6_levelAt 61 = .ok (.iconst 5, 1) := dk_8 (dk_at dksX6_levelAt_2 17 rfl rfl)
theorem dX6_levelAt_62 : decode cX6_levelAt 62 = .ok (.invokevirtual 132, 3) := dk_182 0 132 (dk_at dksX6_levelAt_2 18 rfl rfl)
theorem dX6_levelAt_65 : decode cX6_levelAt 65 = .ok (.if_icmp .ge 16, 3) := dk_162 0 16 (dk_at dksX6_levelAt_2 21 rfl rfl)
theorem dX6_levelAt_68 : decode cX6_levelAt 68 = .ok (.sipush 1000, 3) := dk_17 3 232 (dk_at dksX6_levelAt_3 0 rfl rfl)
theorem dX6_levelAt_71 : decode cX6_levelAt 71 = .ok (.iload_n 2, 1) := dk_28 (dk_at dksX6_levelAt_3 3 rfl rfl)
theorem dX6_levelAt_72 : decode cX6_levelAt 72 = .ok (.imul, 1) := dk_104 (dk_at dksX6_levelAt_3 4 rfl rfl)
theorem dX6_levelAt_73 : decode cX6_levelAt 73 = .ok (.aload_n 0, 1) := dk_42 (dk_at dksX6_levelAt_3 5 rfl rfl)
theorem dX6_levelAt_74 : decode cX6_levelAt 74 = .ok (.iload_n 1, 1) := dk_27 (dk_at dksX6_levelAt_3 6 rfl rfl)
theorem dX6_levelAt_75 : decode cX6_levelAt 75 = .ok (.iconst 5, 1) := dk_8 (dk_at dksX6_levelAt_3 7 rfl rfl)
theorem dX6_levelAt_76 : decode cX6_levelAt 76 = .ok (.invokevirtual 132, 3) := dk_182 0 132 (dk_at dksX6_levelAt_3 8 rfl rfl)
theorem dX6_levelAt_79 : decode cX6_levelAt 79 = .ok (.idiv, 1) := dk_108 (dk_at dksX6_levelAt_3 11 rfl rfl)
theorem dX6_levelAt_80 : decode cX6_levelAt 80 = .ok (.ireturn, 1) := dk_172 (dk_at dksX6_levelAt_3 12 rfl rfl)
theorem dX6_levelAt_81 : decode cX6_levelAt 81 = .ok (.iload_n 2, 1) := dk_28 (dk_at dksX6_levelAt_3 13 rfl rfl)
theorem dX6_levelAt_82 : decode cX6_levelAt 82 = .ok (.aload_n 0, 1) := dk_42 (dk_at dksX6_levelAt_3 14 rfl rfl)
theorem dX6_levelAt_83 : decode cX6_levelAt 83 = .ok (.iload_n 1, 1) := dk_27 (dk_at dksX6_levelAt_3 15 rfl rfl)
theorem dX6_levelAt_84 : decode cX6_levelAt 84 = .ok (.iconst 5, 1) := dk_8 (dk_at dksX6_levelAt_3 16 rfl rfl)
theorem dX6_levelAt_85 : decode cX6_levelAt 85 = .ok (.invokevirtual 132, 3) := dk_182 0 132 (dk_at dksX6_levelAt_3 17 rfl rfl)
theorem dX6_levelAt_88 : decode cX6_levelAt 88 = .ok (.isub, 1) := dk_100 (dk_at dksX6_levelAt_3 20 rfl rfl)
theorem dX6_levelAt_89 : decode cX6_levelAt 89 = .ok (.istore_n 3, 1) := dk_62 (dk_at dksX6_levelAt_3 21 rfl rfl)
theorem dX6_levelAt_90 : decode cX6_levelAt 90 = .ok (.iload_n 3, 1) := dk_29 (dk_at dksX6_levelAt_3 22 rfl rfl)
theorem dX6_levelAt_91 : decode cX6_levelAt 91 = .ok (.aload_n 0, 1) := dk_42 (dk_at dksX6_levelAt_3 23 rfl rfl)
theorem dX6_levelAt_92 : decode cX6_levelAt 92 = .ok (.iload_n 1, 1) := dk_27 (dk_at dksX6_levelAt_4 0 rfl rfl)
theorem dX6_levelAt_93 : decode cX6_levelAt 93 = .ok (.bipush 6, 2) := dk_16 6 (dk_at dksX6_levelAt_4 1 rfl rfl)
theorem dX6_levelAt_95 : decode cX6_levelAt 95 = .ok (.invokevirtual 132, 3) := dk_182 0 132 (dk_at dksX6_levelAt_4 3 rfl rfl)
theorem dX6_levelAt_98 : decode cX6_levelAt 98 = .ok (.if_icmp .ge 31, 3) := dk_162 0 31 (dk_at dksX6_levelAt_4 6 rfl rfl)
theorem dX6_levelAt_101 : decode cX6_levelAt 101 = .ok (.sipush 1000, 3) := dk_17 3 232 (dk_at dksX6_levelAt_4 9 rfl rfl)
theorem dX6_levelAt_104 : decode cX6_levelAt 104 = .ok (.sipush 1000, 3) := dk_17 3 232 (dk_at dksX6_levelAt_4 12 rfl rfl)
theorem dX6_levelAt_107 : decode cX6_levelAt 107 = .ok (.aload_n 0, 1) := dk_42 (dk_at dksX6_levelAt_4 15 rfl rfl)
theorem dX6_levelAt_108 : decode cX6_levelAt 108 = .ok (.iload_n 1, 1) := dk_27 (dk_at dksX6_levelAt_4 16 rfl rfl)
theorem dX6_levelAt_109 : decode cX6_levelAt 109 = .ok (.bipush 7, 2) := dk_16 7 (dk_at dksX6_levelAt_4 17 rfl rfl)
theorem dX6_levelAt_111 : decode cX6_levelAt 111 = .ok (.invokevirtual 132, 3) := dk_182 0 132 (dk_at dksX6_levelAt_4 19 rfl rfl)
theorem dX6_levelAt_114 : decode cX6_levelAt 114 = .ok (.isub, 1) := dk_100 (dk_at dksX6_levelAt_4 22 rfl rfl)
theorem dX6_levelAt_115 : decode cX6_levelAt 115 = .ok (.iload_n 3, 1) := dk_29 (dk_at dksX6_levelAt_4 23 rfl rfl)
theorem dX6_levelAt_116 : decode cX6_levelAt 116 = .ok (.imul, 1) := dk_104 (dk_at dksX6_levelAt_5 0 rfl rfl)
theorem dX6_levelAt_117 : decode cX6_levelAt 117 = .ok (.aload_n 0, 1) := dk_42 (dk_at dksX6_levelAt_5 1 rfl rfl)
theorem dX6_levelAt_118 : decode cX6_levelAt 118 = .ok (.iload_n 1, 1) := dk_27 (dk_at dksX6_levelAt_5 2 rfl rfl)
theorem dX6_levelAt_119 : decode cX6_levelAt 119 = .ok (.bipush 6, 2) := dk_16 6 (dk_at dksX6_levelAt_5 3 rfl rfl)
theorem dX6_levelAt_121 : decode cX6_levelAt 121 = .ok (.invokevirtual 132, 3) := dk_182 0 132 (dk_at dksX6_levelAt_5 5 rfl rfl)
theorem dX6_levelAt_124 : decode cX6_levelAt 124 = .ok (.idiv, 1) := dk_108 (dk_at dksX6_levelAt_5 8 rfl rfl)
theorem dX6_levelAt_125 : decode cX6_levelAt 125 = .ok (.isub, 1) := dk_100 (dk_at dksX6_levelAt_5 9 rfl rfl)
theorem dX6_levelAt_126 : decode cX6_levelAt 126 = .ok (.goto 10, 3) := dk_167 0 10 (dk_at dksX6_levelAt_5 10 rfl rfl)
theorem dX6_levelAt_129 : decode cX6_levelAt 129 = .ok (.aload_n 0, 1) := dk_42 (dk_at dksX6_levelAt_5 13 rfl rfl)
theorem dX6_levelAt_130 : decode cX6_levelAt 130 = .ok (.iload_n 1, 1) := dk_27 (dk_at dksX6_levelAt_5 14 rfl rfl)
theorem dX6_levelAt_131 : decode cX6_levelAt 131 = .ok (.bipush 7, 2) := dk_16 7 (dk_at dksX6_levelAt_5 15 rfl rfl)
theorem dX6_levelAt_133 : decode cX6_levelAt 133 = .ok (.invokevirtual 132, 3) := dk_182 0 132 (dk_at dksX6_levelAt_5 17 rfl rfl)
theorem dX6_levelAt_136 : decode cX6_levelAt 136 = .ok (.ireturn, 1) := dk_172 (dk_at dksX6_levelAt_5 20 rfl rfl)
abbrev cX6_endAll : ByteArray := prog_14_method_43_code
def yX6_endAll : MethodName := ⟨RX6, "endAll", "()I"⟩
def dkwX6_endAll_1 : List UInt8 := [182, 0, 155, 132, 1, 1, 132, 2, 1, 167, 255, 229, 42, 27, 182, 0, 125, 172]
abbrev dktX6_endAll_1 : List UInt8 := dkwX6_endAll_1 ++ []
def dkwX6_endAll_0 : List UInt8 := [3, 60, 3, 61, 28, 7, 162, 0, 28, 42, 28, 182, 0, 152, 154, 0, 6, 167, 0, 11, 42, 28]
abbrev dktX6_endAll_0 : List UInt8 := dkwX6_endAll_0 ++ dktX6_endAll_1
theorem dksX6_endAll_0 : cX6_endAll.data.toList.drop 0 = dktX6_endAll_0 := by decide +kernel
theorem dksX6_endAll_1 : cX6_endAll.data.toList.drop 22 = dktX6_endAll_1 := dk_seg dksX6_endAll_0 22 rfl rfl
theorem dX6_endAll_0 : decode cX6_endAll 0 = .ok (.iconst 0, 1) := dk_3 (dk_at dksX6_endAll_0 0 rfl rfl)
theorem dX6_endAll_1 : decode cX6_endAll 1 = .ok (.istore_n 1, 1) := dk_60 (dk_at dksX6_endAll_0 1 rfl rfl)
theorem dX6_endAll_2 : decode cX6_endAll 2 = .ok (.iconst 0, 1) := dk_3 (dk_at dksX6_endAll_0 2 rfl rfl)
theorem dX6_endAll_3 : decode cX6_endAll 3 = .ok (.istore_n 2, 1) := dk_61 (dk_at dksX6_endAll_0 3 rfl rfl)
theorem dX6_endAll_4 : decode cX6_endAll 4 = .ok (.iload_n 2, 1) := dk_28 (dk_at dksX6_endAll_0 4 rfl rfl)
theorem dX6_endAll_5 : decode cX6_endAll 5 = .ok (.iconst 4, 1) := dk_7 (dk_at dksX6_endAll_0 5 rfl rfl)
theorem dX6_endAll_6 : decode cX6_endAll 6 = .ok (.if_icmp .ge 28, 3) := dk_162 0 28 (dk_at dksX6_endAll_0 6 rfl rfl)
theorem dX6_endAll_9 : decode cX6_endAll 9 = .ok (.aload_n 0, 1) := dk_42 (dk_at dksX6_endAll_0 9 rfl rfl)
theorem dX6_endAll_10 : decode cX6_endAll 10 = .ok (.iload_n 2, 1) := dk_28 (dk_at dksX6_endAll_0 10 rfl rfl)
theorem dX6_endAll_11 : decode cX6_endAll 11 = .ok (.invokevirtual 152, 3) := dk_182 0 152 (dk_at dksX6_endAll_0 11 rfl rfl)
theorem dX6_endAll_14 : decode cX6_endAll 14 = .ok (.ifCond .ne 6, 3) := dk_154 0 6 (dk_at dksX6_endAll_0 14 rfl rfl)
theorem dX6_endAll_17 : decode cX6_endAll 17 = .ok (.goto 11, 3) := dk_167 0 11 (dk_at dksX6_endAll_0 17 rfl rfl)
theorem dX6_endAll_20 : decode cX6_endAll 20 = .ok (.aload_n 0, 1) := dk_42 (dk_at dksX6_endAll_0 20 rfl rfl)
theorem dX6_endAll_21 : decode cX6_endAll 21 = .ok (.iload_n 2, 1) := dk_28 (dk_at dksX6_endAll_0 21 rfl rfl)
theorem dX6_endAll_22 : decode cX6_endAll 22 = .ok (.invokevirtual 155, 3) := dk_182 0 155 (dk_at dksX6_endAll_1 0 rfl rfl)
theorem dX6_endAll_25 : decode cX6_endAll 25 = .ok (.iinc 1 1, 3) := dk_132 1 1 (dk_at dksX6_endAll_1 3 rfl rfl)
theorem dX6_endAll_28 : decode cX6_endAll 28 = .ok (.iinc 2 1, 3) := dk_132 2 1 (dk_at dksX6_endAll_1 6 rfl rfl)
theorem dX6_endAll_31 : decode cX6_endAll 31 = .ok (.goto (-27), 3) := dk_167 255 229 (dk_at dksX6_endAll_1 9 rfl rfl)
theorem dX6_endAll_34 : decode cX6_endAll 34 = .ok (.aload_n 0, 1) := dk_42 (dk_at dksX6_endAll_1 12 rfl rfl)
theorem dX6_endAll_35 : decode cX6_endAll 35 = .ok (.iload_n 1, 1) := dk_27 (dk_at dksX6_endAll_1 13 rfl rfl)
theorem dX6_endAll_36 : decode cX6_endAll 36 = .ok (.invokevirtual 125, 3) := dk_182 0 125 (dk_at dksX6_endAll_1 14 rfl rfl)
theorem dX6_endAll_39 : decode cX6_endAll 39 = .ok (.ireturn, 1) := dk_172 (dk_at dksX6_endAll_1 17 rfl rfl)
abbrev cX6_sounding : ByteArray := prog_14_method_44_code
def yX6_sounding : MethodName := ⟨RX6, "sounding", "()I"⟩
def dkwX6_sounding_1 : List UInt8 := [60, 132, 2, 1, 167, 255, 232, 42, 27, 182, 0, 125, 172]
abbrev dktX6_sounding_1 : List UInt8 := dkwX6_sounding_1 ++ []
def dkwX6_sounding_0 : List UInt8 := [3, 60, 3, 61, 28, 7, 162, 0, 25, 27, 42, 28, 182, 0, 135, 153, 0, 7, 4, 167, 0, 4, 3, 96]
abbrev dktX6_sounding_0 : List UInt8 := dkwX6_sounding_0 ++ dktX6_sounding_1
theorem dksX6_sounding_0 : cX6_sounding.data.toList.drop 0 = dktX6_sounding_0 := by decide +kernel
theorem dksX6_sounding_1 : cX6_sounding.data.toList.drop 24 = dktX6_sounding_1 := dk_seg dksX6_sounding_0 24 rfl rfl
theorem dX6_sounding_0 : decode cX6_sounding 0 = .ok (.iconst 0, 1) := dk_3 (dk_at dksX6_sounding_0 0 rfl rfl)
theorem dX6_sounding_1 : decode cX6_sounding 1 = .ok (.istore_n 1, 1) := dk_60 (dk_at dksX6_sounding_0 1 rfl rfl)
theorem dX6_sounding_2 : decode cX6_sounding 2 = .ok (.iconst 0, 1) := dk_3 (dk_at dksX6_sounding_0 2 rfl rfl)
theorem dX6_sounding_3 : decode cX6_sounding 3 = .ok (.istore_n 2, 1) := dk_61 (dk_at dksX6_sounding_0 3 rfl rfl)
theorem dX6_sounding_4 : decode cX6_sounding 4 = .ok (.iload_n 2, 1) := dk_28 (dk_at dksX6_sounding_0 4 rfl rfl)
theorem dX6_sounding_5 : decode cX6_sounding 5 = .ok (.iconst 4, 1) := dk_7 (dk_at dksX6_sounding_0 5 rfl rfl)
theorem dX6_sounding_6 : decode cX6_sounding 6 = .ok (.if_icmp .ge 25, 3) := dk_162 0 25 (dk_at dksX6_sounding_0 6 rfl rfl)
theorem dX6_sounding_9 : decode cX6_sounding 9 = .ok (.iload_n 1, 1) := dk_27 (dk_at dksX6_sounding_0 9 rfl rfl)
theorem dX6_sounding_10 : decode cX6_sounding 10 = .ok (.aload_n 0, 1) := dk_42 (dk_at dksX6_sounding_0 10 rfl rfl)
theorem dX6_sounding_11 : decode cX6_sounding 11 = .ok (.iload_n 2, 1) := dk_28 (dk_at dksX6_sounding_0 11 rfl rfl)
theorem dX6_sounding_12 : decode cX6_sounding 12 = .ok (.invokevirtual 135, 3) := dk_182 0 135 (dk_at dksX6_sounding_0 12 rfl rfl)
theorem dX6_sounding_15 : decode cX6_sounding 15 = .ok (.ifCond .eq 7, 3) := dk_153 0 7 (dk_at dksX6_sounding_0 15 rfl rfl)
theorem dX6_sounding_18 : decode cX6_sounding 18 = .ok (.iconst 1, 1) := dk_4 (dk_at dksX6_sounding_0 18 rfl rfl)
theorem dX6_sounding_19 : decode cX6_sounding 19 = .ok (.goto 4, 3) := dk_167 0 4 (dk_at dksX6_sounding_0 19 rfl rfl)
theorem dX6_sounding_22 : decode cX6_sounding 22 = .ok (.iconst 0, 1) := dk_3 (dk_at dksX6_sounding_0 22 rfl rfl)
theorem dX6_sounding_23 : decode cX6_sounding 23 = .ok (.iadd, 1) := dk_96 (dk_at dksX6_sounding_0 23 rfl rfl)
theorem dX6_sounding_24 : decode cX6_sounding 24 = .ok (.istore_n 1, 1) := dk_60 (dk_at dksX6_sounding_1 0 rfl rfl)
theorem dX6_sounding_25 : decode cX6_sounding 25 = .ok (.iinc 2 1, 3) := dk_132 2 1 (dk_at dksX6_sounding_1 1 rfl rfl)
theorem dX6_sounding_28 : decode cX6_sounding 28 = .ok (.goto (-24), 3) := dk_167 255 232 (dk_at dksX6_sounding_1 4 rfl rfl)
theorem dX6_sounding_31 : decode cX6_sounding 31 = .ok (.aload_n 0, 1) := dk_42 (dk_at dksX6_sounding_1 7 rfl rfl)
theorem dX6_sounding_32 : decode cX6_sounding 32 = .ok (.iload_n 1, 1) := dk_27 (dk_at dksX6_sounding_1 8 rfl rfl)
theorem dX6_sounding_33 : decode cX6_sounding 33 = .ok (.invokevirtual 125, 3) := dk_182 0 125 (dk_at dksX6_sounding_1 9 rfl rfl)
theorem dX6_sounding_36 : decode cX6_sounding 36 = .ok (.ireturn, 1) := dk_172 (dk_at dksX6_sounding_1 12 rfl rfl)
abbrev cX6_stateOf : ByteArray := prog_14_method_46_code
def yX6_stateOf : MethodName := ⟨RX6, "stateOf", "(I)C"⟩
def dkwX6_stateOf_3 : List UInt8 := [182, 0, 132, 96, 162, 0, 8, 16, 100, 167, 0, 5, 16, 115, 172]
abbrev dktX6_stateOf_3 : List UInt8 := dkwX6_stateOf_3 ++ []
def dkwX6_stateOf_2 : List UInt8 := [27, 8, 182, 0, 132, 162, 0, 8, 16, 97, 167, 0, 28, 28, 42, 27, 8, 182, 0, 132, 42, 27, 16, 6]
abbrev dktX6_stateOf_2 : List UInt8 := dkwX6_stateOf_2 ++ dktX6_stateOf_3
def dkwX6_stateOf_1 : List UInt8 := [172, 42, 27, 16, 10, 182, 0, 132, 61, 42, 27, 182, 0, 138, 153, 0, 8, 16, 114, 167, 0, 43, 28, 42]
abbrev dktX6_stateOf_1 : List UInt8 := dkwX6_stateOf_1 ++ dktX6_stateOf_2
def dkwX6_stateOf_0 : List UInt8 := [42, 27, 184, 0, 159, 182, 0, 121, 158, 0, 6, 16, 97, 172, 42, 27, 182, 0, 135, 154, 0, 6, 16, 102]
abbrev dktX6_stateOf_0 : List UInt8 := dkwX6_stateOf_0 ++ dktX6_stateOf_1
theorem dksX6_stateOf_0 : cX6_stateOf.data.toList.drop 0 = dktX6_stateOf_0 := by decide +kernel
theorem dksX6_stateOf_1 : cX6_stateOf.data.toList.drop 24 = dktX6_stateOf_1 := dk_seg dksX6_stateOf_0 24 rfl rfl
theorem dksX6_stateOf_2 : cX6_stateOf.data.toList.drop 48 = dktX6_stateOf_2 := dk_seg dksX6_stateOf_1 24 rfl rfl
theorem dksX6_stateOf_3 : cX6_stateOf.data.toList.drop 72 = dktX6_stateOf_3 := dk_seg dksX6_stateOf_2 24 rfl rfl
theorem dX6_stateOf_0 : decode cX6_stateOf 0 = .ok (.aload_n 0, 1) := dk_42 (dk_at dksX6_stateOf_0 0 rfl rfl)
theorem dX6_stateOf_1 : decode cX6_stateOf 1 = .ok (.iload_n 1, 1) := dk_27 (dk_at dksX6_stateOf_0 1 rfl rfl)
theorem dX6_stateOf_2 : decode cX6_stateOf 2 = .ok (.invokestatic 159, 3) := dk_184 0 159 (dk_at dksX6_stateOf_0 2 rfl rfl)
theorem dX6_stateOf_5 : decode cX6_stateOf 5 = .ok (.invokevirtual 121, 3) := dk_182 0 121 (dk_at dksX6_stateOf_0 5 rfl rfl)
theorem dX6_stateOf_8 : decode cX6_stateOf 8 = .ok (.ifCond .le 6, 3) := dk_158 0 6 (dk_at dksX6_stateOf_0 8 rfl rfl)
theorem dX6_stateOf_11 : decode cX6_stateOf 11 = .ok (.bipush 97, 2) := dk_16 97 (dk_at dksX6_stateOf_0 11 rfl rfl)
theorem dX6_stateOf_13 : decode cX6_stateOf 13 = .ok (.ireturn, 1) := dk_172 (dk_at dksX6_stateOf_0 13 rfl rfl)
theorem dX6_stateOf_14 : decode cX6_stateOf 14 = .ok (.aload_n 0, 1) := dk_42 (dk_at dksX6_stateOf_0 14 rfl rfl)
theorem dX6_stateOf_15 : decode cX6_stateOf 15 = .ok (.iload_n 1, 1) := dk_27 (dk_at dksX6_stateOf_0 15 rfl rfl)
theorem dX6_stateOf_16 : decode cX6_stateOf 16 = .ok (.invokevirtual 135, 3) := dk_182 0 135 (dk_at dksX6_stateOf_0 16 rfl rfl)
theorem dX6_stateOf_19 : decode cX6_stateOf 19 = .ok (.ifCond .ne 6, 3) := dk_154 0 6 (dk_at dksX6_stateOf_0 19 rfl rfl)
theorem dX6_stateOf_22 : decode cX6_stateOf 22 = .ok (.bipush 102, 2) := dk_16 102 (dk_at dksX6_stateOf_0 22 rfl rfl)
theorem dX6_stateOf_24 : decode cX6_stateOf 24 = .ok (.ireturn, 1) := dk_172 (dk_at dksX6_stateOf_1 0 rfl rfl)
theorem dX6_stateOf_25 : decode cX6_stateOf 25 = .ok (.aload_n 0, 1) := dk_42 (dk_at dksX6_stateOf_1 1 rfl rfl)
theorem dX6_stateOf_26 : decode cX6_stateOf 26 = .ok (.iload_n 1, 1) := dk_27 (dk_at dksX6_stateOf_1 2 rfl rfl)
theorem dX6_stateOf_27 : decode cX6_stateOf 27 = .ok (.bipush 10, 2) := dk_16 10 (dk_at dksX6_stateOf_1 3 rfl rfl)
theorem dX6_stateOf_29 : decode cX6_stateOf 29 = .ok (.invokevirtual 132, 3) := dk_182 0 132 (dk_at dksX6_stateOf_1 5 rfl rfl)
theorem dX6_stateOf_32 : decode cX6_stateOf 32 = .ok (.istore_n 2, 1) := dk_61 (dk_at dksX6_stateOf_1 8 rfl rfl)
theorem dX6_stateOf_33 : decode cX6_stateOf 33 = .ok (.aload_n 0, 1) := dk_42 (dk_at dksX6_stateOf_1 9 rfl rfl)
theorem dX6_stateOf_34 : decode cX6_stateOf 34 = .ok (.iload_n 1, 1) := dk_27 (dk_at dksX6_stateOf_1 10 rfl rfl)
theorem dX6_stateOf_35 : decode cX6_stateOf 35 = .ok (.invokevirtual 138, 3) := dk_182 0 138 (dk_at dksX6_stateOf_1 11 rfl rfl)
theorem dX6_stateOf_38 : decode cX6_stateOf 38 = .ok (.ifCond .eq 8, 3) := dk_153 0 8 (dk_at dksX6_stateOf_1 14 rfl rfl)
theorem dX6_stateOf_41 : decode cX6_stateOf 41 = .ok (.bipush 114, 2) := dk_16 114 (dk_at dksX6_stateOf_1 17 rfl rfl)
theorem dX6_stateOf_43 : decode cX6_stateOf 43 = .ok (.goto 43, 3) := dk_167 0 43 (dk_at dksX6_stateOf_1 19 rfl rfl)
theorem dX6_stateOf_46 : decode cX6_stateOf 46 = .ok (.iload_n 2, 1) := dk_28 (dk_at dksX6_stateOf_1 22 rfl rfl)
theorem dX6_stateOf_47 : decode cX6_stateOf 47 = .ok (.aload_n 0, 1) := dk_42 (dk_at dksX6_stateOf_1 23 rfl rfl)
theorem dX6_stateOf_48 : decode cX6_stateOf 48 = .ok (.iload_n 1, 1) := dk_27 (dk_at dksX6_stateOf_2 0 rfl rfl)
theorem dX6_stateOf_49 : decode cX6_stateOf 49 = .ok (.iconst 5, 1) := dk_8 (dk_at dksX6_stateOf_2 1 rfl rfl)
theorem dX6_stateOf_50 : decode cX6_stateOf 50 = .ok (.invokevirtual 132, 3) := dk_182 0 132 (dk_at dksX6_stateOf_2 2 rfl rfl)
theorem dX6_stateOf_53 : decode cX6_stateOf 53 = .ok (.if_icmp .ge 8, 3) := dk_162 0 8 (dk_at dksX6_stateOf_2 5 rfl rfl)
theorem dX6_stateOf_56 : decode cX6_stateOf 56 = .ok (.bipush 97, 2) := dk_16 97 (dk_at dksX6_stateOf_2 8 rfl rfl)
theorem dX6_stateOf_58 : decode cX6_stateOf 58 = .ok (.goto 28, 3) := dk_167 0 28 (dk_at dksX6_stateOf_2 10 rfl rfl)
theorem dX6_stateOf_61 : decode cX6_stateOf 61 = .ok (.iload_n 2, 1) := dk_28 (dk_at dksX6_stateOf_2 13 rfl rfl)
theorem dX6_stateOf_62 : decode cX6_stateOf 62 = .ok (.aload_n 0, 1) := dk_42 (dk_at dksX6_stateOf_2 14 rfl rfl)
theorem dX6_stateOf_63 : decode cX6_stateOf 63 = .ok (.iload_n 1, 1) := dk_27 (dk_at dksX6_stateOf_2 15 rfl rfl)
theorem dX6_stateOf_64 : decode cX6_stateOf 64 = .ok (.iconst 5, 1) := dk_8 (dk_at dksX6_stateOf_2 16 rfl rfl)
theorem dX6_stateOf_65 : decode cX6_stateOf 65 = .ok (.invokevirtual 132, 3) := dk_182 0 132 (dk_at dksX6_stateOf_2 17 rfl rfl)
theorem dX6_stateOf_68 : decode cX6_stateOf 68 = .ok (.aload_n 0, 1) := dk_42 (dk_at dksX6_stateOf_2 20 rfl rfl)
theorem dX6_stateOf_69 : decode cX6_stateOf 69 = .ok (.iload_n 1, 1) := dk_27 (dk_at dksX6_stateOf_2 21 rfl rfl)
theorem dX6_stateOf_70 : decode cX6_stateOf 70 = .ok (.bipush 6, 2) := dk_16 6 (dk_at dksX6_stateOf_2 22 rfl rfl)
theorem dX6_stateOf_72 : decode cX6_stateOf 72 = .ok (.invokevirtual 132, 3) := dk_182 0 132 (dk_at dksX6_stateOf_3 0 rfl rfl)
theorem dX6_stateOf_75 : decode cX6_stateOf 75 = .ok (.iadd, 1) := dk_96 (dk_at dksX6_stateOf_3 3 rfl rfl)
theorem dX6_stateOf_76 : decode cX6_stateOf 76 = .ok (.if_icmp .ge 8, 3) := dk_162 0 8 (dk_at dksX6_stateOf_3 4 rfl rfl)
theorem dX6_stateOf_79 : decode cX6_stateOf 79 = .ok (.bipush 100, 2) := dk_16 100 (dk_at dksX6_stateOf_3 7 rfl rfl)
theorem dX6_stateOf_81 : decode cX6_stateOf 81 = .ok (.goto 5, 3) := dk_167 0 5 (dk_at dksX6_stateOf_3 9 rfl rfl)
theorem dX6_stateOf_84 : decode cX6_stateOf 84 = .ok (.bipush 115, 2) := dk_16 115 (dk_at dksX6_stateOf_3 12 rfl rfl)
theorem dX6_stateOf_86 : decode cX6_stateOf 86 = .ok (.ireturn, 1) := dk_172 (dk_at dksX6_stateOf_3 14 rfl rfl)
abbrev cX6_isVoice : ByteArray := prog_14_method_45_code
def yX6_isVoice : MethodName := ⟨RX6, "isVoice", "(I)Z"⟩
def dkwX6_isVoice_0 : List UInt8 := [26, 3, 6, 184, 0, 94, 172]
abbrev dktX6_isVoice_0 : List UInt8 := dkwX6_isVoice_0 ++ []
theorem dksX6_isVoice_0 : cX6_isVoice.data.toList.drop 0 = dktX6_isVoice_0 := by decide +kernel
theorem dX6_isVoice_0 : decode cX6_isVoice 0 = .ok (.iload_n 0, 1) := dk_26 (dk_at dksX6_isVoice_0 0 rfl rfl)
theorem dX6_isVoice_1 : decode cX6_isVoice 1 = .ok (.iconst 0, 1) := dk_3 (dk_at dksX6_isVoice_0 1 rfl rfl)
theorem dX6_isVoice_2 : decode cX6_isVoice 2 = .ok (.iconst 3, 1) := dk_6 (dk_at dksX6_isVoice_0 2 rfl rfl)
theorem dX6_isVoice_3 : decode cX6_isVoice 3 = .ok (.invokestatic 94, 3) := dk_184 0 94 (dk_at dksX6_isVoice_0 3 rfl rfl)
theorem dX6_isVoice_6 : decode cX6_isVoice 6 = .ok (.ireturn, 1) := dk_172 (dk_at dksX6_isVoice_0 6 rfl rfl)
abbrev cX6_keyOf : ByteArray := prog_14_method_48_code
def yX6_keyOf : MethodName := ⟨RX6, "keyOf", "(I)I"⟩
def dkwX6_keyOf_0 : List UInt8 := [42, 27, 182, 0, 162, 153, 0, 7, 3, 167, 0, 9, 42, 27, 5, 182, 0, 132, 172]
abbrev dktX6_keyOf_0 : List UInt8 := dkwX6_keyOf_0 ++ []
theorem dksX6_keyOf_0 : cX6_keyOf.data.toList.drop 0 = dktX6_keyOf_0 := by decide +kernel
theorem dX6_keyOf_0 : decode cX6_keyOf 0 = .ok (.aload_n 0, 1) := dk_42 (dk_at dksX6_keyOf_0 0 rfl rfl)
theorem dX6_keyOf_1 : decode cX6_keyOf 1 = .ok (.iload_n 1, 1) := dk_27 (dk_at dksX6_keyOf_0 1 rfl rfl)
theorem dX6_keyOf_2 : decode cX6_keyOf 2 = .ok (.invokevirtual 162, 3) := dk_182 0 162 (dk_at dksX6_keyOf_0 2 rfl rfl)
theorem dX6_keyOf_5 : decode cX6_keyOf 5 = .ok (.ifCond .eq 7, 3) := dk_153 0 7 (dk_at dksX6_keyOf_0 5 rfl rfl)
theorem dX6_keyOf_8 : decode cX6_keyOf 8 = .ok (.iconst 0, 1) := dk_3 (dk_at dksX6_keyOf_0 8 rfl rfl)
theorem dX6_keyOf_9 : decode cX6_keyOf 9 = .ok (.goto 9, 3) := dk_167 0 9 (dk_at dksX6_keyOf_0 9 rfl rfl)
theorem dX6_keyOf_12 : decode cX6_keyOf 12 = .ok (.aload_n 0, 1) := dk_42 (dk_at dksX6_keyOf_0 12 rfl rfl)
theorem dX6_keyOf_13 : decode cX6_keyOf 13 = .ok (.iload_n 1, 1) := dk_27 (dk_at dksX6_keyOf_0 13 rfl rfl)
theorem dX6_keyOf_14 : decode cX6_keyOf 14 = .ok (.iconst 2, 1) := dk_5 (dk_at dksX6_keyOf_0 14 rfl rfl)
theorem dX6_keyOf_15 : decode cX6_keyOf 15 = .ok (.invokevirtual 132, 3) := dk_182 0 132 (dk_at dksX6_keyOf_0 15 rfl rfl)
theorem dX6_keyOf_18 : decode cX6_keyOf 18 = .ok (.ireturn, 1) := dk_172 (dk_at dksX6_keyOf_0 18 rfl rfl)
abbrev cX6_isSilent : ByteArray := prog_14_method_47_code
def yX6_isSilent : MethodName := ⟨RX6, "isSilent", "(I)Z"⟩
def dkwX6_isSilent_1 : List UInt8 := [3, 181, 0, 47, 42, 180, 0, 47, 158, 0, 7, 4, 167, 0, 4, 3, 172]
abbrev dktX6_isSilent_1 : List UInt8 := dkwX6_isSilent_1 ++ []
def dkwX6_isSilent_0 : List UInt8 := [42, 27, 184, 0, 159, 154, 0, 7, 4, 167, 0, 16, 42, 27, 182, 0, 135, 154, 0, 7, 5, 167, 0, 4]
abbrev dktX6_isSilent_0 : List UInt8 := dkwX6_isSilent_0 ++ dktX6_isSilent_1
theorem dksX6_isSilent_0 : cX6_isSilent.data.toList.drop 0 = dktX6_isSilent_0 := by decide +kernel
theorem dksX6_isSilent_1 : cX6_isSilent.data.toList.drop 24 = dktX6_isSilent_1 := dk_seg dksX6_isSilent_0 24 rfl rfl
theorem dX6_isSilent_0 : decode cX6_isSilent 0 = .ok (.aload_n 0, 1) := dk_42 (dk_at dksX6_isSilent_0 0 rfl rfl)
theorem dX6_isSilent_1 : decode cX6_isSilent 1 = .ok (.iload_n 1, 1) := dk_27 (dk_at dksX6_isSilent_0 1 rfl rfl)
theorem dX6_isSilent_2 : decode cX6_isSilent 2 = .ok (.invokestatic 159, 3) := dk_184 0 159 (dk_at dksX6_isSilent_0 2 rfl rfl)
theorem dX6_isSilent_5 : decode cX6_isSilent 5 = .ok (.ifCond .ne 7, 3) := dk_154 0 7 (dk_at dksX6_isSilent_0 5 rfl rfl)
theorem dX6_isSilent_8 : decode cX6_isSilent 8 = .ok (.iconst 1, 1) := dk_4 (dk_at dksX6_isSilent_0 8 rfl rfl)
theorem dX6_isSilent_9 : decode cX6_isSilent 9 = .ok (.goto 16, 3) := dk_167 0 16 (dk_at dksX6_isSilent_0 9 rfl rfl)
theorem dX6_isSilent_12 : decode cX6_isSilent 12 = .ok (.aload_n 0, 1) := dk_42 (dk_at dksX6_isSilent_0 12 rfl rfl)
theorem dX6_isSilent_13 : decode cX6_isSilent 13 = .ok (.iload_n 1, 1) := dk_27 (dk_at dksX6_isSilent_0 13 rfl rfl)
theorem dX6_isSilent_14 : decode cX6_isSilent 14 = .ok (.invokevirtual 135, 3) := dk_182 0 135 (dk_at dksX6_isSilent_0 14 rfl rfl)
theorem dX6_isSilent_17 : decode cX6_isSilent 17 = .ok (.ifCond .ne 7, 3) := dk_154 0 7 (dk_at dksX6_isSilent_0 17 rfl rfl)
theorem dX6_isSilent_20 : decode cX6_isSilent 20 = .ok (.iconst 2, 1) := dk_5 (dk_at dksX6_isSilent_0 20 rfl rfl)
theorem dX6_isSilent_21 : decode cX6_isSilent 21 = .ok (.goto 4, 3) := dk_167 0 4 (dk_at dksX6_isSilent_0 21 rfl rfl)
theorem dX6_isSilent_24 : decode cX6_isSilent 24 = .ok (.iconst 0, 1) := dk_3 (dk_at dksX6_isSilent_1 0 rfl rfl)
theorem dX6_isSilent_25 : decode cX6_isSilent 25 = .ok (.putfield 47, 3) := dk_181 0 47 (dk_at dksX6_isSilent_1 1 rfl rfl)
theorem dX6_isSilent_28 : decode cX6_isSilent 28 = .ok (.aload_n 0, 1) := dk_42 (dk_at dksX6_isSilent_1 4 rfl rfl)
theorem dX6_isSilent_29 : decode cX6_isSilent 29 = .ok (.getfield 47, 3) := dk_180 0 47 (dk_at dksX6_isSilent_1 5 rfl rfl)
theorem dX6_isSilent_32 : decode cX6_isSilent 32 = .ok (.ifCond .le 7, 3) := dk_158 0 7 (dk_at dksX6_isSilent_1 8 rfl rfl)
theorem dX6_isSilent_35 : decode cX6_isSilent 35 = .ok (.iconst 1, 1) := dk_4 (dk_at dksX6_isSilent_1 11 rfl rfl)
theorem dX6_isSilent_36 : decode cX6_isSilent 36 = .ok (.goto 4, 3) := dk_167 0 4 (dk_at dksX6_isSilent_1 12 rfl rfl)
theorem dX6_isSilent_39 : decode cX6_isSilent 39 = .ok (.iconst 0, 1) := dk_3 (dk_at dksX6_isSilent_1 15 rfl rfl)
theorem dX6_isSilent_40 : decode cX6_isSilent 40 = .ok (.ireturn, 1) := dk_172 (dk_at dksX6_isSilent_1 16 rfl rfl)
abbrev cX6_levelOf : ByteArray := prog_14_method_49_code
def yX6_levelOf : MethodName := ⟨RX6, "levelOf", "(I)I"⟩
def dkwX6_levelOf_0 : List UInt8 := [42, 27, 184, 0, 159, 182, 0, 121, 158, 0, 7, 3, 167, 0, 8, 42, 27, 182, 0, 149, 172]
abbrev dktX6_levelOf_0 : List UInt8 := dkwX6_levelOf_0 ++ []
theorem dksX6_levelOf_0 : cX6_levelOf.data.toList.drop 0 = dktX6_levelOf_0 := by decide +kernel
theorem dX6_levelOf_0 : decode cX6_levelOf 0 = .ok (.aload_n 0, 1) := dk_42 (dk_at dksX6_levelOf_0 0 rfl rfl)
theorem dX6_levelOf_1 : decode cX6_levelOf 1 = .ok (.iload_n 1, 1) := dk_27 (dk_at dksX6_levelOf_0 1 rfl rfl)
theorem dX6_levelOf_2 : decode cX6_levelOf 2 = .ok (.invokestatic 159, 3) := dk_184 0 159 (dk_at dksX6_levelOf_0 2 rfl rfl)
theorem dX6_levelOf_5 : decode cX6_levelOf 5 = .ok (.invokevirtual 121, 3) := dk_182 0 121 (dk_at dksX6_levelOf_0 5 rfl rfl)
theorem dX6_levelOf_8 : decode cX6_levelOf 8 = .ok (.ifCond .le 7, 3) := dk_158 0 7 (dk_at dksX6_levelOf_0 8 rfl rfl)
theorem dX6_levelOf_11 : decode cX6_levelOf 11 = .ok (.iconst 0, 1) := dk_3 (dk_at dksX6_levelOf_0 11 rfl rfl)
theorem dX6_levelOf_12 : decode cX6_levelOf 12 = .ok (.goto 8, 3) := dk_167 0 8 (dk_at dksX6_levelOf_0 12 rfl rfl)
theorem dX6_levelOf_15 : decode cX6_levelOf 15 = .ok (.aload_n 0, 1) := dk_42 (dk_at dksX6_levelOf_0 15 rfl rfl)
theorem dX6_levelOf_16 : decode cX6_levelOf 16 = .ok (.iload_n 1, 1) := dk_27 (dk_at dksX6_levelOf_0 16 rfl rfl)
theorem dX6_levelOf_17 : decode cX6_levelOf 17 = .ok (.invokevirtual 149, 3) := dk_182 0 149 (dk_at dksX6_levelOf_0 17 rfl rfl)
theorem dX6_levelOf_20 : decode cX6_levelOf 20 = .ok (.ireturn, 1) := dk_172 (dk_at dksX6_levelOf_0 20 rfl rfl)
abbrev cX6_phaseOf : ByteArray := prog_14_method_50_code
def yX6_phaseOf : MethodName := ⟨RX6, "phaseOf", "(I)I"⟩
def dkwX6_phaseOf_0 : List UInt8 := [42, 27, 182, 0, 162, 153, 0, 7, 3, 167, 0, 10, 42, 27, 16, 9, 182, 0, 132, 172]
abbrev dktX6_phaseOf_0 : List UInt8 := dkwX6_phaseOf_0 ++ []
theorem dksX6_phaseOf_0 : cX6_phaseOf.data.toList.drop 0 = dktX6_phaseOf_0 := by decide +kernel
theorem dX6_phaseOf_0 : decode cX6_phaseOf 0 = .ok (.aload_n 0, 1) := dk_42 (dk_at dksX6_phaseOf_0 0 rfl rfl)
theorem dX6_phaseOf_1 : decode cX6_phaseOf 1 = .ok (.iload_n 1, 1) := dk_27 (dk_at dksX6_phaseOf_0 1 rfl rfl)
theorem dX6_phaseOf_2 : decode cX6_phaseOf 2 = .ok (.invokevirtual 162, 3) := dk_182 0 162 (dk_at dksX6_phaseOf_0 2 rfl rfl)
theorem dX6_phaseOf_5 : decode cX6_phaseOf 5 = .ok (.ifCond .eq 7, 3) := dk_153 0 7 (dk_at dksX6_phaseOf_0 5 rfl rfl)
theorem dX6_phaseOf_8 : decode cX6_phaseOf 8 = .ok (.iconst 0, 1) := dk_3 (dk_at dksX6_phaseOf_0 8 rfl rfl)
theorem dX6_phaseOf_9 : decode cX6_phaseOf 9 = .ok (.goto 10, 3) := dk_167 0 10 (dk_at dksX6_phaseOf_0 9 rfl rfl)
theorem dX6_phaseOf_12 : decode cX6_phaseOf 12 = .ok (.aload_n 0, 1) := dk_42 (dk_at dksX6_phaseOf_0 12 rfl rfl)
theorem dX6_phaseOf_13 : decode cX6_phaseOf 13 = .ok (.iload_n 1, 1) := dk_27 (dk_at dksX6_phaseOf_0 13 rfl rfl)
theorem dX6_phaseOf_14 : decode cX6_phaseOf 14 = .ok (.bipush 9, 2) := dk_16 9 (dk_at dksX6_phaseOf_0 14 rfl rfl)
theorem dX6_phaseOf_16 : decode cX6_phaseOf 16 = .ok (.invokevirtual 132, 3) := dk_182 0 132 (dk_at dksX6_phaseOf_0 16 rfl rfl)
theorem dX6_phaseOf_19 : decode cX6_phaseOf 19 = .ok (.ireturn, 1) := dk_172 (dk_at dksX6_phaseOf_0 19 rfl rfl)
abbrev cX6_stolen : ByteArray := prog_14_method_51_code
def yX6_stolen : MethodName := ⟨RX6, "stolen", "()I"⟩
def dkwX6_stolen_0 : List UInt8 := [42, 42, 180, 0, 72, 182, 0, 125, 172]
abbrev dktX6_stolen_0 : List UInt8 := dkwX6_stolen_0 ++ []
theorem dksX6_stolen_0 : cX6_stolen.data.toList.drop 0 = dktX6_stolen_0 := by decide +kernel
theorem dX6_stolen_0 : decode cX6_stolen 0 = .ok (.aload_n 0, 1) := dk_42 (dk_at dksX6_stolen_0 0 rfl rfl)
theorem dX6_stolen_1 : decode cX6_stolen 1 = .ok (.aload_n 0, 1) := dk_42 (dk_at dksX6_stolen_0 1 rfl rfl)
theorem dX6_stolen_2 : decode cX6_stolen 2 = .ok (.getfield 72, 3) := dk_180 0 72 (dk_at dksX6_stolen_0 2 rfl rfl)
theorem dX6_stolen_5 : decode cX6_stolen 5 = .ok (.invokevirtual 125, 3) := dk_182 0 125 (dk_at dksX6_stolen_0 5 rfl rfl)
theorem dX6_stolen_8 : decode cX6_stolen 8 = .ok (.ireturn, 1) := dk_172 (dk_at dksX6_stolen_0 8 rfl rfl)
abbrev cX6_play : ByteArray := prog_14_method_63_code
def yX6_play : MethodName := ⟨RX6, "play", "(I)I"⟩
def dkwX6_play_1 : List UInt8 := [162, 0, 14, 42, 182, 0, 204, 61, 132, 3, 1, 167, 255, 243, 28, 172]
abbrev dktX6_play_1 : List UInt8 := dkwX6_play_1 ++ []
def dkwX6_play_0 : List UInt8 := [42, 27, 4, 16, 64, 184, 0, 94, 182, 0, 121, 158, 0, 5, 3, 172, 3, 61, 3, 62, 29, 27]
abbrev dktX6_play_0 : List UInt8 := dkwX6_play_0 ++ dktX6_play_1
theorem dksX6_play_0 : cX6_play.data.toList.drop 0 = dktX6_play_0 := by decide +kernel
theorem dksX6_play_1 : cX6_play.data.toList.drop 22 = dktX6_play_1 := dk_seg dksX6_play_0 22 rfl rfl
theorem dX6_play_0 : decode cX6_play 0 = .ok (.aload_n 0, 1) := dk_42 (dk_at dksX6_play_0 0 rfl rfl)
theorem dX6_play_1 : decode cX6_play 1 = .ok (.iload_n 1, 1) := dk_27 (dk_at dksX6_play_0 1 rfl rfl)
theorem dX6_play_2 : decode cX6_play 2 = .ok (.iconst 1, 1) := dk_4 (dk_at dksX6_play_0 2 rfl rfl)
theorem dX6_play_3 : decode cX6_play 3 = .ok (.bipush 64, 2) := dk_16 64 (dk_at dksX6_play_0 3 rfl rfl)
theorem dX6_play_5 : decode cX6_play 5 = .ok (.invokestatic 94, 3) := dk_184 0 94 (dk_at dksX6_play_0 5 rfl rfl)
theorem dX6_play_8 : decode cX6_play 8 = .ok (.invokevirtual 121, 3) := dk_182 0 121 (dk_at dksX6_play_0 8 rfl rfl)
theorem dX6_play_11 : decode cX6_play 11 = .ok (.ifCond .le 5, 3) := dk_158 0 5 (dk_at dksX6_play_0 11 rfl rfl)
theorem dX6_play_14 : decode cX6_play 14 = .ok (.iconst 0, 1) := dk_3 (dk_at dksX6_play_0 14 rfl rfl)
theorem dX6_play_15 : decode cX6_play 15 = .ok (.ireturn, 1) := dk_172 (dk_at dksX6_play_0 15 rfl rfl)
theorem dX6_play_16 : decode cX6_play 16 = .ok (.iconst 0, 1) := dk_3 (dk_at dksX6_play_0 16 rfl rfl)
theorem dX6_play_17 : decode cX6_play 17 = .ok (.istore_n 2, 1) := dk_61 (dk_at dksX6_play_0 17 rfl rfl)
theorem dX6_play_18 : decode cX6_play 18 = .ok (.iconst 0, 1) := dk_3 (dk_at dksX6_play_0 18 rfl rfl)
theorem dX6_play_19 : decode cX6_play 19 = .ok (.istore_n 3, 1) := dk_62 (dk_at dksX6_play_0 19 rfl rfl)
theorem dX6_play_20 : decode cX6_play 20 = .ok (.iload_n 3, 1) := dk_29 (dk_at dksX6_play_0 20 rfl rfl)
theorem dX6_play_21 : decode cX6_play 21 = .ok (.iload_n 1, 1) := dk_27 (dk_at dksX6_play_0 21 rfl rfl)
theorem dX6_play_22 : decode cX6_play 22 = .ok (.if_icmp .ge 14, 3) := dk_162 0 14 (dk_at dksX6_play_1 0 rfl rfl)
theorem dX6_play_25 : decode cX6_play 25 = .ok (.aload_n 0, 1) := dk_42 (dk_at dksX6_play_1 3 rfl rfl)
theorem dX6_play_26 : decode cX6_play 26 = .ok (.invokevirtual 204, 3) := dk_182 0 204 (dk_at dksX6_play_1 4 rfl rfl)
theorem dX6_play_29 : decode cX6_play 29 = .ok (.istore_n 2, 1) := dk_61 (dk_at dksX6_play_1 7 rfl rfl)
theorem dX6_play_30 : decode cX6_play 30 = .ok (.iinc 3 1, 3) := dk_132 3 1 (dk_at dksX6_play_1 8 rfl rfl)
theorem dX6_play_33 : decode cX6_play 33 = .ok (.goto (-13), 3) := dk_167 255 243 (dk_at dksX6_play_1 11 rfl rfl)
theorem dX6_play_36 : decode cX6_play 36 = .ok (.iload_n 2, 1) := dk_28 (dk_at dksX6_play_1 14 rfl rfl)
theorem dX6_play_37 : decode cX6_play 37 = .ok (.ireturn, 1) := dk_172 (dk_at dksX6_play_1 15 rfl rfl)
abbrev cX6_sampled : ByteArray := prog_14_method_62_code
def yX6_sampled : MethodName := ⟨RX6, "sampled", "()I"⟩
def dkwX6_sampled_3 : List UInt8 := [42, 89, 180, 0, 87, 27, 133, 27, 133, 105, 97, 181, 0, 87, 27, 172]
abbrev dktX6_sampled_3 : List UInt8 := dkwX6_sampled_3 ++ []
def dkwX6_sampled_2 : List UInt8 := [180, 0, 81, 181, 0, 81, 42, 89, 180, 0, 84, 27, 154, 0, 7, 4, 167, 0, 4, 3, 96, 181, 0, 84]
abbrev dktX6_sampled_2 : List UInt8 := dkwX6_sampled_2 ++ dktX6_sampled_3
def dkwX6_sampled_1 : List UInt8 := [96, 181, 0, 78, 42, 27, 184, 0, 186, 42, 180, 0, 81, 164, 0, 10, 27, 184, 0, 186, 167, 0, 7, 42]
abbrev dktX6_sampled_1 : List UInt8 := dkwX6_sampled_1 ++ dktX6_sampled_2
def dkwX6_sampled_0 : List UInt8 := [42, 182, 0, 201, 60, 42, 180, 0, 40, 42, 180, 0, 78, 16, 64, 112, 27, 79, 42, 89, 180, 0, 78, 4]
abbrev dktX6_sampled_0 : List UInt8 := dkwX6_sampled_0 ++ dktX6_sampled_1
theorem dksX6_sampled_0 : cX6_sampled.data.toList.drop 0 = dktX6_sampled_0 := by decide +kernel
theorem dksX6_sampled_1 : cX6_sampled.data.toList.drop 24 = dktX6_sampled_1 := dk_seg dksX6_sampled_0 24 rfl rfl
theorem dksX6_sampled_2 : cX6_sampled.data.toList.drop 48 = dktX6_sampled_2 := dk_seg dksX6_sampled_1 24 rfl rfl
theorem dksX6_sampled_3 : cX6_sampled.data.toList.drop 72 = dktX6_sampled_3 := dk_seg dksX6_sampled_2 24 rfl rfl
theorem dX6_sampled_0 : decode cX6_sampled 0 = .ok (.aload_n 0, 1) := dk_42 (dk_at dksX6_sampled_0 0 rfl rfl)
theorem dX6_sampled_1 : decode cX6_sampled 1 = .ok (.invokevirtual 201, 3) := dk_182 0 201 (dk_at dksX6_sampled_0 1 rfl rfl)
theorem dX6_sampled_4 : decode cX6_sampled 4 = .ok (.istore_n 1, 1) := dk_60 (dk_at dksX6_sampled_0 4 rfl rfl)
theorem dX6_sampled_5 : decode cX6_sampled 5 = .ok (.aload_n 0, 1) := dk_42 (dk_at dksX6_sampled_0 5 rfl rfl)
theorem dX6_sampled_6 : decode cX6_sampled 6 = .ok (.getfield 40, 3) := dk_180 0 40 (dk_at dksX6_sampled_0 6 rfl rfl)
theorem dX6_sampled_9 : decode cX6_sampled 9 = .ok (.aload_n 0, 1) := dk_42 (dk_at dksX6_sampled_0 9 rfl rfl)
theorem dX6_sampled_10 : decode cX6_sampled 10 = .ok (.getfield 78, 3) := dk_180 0 78 (dk_at dksX6_sampled_0 10 rfl rfl)
theorem dX6_sampled_13 : decode cX6_sampled 13 = .ok (.bipush 64, 2) := dk_16 64 (dk_at dksX6_sampled_0 13 rfl rfl)
theorem dX6_sampled_15 : decode cX6_sampled 15 = .ok (.irem, 1) := dk_112 (dk_at dksX6_sampled_0 15 rfl rfl)
theorem dX6_sampled_16 : decode cX6_sampled 16 = .ok (.iload_n 1, 1) := dk_27 (dk_at dksX6_sampled_0 16 rfl rfl)
theorem dX6_sampled_17 : decode cX6_sampled 17 = .ok (.iastore, 1) := dk_79 (dk_at dksX6_sampled_0 17 rfl rfl)
theorem dX6_sampled_18 : decode cX6_sampled 18 = .ok (.aload_n 0, 1) := dk_42 (dk_at dksX6_sampled_0 18 rfl rfl)
theorem dX6_sampled_19 : decode cX6_sampled 19 = .ok (.dup, 1) := dk_89 (dk_at dksX6_sampled_0 19 rfl rfl)
theorem dX6_sampled_20 : decode cX6_sampled 20 = .ok (.getfield 78, 3) := dk_180 0 78 (dk_at dksX6_sampled_0 20 rfl rfl)
theorem dX6_sampled_23 : decode cX6_sampled 23 = .ok (.iconst 1, 1) := dk_4 (dk_at dksX6_sampled_0 23 rfl rfl)
theorem dX6_sampled_24 : decode cX6_sampled 24 = .ok (.iadd, 1) := dk_96 (dk_at dksX6_sampled_1 0 rfl rfl)
theorem dX6_sampled_25 : decode cX6_sampled 25 = .ok (.putfield 78, 3) := dk_181 0 78 (dk_at dksX6_sampled_1 1 rfl rfl)
theorem dX6_sampled_28 : decode cX6_sampled 28 = .ok (.aload_n 0, 1) := dk_42 (dk_at dksX6_sampled_1 4 rfl rfl)
theorem dX6_sampled_29 : decode cX6_sampled 29 = .ok (.iload_n 1, 1) := dk_27 (dk_at dksX6_sampled_1 5 rfl rfl)
theorem dX6_sampled_30 : decode cX6_sampled 30 = .ok (.invokestatic 186, 3) := dk_184 0 186 (dk_at dksX6_sampled_1 6 rfl rfl)
theorem dX6_sampled_33 : decode cX6_sampled 33 = .ok (.aload_n 0, 1) := dk_42 (dk_at dksX6_sampled_1 9 rfl rfl)
theorem dX6_sampled_34 : decode cX6_sampled 34 = .ok (.getfield 81, 3) := dk_180 0 81 (dk_at dksX6_sampled_1 10 rfl rfl)
theorem dX6_sampled_37 : decode cX6_sampled 37 = .ok (.if_icmp .le 10, 3) := dk_164 0 10 (dk_at dksX6_sampled_1 13 rfl rfl)
theorem dX6_sampled_40 : decode cX6_sampled 40 = .ok (.iload_n 1, 1) := dk_27 (dk_at dksX6_sampled_1 16 rfl rfl)
theorem dX6_sampled_41 : decode cX6_sampled 41 = .ok (.invokestatic 186, 3) := dk_184 0 186 (dk_at dksX6_sampled_1 17 rfl rfl)
theorem dX6_sampled_44 : decode cX6_sampled 44 = .ok (.goto 7, 3) := dk_167 0 7 (dk_at dksX6_sampled_1 20 rfl rfl)
theorem dX6_sampled_47 : decode cX6_sampled 47 = .ok (.aload_n 0, 1) := dk_42 (dk_at dksX6_sampled_1 23 rfl rfl)
theorem dX6_sampled_48 : decode cX6_sampled 48 = .ok (.getfield 81, 3) := dk_180 0 81 (dk_at dksX6_sampled_2 0 rfl rfl)
theorem dX6_sampled_51 : decode cX6_sampled 51 = .ok (.putfield 81, 3) := dk_181 0 81 (dk_at dksX6_sampled_2 3 rfl rfl)
theorem dX6_sampled_54 : decode cX6_sampled 54 = .ok (.aload_n 0, 1) := dk_42 (dk_at dksX6_sampled_2 6 rfl rfl)
theorem dX6_sampled_55 : decode cX6_sampled 55 = .ok (.dup, 1) := dk_89 (dk_at dksX6_sampled_2 7 rfl rfl)
theorem dX6_sampled_56 : decode cX6_sampled 56 = .ok (.getfield 84, 3) := dk_180 0 84 (dk_at dksX6_sampled_2 8 rfl rfl)
theorem dX6_sampled_59 : decode cX6_sampled 59 = .ok (.iload_n 1, 1) := dk_27 (dk_at dksX6_sampled_2 11 rfl rfl)
theorem dX6_sampled_60 : decode cX6_sampled 60 = .ok (.ifCond .ne 7, 3) := dk_154 0 7 (dk_at dksX6_sampled_2 12 rfl rfl)
theorem dX6_sampled_63 : decode cX6_sampled 63 = .ok (.iconst 1, 1) := dk_4 (dk_at dksX6_sampled_2 15 rfl rfl)
theorem dX6_sampled_64 : decode cX6_sampled 64 = .ok (.goto 4, 3) := dk_167 0 4 (dk_at dksX6_sampled_2 16 rfl rfl)
theorem dX6_sampled_67 : decode cX6_sampled 67 = .ok (.iconst 0, 1) := dk_3 (dk_at dksX6_sampled_2 19 rfl rfl)
theorem dX6_sampled_68 : decode cX6_sampled 68 = .ok (.iadd, 1) := dk_96 (dk_at dksX6_sampled_2 20 rfl rfl)
theorem dX6_sampled_69 : decode cX6_sampled 69 = .ok (.putfield 84, 3) := dk_181 0 84 (dk_at dksX6_sampled_2 21 rfl rfl)
theorem dX6_sampled_72 : decode cX6_sampled 72 = .ok (.aload_n 0, 1) := dk_42 (dk_at dksX6_sampled_3 0 rfl rfl)
theorem dX6_sampled_73 : decode cX6_sampled 73 = .ok (.dup, 1) := dk_89 (dk_at dksX6_sampled_3 1 rfl rfl)
theorem dX6_sampled_74 : decode cX6_sampled 74 = .ok (.getfield 87, 3) := dk_180 0 87 (dk_at dksX6_sampled_3 2 rfl rfl)
theorem dX6_sampled_77 : decode cX6_sampled 77 = .ok (.iload_n 1, 1) := dk_27 (dk_at dksX6_sampled_3 5 rfl rfl)
theorem dX6_sampled_78 : decode cX6_sampled 78 = .ok (.i2l, 1) := dk_133 (dk_at dksX6_sampled_3 6 rfl rfl)
theorem dX6_sampled_79 : decode cX6_sampled 79 = .ok (.iload_n 1, 1) := dk_27 (dk_at dksX6_sampled_3 7 rfl rfl)
theorem dX6_sampled_80 : decode cX6_sampled 80 = .ok (.i2l, 1) := dk_133 (dk_at dksX6_sampled_3 8 rfl rfl)
theorem dX6_sampled_81 : decode cX6_sampled 81 = .ok (.lmul, 1) := dk_105 (dk_at dksX6_sampled_3 9 rfl rfl)
theorem dX6_sampled_82 : decode cX6_sampled 82 = .ok (.ladd, 1) := dk_97 (dk_at dksX6_sampled_3 10 rfl rfl)
theorem dX6_sampled_83 : decode cX6_sampled 83 = .ok (.putfield 87, 3) := dk_181 0 87 (dk_at dksX6_sampled_3 11 rfl rfl)
theorem dX6_sampled_86 : decode cX6_sampled 86 = .ok (.iload_n 1, 1) := dk_27 (dk_at dksX6_sampled_3 14 rfl rfl)
theorem dX6_sampled_87 : decode cX6_sampled 87 = .ok (.ireturn, 1) := dk_172 (dk_at dksX6_sampled_3 15 rfl rfl)
abbrev cX6_samples : ByteArray := prog_14_method_61_code
def yX6_samples : MethodName := ⟨RX6, "samples", "()I"⟩
def dkwX6_samples_10 : List UInt8 := [96, 46, 172]
abbrev dktX6_samples_10 : List UInt8 := dkwX6_samples_10 ++ []
def dkwX6_samples_9 : List UInt8 := [180, 0, 19, 27, 46, 112, 79, 132, 1, 1, 167, 255, 152, 42, 180, 0, 7, 17, 2, 118, 42, 180, 0, 54]
abbrev dktX6_samples_9 : List UInt8 := dkwX6_samples_9 ++ dktX6_samples_10
def dkwX6_samples_8 : List UInt8 := [42, 180, 0, 7, 17, 2, 88, 27, 96, 42, 180, 0, 7, 17, 2, 88, 27, 96, 46, 4, 96, 42]
abbrev dktX6_samples_8 : List UInt8 := dkwX6_samples_8 ++ dktX6_samples_9
def dkwX6_samples_7 : List UInt8 := [180, 0, 7, 17, 2, 118, 27, 96, 46, 42, 180, 0, 22, 27, 46, 104, 16, 100, 108, 96, 184, 0, 183, 79]
abbrev dktX6_samples_7 : List UInt8 := dkwX6_samples_7 ++ dktX6_samples_8
def dkwX6_samples_6 : List UInt8 := [3, 16, 60, 27, 104, 96, 42, 180, 0, 7, 17, 2, 88, 27, 96, 46, 96, 42, 27, 182, 0, 180, 42]
abbrev dktX6_samples_6 : List UInt8 := dkwX6_samples_6 ++ dktX6_samples_7
def dkwX6_samples_5 : List UInt8 := [42, 180, 0, 51, 162, 0, 102, 42, 180, 0, 16, 27, 46, 5, 159, 0, 6, 167, 0, 83, 42, 180, 0, 7]
abbrev dktX6_samples_5 : List UInt8 := dkwX6_samples_5 ++ dktX6_samples_6
def dkwX6_samples_4 : List UInt8 := [96, 42, 42, 180, 0, 37, 27, 46, 182, 0, 198, 184, 0, 183, 79, 132, 1, 1, 167, 255, 202, 3, 60, 27]
abbrev dktX6_samples_4 : List UInt8 := dkwX6_samples_4 ++ dktX6_samples_5
def dkwX6_samples_3 : List UInt8 := [42, 180, 0, 37, 27, 46, 46, 5, 159, 0, 31, 42, 180, 0, 7, 17, 2, 118, 42, 180, 0, 37, 27, 46]
abbrev dktX6_samples_3 : List UInt8 := dkwX6_samples_3 ++ dktX6_samples_4
def dkwX6_samples_2 : List UInt8 := [46, 96, 46, 79, 132, 1, 1, 167, 255, 203, 3, 60, 27, 42, 180, 0, 51, 162, 0, 52, 42, 180, 0, 16]
abbrev dktX6_samples_2 : List UInt8 := dkwX6_samples_2 ++ dktX6_samples_3
def dkwX6_samples_1 : List UInt8 := [17, 2, 118, 27, 96, 42, 180, 0, 7, 3, 16, 60, 27, 104, 96, 42, 180, 0, 7, 17, 2, 88, 27, 96]
abbrev dktX6_samples_1 : List UInt8 := dkwX6_samples_1 ++ dktX6_samples_2
def dkwX6_samples_0 : List UInt8 := [3, 60, 27, 42, 180, 0, 51, 162, 0, 51, 42, 180, 0, 16, 27, 46, 5, 160, 0, 35, 42, 180, 0, 7]
abbrev dktX6_samples_0 : List UInt8 := dkwX6_samples_0 ++ dktX6_samples_1
theorem dksX6_samples_0 : cX6_samples.data.toList.drop 0 = dktX6_samples_0 := by decide +kernel
theorem dksX6_samples_1 : cX6_samples.data.toList.drop 24 = dktX6_samples_1 := dk_seg dksX6_samples_0 24 rfl rfl
theorem dksX6_samples_2 : cX6_samples.data.toList.drop 48 = dktX6_samples_2 := dk_seg dksX6_samples_1 24 rfl rfl
theorem dksX6_samples_3 : cX6_samples.data.toList.drop 72 = dktX6_samples_3 := dk_seg dksX6_samples_2 24 rfl rfl
theorem dksX6_samples_4 : cX6_samples.data.toList.drop 96 = dktX6_samples_4 := dk_seg dksX6_samples_3 24 rfl rfl
theorem dksX6_samples_5 : cX6_samples.data.toList.drop 120 = dktX6_samples_5 := dk_seg dksX6_samples_4 24 rfl rfl
theorem dksX6_samples_6 : cX6_samples.data.toList.drop 144 = dktX6_samples_6 := dk_seg dksX6_samples_5 24 rfl rfl
theorem dksX6_samples_7 : cX6_samples.data.toList.drop 167 = dktX6_samples_7 := dk_seg dksX6_samples_6 23 rfl rfl
theorem dksX6_samples_8 : cX6_samples.data.toList.drop 191 = dktX6_samples_8 := dk_seg dksX6_samples_7 24 rfl rfl
theorem dksX6_samples_9 : cX6_samples.data.toList.drop 213 = dktX6_samples_9 := dk_seg dksX6_samples_8 22 rfl rfl
theorem dksX6_samples_10 : cX6_samples.data.toList.drop 237 = dktX6_samples_10 := dk_seg dksX6_samples_9 24 rfl rfl
theorem dX6_samples_0 : decode cX6_samples 0 = .ok (.iconst 0, 1) := dk_3 (dk_at dksX6_samples_0 0 rfl rfl)
theorem dX6_samples_1 : decode cX6_samples 1 = .ok (.istore_n 1, 1) := dk_60 (dk_at dksX6_samples_0 1 rfl rfl)
theorem dX6_samples_2 : decode cX6_samples 2 = .ok (.iload_n 1, 1) := dk_27 (dk_at dksX6_samples_0 2 rfl rfl)
theorem dX6_samples_3 : decode cX6_samples 3 = .ok (.aload_n 0, 1) := dk_42 (dk_at dksX6_samples_0 3 rfl rfl)
theorem dX6_samples_4 : decode cX6_samples 4 = .ok (.getfield 51, 3) := dk_180 0 51 (dk_at dksX6_samples_0 4 rfl rfl)
theorem dX6_samples_7 : decode cX6_samples 7 = .ok (.if_icmp .ge 51, 3) := dk_162 0 51 (dk_at dksX6_samples_0 7 rfl rfl)
theorem dX6_samples_10 : decode cX6_samples 10 = .ok (.aload_n 0, 1) := dk_42 (dk_at dksX6_samples_0 10 rfl rfl)
theorem dX6_samples_11 : decode cX6_samples 11 = .ok (.getfield 16, 3) := dk_180 0 16 (dk_at dksX6_samples_0 11 rfl rfl)
theorem dX6_samples_14 : decode cX6_samples 14 = .ok (.iload_n 1, 1) := dk_27 (dk_at dksX6_samples_0 14 rfl rfl)
theorem dX6_samples_15 : decode cX6_samples 15 = .ok (.iaload, 1) := dk_46 (dk_at dksX6_samples_0 15 rfl rfl)
theorem dX6_samples_16 : decode cX6_samples 16 = .ok (.iconst 2, 1) := dk_5 (dk_at dksX6_samples_0 16 rfl rfl)
theorem dX6_samples_17 : decode cX6_samples 17 = .ok (.if_icmp .ne 35, 3) := dk_160 0 35 (dk_at dksX6_samples_0 17 rfl rfl)
theorem dX6_samples_20 : decode cX6_samples 20 = .ok (.aload_n 0, 1) := dk_42 (dk_at dksX6_samples_0 20 rfl rfl)
theorem dX6_samples_21 : decode cX6_samples 21 = .ok (.getfield 7, 3) := dk_180 0 7 (dk_at dksX6_samples_0 21 rfl rfl)
theorem dX6_samples_24 : decode cX6_samples 24 = .ok (.sipush 630, 3) := dk_17 2 118 (dk_at dksX6_samples_1 0 rfl rfl)
theorem dX6_samples_27 : decode cX6_samples 27 = .ok (.iload_n 1, 1) := dk_27 (dk_at dksX6_samples_1 3 rfl rfl)
theorem dX6_samples_28 : decode cX6_samples 28 = .ok (.iadd, 1) := dk_96 (dk_at dksX6_samples_1 4 rfl rfl)
theorem dX6_samples_29 : decode cX6_samples 29 = .ok (.aload_n 0, 1) := dk_42 (dk_at dksX6_samples_1 5 rfl rfl)
theorem dX6_samples_30 : decode cX6_samples 30 = .ok (.getfield 7, 3) := dk_180 0 7 (dk_at dksX6_samples_1 6 rfl rfl)
theorem dX6_samples_33 : decode cX6_samples 33 = .ok (.iconst 0, 1) := dk_3 (dk_at dksX6_samples_1 9 rfl rfl)
theorem dX6_samples_34 : decode cX6_samples 34 = .ok (.bipush 60, 2) := dk_16 60 (dk_at dksX6_samples_1 10 rfl rfl)
theorem dX6_samples_36 : decode cX6_samples 36 = .ok (.iload_n 1, 1) := dk_27 (dk_at dksX6_samples_1 12 rfl rfl)
theorem dX6_samples_37 : decode cX6_samples 37 = .ok (.imul, 1) := dk_104 (dk_at dksX6_samples_1 13 rfl rfl)
theorem dX6_samples_38 : decode cX6_samples 38 = .ok (.iadd, 1) := dk_96 (dk_at dksX6_samples_1 14 rfl rfl)
theorem dX6_samples_39 : decode cX6_samples 39 = .ok (.aload_n 0, 1) := dk_42 (dk_at dksX6_samples_1 15 rfl rfl)
theorem dX6_samples_40 : decode cX6_samples 40 = .ok (.getfield 7, 3) := dk_180 0 7 (dk_at dksX6_samples_1 16 rfl rfl)
theorem dX6_samples_43 : decode cX6_samples 43 = .ok (.sipush 600, 3) := dk_17 2 88 (dk_at dksX6_samples_1 19 rfl rfl)
theorem dX6_samples_46 : decode cX6_samples 46 = .ok (.iload_n 1, 1) := dk_27 (dk_at dksX6_samples_1 22 rfl rfl)
theorem dX6_samples_47 : decode cX6_samples 47 = .ok (.iadd, 1) := dk_96 (dk_at dksX6_samples_1 23 rfl rfl)
theorem dX6_samples_48 : decode cX6_samples 48 = .ok (.iaload, 1) := dk_46 (dk_at dksX6_samples_2 0 rfl rfl)
theorem dX6_samples_49 : decode cX6_samples 49 = .ok (.iadd, 1) := dk_96 (dk_at dksX6_samples_2 1 rfl rfl)
theorem dX6_samples_50 : decode cX6_samples 50 = .ok (.iaload, 1) := dk_46 (dk_at dksX6_samples_2 2 rfl rfl)
theorem dX6_samples_51 : decode cX6_samples 51 = .ok (.iastore, 1) := dk_79 (dk_at dksX6_samples_2 3 rfl rfl)
theorem dX6_samples_52 : decode cX6_samples 52 = .ok (.iinc 1 1, 3) := dk_132 1 1 (dk_at dksX6_samples_2 4 rfl rfl)
theorem dX6_samples_55 : decode cX6_samples 55 = .ok (.goto (-53), 3) := dk_167 255 203 (dk_at dksX6_samples_2 7 rfl rfl)
theorem dX6_samples_58 : decode cX6_samples 58 = .ok (.iconst 0, 1) := dk_3 (dk_at dksX6_samples_2 10 rfl rfl)
theorem dX6_samples_59 : decode cX6_samples 59 = .ok (.istore_n 1, 1) := dk_60 (dk_at dksX6_samples_2 11 rfl rfl)
theorem dX6_samples_60 : decode cX6_samples 60 = .ok (.iload_n 1, 1) := dk_27 (dk_at dksX6_samples_2 12 rfl rfl)
theorem dX6_samples_61 : decode cX6_samples 61 = .ok (.aload_n 0, 1) := dk_42 (dk_at dksX6_samples_2 13 rfl rfl)
theorem dX6_samples_62 : decode cX6_samples 62 = .ok (.getfield 51, 3) := dk_180 0 51 (dk_at dksX6_samples_2 14 rfl rfl)
theorem dX6_samples_65 : decode cX6_samples 65 = .ok (.if_icmp .ge 52, 3) := dk_162 0 52 (dk_at dksX6_samples_2 17 rfl rfl)
theorem dX6_samples_68 : decode cX6_samples 68 = .ok (.aload_n 0, 1) := dk_42 (dk_at dksX6_samples_2 20 rfl rfl)
theorem dX6_samples_69 : decode cX6_samples 69 = .ok (.getfield 16, 3) := dk_180 0 16 (dk_at dksX6_samples_2 21 rfl rfl)
theorem dX6_samples_72 : decode cX6_samples 72 = .ok (.aload_n 0, 1) := dk_42 (dk_at dksX6_samples_3 0 rfl rfl)
theorem dX6_samples_73 : decode cX6_samples 73 = .ok (.getfield 37, 3) := dk_180 0 37 (dk_at dksX6_samples_3 1 rfl rfl)
theorem dX6_samples_76 : decode cX6_samples 76 = .ok (.iload_n 1, 1) := dk_27 (dk_at dksX6_samples_3 4 rfl rfl)
theorem dX6_samples_77 : decode cX6_samples 77 = .ok (.iaload, 1) := dk_46 (dk_at dksX6_samples_3 5 rfl rfl)
theorem dX6_samples_78 : decode cX6_samples 78 = .ok (.iaload, 1) := dk_46 (dk_at dksX6_samples_3 6 rfl rfl)
theorem dX6_samples_79 : decode cX6_samples 79 = .ok (.iconst 2, 1) := dk_5 (dk_at dksX6_samples_3 7 rfl rfl)
theorem dX6_samples_80 : decode cX6_samples 80 = .ok (.if_icmp .eq 31, 3) := dk_159 0 31 (dk_at dksX6_samples_3 8 rfl rfl)
theorem dX6_samples_83 : decode cX6_samples 83 = .ok (.aload_n 0, 1) := dk_42 (dk_at dksX6_samples_3 11 rfl rfl)
theorem dX6_samples_84 : decode cX6_samples 84 = .ok (.getfield 7, 3) := dk_180 0 7 (dk_at dksX6_samples_3 12 rfl rfl)
theorem dX6_samples_87 : decode cX6_samples 87 = .ok (.sipush 630, 3) := dk_17 2 118 (dk_at dksX6_samples_3 15 rfl rfl)
theorem dX6_samples_90 : decode cX6_samples 90 = .ok (.aload_n 0, 1) := dk_42 (dk_at dksX6_samples_3 18 rfl rfl)
theorem dX6_samples_91 : decode cX6_samples 91 = .ok (.getfield 37, 3) := dk_180 0 37 (dk_at dksX6_samples_3 19 rfl rfl)
theorem dX6_samples_94 : decode cX6_samples 94 = .ok (.iload_n 1, 1) := dk_27 (dk_at dksX6_samples_3 22 rfl rfl)
theorem dX6_samples_95 : decode cX6_samples 95 = .ok (.iaload, 1) := dk_46 (dk_at dksX6_samples_3 23 rfl rfl)
theorem dX6_samples_96 : decode cX6_samples 96 = .ok (.iadd, 1) := dk_96 (dk_at dksX6_samples_4 0 rfl rfl)
theorem dX6_samples_97 : decode cX6_samples 97 = .ok (.aload_n 0, 1) := dk_42 (dk_at dksX6_samples_4 1 rfl rfl)
theorem dX6_samples_98 : decode cX6_samples 98 = .ok (.aload_n 0, 1) := dk_42 (dk_at dksX6_samples_4 2 rfl rfl)
theorem dX6_samples_99 : decode cX6_samples 99 = .ok (.getfield 37, 3) := dk_180 0 37 (dk_at dksX6_samples_4 3 rfl rfl)
theorem dX6_samples_102 : decode cX6_samples 102 = .ok (.iload_n 1, 1) := dk_27 (dk_at dksX6_samples_4 6 rfl rfl)
theorem dX6_samples_103 : decode cX6_samples 103 = .ok (.iaload, 1) := dk_46 (dk_at dksX6_samples_4 7 rfl rfl)
theorem dX6_samples_104 : decode cX6_samples 104 = .ok (.invokevirtual 198, 3) := dk_182 0 198 (dk_at dksX6_samples_4 8 rfl rfl)
theorem dX6_samples_107 : decode cX6_samples 107 = .ok (.invokestatic 183, 3) := dk_184 0 183 (dk_at dksX6_samples_4 11 rfl rfl)
theorem dX6_samples_110 : decode cX6_samples 110 = .ok (.iastore, 1) := dk_79 (dk_at dksX6_samples_4 14 rfl rfl)
theorem dX6_samples_111 : decode cX6_samples 111 = .ok (.iinc 1 1, 3) := dk_132 1 1 (dk_at dksX6_samples_4 15 rfl rfl)
theorem dX6_samples_114 : decode cX6_samples 114 = .ok (.goto (-54), 3) := dk_167 255 202 (dk_at dksX6_samples_4 18 rfl rfl)
theorem dX6_samples_117 : decode cX6_samples 117 = .ok (.iconst 0, 1) := dk_3 (dk_at dksX6_samples_4 21 rfl rfl)
theorem dX6_samples_118 : decode cX6_samples 118 = .ok (.istore_n 1, 1) := dk_60 (dk_at dksX6_samples_4 22 rfl rfl)
theorem dX6_samples_119 : decode cX6_samples 119 = .ok (.iload_n 1, 1) := dk_27 (dk_at dksX6_samples_4 23 rfl rfl)
theorem dX6_samples_120 : decode cX6_samples 120 = .ok (.aload_n 0, 1) := dk_42 (dk_at dksX6_samples_5 0 rfl rfl)
theorem dX6_samples_121 : decode cX6_samples 121 = .ok (.getfield 51, 3) := dk_180 0 51 (dk_at dksX6_samples_5 1 rfl rfl)
theorem dX6_samples_124 : decode cX6_samples 124 = .ok (.if_icmp .ge 102, 3) := dk_162 0 102 (dk_at dksX6_samples_5 4 rfl rfl)
theorem dX6_samples_127 : decode cX6_samples 127 = .ok (.aload_n 0, 1) := dk_42 (dk_at dksX6_samples_5 7 rfl rfl)
theorem dX6_samples_128 : decode cX6_samples 128 = .ok (.getfield 16, 3) := dk_180 0 16 (dk_at dksX6_samples_5 8 rfl rfl)
theorem dX6_samples_131 : decode cX6_samples 131 = .ok (.iload_n 1, 1) := dk_27 (dk_at dksX6_samples_5 11 rfl rfl)
theorem dX6_samples_132 : decode cX6_samples 132 = .ok (.iaload, 1) := dk_46 (dk_at dksX6_samples_5 12 rfl rfl)
theorem dX6_samples_133 : decode cX6_samples 133 = .ok (.iconst 2, 1) := dk_5 (dk_at dksX6_samples_5 13 rfl rfl)
theorem dX6_samples_134 : decode cX6_samples 134 = .ok (.if_icmp .eq 6, 3) := dk_159 0 6 (dk_at dksX6_samples_5 14 rfl rfl)
theorem dX6_samples_137 : decode cX6_samples 137 = .ok (.goto 83, 3) := dk_167 0 83 (dk_at dksX6_samples_5 17 rfl rfl)
theorem dX6_samples_140 : decode cX6_samples 140 = .ok (.aload_n 0, 1) := dk_42 (dk_at dksX6_samples_5 20 rfl rfl)
theorem dX6_samples_141 : decode cX6_samples 141 = .ok (.getfield 7, 3) := dk_180 0 7 (dk_at dksX6_samples_5 21 rfl rfl)
theorem dX6_samples_144 : decode cX6_samples 144 = .ok (.iconst 0, 1) := dk_3 (dk_at dksX6_samples_6 0 rfl rfl)
theorem dX6_samples_145 : decode cX6_samples 145 = .ok (.bipush 60, 2) := dk_16 60 (dk_at dksX6_samples_6 1 rfl rfl)
theorem dX6_samples_147 : decode cX6_samples 147 = .ok (.iload_n 1, 1) := dk_27 (dk_at dksX6_samples_6 3 rfl rfl)
theorem dX6_samples_148 : decode cX6_samples 148 = .ok (.imul, 1) := dk_104 (dk_at dksX6_samples_6 4 rfl rfl)
theorem dX6_samples_149 : decode cX6_samples 149 = .ok (.iadd, 1) := dk_96 (dk_at dksX6_samples_6 5 rfl rfl)
theorem dX6_samples_150 : decode cX6_samples 150 = .ok (.aload_n 0, 1) := dk_42 (dk_at dksX6_samples_6 6 rfl rfl)
theorem dX6_samples_151 : decode cX6_samples 151 = .ok (.getfield 7, 3) := dk_180 0 7 (dk_at dksX6_samples_6 7 rfl rfl)
theorem dX6_samples_154 : decode cX6_samples 154 = .ok (.sipush 600, 3) := dk_17 2 88 (dk_at dksX6_samples_6 10 rfl rfl)
theorem dX6_samples_157 : decode cX6_samples 157 = .ok (.iload_n 1, 1) := dk_27 (dk_at dksX6_samples_6 13 rfl rfl)
theorem dX6_samples_158 : decode cX6_samples 158 = .ok (.iadd, 1) := dk_96 (dk_at dksX6_samples_6 14 rfl rfl)
theorem dX6_samples_159 : decode cX6_samples 159 = .ok (.iaload, 1) := dk_46 (dk_at dksX6_samples_6 15 rfl rfl)
theorem dX6_samples_160 : decode cX6_samples 160 = .ok (.iadd, 1) := dk_96 (dk_at dksX6_samples_6 16 rfl rfl)
theorem dX6_samples_161 : decode cX6_samples 161 = .ok (.aload_n 0, 1) := dk_42 (dk_at dksX6_samples_6 17 rfl rfl)
theorem dX6_samples_162 : decode cX6_samples 162 = .ok (.iload_n 1, 1) := dk_27 (dk_at dksX6_samples_6 18 rfl rfl)
theorem dX6_samples_163 : decode cX6_samples 163 = .ok (.invokevirtual 180, 3) := dk_182 0 180 (dk_at dksX6_samples_6 19 rfl rfl)
theorem dX6_samples_166 : decode cX6_samples 166 = .ok (.aload_n 0, 1) := dk_42 (dk_at dksX6_samples_6 22 rfl rfl)
theorem dX6_samples_167 : decode cX6_samples 167 = .ok (.getfield 7, 3) := dk_180 0 7 (dk_at dksX6_samples_7 0 rfl rfl)
theorem dX6_samples_170 : decode cX6_samples 170 = .ok (.sipush 630, 3) := dk_17 2 118 (dk_at dksX6_samples_7 3 rfl rfl)
theorem dX6_samples_173 : decode cX6_samples 173 = .ok (.iload_n 1, 1) := dk_27 (dk_at dksX6_samples_7 6 rfl rfl)
theorem dX6_samples_174 : decode cX6_samples 174 = .ok (.iadd, 1) := dk_96 (dk_at dksX6_samples_7 7 rfl rfl)
theorem dX6_samples_175 : decode cX6_samples 175 = .ok (.iaload, 1) := dk_46 (dk_at dksX6_samples_7 8 rfl rfl)
theorem dX6_samples_176 : decode cX6_samples 176 = .ok (.aload_n 0, 1) := dk_42 (dk_at dksX6_samples_7 9 rfl rfl)
theorem dX6_samples_177 : decode cX6_samples 177 = .ok (.getfield 22, 3) := dk_180 0 22 (dk_at dksX6_samples_7 10 rfl rfl)
theorem dX6_samples_180 : decode cX6_samples 180 = .ok (.iload_n 1, 1) := dk_27 (dk_at dksX6_samples_7 13 rfl rfl)
theorem dX6_samples_181 : decode cX6_samples 181 = .ok (.iaload, 1) := dk_46 (dk_at dksX6_samples_7 14 rfl rfl)
theorem dX6_samples_182 : decode cX6_samples 182 = .ok (.imul, 1) := dk_104 (dk_at dksX6_samples_7 15 rfl rfl)
theorem dX6_samples_183 : decode cX6_samples 183 = .ok (.bipush 100, 2) := dk_16 100 (dk_at dksX6_samples_7 16 rfl rfl)
theorem dX6_samples_185 : decode cX6_samples 185 = .ok (.idiv, 1) := dk_108 (dk_at dksX6_samples_7 18 rfl rfl)
theorem dX6_samples_186 : decode cX6_samples 186 = .ok (.iadd, 1) := dk_96 (dk_at dksX6_samples_7 19 rfl rfl)
theorem dX6_samples_187 : decode cX6_samples 187 = .ok (.invokestatic 183, 3) := dk_184 0 183 (dk_at dksX6_samples_7 20 rfl rfl)
theorem dX6_samples_190 : decode cX6_samples 190 = .ok (.iastore, 1) := dk_79 (dk_at dksX6_samples_7 23 rfl rfl)
theorem dX6_samples_191 : decode cX6_samples 191 = .ok (.aload_n 0, 1) := dk_42 (dk_at dksX6_samples_8 0 rfl rfl)
theorem dX6_samples_192 : decode cX6_samples 192 = .ok (.getfield 7, 3) := dk_180 0 7 (dk_at dksX6_samples_8 1 rfl rfl)
theorem dX6_samples_195 : decode cX6_samples 195 = .ok (.sipush 600, 3) := dk_17 2 88 (dk_at dksX6_samples_8 4 rfl rfl)
theorem dX6_samples_198 : decode cX6_samples 198 = .ok (.iload_n 1, 1) := dk_27 (dk_at dksX6_samples_8 7 rfl rfl)
theorem dX6_samples_199 : decode cX6_samples 199 = .ok (.iadd, 1) := dk_96 (dk_at dksX6_samples_8 8 rfl rfl)
theorem dX6_samples_200 : decode cX6_samples 200 = .ok (.aload_n 0, 1) := dk_42 (dk_at dksX6_samples_8 9 rfl rfl)
theorem dX6_samples_201 : decode cX6_samples 201 = .ok (.getfield 7, 3) := dk_180 0 7 (dk_at dksX6_samples_8 10 rfl rfl)
theorem dX6_samples_204 : decode cX6_samples 204 = .ok (.sipush 600, 3) := dk_17 2 88 (dk_at dksX6_samples_8 13 rfl rfl)
theorem dX6_samples_207 : decode cX6_samples 207 = .ok (.iload_n 1, 1) := dk_27 (dk_at dksX6_samples_8 16 rfl rfl)
theorem dX6_samples_208 : decode cX6_samples 208 = .ok (.iadd, 1) := dk_96 (dk_at dksX6_samples_8 17 rfl rfl)
theorem dX6_samples_209 : decode cX6_samples 209 = .ok (.iaload, 1) := dk_46 (dk_at dksX6_samples_8 18 rfl rfl)
theorem dX6_samples_210 : decode cX6_samples 210 = .ok (.iconst 1, 1) := dk_4 (dk_at dksX6_samples_8 19 rfl rfl)
theorem dX6_samples_211 : decode cX6_samples 211 = .ok (.iadd, 1) := dk_96 (dk_at dksX6_samples_8 20 rfl rfl)
theorem dX6_samples_212 : decode cX6_samples 212 = .ok (.aload_n 0, 1) := dk_42 (dk_at dksX6_samples_8 21 rfl rfl)
theorem dX6_samples_213 : decode cX6_samples 213 = .ok (.getfield 19, 3) := dk_180 0 19 (dk_at dksX6_samples_9 0 rfl rfl)
theorem dX6_samples_216 : decode cX6_samples 216 = .ok (.iload_n 1, 1) := dk_27 (dk_at dksX6_samples_9 3 rfl rfl)
theorem dX6_samples_217 : decode cX6_samples 217 = .ok (.iaload, 1) := dk_46 (dk_at dksX6_samples_9 4 rfl rfl)
theorem dX6_samples_218 : decode cX6_samples 218 = .ok (.irem, 1) := dk_112 (dk_at dksX6_samples_9 5 rfl rfl)
theorem dX6_samples_219 : decode cX6_samples 219 = .ok (.iastore, 1) := dk_79 (dk_at dksX6_samples_9 6 rfl rfl)
theorem dX6_samples_220 : decode cX6_samples 220 = .ok (.iinc 1 1, 3) := dk_132 1 1 (dk_at dksX6_samples_9 7 rfl rfl)
theorem dX6_samples_223 : decode cX6_samples 223 = .ok (.goto (-104), 3) := dk_167 255 152 (dk_at dksX6_samples_9 10 rfl rfl)
theorem dX6_samples_226 : decode cX6_samples 226 = .ok (.aload_n 0, 1) := dk_42 (dk_at dksX6_samples_9 13 rfl rfl)
theorem dX6_samples_227 : decode cX6_samples 227 = .ok (.getfield 7, 3) := dk_180 0 7 (dk_at dksX6_samples_9 14 rfl rfl)
theorem dX6_samples_230 : decode cX6_samples 230 = .ok (.sipush 630, 3) := dk_17 2 118 (dk_at dksX6_samples_9 17 rfl rfl)
theorem dX6_samples_233 : decode cX6_samples 233 = .ok (.aload_n 0, 1) := dk_42 (dk_at dksX6_samples_9 20 rfl rfl)
theorem dX6_samples_234 : decode cX6_samples 234 = .ok (.getfield 54, 3) := dk_180 0 54 (dk_at dksX6_samples_9 21 rfl rfl)
theorem dX6_samples_237 : decode cX6_samples 237 = .ok (.iadd, 1) := dk_96 (dk_at dksX6_samples_10 0 rfl rfl)
theorem dX6_samples_238 : decode cX6_samples 238 = .ok (.iaload, 1) := dk_46 (dk_at dksX6_samples_10 1 rfl rfl)
theorem dX6_samples_239 : decode cX6_samples 239 = .ok (.ireturn, 1) := dk_172 (dk_at dksX6_samples_10 2 rfl rfl)
abbrev cX6_sounds : ByteArray := prog_14_method_60_code
def yX6_sounds : MethodName := ⟨RX6, "sounds", "(I)I"⟩
def dkwX6_sounds_2 : List UInt8 := [167, 0, 17, 42, 27, 182, 0, 180, 42, 180, 0, 19, 27, 46, 184, 0, 195, 172]
abbrev dktX6_sounds_2 : List UInt8 := dkwX6_sounds_2 ++ []
def dkwX6_sounds_1 : List UInt8 := [182, 0, 192, 172, 28, 4, 160, 0, 21, 42, 27, 182, 0, 180, 42, 180, 0, 19, 27, 46, 104, 16, 100, 108]
abbrev dktX6_sounds_1 : List UInt8 := dkwX6_sounds_1 ++ dktX6_sounds_2
def dkwX6_sounds_0 : List UInt8 := [42, 180, 0, 16, 27, 46, 61, 28, 154, 0, 8, 42, 182, 0, 189, 172, 28, 6, 160, 0, 9, 42, 27]
abbrev dktX6_sounds_0 : List UInt8 := dkwX6_sounds_0 ++ dktX6_sounds_1
theorem dksX6_sounds_0 : cX6_sounds.data.toList.drop 0 = dktX6_sounds_0 := by decide +kernel
theorem dksX6_sounds_1 : cX6_sounds.data.toList.drop 23 = dktX6_sounds_1 := dk_seg dksX6_sounds_0 23 rfl rfl
theorem dksX6_sounds_2 : cX6_sounds.data.toList.drop 47 = dktX6_sounds_2 := dk_seg dksX6_sounds_1 24 rfl rfl
theorem dX6_sounds_0 : decode cX6_sounds 0 = .ok (.aload_n 0, 1) := dk_42 (dk_at dksX6_sounds_0 0 rfl rfl)
theorem dX6_sounds_1 : decode cX6_sounds 1 = .ok (.getfield 16, 3) := dk_180 0 16 (dk_at dksX6_sounds_0 1 rfl rfl)
theorem dX6_sounds_4 : decode cX6_sounds 4 = .ok (.iload_n 1, 1) := dk_27 (dk_at dksX6_sounds_0 4 rfl rfl)
theorem dX6_sounds_5 : decode cX6_sounds 5 = .ok (.iaload, 1) := dk_46 (dk_at dksX6_sounds_0 5 rfl rfl)
theorem dX6_sounds_6 : decode cX6_sounds 6 = .ok (.istore_n 2, 1) := dk_61 (dk_at dksX6_sounds_0 6 rfl rfl)
theorem dX6_sounds_7 : decode cX6_sounds 7 = .ok (.iload_n 2, 1) := dk_28 (dk_at dksX6_sounds_0 7 rfl rfl)
theorem dX6_sounds_8 : decode cX6_sounds 8 = .ok (.ifCond .ne 8, 3) := dk_154 0 8 (dk_at dksX6_sounds_0 8 rfl rfl)
theorem dX6_sounds_11 : decode cX6_sounds 11 = .ok (.aload_n 0, 1) := dk_42 (dk_at dksX6_sounds_0 11 rfl rfl)
theorem dX6_sounds_12 : decode cX6_sounds 12 = .ok (.invokevirtual 189, 3) := dk_182 0 189 (dk_at dksX6_sounds_0 12 rfl rfl)
theorem dX6_sounds_15 : decode cX6_sounds 15 = .ok (.ireturn, 1) := dk_172 (dk_at dksX6_sounds_0 15 rfl rfl)
theorem dX6_sounds_16 : decode cX6_sounds 16 = .ok (.iload_n 2, 1) := dk_28 (dk_at dksX6_sounds_0 16 rfl rfl)
theorem dX6_sounds_17 : decode cX6_sounds 17 = .ok (.iconst 3, 1) := dk_6 (dk_at dksX6_sounds_0 17 rfl rfl)
theorem dX6_sounds_18 : decode cX6_sounds 18 = .ok (.if_icmp .ne 9, 3) := dk_160 0 9 (dk_at dksX6_sounds_0 18 rfl rfl)
theorem dX6_sounds_21 : decode cX6_sounds 21 = .ok (.aload_n 0, 1) := dk_42 (dk_at dksX6_sounds_0 21 rfl rfl)
theorem dX6_sounds_22 : decode cX6_sounds 22 = .ok (.iload_n 1, 1) := dk_27 (dk_at dksX6_sounds_0 22 rfl rfl)
theorem dX6_sounds_23 : decode cX6_sounds 23 = .ok (.invokevirtual 192, 3) := dk_182 0 192 (dk_at dksX6_sounds_1 0 rfl rfl)
theorem dX6_sounds_26 : decode cX6_sounds 26 = .ok (.ireturn, 1) := dk_172 (dk_at dksX6_sounds_1 3 rfl rfl)
theorem dX6_sounds_27 : decode cX6_sounds 27 = .ok (.iload_n 2, 1) := dk_28 (dk_at dksX6_sounds_1 4 rfl rfl)
theorem dX6_sounds_28 : decode cX6_sounds 28 = .ok (.iconst 1, 1) := dk_4 (dk_at dksX6_sounds_1 5 rfl rfl)
theorem dX6_sounds_29 : decode cX6_sounds 29 = .ok (.if_icmp .ne 21, 3) := dk_160 0 21 (dk_at dksX6_sounds_1 6 rfl rfl)
theorem dX6_sounds_32 : decode cX6_sounds 32 = .ok (.aload_n 0, 1) := dk_42 (dk_at dksX6_sounds_1 9 rfl rfl)
theorem dX6_sounds_33 : decode cX6_sounds 33 = .ok (.iload_n 1, 1) := dk_27 (dk_at dksX6_sounds_1 10 rfl rfl)
theorem dX6_sounds_34 : decode cX6_sounds 34 = .ok (.invokevirtual 180, 3) := dk_182 0 180 (dk_at dksX6_sounds_1 11 rfl rfl)
theorem dX6_sounds_37 : decode cX6_sounds 37 = .ok (.aload_n 0, 1) := dk_42 (dk_at dksX6_sounds_1 14 rfl rfl)
theorem dX6_sounds_38 : decode cX6_sounds 38 = .ok (.getfield 19, 3) := dk_180 0 19 (dk_at dksX6_sounds_1 15 rfl rfl)
theorem dX6_sounds_41 : decode cX6_sounds 41 = .ok (.iload_n 1, 1) := dk_27 (dk_at dksX6_sounds_1 18 rfl rfl)
theorem dX6_sounds_42 : decode cX6_sounds 42 = .ok (.iaload, 1) := dk_46 (dk_at dksX6_sounds_1 19 rfl rfl)
theorem dX6_sounds_43 : decode cX6_sounds 43 = .ok (.imul, 1) := dk_104 (dk_at dksX6_sounds_1 20 rfl rfl)
theorem dX6_sounds_44 : decode cX6_sounds 44 = .ok (.bipush 100, 2) := dk_16 100 (dk_at dksX6_sounds_1 21 rfl rfl)
theorem dX6_sounds_46 : decode cX6_sounds 46 = .ok (.idiv, 1) := dk_108 (dk_at dksX6_sounds_1 23 rfl rfl)
theorem dX6_sounds_47 : decode cX6_sounds 47 = .ok (.goto 17, 3) := dk_167 0 17 (dk_at dksX6_sounds_2 0 rfl rfl)
theorem dX6_sounds_50 : decode cX6_sounds 50 = .ok (.aload_n 0, 1) := dk_42 (dk_at dksX6_sounds_2 3 rfl rfl)
theorem dX6_sounds_51 : decode cX6_sounds 51 = .ok (.iload_n 1, 1) := dk_27 (dk_at dksX6_sounds_2 4 rfl rfl)
theorem dX6_sounds_52 : decode cX6_sounds 52 = .ok (.invokevirtual 180, 3) := dk_182 0 180 (dk_at dksX6_sounds_2 5 rfl rfl)
theorem dX6_sounds_55 : decode cX6_sounds 55 = .ok (.aload_n 0, 1) := dk_42 (dk_at dksX6_sounds_2 8 rfl rfl)
theorem dX6_sounds_56 : decode cX6_sounds 56 = .ok (.getfield 19, 3) := dk_180 0 19 (dk_at dksX6_sounds_2 9 rfl rfl)
theorem dX6_sounds_59 : decode cX6_sounds 59 = .ok (.iload_n 1, 1) := dk_27 (dk_at dksX6_sounds_2 12 rfl rfl)
theorem dX6_sounds_60 : decode cX6_sounds 60 = .ok (.iaload, 1) := dk_46 (dk_at dksX6_sounds_2 13 rfl rfl)
theorem dX6_sounds_61 : decode cX6_sounds 61 = .ok (.invokestatic 195, 3) := dk_184 0 195 (dk_at dksX6_sounds_2 14 rfl rfl)
theorem dX6_sounds_64 : decode cX6_sounds 64 = .ok (.ireturn, 1) := dk_172 (dk_at dksX6_sounds_2 17 rfl rfl)
abbrev cX6_sung : ByteArray := prog_14_method_57_code
def yX6_sung : MethodName := ⟨RX6, "sung", "()I"⟩
def dkwX6_sung_1 : List UInt8 := [172]
abbrev dktX6_sung_1 : List UInt8 := dkwX6_sung_1 ++ []
def dkwX6_sung_0 : List UInt8 := [3, 60, 3, 61, 28, 7, 162, 0, 17, 27, 42, 28, 182, 0, 177, 96, 60, 132, 2, 1, 167, 255, 240, 27]
abbrev dktX6_sung_0 : List UInt8 := dkwX6_sung_0 ++ dktX6_sung_1
theorem dksX6_sung_0 : cX6_sung.data.toList.drop 0 = dktX6_sung_0 := by decide +kernel
theorem dksX6_sung_1 : cX6_sung.data.toList.drop 24 = dktX6_sung_1 := dk_seg dksX6_sung_0 24 rfl rfl
theorem dX6_sung_0 : decode cX6_sung 0 = .ok (.iconst 0, 1) := dk_3 (dk_at dksX6_sung_0 0 rfl rfl)
theorem dX6_sung_1 : decode cX6_sung 1 = .ok (.istore_n 1, 1) := dk_60 (dk_at dksX6_sung_0 1 rfl rfl)
theorem dX6_sung_2 : decode cX6_sung 2 = .ok (.iconst 0, 1) := dk_3 (dk_at dksX6_sung_0 2 rfl rfl)
theorem dX6_sung_3 : decode cX6_sung 3 = .ok (.istore_n 2, 1) := dk_61 (dk_at dksX6_sung_0 3 rfl rfl)
theorem dX6_sung_4 : decode cX6_sung 4 = .ok (.iload_n 2, 1) := dk_28 (dk_at dksX6_sung_0 4 rfl rfl)
theorem dX6_sung_5 : decode cX6_sung 5 = .ok (.iconst 4, 1) := dk_7 (dk_at dksX6_sung_0 5 rfl rfl)
theorem dX6_sung_6 : decode cX6_sung 6 = .ok (.if_icmp .ge 17, 3) := dk_162 0 17 (dk_at dksX6_sung_0 6 rfl rfl)
theorem dX6_sung_9 : decode cX6_sung 9 = .ok (.iload_n 1, 1) := dk_27 (dk_at dksX6_sung_0 9 rfl rfl)
theorem dX6_sung_10 : decode cX6_sung 10 = .ok (.aload_n 0, 1) := dk_42 (dk_at dksX6_sung_0 10 rfl rfl)
theorem dX6_sung_11 : decode cX6_sung 11 = .ok (.iload_n 2, 1) := dk_28 (dk_at dksX6_sung_0 11 rfl rfl)
theorem dX6_sung_12 : decode cX6_sung 12 = .ok (.invokevirtual 177, 3) := dk_182 0 177 (dk_at dksX6_sung_0 12 rfl rfl)
theorem dX6_sung_15 : decode cX6_sung 15 = .ok (.iadd, 1) := dk_96 (dk_at dksX6_sung_0 15 rfl rfl)
theorem dX6_sung_16 : decode cX6_sung 16 = .ok (.istore_n 1, 1) := dk_60 (dk_at dksX6_sung_0 16 rfl rfl)
theorem dX6_sung_17 : decode cX6_sung 17 = .ok (.iinc 2 1, 3) := dk_132 2 1 (dk_at dksX6_sung_0 17 rfl rfl)
theorem dX6_sung_20 : decode cX6_sung 20 = .ok (.goto (-16), 3) := dk_167 255 240 (dk_at dksX6_sung_0 20 rfl rfl)
theorem dX6_sung_23 : decode cX6_sung 23 = .ok (.iload_n 1, 1) := dk_27 (dk_at dksX6_sung_0 23 rfl rfl)
theorem dX6_sung_24 : decode cX6_sung 24 = .ok (.ireturn, 1) := dk_172 (dk_at dksX6_sung_1 0 rfl rfl)
abbrev cX6_sings : ByteArray := prog_14_method_55_code
def yX6_sings : MethodName := ⟨RX6, "sings", "(I)I"⟩
def dkwX6_sings_5 : List UInt8 := [182, 0, 145, 167, 0, 19, 42, 27, 16, 10, 42, 27, 16, 10, 182, 0, 132, 4, 96, 182, 0, 145, 28, 172]
abbrev dktX6_sings_5 : List UInt8 := dkwX6_sings_5 ++ []
def dkwX6_sings_4 : List UInt8 := [182, 0, 145, 42, 27, 16, 12, 182, 0, 132, 42, 27, 16, 8, 182, 0, 132, 160, 0, 29, 42, 27, 3, 3]
abbrev dktX6_sings_4 : List UInt8 := dkwX6_sings_4 ++ dktX6_sings_5
def dkwX6_sings_3 : List UInt8 := [182, 0, 145, 42, 27, 182, 0, 138, 153, 0, 46, 42, 27, 16, 12, 42, 27, 16, 12, 182, 0, 132, 4, 96]
abbrev dktX6_sings_3 : List UInt8 := dkwX6_sings_3 ++ dktX6_sings_4
def dkwX6_sings_2 : List UInt8 := [42, 27, 16, 9, 42, 27, 16, 9, 182, 0, 132, 42, 27, 5, 182, 0, 132, 184, 0, 173, 96, 18, 176, 112]
abbrev dktX6_sings_2 : List UInt8 := dkwX6_sings_2 ++ dktX6_sings_3
def dkwX6_sings_1 : List UInt8 := [184, 0, 170, 42, 27, 182, 0, 149, 104, 17, 3, 232, 108, 42, 27, 6, 182, 0, 132, 104, 16, 100, 108, 61]
abbrev dktX6_sings_1 : List UInt8 := dkwX6_sings_1 ++ dktX6_sings_2
def dkwX6_sings_0 : List UInt8 := [42, 27, 182, 0, 135, 154, 0, 5, 3, 172, 42, 27, 7, 182, 0, 132, 42, 27, 16, 9, 182, 0, 132]
abbrev dktX6_sings_0 : List UInt8 := dkwX6_sings_0 ++ dktX6_sings_1
theorem dksX6_sings_0 : cX6_sings.data.toList.drop 0 = dktX6_sings_0 := by decide +kernel
theorem dksX6_sings_1 : cX6_sings.data.toList.drop 23 = dktX6_sings_1 := dk_seg dksX6_sings_0 23 rfl rfl
theorem dksX6_sings_2 : cX6_sings.data.toList.drop 47 = dktX6_sings_2 := dk_seg dksX6_sings_1 24 rfl rfl
theorem dksX6_sings_3 : cX6_sings.data.toList.drop 71 = dktX6_sings_3 := dk_seg dksX6_sings_2 24 rfl rfl
theorem dksX6_sings_4 : cX6_sings.data.toList.drop 95 = dktX6_sings_4 := dk_seg dksX6_sings_3 24 rfl rfl
theorem dksX6_sings_5 : cX6_sings.data.toList.drop 119 = dktX6_sings_5 := dk_seg dksX6_sings_4 24 rfl rfl
theorem dX6_sings_0 : decode cX6_sings 0 = .ok (.aload_n 0, 1) := dk_42 (dk_at dksX6_sings_0 0 rfl rfl)
theorem dX6_sings_1 : decode cX6_sings 1 = .ok (.iload_n 1, 1) := dk_27 (dk_at dksX6_sings_0 1 rfl rfl)
theorem dX6_sings_2 : decode cX6_sings 2 = .ok (.invokevirtual 135, 3) := dk_182 0 135 (dk_at dksX6_sings_0 2 rfl rfl)
theorem dX6_sings_5 : decode cX6_sings 5 = .ok (.ifCond .ne 5, 3) := dk_154 0 5 (dk_at dksX6_sings_0 5 rfl rfl)
theorem dX6_sings_8 : decode cX6_sings 8 = .ok (.iconst 0, 1) := dk_3 (dk_at dksX6_sings_0 8 rfl rfl)
theorem dX6_sings_9 : decode cX6_sings 9 = .ok (.ireturn, 1) := dk_172 (dk_at dksX6_sings_0 9 rfl rfl)
theorem dX6_sings_10 : decode cX6_sings 10 = .ok (.aload_n 0, 1) := dk_42 (dk_at dksX6_sings_0 10 rfl rfl)
theorem dX6_sings_11 : decode cX6_sings 11 = .ok (.iload_n 1, 1) := dk_27 (dk_at dksX6_sings_0 11 rfl rfl)
theorem dX6_sings_12 : decode cX6_sings 12 = .ok (.iconst 4, 1) := dk_7 (dk_at dksX6_sings_0 12 rfl rfl)
theorem dX6_sings_13 : decode cX6_sings 13 = .ok (.invokevirtual 132, 3) := dk_182 0 132 (dk_at dksX6_sings_0 13 rfl rfl)
theorem dX6_sings_16 : decode cX6_sings 16 = .ok (.aload_n 0, 1) := dk_42 (dk_at dksX6_sings_0 16 rfl rfl)
theorem dX6_sings_17 : decode cX6_sings 17 = .ok (.iload_n 1, 1) := dk_27 (dk_at dksX6_sings_0 17 rfl rfl)
theorem dX6_sings_18 : decode cX6_sings 18 = .ok (.bipush 9, 2) := dk_16 9 (dk_at dksX6_sings_0 18 rfl rfl)
theorem dX6_sings_20 : decode cX6_sings 20 = .ok (.invokevirtual 132, 3) := dk_182 0 132 (dk_at dksX6_sings_0 20 rfl rfl)
theorem dX6_sings_23 : decode cX6_sings 23 = .ok (.invokestatic 170, 3) := dk_184 0 170 (dk_at dksX6_sings_1 0 rfl rfl)
theorem dX6_sings_26 : decode cX6_sings 26 = .ok (.aload_n 0, 1) := dk_42 (dk_at dksX6_sings_1 3 rfl rfl)
theorem dX6_sings_27 : decode cX6_sings 27 = .ok (.iload_n 1, 1) := dk_27 (dk_at dksX6_sings_1 4 rfl rfl)
theorem dX6_sings_28 : decode cX6_sings 28 = .ok (.invokevirtual 149, 3) := dk_182 0 149 (dk_at dksX6_sings_1 5 rfl rfl)
theorem dX6_sings_31 : decode cX6_sings 31 = .ok (.imul, 1) := dk_104 (dk_at dksX6_sings_1 8 rfl rfl)
theorem dX6_sings_32 : decode cX6_sings 32 = .ok (.sipush 1000, 3) := dk_17 3 232 (dk_at dksX6_sings_1 9 rfl rfl)
theorem dX6_sings_35 : decode cX6_sings 35 = .ok (.idiv, 1) := dk_108 (dk_at dksX6_sings_1 12 rfl rfl)
theorem dX6_sings_36 : decode cX6_sings 36 = .ok (.aload_n 0, 1) := dk_42 (dk_at dksX6_sings_1 13 rfl rfl)
theorem dX6_sings_37 : decode cX6_sings 37 = .ok (.iload_n 1, 1) := dk_27 (dk_at dksX6_sings_1 14 rfl rfl)
theorem dX6_sings_38 : decode cX6_sings 38 = .ok (.iconst 3, 1) := dk_6 (dk_at dksX6_sings_1 15 rfl rfl)
theorem dX6_sings_39 : decode cX6_sings 39 = .ok (.invokevirtual 132, 3) := dk_182 0 132 (dk_at dksX6_sings_1 16 rfl rfl)
theorem dX6_sings_42 : decode cX6_sings 42 = .ok (.imul, 1) := dk_104 (dk_at dksX6_sings_1 19 rfl rfl)
theorem dX6_sings_43 : decode cX6_sings 43 = .ok (.bipush 100, 2) := dk_16 100 (dk_at dksX6_sings_1 20 rfl rfl)
theorem dX6_sings_45 : decode cX6_sings 45 = .ok (.idiv, 1) := dk_108 (dk_at dksX6_sings_1 22 rfl rfl)
theorem dX6_sings_46 : decode cX6_sings 46 = .ok (.istore_n 2, 1) := dk_61 (dk_at dksX6_sings_1 23 rfl rfl)
theorem dX6_sings_47 : decode cX6_sings 47 = .ok (.aload_n 0, 1) := dk_42 (dk_at dksX6_sings_2 0 rfl rfl)
theorem dX6_sings_48 : decode cX6_sings 48 = .ok (.iload_n 1, 1) := dk_27 (dk_at dksX6_sings_2 1 rfl rfl)
theorem dX6_sings_49 : decode cX6_sings 49 = .ok (.bipush 9, 2) := dk_16 9 (dk_at dksX6_sings_2 2 rfl rfl)
theorem dX6_sings_51 : decode cX6_sings 51 = .ok (.aload_n 0, 1) := dk_42 (dk_at dksX6_sings_2 4 rfl rfl)
theorem dX6_sings_52 : decode cX6_sings 52 = .ok (.iload_n 1, 1) := dk_27 (dk_at dksX6_sings_2 5 rfl rfl)
theorem dX6_sings_53 : decode cX6_sings 53 = .ok (.bipush 9, 2) := dk_16 9 (dk_at dksX6_sings_2 6 rfl rfl)
theorem dX6_sings_55 : decode cX6_sings 55 = .ok (.invokevirtual 132, 3) := dk_182 0 132 (dk_at dksX6_sings_2 8 rfl rfl)
theorem dX6_sings_58 : decode cX6_sings 58 = .ok (.aload_n 0, 1) := dk_42 (dk_at dksX6_sings_2 11 rfl rfl)
theorem dX6_sings_59 : decode cX6_sings 59 = .ok (.iload_n 1, 1) := dk_27 (dk_at dksX6_sings_2 12 rfl rfl)
theorem dX6_sings_60 : decode cX6_sings 60 = .ok (.iconst 2, 1) := dk_5 (dk_at dksX6_sings_2 13 rfl rfl)
theorem dX6_sings_61 : decode cX6_sings 61 = .ok (.invokevirtual 132, 3) := dk_182 0 132 (dk_at dksX6_sings_2 14 rfl rfl)
theorem dX6_sings_64 : decode cX6_sings 64 = .ok (.invokestatic 173, 3) := dk_184 0 173 (dk_at dksX6_sings_2 17 rfl rfl)
theorem dX6_sings_67 : decode cX6_sings 67 = .ok (.iadd, 1) := dk_96 (dk_at dksX6_sings_2 20 rfl rfl)
theorem dX6_sings_68 : decode cX6_sings 68 = .ok (.ldc 176, 2) := dk_18 176 (dk_at dksX6_sings_2 21 rfl rfl)
theorem dX6_sings_70 : decode cX6_sings 70 = .ok (.irem, 1) := dk_112 (dk_at dksX6_sings_2 23 rfl rfl)
theorem dX6_sings_71 : decode cX6_sings 71 = .ok (.invokevirtual 145, 3) := dk_182 0 145 (dk_at dksX6_sings_3 0 rfl rfl)
theorem dX6_sings_74 : decode cX6_sings 74 = .ok (.aload_n 0, 1) := dk_42 (dk_at dksX6_sings_3 3 rfl rfl)
theorem dX6_sings_75 : decode cX6_sings 75 = .ok (.iload_n 1, 1) := dk_27 (dk_at dksX6_sings_3 4 rfl rfl)
theorem dX6_sings_76 : decode cX6_sings 76 = .ok (.invokevirtual 138, 3) := dk_182 0 138 (dk_at dksX6_sings_3 5 rfl rfl)
theorem dX6_sings_79 : decode cX6_sings 79 = .ok (.ifCond .eq 46, 3) := dk_153 0 46 (dk_at dksX6_sings_3 8 rfl rfl)
theorem dX6_sings_82 : decode cX6_sings 82 = .ok (.aload_n 0, 1) := dk_42 (dk_at dksX6_sings_3 11 rfl rfl)
theorem dX6_sings_83 : decode cX6_sings 83 = .ok (.iload_n 1, 1) := dk_27 (dk_at dksX6_sings_3 12 rfl rfl)
theorem dX6_sings_84 : decode cX6_sings 84 = .ok (.bipush 12, 2) := dk_16 12 (dk_at dksX6_sings_3 13 rfl rfl)
theorem dX6_sings_86 : decode cX6_sings 86 = .ok (.aload_n 0, 1) := dk_42 (dk_at dksX6_sings_3 15 rfl rfl)
theorem dX6_sings_87 : decode cX6_sings 87 = .ok (.iload_n 1, 1) := dk_27 (dk_at dksX6_sings_3 16 rfl rfl)
theorem dX6_sings_88 : decode cX6_sings 88 = .ok (.bipush 12, 2) := dk_16 12 (dk_at dksX6_sings_3 17 rfl rfl)
theorem dX6_sings_90 : decode cX6_sings 90 = .ok (.invokevirtual 132, 3) := dk_182 0 132 (dk_at dksX6_sings_3 19 rfl rfl)
theorem dX6_sings_93 : decode cX6_sings 93 = .ok (.iconst 1, 1) := dk_4 (dk_at dksX6_sings_3 22 rfl rfl)
theorem dX6_sings_94 : decode cX6_sings 94 = .ok (.iadd, 1) := dk_96 (dk_at dksX6_sings_3 23 rfl rfl)
theorem dX6_sings_95 : decode cX6_sings 95 = .ok (.invokevirtual 145, 3) := dk_182 0 145 (dk_at dksX6_sings_4 0 rfl rfl)
theorem dX6_sings_98 : decode cX6_sings 98 = .ok (.aload_n 0, 1) := dk_42 (dk_at dksX6_sings_4 3 rfl rfl)
theorem dX6_sings_99 : decode cX6_sings 99 = .ok (.iload_n 1, 1) := dk_27 (dk_at dksX6_sings_4 4 rfl rfl)
theorem dX6_sings_100 : decode cX6_sings 100 = .ok (.bipush 12, 2) := dk_16 12 (dk_at dksX6_sings_4 5 rfl rfl)
theorem dX6_sings_102 : decode cX6_sings 102 = .ok (.invokevirtual 132, 3) := dk_182 0 132 (dk_at dksX6_sings_4 7 rfl rfl)
theorem dX6_sings_105 : decode cX6_sings 105 = .ok (.aload_n 0, 1) := dk_42 (dk_at dksX6_sings_4 10 rfl rfl)
theorem dX6_sings_106 : decode cX6_sings 106 = .ok (.iload_n 1, 1) := dk_27 (dk_at dksX6_sings_4 11 rfl rfl)
theorem dX6_sings_107 : decode cX6_sings 107 = .ok (.bipush 8, 2) := dk_16 8 (dk_at dksX6_sings_4 12 rfl rfl)
theorem dX6_sings_109 : decode cX6_sings 109 = .ok (.invokevirtual 132, 3) := dk_182 0 132 (dk_at dksX6_sings_4 14 rfl rfl)
theorem dX6_sings_112 : decode cX6_sings 112 = .ok (.if_icmp .ne 29, 3) := dk_160 0 29 (dk_at dksX6_sings_4 17 rfl rfl)
theorem dX6_sings_115 : decode cX6_sings 115 = .ok (.aload_n 0, 1) := dk_42 (dk_at dksX6_sings_4 20 rfl rfl)
theorem dX6_sings_116 : decode cX6_sings 116 = .ok (.iload_n 1, 1) := dk_27 (dk_at dksX6_sings_4 21 rfl rfl)
theorem dX6_sings_117 : decode cX6_sings 117 = .ok (.iconst 0, 1) := dk_3 (dk_at dksX6_sings_4 22 rfl rfl)
theorem dX6_sings_118 : decode cX6_sings 118 = .ok (.iconst 0, 1) := dk_3 (dk_at dksX6_sings_4 23 rfl rfl)
theorem dX6_sings_119 : decode cX6_sings 119 = .ok (.invokevirtual 145, 3) := dk_182 0 145 (dk_at dksX6_sings_5 0 rfl rfl)
theorem dX6_sings_122 : decode cX6_sings 122 = .ok (.goto 19, 3) := dk_167 0 19 (dk_at dksX6_sings_5 3 rfl rfl)
theorem dX6_sings_125 : decode cX6_sings 125 = .ok (.aload_n 0, 1) := dk_42 (dk_at dksX6_sings_5 6 rfl rfl)
theorem dX6_sings_126 : decode cX6_sings 126 = .ok (.iload_n 1, 1) := dk_27 (dk_at dksX6_sings_5 7 rfl rfl)
theorem dX6_sings_127 : decode cX6_sings 127 = .ok (.bipush 10, 2) := dk_16 10 (dk_at dksX6_sings_5 8 rfl rfl)
theorem dX6_sings_129 : decode cX6_sings 129 = .ok (.aload_n 0, 1) := dk_42 (dk_at dksX6_sings_5 10 rfl rfl)
theorem dX6_sings_130 : decode cX6_sings 130 = .ok (.iload_n 1, 1) := dk_27 (dk_at dksX6_sings_5 11 rfl rfl)
theorem dX6_sings_131 : decode cX6_sings 131 = .ok (.bipush 10, 2) := dk_16 10 (dk_at dksX6_sings_5 12 rfl rfl)
theorem dX6_sings_133 : decode cX6_sings 133 = .ok (.invokevirtual 132, 3) := dk_182 0 132 (dk_at dksX6_sings_5 14 rfl rfl)
theorem dX6_sings_136 : decode cX6_sings 136 = .ok (.iconst 1, 1) := dk_4 (dk_at dksX6_sings_5 17 rfl rfl)
theorem dX6_sings_137 : decode cX6_sings 137 = .ok (.iadd, 1) := dk_96 (dk_at dksX6_sings_5 18 rfl rfl)
theorem dX6_sings_138 : decode cX6_sings 138 = .ok (.invokevirtual 145, 3) := dk_182 0 145 (dk_at dksX6_sings_5 19 rfl rfl)
theorem dX6_sings_141 : decode cX6_sings 141 = .ok (.iload_n 2, 1) := dk_28 (dk_at dksX6_sings_5 22 rfl rfl)
theorem dX6_sings_142 : decode cX6_sings 142 = .ok (.ireturn, 1) := dk_172 (dk_at dksX6_sings_5 23 rfl rfl)
abbrev cX6_valueOf : ByteArray := prog_14_method_54_code
def yX6_valueOf : MethodName := ⟨RX6, "valueOf", "(II)I"⟩
def dkwX6_valueOf_2 : List UInt8 := [18, 169, 27, 100, 16, 16, 108, 17, 4, 0, 100, 172]
abbrev dktX6_valueOf_2 : List UInt8 := dkwX6_valueOf_2 ++ []
def dkwX6_valueOf_1 : List UInt8 := [162, 0, 9, 17, 3, 232, 167, 0, 6, 17, 252, 24, 172, 27, 18, 168, 162, 0, 7, 27, 167, 0, 7]
abbrev dktX6_valueOf_1 : List UInt8 := dkwX6_valueOf_1 ++ dktX6_valueOf_2
def dkwX6_valueOf_0 : List UInt8 := [26, 16, 115, 160, 0, 12, 27, 16, 32, 108, 17, 4, 0, 100, 172, 26, 16, 113, 160, 0, 19, 27, 18, 168]
abbrev dktX6_valueOf_0 : List UInt8 := dkwX6_valueOf_0 ++ dktX6_valueOf_1
theorem dksX6_valueOf_0 : cX6_valueOf.data.toList.drop 0 = dktX6_valueOf_0 := by decide +kernel
theorem dksX6_valueOf_1 : cX6_valueOf.data.toList.drop 24 = dktX6_valueOf_1 := dk_seg dksX6_valueOf_0 24 rfl rfl
theorem dksX6_valueOf_2 : cX6_valueOf.data.toList.drop 47 = dktX6_valueOf_2 := dk_seg dksX6_valueOf_1 23 rfl rfl
theorem dX6_valueOf_0 : decode cX6_valueOf 0 = .ok (.iload_n 0, 1) := dk_26 (dk_at dksX6_valueOf_0 0 rfl rfl)
theorem dX6_valueOf_1 : decode cX6_valueOf 1 = .ok (.bipush 115, 2) := dk_16 115 (dk_at dksX6_valueOf_0 1 rfl rfl)
theorem dX6_valueOf_3 : decode cX6_valueOf 3 = .ok (.if_icmp .ne 12, 3) := dk_160 0 12 (dk_at dksX6_valueOf_0 3 rfl rfl)
theorem dX6_valueOf_6 : decode cX6_valueOf 6 = .ok (.iload_n 1, 1) := dk_27 (dk_at dksX6_valueOf_0 6 rfl rfl)
theorem dX6_valueOf_7 : decode cX6_valueOf 7 = .ok (.bipush 32, 2) := dk_16 32 (dk_at dksX6_valueOf_0 7 rfl rfl)
theorem dX6_valueOf_9 : decode cX6_valueOf 9 = .ok (.idiv, 1) := dk_108 (dk_at dksX6_valueOf_0 9 rfl rfl)
theorem dX6_valueOf_10 : decode cX6_valueOf 10 = .ok (.sipush 1024, 3) := dk_17 4 0 (dk_at dksX6_valueOf_0 10 rfl rfl)
theorem dX6_valueOf_13 : decode cX6_valueOf 13 = .ok (.isub, 1) := dk_100 (dk_at dksX6_valueOf_0 13 rfl rfl)
theorem dX6_valueOf_14 : decode cX6_valueOf 14 = .ok (.ireturn, 1) := dk_172 (dk_at dksX6_valueOf_0 14 rfl rfl)
theorem dX6_valueOf_15 : decode cX6_valueOf 15 = .ok (.iload_n 0, 1) := dk_26 (dk_at dksX6_valueOf_0 15 rfl rfl)
theorem dX6_valueOf_16 : decode cX6_valueOf 16 = .ok (.bipush 113, 2) := dk_16 113 (dk_at dksX6_valueOf_0 16 rfl rfl)
theorem dX6_valueOf_18 : decode cX6_valueOf 18 = .ok (.if_icmp .ne 19, 3) := dk_160 0 19 (dk_at dksX6_valueOf_0 18 rfl rfl)
theorem dX6_valueOf_21 : decode cX6_valueOf 21 = .ok (.iload_n 1, 1) := dk_27 (dk_at dksX6_valueOf_0 21 rfl rfl)
theorem dX6_valueOf_22 : decode cX6_valueOf 22 = .ok (.ldc 168, 2) := dk_18 168 (dk_at dksX6_valueOf_0 22 rfl rfl)
theorem dX6_valueOf_24 : decode cX6_valueOf 24 = .ok (.if_icmp .ge 9, 3) := dk_162 0 9 (dk_at dksX6_valueOf_1 0 rfl rfl)
theorem dX6_valueOf_27 : decode cX6_valueOf 27 = .ok (.sipush 1000, 3) := dk_17 3 232 (dk_at dksX6_valueOf_1 3 rfl rfl)
theorem dX6_valueOf_30 : decode cX6_valueOf 30 = .ok (.goto 6, 3) := dk_167 0 6 (dk_at dksX6_valueOf_1 6 rfl rfl)
theorem dX6_valueOf_33 : decode cX6_valueOf 33 = .ok (.sipush (-1000), 3) := dk_17 252 24 (dk_at dksX6_valueOf_1 9 rfl rfl)
theorem dX6_valueOf_36 : decode cX6_valueOf 36 = .ok (.ireturn, 1) := dk_172 (dk_at dksX6_valueOf_1 12 rfl rfl)
theorem dX6_valueOf_37 : decode cX6_valueOf 37 = .ok (.iload_n 1, 1) := dk_27 (dk_at dksX6_valueOf_1 13 rfl rfl)
theorem dX6_valueOf_38 : decode cX6_valueOf 38 = .ok (.ldc 168, 2) := dk_18 168 (dk_at dksX6_valueOf_1 14 rfl rfl)
theorem dX6_valueOf_40 : decode cX6_valueOf 40 = .ok (.if_icmp .ge 7, 3) := dk_162 0 7 (dk_at dksX6_valueOf_1 16 rfl rfl)
theorem dX6_valueOf_43 : decode cX6_valueOf 43 = .ok (.iload_n 1, 1) := dk_27 (dk_at dksX6_valueOf_1 19 rfl rfl)
theorem dX6_valueOf_44 : decode cX6_valueOf 44 = .ok (.goto 7, 3) := dk_167 0 7 (dk_at dksX6_valueOf_1 20 rfl rfl)
theorem dX6_valueOf_47 : decode cX6_valueOf 47 = .ok (.ldc 169, 2) := dk_18 169 (dk_at dksX6_valueOf_2 0 rfl rfl)
theorem dX6_valueOf_49 : decode cX6_valueOf 49 = .ok (.iload_n 1, 1) := dk_27 (dk_at dksX6_valueOf_2 2 rfl rfl)
theorem dX6_valueOf_50 : decode cX6_valueOf 50 = .ok (.isub, 1) := dk_100 (dk_at dksX6_valueOf_2 3 rfl rfl)
theorem dX6_valueOf_51 : decode cX6_valueOf 51 = .ok (.bipush 16, 2) := dk_16 16 (dk_at dksX6_valueOf_2 4 rfl rfl)
theorem dX6_valueOf_53 : decode cX6_valueOf 53 = .ok (.idiv, 1) := dk_108 (dk_at dksX6_valueOf_2 6 rfl rfl)
theorem dX6_valueOf_54 : decode cX6_valueOf 54 = .ok (.sipush 1024, 3) := dk_17 4 0 (dk_at dksX6_valueOf_2 7 rfl rfl)
theorem dX6_valueOf_57 : decode cX6_valueOf 57 = .ok (.isub, 1) := dk_100 (dk_at dksX6_valueOf_2 10 rfl rfl)
theorem dX6_valueOf_58 : decode cX6_valueOf 58 = .ok (.ireturn, 1) := dk_172 (dk_at dksX6_valueOf_2 11 rfl rfl)
abbrev cX6_stepOf : ByteArray := prog_14_method_53_code
def yX6_stepOf : MethodName := ⟨RX6, "stepOf", "(I)I"⟩
def dkwX6_stepOf_0 : List UInt8 := [26, 16, 12, 112, 184, 0, 165, 26, 16, 12, 108, 120, 172]
abbrev dktX6_stepOf_0 : List UInt8 := dkwX6_stepOf_0 ++ []
theorem dksX6_stepOf_0 : cX6_stepOf.data.toList.drop 0 = dktX6_stepOf_0 := by decide +kernel
theorem dX6_stepOf_0 : decode cX6_stepOf 0 = .ok (.iload_n 0, 1) := dk_26 (dk_at dksX6_stepOf_0 0 rfl rfl)
theorem dX6_stepOf_1 : decode cX6_stepOf 1 = .ok (.bipush 12, 2) := dk_16 12 (dk_at dksX6_stepOf_0 1 rfl rfl)
theorem dX6_stepOf_3 : decode cX6_stepOf 3 = .ok (.irem, 1) := dk_112 (dk_at dksX6_stepOf_0 3 rfl rfl)
theorem dX6_stepOf_4 : decode cX6_stepOf 4 = .ok (.invokestatic 165, 3) := dk_184 0 165 (dk_at dksX6_stepOf_0 4 rfl rfl)
theorem dX6_stepOf_7 : decode cX6_stepOf 7 = .ok (.iload_n 0, 1) := dk_26 (dk_at dksX6_stepOf_0 7 rfl rfl)
theorem dX6_stepOf_8 : decode cX6_stepOf 8 = .ok (.bipush 12, 2) := dk_16 12 (dk_at dksX6_stepOf_0 8 rfl rfl)
theorem dX6_stepOf_10 : decode cX6_stepOf 10 = .ok (.idiv, 1) := dk_108 (dk_at dksX6_stepOf_0 10 rfl rfl)
theorem dX6_stepOf_11 : decode cX6_stepOf 11 = .ok (.ishl, 1) := dk_120 (dk_at dksX6_stepOf_0 11 rfl rfl)
theorem dX6_stepOf_12 : decode cX6_stepOf 12 = .ok (.ireturn, 1) := dk_172 (dk_at dksX6_stepOf_0 12 rfl rfl)
abbrev cX6_baseOf : ByteArray := prog_14_method_52_code
def yX6_baseOf : MethodName := ⟨RX6, "baseOf", "(I)I"⟩
def dkwX6_baseOf_2 : List UInt8 := [162, 0, 16, 16, 90, 16, 6, 26, 16, 6, 100, 104, 96, 167, 0, 5, 16, 121, 172]
abbrev dktX6_baseOf_2 : List UInt8 := dkwX6_baseOf_2 ++ []
def dkwX6_baseOf_1 : List UInt8 := [160, 0, 8, 16, 76, 167, 0, 15, 26, 7, 160, 0, 8, 16, 81, 167, 0, 5, 16, 85, 172, 26, 16, 11]
abbrev dktX6_baseOf_1 : List UInt8 := dkwX6_baseOf_1 ++ dktX6_baseOf_2
def dkwX6_baseOf_0 : List UInt8 := [26, 16, 6, 162, 0, 40, 26, 6, 162, 0, 12, 16, 64, 7, 26, 104, 96, 167, 0, 25, 26, 6]
abbrev dktX6_baseOf_0 : List UInt8 := dkwX6_baseOf_0 ++ dktX6_baseOf_1
theorem dksX6_baseOf_0 : cX6_baseOf.data.toList.drop 0 = dktX6_baseOf_0 := by decide +kernel
theorem dksX6_baseOf_1 : cX6_baseOf.data.toList.drop 22 = dktX6_baseOf_1 := dk_seg dksX6_baseOf_0 22 rfl rfl
theorem dksX6_baseOf_2 : cX6_baseOf.data.toList.drop 46 = dktX6_baseOf_2 := dk_seg dksX6_baseOf_1 24 rfl rfl
theorem dX6_baseOf_0 : decode cX6_baseOf 0 = .ok (.iload_n 0, 1) := dk_26 (dk_at dksX6_baseOf_0 0 rfl rfl)
theorem dX6_baseOf_1 : decode cX6_baseOf 1 = .ok (.bipush 6, 2) := dk_16 6 (dk_at dksX6_baseOf_0 1 rfl rfl)
theorem dX6_baseOf_3 : decode cX6_baseOf 3 = .ok (.if_icmp .ge 40, 3) := dk_162 0 40 (dk_at dksX6_baseOf_0 3 rfl rfl)
theorem dX6_baseOf_6 : decode cX6_baseOf 6 = .ok (.iload_n 0, 1) := dk_26 (dk_at dksX6_baseOf_0 6 rfl rfl)
theorem dX6_baseOf_7 : decode cX6_baseOf 7 = .ok (.iconst 3, 1) := dk_6 (dk_at dksX6_baseOf_0 7 rfl rfl)
theorem dX6_baseOf_8 : decode cX6_baseOf 8 = .ok (.if_icmp .ge 12, 3) := dk_162 0 12 (dk_at dksX6_baseOf_0 8 rfl rfl)
theorem dX6_baseOf_11 : decode cX6_baseOf 11 = .ok (.bipush 64, 2) := dk_16 64 (dk_at dksX6_baseOf_0 11 rfl rfl)
theorem dX6_baseOf_13 : decode cX6_baseOf 13 = .ok (.iconst 4, 1) := dk_7 (dk_at dksX6_baseOf_0 13 rfl rfl)
theorem dX6_baseOf_14 : decode cX6_baseOf 14 = .ok (.iload_n 0, 1) := dk_26 (dk_at dksX6_baseOf_0 14 rfl rfl)
theorem dX6_baseOf_15 : decode cX6_baseOf 15 = .ok (.imul, 1) := dk_104 (dk_at dksX6_baseOf_0 15 rfl rfl)
theorem dX6_baseOf_16 : decode cX6_baseOf 16 = .ok (.iadd, 1) := dk_96 (dk_at dksX6_baseOf_0 16 rfl rfl)
theorem dX6_baseOf_17 : decode cX6_baseOf 17 = .ok (.goto 25, 3) := dk_167 0 25 (dk_at dksX6_baseOf_0 17 rfl rfl)
theorem dX6_baseOf_20 : decode cX6_baseOf 20 = .ok (.iload_n 0, 1) := dk_26 (dk_at dksX6_baseOf_0 20 rfl rfl)
theorem dX6_baseOf_21 : decode cX6_baseOf 21 = .ok (.iconst 3, 1) := dk_6 (dk_at dksX6_baseOf_0 21 rfl rfl)
theorem dX6_baseOf_22 : decode cX6_baseOf 22 = .ok (.if_icmp .ne 8, 3) := dk_160 0 8 (dk_at dksX6_baseOf_1 0 rfl rfl)
theorem dX6_baseOf_25 : decode cX6_baseOf 25 = .ok (.bipush 76, 2) := dk_16 76 (dk_at dksX6_baseOf_1 3 rfl rfl)
theorem dX6_baseOf_27 : decode cX6_baseOf 27 = .ok (.goto 15, 3) := dk_167 0 15 (dk_at dksX6_baseOf_1 5 rfl rfl)
theorem dX6_baseOf_30 : decode cX6_baseOf 30 = .ok (.iload_n 0, 1) := dk_26 (dk_at dksX6_baseOf_1 8 rfl rfl)
theorem dX6_baseOf_31 : decode cX6_baseOf 31 = .ok (.iconst 4, 1) := dk_7 (dk_at dksX6_baseOf_1 9 rfl rfl)
theorem dX6_baseOf_32 : decode cX6_baseOf 32 = .ok (.if_icmp .ne 8, 3) := dk_160 0 8 (dk_at dksX6_baseOf_1 10 rfl rfl)
theorem dX6_baseOf_35 : decode cX6_baseOf 35 = .ok (.bipush 81, 2) := dk_16 81 (dk_at dksX6_baseOf_1 13 rfl rfl)
theorem dX6_baseOf_37 : decode cX6_baseOf 37 = .ok (.goto 5, 3) := dk_167 0 5 (dk_at dksX6_baseOf_1 15 rfl rfl)
theorem dX6_baseOf_40 : decode cX6_baseOf 40 = .ok (.bipush 85, 2) := dk_16 85 (dk_at dksX6_baseOf_1 18 rfl rfl)
theorem dX6_baseOf_42 : decode cX6_baseOf 42 = .ok (.ireturn, 1) := dk_172 (dk_at dksX6_baseOf_1 20 rfl rfl)
theorem dX6_baseOf_43 : decode cX6_baseOf 43 = .ok (.iload_n 0, 1) := dk_26 (dk_at dksX6_baseOf_1 21 rfl rfl)
theorem dX6_baseOf_44 : decode cX6_baseOf 44 = .ok (.bipush 11, 2) := dk_16 11 (dk_at dksX6_baseOf_1 22 rfl rfl)
theorem dX6_baseOf_46 : decode cX6_baseOf 46 = .ok (.if_icmp .ge 16, 3) := dk_162 0 16 (dk_at dksX6_baseOf_2 0 rfl rfl)
theorem dX6_baseOf_49 : decode cX6_baseOf 49 = .ok (.bipush 90, 2) := dk_16 90 (dk_at dksX6_baseOf_2 3 rfl rfl)
theorem dX6_baseOf_51 : decode cX6_baseOf 51 = .ok (.bipush 6, 2) := dk_16 6 (dk_at dksX6_baseOf_2 5 rfl rfl)
theorem dX6_baseOf_53 : decode cX6_baseOf 53 = .ok (.iload_n 0, 1) := dk_26 (dk_at dksX6_baseOf_2 7 rfl rfl)
theorem dX6_baseOf_54 : decode cX6_baseOf 54 = .ok (.bipush 6, 2) := dk_16 6 (dk_at dksX6_baseOf_2 8 rfl rfl)
theorem dX6_baseOf_56 : decode cX6_baseOf 56 = .ok (.isub, 1) := dk_100 (dk_at dksX6_baseOf_2 10 rfl rfl)
theorem dX6_baseOf_57 : decode cX6_baseOf 57 = .ok (.imul, 1) := dk_104 (dk_at dksX6_baseOf_2 11 rfl rfl)
theorem dX6_baseOf_58 : decode cX6_baseOf 58 = .ok (.iadd, 1) := dk_96 (dk_at dksX6_baseOf_2 12 rfl rfl)
theorem dX6_baseOf_59 : decode cX6_baseOf 59 = .ok (.goto 5, 3) := dk_167 0 5 (dk_at dksX6_baseOf_2 13 rfl rfl)
theorem dX6_baseOf_62 : decode cX6_baseOf 62 = .ok (.bipush 121, 2) := dk_16 121 (dk_at dksX6_baseOf_2 16 rfl rfl)
theorem dX6_baseOf_64 : decode cX6_baseOf 64 = .ok (.ireturn, 1) := dk_172 (dk_at dksX6_baseOf_2 18 rfl rfl)
abbrev cX6_filtered : ByteArray := prog_14_method_58_code
def yX6_filtered : MethodName := ⟨RX6, "filtered", "(I)I"⟩
def dkwX6_filtered_3 : List UInt8 := [17, 2, 108, 27, 96, 29, 79, 29, 172]
abbrev dktX6_filtered_3 : List UInt8 := dkwX6_filtered_3 ++ []
def dkwX6_filtered_2 : List UInt8 := [104, 96, 16, 64, 108, 184, 0, 183, 62, 42, 180, 0, 7, 17, 2, 98, 27, 96, 28, 79, 42, 180, 0, 7]
abbrev dktX6_filtered_2 : List UInt8 := dkwX6_filtered_2 ++ dktX6_filtered_3
def dkwX6_filtered_1 : List UInt8 := [17, 2, 98, 27, 96, 46, 104, 96, 42, 180, 0, 25, 27, 46, 42, 180, 0, 7, 17, 2, 108, 27, 96, 46]
abbrev dktX6_filtered_1 : List UInt8 := dkwX6_filtered_1 ++ dktX6_filtered_2
def dkwX6_filtered_0 : List UInt8 := [42, 27, 182, 0, 180, 61, 42, 180, 0, 19, 27, 46, 28, 104, 42, 180, 0, 22, 27, 46, 42, 180, 0, 7]
abbrev dktX6_filtered_0 : List UInt8 := dkwX6_filtered_0 ++ dktX6_filtered_1
theorem dksX6_filtered_0 : cX6_filtered.data.toList.drop 0 = dktX6_filtered_0 := by decide +kernel
theorem dksX6_filtered_1 : cX6_filtered.data.toList.drop 24 = dktX6_filtered_1 := dk_seg dksX6_filtered_0 24 rfl rfl
theorem dksX6_filtered_2 : cX6_filtered.data.toList.drop 48 = dktX6_filtered_2 := dk_seg dksX6_filtered_1 24 rfl rfl
theorem dksX6_filtered_3 : cX6_filtered.data.toList.drop 72 = dktX6_filtered_3 := dk_seg dksX6_filtered_2 24 rfl rfl
theorem dX6_filtered_0 : decode cX6_filtered 0 = .ok (.aload_n 0, 1) := dk_42 (dk_at dksX6_filtered_0 0 rfl rfl)
theorem dX6_filtered_1 : decode cX6_filtered 1 = .ok (.iload_n 1, 1) := dk_27 (dk_at dksX6_filtered_0 1 rfl rfl)
theorem dX6_filtered_2 : decode cX6_filtered 2 = .ok (.invokevirtual 180, 3) := dk_182 0 180 (dk_at dksX6_filtered_0 2 rfl rfl)
theorem dX6_filtered_5 : decode cX6_filtered 5 = .ok (.istore_n 2, 1) := dk_61 (dk_at dksX6_filtered_0 5 rfl rfl)
theorem dX6_filtered_6 : decode cX6_filtered 6 = .ok (.aload_n 0, 1) := dk_42 (dk_at dksX6_filtered_0 6 rfl rfl)
theorem dX6_filtered_7 : decode cX6_filtered 7 = .ok (.getfield 19, 3) := dk_180 0 19 (dk_at dksX6_filtered_0 7 rfl rfl)
theorem dX6_filtered_10 : decode cX6_filtered 10 = .ok (.iload_n 1, 1) := dk_27 (dk_at dksX6_filtered_0 10 rfl rfl)
theorem dX6_filtered_11 : decode cX6_filtered 11 = .ok (.iaload, 1) := dk_46 (dk_at dksX6_filtered_0 11 rfl rfl)
theorem dX6_filtered_12 : decode cX6_filtered 12 = .ok (.iload_n 2, 1) := dk_28 (dk_at dksX6_filtered_0 12 rfl rfl)
theorem dX6_filtered_13 : decode cX6_filtered 13 = .ok (.imul, 1) := dk_104 (dk_at dksX6_filtered_0 13 rfl rfl)
theorem dX6_filtered_14 : decode cX6_filtered 14 = .ok (.aload_n 0, 1) := dk_42 (dk_at dksX6_filtered_0 14 rfl rfl)
theorem dX6_filtered_15 : decode cX6_filtered 15 = .ok (.getfield 22, 3) := dk_180 0 22 (dk_at dksX6_filtered_0 15 rfl rfl)
theorem dX6_filtered_18 : decode cX6_filtered 18 = .ok (.iload_n 1, 1) := dk_27 (dk_at dksX6_filtered_0 18 rfl rfl)
theorem dX6_filtered_19 : decode cX6_filtered 19 = .ok (.iaload, 1) := dk_46 (dk_at dksX6_filtered_0 19 rfl rfl)
theorem dX6_filtered_20 : decode cX6_filtered 20 = .ok (.aload_n 0, 1) := dk_42 (dk_at dksX6_filtered_0 20 rfl rfl)
theorem dX6_filtered_21 : decode cX6_filtered 21 = .ok (.getfield 7, 3) := dk_180 0 7 (dk_at dksX6_filtered_0 21 rfl rfl)
theorem dX6_filtered_24 : decode cX6_filtered 24 = .ok (.sipush 610, 3) := dk_17 2 98 (dk_at dksX6_filtered_1 0 rfl rfl)
theorem dX6_filtered_27 : decode cX6_filtered 27 = .ok (.iload_n 1, 1) := dk_27 (dk_at dksX6_filtered_1 3 rfl rfl)
theorem dX6_filtered_28 : decode cX6_filtered 28 = .ok (.iadd, 1) := dk_96 (dk_at dksX6_filtered_1 4 rfl rfl)
theorem dX6_filtered_29 : decode cX6_filtered 29 = .ok (.iaload, 1) := dk_46 (dk_at dksX6_filtered_1 5 rfl rfl)
theorem dX6_filtered_30 : decode cX6_filtered 30 = .ok (.imul, 1) := dk_104 (dk_at dksX6_filtered_1 6 rfl rfl)
theorem dX6_filtered_31 : decode cX6_filtered 31 = .ok (.iadd, 1) := dk_96 (dk_at dksX6_filtered_1 7 rfl rfl)
theorem dX6_filtered_32 : decode cX6_filtered 32 = .ok (.aload_n 0, 1) := dk_42 (dk_at dksX6_filtered_1 8 rfl rfl)
theorem dX6_filtered_33 : decode cX6_filtered 33 = .ok (.getfield 25, 3) := dk_180 0 25 (dk_at dksX6_filtered_1 9 rfl rfl)
theorem dX6_filtered_36 : decode cX6_filtered 36 = .ok (.iload_n 1, 1) := dk_27 (dk_at dksX6_filtered_1 12 rfl rfl)
theorem dX6_filtered_37 : decode cX6_filtered 37 = .ok (.iaload, 1) := dk_46 (dk_at dksX6_filtered_1 13 rfl rfl)
theorem dX6_filtered_38 : decode cX6_filtered 38 = .ok (.aload_n 0, 1) := dk_42 (dk_at dksX6_filtered_1 14 rfl rfl)
theorem dX6_filtered_39 : decode cX6_filtered 39 = .ok (.getfield 7, 3) := dk_180 0 7 (dk_at dksX6_filtered_1 15 rfl rfl)
theorem dX6_filtered_42 : decode cX6_filtered 42 = .ok (.sipush 620, 3) := dk_17 2 108 (dk_at dksX6_filtered_1 18 rfl rfl)
theorem dX6_filtered_45 : decode cX6_filtered 45 = .ok (.iload_n 1, 1) := dk_27 (dk_at dksX6_filtered_1 21 rfl rfl)
theorem dX6_filtered_46 : decode cX6_filtered 46 = .ok (.iadd, 1) := dk_96 (dk_at dksX6_filtered_1 22 rfl rfl)
theorem dX6_filtered_47 : decode cX6_filtered 47 = .ok (.iaload, 1) := dk_46 (dk_at dksX6_filtered_1 23 rfl rfl)
theorem dX6_filtered_48 : decode cX6_filtered 48 = .ok (.imul, 1) := dk_104 (dk_at dksX6_filtered_2 0 rfl rfl)
theorem dX6_filtered_49 : decode cX6_filtered 49 = .ok (.iadd, 1) := dk_96 (dk_at dksX6_filtered_2 1 rfl rfl)
theorem dX6_filtered_50 : decode cX6_filtered 50 = .ok (.bipush 64, 2) := dk_16 64 (dk_at dksX6_filtered_2 2 rfl rfl)
theorem dX6_filtered_52 : decode cX6_filtered 52 = .ok (.idiv, 1) := dk_108 (dk_at dksX6_filtered_2 4 rfl rfl)
theorem dX6_filtered_53 : decode cX6_filtered 53 = .ok (.invokestatic 183, 3) := dk_184 0 183 (dk_at dksX6_filtered_2 5 rfl rfl)
theorem dX6_filtered_56 : decode cX6_filtered 56 = .ok (.istore_n 3, 1) := dk_62 (dk_at dksX6_filtered_2 8 rfl rfl)
theorem dX6_filtered_57 : decode cX6_filtered 57 = .ok (.aload_n 0, 1) := dk_42 (dk_at dksX6_filtered_2 9 rfl rfl)
theorem dX6_filtered_58 : decode cX6_filtered 58 = .ok (.getfield 7, 3) := dk_180 0 7 (dk_at dksX6_filtered_2 10 rfl rfl)
theorem dX6_filtered_61 : decode cX6_filtered 61 = .ok (.sipush 610, 3) := dk_17 2 98 (dk_at dksX6_filtered_2 13 rfl rfl)
theorem dX6_filtered_64 : decode cX6_filtered 64 = .ok (.iload_n 1, 1) := dk_27 (dk_at dksX6_filtered_2 16 rfl rfl)
theorem dX6_filtered_65 : decode cX6_filtered 65 = .ok (.iadd, 1) := dk_96 (dk_at dksX6_filtered_2 17 rfl rfl)
theorem dX6_filtered_66 : decode cX6_filtered 66 = .ok (.iload_n 2, 1) := dk_28 (dk_at dksX6_filtered_2 18 rfl rfl)
theorem dX6_filtered_67 : decode cX6_filtered 67 = .ok (.iastore, 1) := dk_79 (dk_at dksX6_filtered_2 19 rfl rfl)
theorem dX6_filtered_68 : decode cX6_filtered 68 = .ok (.aload_n 0, 1) := dk_42 (dk_at dksX6_filtered_2 20 rfl rfl)
theorem dX6_filtered_69 : decode cX6_filtered 69 = .ok (.getfield 7, 3) := dk_180 0 7 (dk_at dksX6_filtered_2 21 rfl rfl)
theorem dX6_filtered_72 : decode cX6_filtered 72 = .ok (.sipush 620, 3) := dk_17 2 108 (dk_at dksX6_filtered_3 0 rfl rfl)
theorem dX6_filtered_75 : decode cX6_filtered 75 = .ok (.iload_n 1, 1) := dk_27 (dk_at dksX6_filtered_3 3 rfl rfl)
theorem dX6_filtered_76 : decode cX6_filtered 76 = .ok (.iadd, 1) := dk_96 (dk_at dksX6_filtered_3 4 rfl rfl)
theorem dX6_filtered_77 : decode cX6_filtered 77 = .ok (.iload_n 3, 1) := dk_29 (dk_at dksX6_filtered_3 5 rfl rfl)
theorem dX6_filtered_78 : decode cX6_filtered 78 = .ok (.iastore, 1) := dk_79 (dk_at dksX6_filtered_3 6 rfl rfl)
theorem dX6_filtered_79 : decode cX6_filtered 79 = .ok (.iload_n 3, 1) := dk_29 (dk_at dksX6_filtered_3 7 rfl rfl)
theorem dX6_filtered_80 : decode cX6_filtered 80 = .ok (.ireturn, 1) := dk_172 (dk_at dksX6_filtered_3 8 rfl rfl)
abbrev cX6_inputOf : ByteArray := prog_14_method_56_code
def yX6_inputOf : MethodName := ⟨RX6, "inputOf", "(I)I"⟩
def dkwX6_inputOf_2 : List UInt8 := [96, 61, 132, 3, 1, 167, 255, 211, 28, 172]
abbrev dktX6_inputOf_2 : List UInt8 := dkwX6_inputOf_2 ++ []
def dkwX6_inputOf_1 : List UInt8 := [180, 0, 7, 17, 2, 118, 42, 180, 0, 28, 29, 46, 96, 46, 42, 180, 0, 31, 29, 46, 104, 16, 100, 108]
abbrev dktX6_inputOf_1 : List UInt8 := dkwX6_inputOf_1 ++ dktX6_inputOf_2
def dkwX6_inputOf_0 : List UInt8 := [3, 61, 7, 27, 104, 62, 29, 7, 27, 104, 42, 180, 0, 34, 27, 46, 96, 162, 0, 37, 28, 42]
abbrev dktX6_inputOf_0 : List UInt8 := dkwX6_inputOf_0 ++ dktX6_inputOf_1
theorem dksX6_inputOf_0 : cX6_inputOf.data.toList.drop 0 = dktX6_inputOf_0 := by decide +kernel
theorem dksX6_inputOf_1 : cX6_inputOf.data.toList.drop 22 = dktX6_inputOf_1 := dk_seg dksX6_inputOf_0 22 rfl rfl
theorem dksX6_inputOf_2 : cX6_inputOf.data.toList.drop 46 = dktX6_inputOf_2 := dk_seg dksX6_inputOf_1 24 rfl rfl
theorem dX6_inputOf_0 : decode cX6_inputOf 0 = .ok (.iconst 0, 1) := dk_3 (dk_at dksX6_inputOf_0 0 rfl rfl)
theorem dX6_inputOf_1 : decode cX6_inputOf 1 = .ok (.istore_n 2, 1) := dk_61 (dk_at dksX6_inputOf_0 1 rfl rfl)
theorem dX6_inputOf_2 : decode cX6_inputOf 2 = .ok (.iconst 4, 1) := dk_7 (dk_at dksX6_inputOf_0 2 rfl rfl)
theorem dX6_inputOf_3 : decode cX6_inputOf 3 = .ok (.iload_n 1, 1) := dk_27 (dk_at dksX6_inputOf_0 3 rfl rfl)
theorem dX6_inputOf_4 : decode cX6_inputOf 4 = .ok (.imul, 1) := dk_104 (dk_at dksX6_inputOf_0 4 rfl rfl)
theorem dX6_inputOf_5 : decode cX6_inputOf 5 = .ok (.istore_n 3, 1) := dk_62 (dk_at dksX6_inputOf_0 5 rfl rfl)
theorem dX6_inputOf_6 : decode cX6_inputOf 6 = .ok (.iload_n 3, 1) := dk_29 (dk_at dksX6_inputOf_0 6 rfl rfl)
theorem dX6_inputOf_7 : decode cX6_inputOf 7 = .ok (.iconst 4, 1) := dk_7 (dk_at dksX6_inputOf_0 7 rfl rfl)
theorem dX6_inputOf_8 : decode cX6_inputOf 8 = .ok (.iload_n 1, 1) := dk_27 (dk_at dksX6_inputOf_0 8 rfl rfl)
theorem dX6_inputOf_9 : decode cX6_inputOf 9 = .ok (.imul, 1) := dk_104 (dk_at dksX6_inputOf_0 9 rfl rfl)
theorem dX6_inputOf_10 : decode cX6_inputOf 10 = .ok (.aload_n 0, 1) := dk_42 (dk_at dksX6_inputOf_0 10 rfl rfl)
theorem dX6_inputOf_11 : decode cX6_inputOf 11 = .ok (.getfield 34, 3) := dk_180 0 34 (dk_at dksX6_inputOf_0 11 rfl rfl)
theorem dX6_inputOf_14 : decode cX6_inputOf 14 = .ok (.iload_n 1, 1) := dk_27 (dk_at dksX6_inputOf_0 14 rfl rfl)
theorem dX6_inputOf_15 : decode cX6_inputOf 15 = .ok (.iaload, 1) := dk_46 (dk_at dksX6_inputOf_0 15 rfl rfl)
theorem dX6_inputOf_16 : decode cX6_inputOf 16 = .ok (.iadd, 1) := dk_96 (dk_at dksX6_inputOf_0 16 rfl rfl)
theorem dX6_inputOf_17 : decode cX6_inputOf 17 = .ok (.if_icmp .ge 37, 3) := dk_162 0 37 (dk_at dksX6_inputOf_0 17 rfl rfl)
theorem dX6_inputOf_20 : decode cX6_inputOf 20 = .ok (.iload_n 2, 1) := dk_28 (dk_at dksX6_inputOf_0 20 rfl rfl)
theorem dX6_inputOf_21 : decode cX6_inputOf 21 = .ok (.aload_n 0, 1) := dk_42 (dk_at dksX6_inputOf_0 21 rfl rfl)
theorem dX6_inputOf_22 : decode cX6_inputOf 22 = .ok (.getfield 7, 3) := dk_180 0 7 (dk_at dksX6_inputOf_1 0 rfl rfl)
theorem dX6_inputOf_25 : decode cX6_inputOf 25 = .ok (.sipush 630, 3) := dk_17 2 118 (dk_at dksX6_inputOf_1 3 rfl rfl)
theorem dX6_inputOf_28 : decode cX6_inputOf 28 = .ok (.aload_n 0, 1) := dk_42 (dk_at dksX6_inputOf_1 6 rfl rfl)
theorem dX6_inputOf_29 : decode cX6_inputOf 29 = .ok (.getfield 28, 3) := dk_180 0 28 (dk_at dksX6_inputOf_1 7 rfl rfl)
theorem dX6_inputOf_32 : decode cX6_inputOf 32 = .ok (.iload_n 3, 1) := dk_29 (dk_at dksX6_inputOf_1 10 rfl rfl)
theorem dX6_inputOf_33 : decode cX6_inputOf 33 = .ok (.iaload, 1) := dk_46 (dk_at dksX6_inputOf_1 11 rfl rfl)
theorem dX6_inputOf_34 : decode cX6_inputOf 34 = .ok (.iadd, 1) := dk_96 (dk_at dksX6_inputOf_1 12 rfl rfl)
theorem dX6_inputOf_35 : decode cX6_inputOf 35 = .ok (.iaload, 1) := dk_46 (dk_at dksX6_inputOf_1 13 rfl rfl)
theorem dX6_inputOf_36 : decode cX6_inputOf 36 = .ok (.aload_n 0, 1) := dk_42 (dk_at dksX6_inputOf_1 14 rfl rfl)
theorem dX6_inputOf_37 : decode cX6_inputOf 37 = .ok (.getfield 31, 3) := dk_180 0 31 (dk_at dksX6_inputOf_1 15 rfl rfl)
theorem dX6_inputOf_40 : decode cX6_inputOf 40 = .ok (.iload_n 3, 1) := dk_29 (dk_at dksX6_inputOf_1 18 rfl rfl)
theorem dX6_inputOf_41 : decode cX6_inputOf 41 = .ok (.iaload, 1) := dk_46 (dk_at dksX6_inputOf_1 19 rfl rfl)
theorem dX6_inputOf_42 : decode cX6_inputOf 42 = .ok (.imul, 1) := dk_104 (dk_at dksX6_inputOf_1 20 rfl rfl)
theorem dX6_inputOf_43 : decode cX6_inputOf 43 = .ok (.bipush 100, 2) := dk_16 100 (dk_at dksX6_inputOf_1 21 rfl rfl)
theorem dX6_inputOf_45 : decode cX6_inputOf 45 = .ok (.idiv, 1) := dk_108 (dk_at dksX6_inputOf_1 23 rfl rfl)
theorem dX6_inputOf_46 : decode cX6_inputOf 46 = .ok (.iadd, 1) := dk_96 (dk_at dksX6_inputOf_2 0 rfl rfl)
theorem dX6_inputOf_47 : decode cX6_inputOf 47 = .ok (.istore_n 2, 1) := dk_61 (dk_at dksX6_inputOf_2 1 rfl rfl)
theorem dX6_inputOf_48 : decode cX6_inputOf 48 = .ok (.iinc 3 1, 3) := dk_132 3 1 (dk_at dksX6_inputOf_2 2 rfl rfl)
theorem dX6_inputOf_51 : decode cX6_inputOf 51 = .ok (.goto (-45), 3) := dk_167 255 211 (dk_at dksX6_inputOf_2 5 rfl rfl)
theorem dX6_inputOf_54 : decode cX6_inputOf 54 = .ok (.iload_n 2, 1) := dk_28 (dk_at dksX6_inputOf_2 8 rfl rfl)
theorem dX6_inputOf_55 : decode cX6_inputOf 55 = .ok (.ireturn, 1) := dk_172 (dk_at dksX6_inputOf_2 9 rfl rfl)
abbrev cX6_cut : ByteArray := prog_14_method_7_code
def yX6_cut : MethodName := ⟨RX6, "cut", "(I)I"⟩
def dkwX6_cut_1 : List UInt8 := [167, 0, 4, 26, 172]
abbrev dktX6_cut_1 : List UInt8 := dkwX6_cut_1 ++ []
def dkwX6_cut_0 : List UInt8 := [26, 17, 127, 255, 164, 0, 9, 17, 127, 255, 167, 0, 17, 26, 17, 128, 1, 162, 0, 9, 17, 128, 1]
abbrev dktX6_cut_0 : List UInt8 := dkwX6_cut_0 ++ dktX6_cut_1
theorem dksX6_cut_0 : cX6_cut.data.toList.drop 0 = dktX6_cut_0 := by decide +kernel
theorem dksX6_cut_1 : cX6_cut.data.toList.drop 23 = dktX6_cut_1 := dk_seg dksX6_cut_0 23 rfl rfl
theorem dX6_cut_0 : decode cX6_cut 0 = .ok (.iload_n 0, 1) := dk_26 (dk_at dksX6_cut_0 0 rfl rfl)
theorem dX6_cut_1 : decode cX6_cut 1 = .ok (.sipush 32767, 3) := dk_17 127 255 (dk_at dksX6_cut_0 1 rfl rfl)
theorem dX6_cut_4 : decode cX6_cut 4 = .ok (.if_icmp .le 9, 3) := dk_164 0 9 (dk_at dksX6_cut_0 4 rfl rfl)
theorem dX6_cut_7 : decode cX6_cut 7 = .ok (.sipush 32767, 3) := dk_17 127 255 (dk_at dksX6_cut_0 7 rfl rfl)
theorem dX6_cut_10 : decode cX6_cut 10 = .ok (.goto 17, 3) := dk_167 0 17 (dk_at dksX6_cut_0 10 rfl rfl)
theorem dX6_cut_13 : decode cX6_cut 13 = .ok (.iload_n 0, 1) := dk_26 (dk_at dksX6_cut_0 13 rfl rfl)
theorem dX6_cut_14 : decode cX6_cut 14 = .ok (.sipush (-32767), 3) := dk_17 128 1 (dk_at dksX6_cut_0 14 rfl rfl)
theorem dX6_cut_17 : decode cX6_cut 17 = .ok (.if_icmp .ge 9, 3) := dk_162 0 9 (dk_at dksX6_cut_0 17 rfl rfl)
theorem dX6_cut_20 : decode cX6_cut 20 = .ok (.sipush (-32767), 3) := dk_17 128 1 (dk_at dksX6_cut_0 20 rfl rfl)
theorem dX6_cut_23 : decode cX6_cut 23 = .ok (.goto 4, 3) := dk_167 0 4 (dk_at dksX6_cut_1 0 rfl rfl)
theorem dX6_cut_26 : decode cX6_cut 26 = .ok (.iload_n 0, 1) := dk_26 (dk_at dksX6_cut_1 3 rfl rfl)
theorem dX6_cut_27 : decode cX6_cut 27 = .ok (.ireturn, 1) := dk_172 (dk_at dksX6_cut_1 4 rfl rfl)
abbrev cX6_limited : ByteArray := prog_14_method_59_code
def yX6_limited : MethodName := ⟨RX6, "limited", "(II)I"⟩
def dkwX6_limited_1 : List UInt8 := [156, 0, 8, 28, 116, 167, 0, 4, 28, 172]
abbrev dktX6_limited_1 : List UInt8 := dkwX6_limited_1 ++ []
def dkwX6_limited_0 : List UInt8 := [26, 184, 0, 186, 27, 163, 0, 5, 26, 172, 27, 26, 184, 0, 186, 27, 100, 7, 108, 96, 61, 26]
abbrev dktX6_limited_0 : List UInt8 := dkwX6_limited_0 ++ dktX6_limited_1
theorem dksX6_limited_0 : cX6_limited.data.toList.drop 0 = dktX6_limited_0 := by decide +kernel
theorem dksX6_limited_1 : cX6_limited.data.toList.drop 22 = dktX6_limited_1 := dk_seg dksX6_limited_0 22 rfl rfl
theorem dX6_limited_0 : decode cX6_limited 0 = .ok (.iload_n 0, 1) := dk_26 (dk_at dksX6_limited_0 0 rfl rfl)
theorem dX6_limited_1 : decode cX6_limited 1 = .ok (.invokestatic 186, 3) := dk_184 0 186 (dk_at dksX6_limited_0 1 rfl rfl)
theorem dX6_limited_4 : decode cX6_limited 4 = .ok (.iload_n 1, 1) := dk_27 (dk_at dksX6_limited_0 4 rfl rfl)
theorem dX6_limited_5 : decode cX6_limited 5 = .ok (.if_icmp .gt 5, 3) := dk_163 0 5 (dk_at dksX6_limited_0 5 rfl rfl)
theorem dX6_limited_8 : decode cX6_limited 8 = .ok (.iload_n 0, 1) := dk_26 (dk_at dksX6_limited_0 8 rfl rfl)
theorem dX6_limited_9 : decode cX6_limited 9 = .ok (.ireturn, 1) := dk_172 (dk_at dksX6_limited_0 9 rfl rfl)
theorem dX6_limited_10 : decode cX6_limited 10 = .ok (.iload_n 1, 1) := dk_27 (dk_at dksX6_limited_0 10 rfl rfl)
theorem dX6_limited_11 : decode cX6_limited 11 = .ok (.iload_n 0, 1) := dk_26 (dk_at dksX6_limited_0 11 rfl rfl)
theorem dX6_limited_12 : decode cX6_limited 12 = .ok (.invokestatic 186, 3) := dk_184 0 186 (dk_at dksX6_limited_0 12 rfl rfl)
theorem dX6_limited_15 : decode cX6_limited 15 = .ok (.iload_n 1, 1) := dk_27 (dk_at dksX6_limited_0 15 rfl rfl)
theorem dX6_limited_16 : decode cX6_limited 16 = .ok (.isub, 1) := dk_100 (dk_at dksX6_limited_0 16 rfl rfl)
theorem dX6_limited_17 : decode cX6_limited 17 = .ok (.iconst 4, 1) := dk_7 (dk_at dksX6_limited_0 17 rfl rfl)
theorem dX6_limited_18 : decode cX6_limited 18 = .ok (.idiv, 1) := dk_108 (dk_at dksX6_limited_0 18 rfl rfl)
theorem dX6_limited_19 : decode cX6_limited 19 = .ok (.iadd, 1) := dk_96 (dk_at dksX6_limited_0 19 rfl rfl)
theorem dX6_limited_20 : decode cX6_limited 20 = .ok (.istore_n 2, 1) := dk_61 (dk_at dksX6_limited_0 20 rfl rfl)
theorem dX6_limited_21 : decode cX6_limited 21 = .ok (.iload_n 0, 1) := dk_26 (dk_at dksX6_limited_0 21 rfl rfl)
theorem dX6_limited_22 : decode cX6_limited 22 = .ok (.ifCond .ge 8, 3) := dk_156 0 8 (dk_at dksX6_limited_1 0 rfl rfl)
theorem dX6_limited_25 : decode cX6_limited 25 = .ok (.iload_n 2, 1) := dk_28 (dk_at dksX6_limited_1 3 rfl rfl)
theorem dX6_limited_26 : decode cX6_limited 26 = .ok (.ineg, 1) := dk_116 (dk_at dksX6_limited_1 4 rfl rfl)
theorem dX6_limited_27 : decode cX6_limited 27 = .ok (.goto 4, 3) := dk_167 0 4 (dk_at dksX6_limited_1 5 rfl rfl)
theorem dX6_limited_30 : decode cX6_limited 30 = .ok (.iload_n 2, 1) := dk_28 (dk_at dksX6_limited_1 8 rfl rfl)
theorem dX6_limited_31 : decode cX6_limited 31 = .ok (.ireturn, 1) := dk_172 (dk_at dksX6_limited_1 9 rfl rfl)
abbrev cX6_size : ByteArray := prog_14_method_8_code
def yX6_size : MethodName := ⟨RX6, "size", "(I)I"⟩
def dkwX6_size_0 : List UInt8 := [26, 156, 0, 8, 26, 116, 167, 0, 4, 26, 172]
abbrev dktX6_size_0 : List UInt8 := dkwX6_size_0 ++ []
theorem dksX6_size_0 : cX6_size.data.toList.drop 0 = dktX6_size_0 := by decide +kernel
theorem dX6_size_0 : decode cX6_size 0 = .ok (.iload_n 0, 1) := dk_26 (dk_at dksX6_size_0 0 rfl rfl)
theorem dX6_size_1 : decode cX6_size 1 = .ok (.ifCond .ge 8, 3) := dk_156 0 8 (dk_at dksX6_size_0 1 rfl rfl)
theorem dX6_size_4 : decode cX6_size 4 = .ok (.iload_n 0, 1) := dk_26 (dk_at dksX6_size_0 4 rfl rfl)
theorem dX6_size_5 : decode cX6_size 5 = .ok (.ineg, 1) := dk_116 (dk_at dksX6_size_0 5 rfl rfl)
theorem dX6_size_6 : decode cX6_size 6 = .ok (.goto 4, 3) := dk_167 0 4 (dk_at dksX6_size_0 6 rfl rfl)
theorem dX6_size_9 : decode cX6_size 9 = .ok (.iload_n 0, 1) := dk_26 (dk_at dksX6_size_0 9 rfl rfl)
theorem dX6_size_10 : decode cX6_size 10 = .ok (.ireturn, 1) := dk_172 (dk_at dksX6_size_0 10 rfl rfl)
abbrev cX6_step : ByteArray := prog_14_method_64_code
def yX6_step : MethodName := ⟨RX6, "step", "()I"⟩
def dkwX6_step_0 : List UInt8 := [42, 42, 182, 0, 204, 182, 0, 125, 172]
abbrev dktX6_step_0 : List UInt8 := dkwX6_step_0 ++ []
theorem dksX6_step_0 : cX6_step.data.toList.drop 0 = dktX6_step_0 := by decide +kernel
theorem dX6_step_0 : decode cX6_step 0 = .ok (.aload_n 0, 1) := dk_42 (dk_at dksX6_step_0 0 rfl rfl)
theorem dX6_step_1 : decode cX6_step 1 = .ok (.aload_n 0, 1) := dk_42 (dk_at dksX6_step_0 1 rfl rfl)
theorem dX6_step_2 : decode cX6_step 2 = .ok (.invokevirtual 204, 3) := dk_182 0 204 (dk_at dksX6_step_0 2 rfl rfl)
theorem dX6_step_5 : decode cX6_step 5 = .ok (.invokevirtual 125, 3) := dk_182 0 125 (dk_at dksX6_step_0 5 rfl rfl)
theorem dX6_step_8 : decode cX6_step 8 = .ok (.ireturn, 1) := dk_172 (dk_at dksX6_step_0 8 rfl rfl)
abbrev cX6_ahead : ByteArray := prog_14_method_66_code
def yX6_ahead : MethodName := ⟨RX6, "ahead", "(I)I"⟩
def dkwX6_ahead_0 : List UInt8 := [42, 27, 4, 16, 40, 184, 0, 94, 182, 0, 121, 158, 0, 7, 3, 167, 0, 8, 42, 27, 182, 0, 207, 172]
abbrev dktX6_ahead_0 : List UInt8 := dkwX6_ahead_0 ++ []
theorem dksX6_ahead_0 : cX6_ahead.data.toList.drop 0 = dktX6_ahead_0 := by decide +kernel
theorem dX6_ahead_0 : decode cX6_ahead 0 = .ok (.aload_n 0, 1) := dk_42 (dk_at dksX6_ahead_0 0 rfl rfl)
theorem dX6_ahead_1 : decode cX6_ahead 1 = .ok (.iload_n 1, 1) := dk_27 (dk_at dksX6_ahead_0 1 rfl rfl)
theorem dX6_ahead_2 : decode cX6_ahead 2 = .ok (.iconst 1, 1) := dk_4 (dk_at dksX6_ahead_0 2 rfl rfl)
theorem dX6_ahead_3 : decode cX6_ahead 3 = .ok (.bipush 40, 2) := dk_16 40 (dk_at dksX6_ahead_0 3 rfl rfl)
theorem dX6_ahead_5 : decode cX6_ahead 5 = .ok (.invokestatic 94, 3) := dk_184 0 94 (dk_at dksX6_ahead_0 5 rfl rfl)
theorem dX6_ahead_8 : decode cX6_ahead 8 = .ok (.invokevirtual 121, 3) := dk_182 0 121 (dk_at dksX6_ahead_0 8 rfl rfl)
theorem dX6_ahead_11 : decode cX6_ahead 11 = .ok (.ifCond .le 7, 3) := dk_158 0 7 (dk_at dksX6_ahead_0 11 rfl rfl)
theorem dX6_ahead_14 : decode cX6_ahead 14 = .ok (.iconst 0, 1) := dk_3 (dk_at dksX6_ahead_0 14 rfl rfl)
theorem dX6_ahead_15 : decode cX6_ahead 15 = .ok (.goto 8, 3) := dk_167 0 8 (dk_at dksX6_ahead_0 15 rfl rfl)
theorem dX6_ahead_18 : decode cX6_ahead 18 = .ok (.aload_n 0, 1) := dk_42 (dk_at dksX6_ahead_0 18 rfl rfl)
theorem dX6_ahead_19 : decode cX6_ahead 19 = .ok (.iload_n 1, 1) := dk_27 (dk_at dksX6_ahead_0 19 rfl rfl)
theorem dX6_ahead_20 : decode cX6_ahead 20 = .ok (.invokevirtual 207, 3) := dk_182 0 207 (dk_at dksX6_ahead_0 20 rfl rfl)
theorem dX6_ahead_23 : decode cX6_ahead 23 = .ok (.ireturn, 1) := dk_172 (dk_at dksX6_ahead_0 23 rfl rfl)
abbrev cX6_foreseen : ByteArray := prog_14_method_65_code
def yX6_foreseen : MethodName := ⟨RX6, "foreseen", "(I)I"⟩
def dkwX6_foreseen_3 : List UInt8 := [167, 255, 234, 28, 172]
abbrev dktX6_foreseen_3 : List UInt8 := dkwX6_foreseen_3 ++ []
def dkwX6_foreseen_2 : List UInt8 := [3, 62, 29, 17, 2, 192, 162, 0, 21, 42, 180, 0, 7, 29, 42, 180, 0, 13, 29, 46, 79, 132, 3, 1]
abbrev dktX6_foreseen_2 : List UInt8 := dkwX6_foreseen_2 ++ dktX6_foreseen_3
def dkwX6_foreseen_1 : List UInt8 := [132, 3, 1, 167, 255, 234, 3, 62, 29, 27, 162, 0, 14, 42, 182, 0, 201, 61, 132, 3, 1, 167, 255, 243]
abbrev dktX6_foreseen_1 : List UInt8 := dkwX6_foreseen_1 ++ dktX6_foreseen_2
def dkwX6_foreseen_0 : List UInt8 := [3, 61, 3, 62, 29, 17, 2, 192, 162, 0, 21, 42, 180, 0, 13, 29, 42, 180, 0, 7, 29, 46, 79]
abbrev dktX6_foreseen_0 : List UInt8 := dkwX6_foreseen_0 ++ dktX6_foreseen_1
theorem dksX6_foreseen_0 : cX6_foreseen.data.toList.drop 0 = dktX6_foreseen_0 := by decide +kernel
theorem dksX6_foreseen_1 : cX6_foreseen.data.toList.drop 23 = dktX6_foreseen_1 := dk_seg dksX6_foreseen_0 23 rfl rfl
theorem dksX6_foreseen_2 : cX6_foreseen.data.toList.drop 47 = dktX6_foreseen_2 := dk_seg dksX6_foreseen_1 24 rfl rfl
theorem dksX6_foreseen_3 : cX6_foreseen.data.toList.drop 71 = dktX6_foreseen_3 := dk_seg dksX6_foreseen_2 24 rfl rfl
theorem dX6_foreseen_0 : decode cX6_foreseen 0 = .ok (.iconst 0, 1) := dk_3 (dk_at dksX6_foreseen_0 0 rfl rfl)
theorem dX6_foreseen_1 : decode cX6_foreseen 1 = .ok (.istore_n 2, 1) := dk_61 (dk_at dksX6_foreseen_0 1 rfl rfl)
theorem dX6_foreseen_2 : decode cX6_foreseen 2 = .ok (.iconst 0, 1) := dk_3 (dk_at dksX6_foreseen_0 2 rfl rfl)
theorem dX6_foreseen_3 : decode cX6_foreseen 3 = .ok (.istore_n 3, 1) := dk_62 (dk_at dksX6_foreseen_0 3 rfl rfl)
theorem dX6_foreseen_4 : decode cX6_foreseen 4 = .ok (.iload_n 3, 1) := dk_29 (dk_at dksX6_foreseen_0 4 rfl rfl)
theorem dX6_foreseen_5 : decode cX6_foreseen 5 = .ok (.sipush 704, 3) := dk_17 2 192 (dk_at dksX6_foreseen_0 5 rfl rfl)
theorem dX6_foreseen_8 : decode cX6_foreseen 8 = .ok (.if_icmp .ge 21, 3) := dk_162 0 21 (dk_at dksX6_foreseen_0 8 rfl rfl)
theorem dX6_foreseen_11 : decode cX6_foreseen 11 = .ok (.aload_n 0, 1) := dk_42 (dk_at dksX6_foreseen_0 11 rfl rfl)
theorem dX6_foreseen_12 : decode cX6_foreseen 12 = .ok (.getfield 13, 3) := dk_180 0 13 (dk_at dksX6_foreseen_0 12 rfl rfl)
theorem dX6_foreseen_15 : decode cX6_foreseen 15 = .ok (.iload_n 3, 1) := dk_29 (dk_at dksX6_foreseen_0 15 rfl rfl)
theorem dX6_foreseen_16 : decode cX6_foreseen 16 = .ok (.aload_n 0, 1) := dk_42 (dk_at dksX6_foreseen_0 16 rfl rfl)
theorem dX6_foreseen_17 : decode cX6_foreseen 17 = .ok (.getfield 7, 3) := dk_180 0 7 (dk_at dksX6_foreseen_0 17 rfl rfl)
theorem dX6_foreseen_20 : decode cX6_foreseen 20 = .ok (.iload_n 3, 1) := dk_29 (dk_at dksX6_foreseen_0 20 rfl rfl)
theorem dX6_foreseen_21 : decode cX6_foreseen 21 = .ok (.iaload, 1) := dk_46 (dk_at dksX6_foreseen_0 21 rfl rfl)
theorem dX6_foreseen_22 : decode cX6_foreseen 22 = .ok (.iastore, 1) := dk_79 (dk_at dksX6_foreseen_0 22 rfl rfl)
theorem dX6_foreseen_23 : decode cX6_foreseen 23 = .ok (.iinc 3 1, 3) := dk_132 3 1 (dk_at dksX6_foreseen_1 0 rfl rfl)
theorem dX6_foreseen_26 : decode cX6_foreseen 26 = .ok (.goto (-22), 3) := dk_167 255 234 (dk_at dksX6_foreseen_1 3 rfl rfl)
theorem dX6_foreseen_29 : decode cX6_foreseen 29 = .ok (.iconst 0, 1) := dk_3 (dk_at dksX6_foreseen_1 6 rfl rfl)
theorem dX6_foreseen_30 : decode cX6_foreseen 30 = .ok (.istore_n 3, 1) := dk_62 (dk_at dksX6_foreseen_1 7 rfl rfl)
theorem dX6_foreseen_31 : decode cX6_foreseen 31 = .ok (.iload_n 3, 1) := dk_29 (dk_at dksX6_foreseen_1 8 rfl rfl)
theorem dX6_foreseen_32 : decode cX6_foreseen 32 = .ok (.iload_n 1, 1) := dk_27 (dk_at dksX6_foreseen_1 9 rfl rfl)
theorem dX6_foreseen_33 : decode cX6_foreseen 33 = .ok (.if_icmp .ge 14, 3) := dk_162 0 14 (dk_at dksX6_foreseen_1 10 rfl rfl)
theorem dX6_foreseen_36 : decode cX6_foreseen 36 = .ok (.aload_n 0, 1) := dk_42 (dk_at dksX6_foreseen_1 13 rfl rfl)
theorem dX6_foreseen_37 : decode cX6_foreseen 37 = .ok (.invokevirtual 201, 3) := dk_182 0 201 (dk_at dksX6_foreseen_1 14 rfl rfl)
theorem dX6_foreseen_40 : decode cX6_foreseen 40 = .ok (.istore_n 2, 1) := dk_61 (dk_at dksX6_foreseen_1 17 rfl rfl)
theorem dX6_foreseen_41 : decode cX6_foreseen 41 = .ok (.iinc 3 1, 3) := dk_132 3 1 (dk_at dksX6_foreseen_1 18 rfl rfl)
theorem dX6_foreseen_44 : decode cX6_foreseen 44 = .ok (.goto (-13), 3) := dk_167 255 243 (dk_at dksX6_foreseen_1 21 rfl rfl)
theorem dX6_foreseen_47 : decode cX6_foreseen 47 = .ok (.iconst 0, 1) := dk_3 (dk_at dksX6_foreseen_2 0 rfl rfl)
theorem dX6_foreseen_48 : decode cX6_foreseen 48 = .ok (.istore_n 3, 1) := dk_62 (dk_at dksX6_foreseen_2 1 rfl rfl)
theorem dX6_foreseen_49 : decode cX6_foreseen 49 = .ok (.iload_n 3, 1) := dk_29 (dk_at dksX6_foreseen_2 2 rfl rfl)
theorem dX6_foreseen_50 : decode cX6_foreseen 50 = .ok (.sipush 704, 3) := dk_17 2 192 (dk_at dksX6_foreseen_2 3 rfl rfl)
theorem dX6_foreseen_53 : decode cX6_foreseen 53 = .ok (.if_icmp .ge 21, 3) := dk_162 0 21 (dk_at dksX6_foreseen_2 6 rfl rfl)
theorem dX6_foreseen_56 : decode cX6_foreseen 56 = .ok (.aload_n 0, 1) := dk_42 (dk_at dksX6_foreseen_2 9 rfl rfl)
theorem dX6_foreseen_57 : decode cX6_foreseen 57 = .ok (.getfield 7, 3) := dk_180 0 7 (dk_at dksX6_foreseen_2 10 rfl rfl)
theorem dX6_foreseen_60 : decode cX6_foreseen 60 = .ok (.iload_n 3, 1) := dk_29 (dk_at dksX6_foreseen_2 13 rfl rfl)
theorem dX6_foreseen_61 : decode cX6_foreseen 61 = .ok (.aload_n 0, 1) := dk_42 (dk_at dksX6_foreseen_2 14 rfl rfl)
theorem dX6_foreseen_62 : decode cX6_foreseen 62 = .ok (.getfield 13, 3) := dk_180 0 13 (dk_at dksX6_foreseen_2 15 rfl rfl)
theorem dX6_foreseen_65 : decode cX6_foreseen 65 = .ok (.iload_n 3, 1) := dk_29 (dk_at dksX6_foreseen_2 18 rfl rfl)
theorem dX6_foreseen_66 : decode cX6_foreseen 66 = .ok (.iaload, 1) := dk_46 (dk_at dksX6_foreseen_2 19 rfl rfl)
theorem dX6_foreseen_67 : decode cX6_foreseen 67 = .ok (.iastore, 1) := dk_79 (dk_at dksX6_foreseen_2 20 rfl rfl)
theorem dX6_foreseen_68 : decode cX6_foreseen 68 = .ok (.iinc 3 1, 3) := dk_132 3 1 (dk_at dksX6_foreseen_2 21 rfl rfl)
theorem dX6_foreseen_71 : decode cX6_foreseen 71 = .ok (.goto (-22), 3) := dk_167 255 234 (dk_at dksX6_foreseen_3 0 rfl rfl)
theorem dX6_foreseen_74 : decode cX6_foreseen 74 = .ok (.iload_n 2, 1) := dk_28 (dk_at dksX6_foreseen_3 3 rfl rfl)
theorem dX6_foreseen_75 : decode cX6_foreseen 75 = .ok (.ireturn, 1) := dk_172 (dk_at dksX6_foreseen_3 4 rfl rfl)
abbrev cX6_aheadByBlocks : ByteArray := prog_14_method_67_code
def yX6_aheadByBlocks : MethodName := ⟨RX6, "aheadByBlocks", "(II)I"⟩
def dkwX6_aheadByBlocks_1 : List UInt8 := [167, 0, 4, 3, 182, 0, 121, 158, 0, 7, 3, 167, 0, 8, 42, 27, 182, 0, 207, 172]
abbrev dktX6_aheadByBlocks_1 : List UInt8 := dkwX6_aheadByBlocks_1 ++ []
def dkwX6_aheadByBlocks_0 : List UInt8 := [42, 27, 4, 16, 40, 184, 0, 94, 153, 0, 17, 28, 4, 16, 64, 184, 0, 94, 153, 0, 7, 4]
abbrev dktX6_aheadByBlocks_0 : List UInt8 := dkwX6_aheadByBlocks_0 ++ dktX6_aheadByBlocks_1
theorem dksX6_aheadByBlocks_0 : cX6_aheadByBlocks.data.toList.drop 0 = dktX6_aheadByBlocks_0 := by decide +kernel
theorem dksX6_aheadByBlocks_1 : cX6_aheadByBlocks.data.toList.drop 22 = dktX6_aheadByBlocks_1 := dk_seg dksX6_aheadByBlocks_0 22 rfl rfl
theorem dX6_aheadByBlocks_0 : decode cX6_aheadByBlocks 0 = .ok (.aload_n 0, 1) := dk_42 (dk_at dksX6_aheadByBlocks_0 0 rfl rfl)
theorem dX6_aheadByBlocks_1 : decode cX6_aheadByBlocks 1 = .ok (.iload_n 1, 1) := dk_27 (dk_at dksX6_aheadByBlocks_0 1 rfl rfl)
theorem dX6_aheadByBlocks_2 : decode cX6_aheadByBlocks 2 = .ok (.iconst 1, 1) := dk_4 (dk_at dksX6_aheadByBlocks_0 2 rfl rfl)
theorem dX6_aheadByBlocks_3 : decode cX6_aheadByBlocks 3 = .ok (.bipush 40, 2) := dk_16 40 (dk_at dksX6_aheadByBlocks_0 3 rfl rfl)
theorem dX6_aheadByBlocks_5 : decode cX6_aheadByBlocks 5 = .ok (.invokestatic 94, 3) := dk_184 0 94 (dk_at dksX6_aheadByBlocks_0 5 rfl rfl)
theorem dX6_aheadByBlocks_8 : decode cX6_aheadByBlocks 8 = .ok (.ifCond .eq 17, 3) := dk_153 0 17 (dk_at dksX6_aheadByBlocks_0 8 rfl rfl)
theorem dX6_aheadByBlocks_11 : decode cX6_aheadByBlocks 11 = .ok (.iload_n 2, 1) := dk_28 (dk_at dksX6_aheadByBlocks_0 11 rfl rfl)
theorem dX6_aheadByBlocks_12 : decode cX6_aheadByBlocks 12 = .ok (.iconst 1, 1) := dk_4 (dk_at dksX6_aheadByBlocks_0 12 rfl rfl)
theorem dX6_aheadByBlocks_13 : decode cX6_aheadByBlocks 13 = .ok (.bipush 64, 2) := dk_16 64 (dk_at dksX6_aheadByBlocks_0 13 rfl rfl)
theorem dX6_aheadByBlocks_15 : decode cX6_aheadByBlocks 15 = .ok (.invokestatic 94, 3) := dk_184 0 94 (dk_at dksX6_aheadByBlocks_0 15 rfl rfl)
theorem dX6_aheadByBlocks_18 : decode cX6_aheadByBlocks 18 = .ok (.ifCond .eq 7, 3) := dk_153 0 7 (dk_at dksX6_aheadByBlocks_0 18 rfl rfl)
theorem dX6_aheadByBlocks_21 : decode cX6_aheadByBlocks 21 = .ok (.iconst 1, 1) := dk_4 (dk_at dksX6_aheadByBlocks_0 21 rfl rfl)
theorem dX6_aheadByBlocks_22 : decode cX6_aheadByBlocks 22 = .ok (.goto 4, 3) := dk_167 0 4 (dk_at dksX6_aheadByBlocks_1 0 rfl rfl)
theorem dX6_aheadByBlocks_25 : decode cX6_aheadByBlocks 25 = .ok (.iconst 0, 1) := dk_3 (dk_at dksX6_aheadByBlocks_1 3 rfl rfl)
theorem dX6_aheadByBlocks_26 : decode cX6_aheadByBlocks 26 = .ok (.invokevirtual 121, 3) := dk_182 0 121 (dk_at dksX6_aheadByBlocks_1 4 rfl rfl)
theorem dX6_aheadByBlocks_29 : decode cX6_aheadByBlocks 29 = .ok (.ifCond .le 7, 3) := dk_158 0 7 (dk_at dksX6_aheadByBlocks_1 7 rfl rfl)
theorem dX6_aheadByBlocks_32 : decode cX6_aheadByBlocks 32 = .ok (.iconst 0, 1) := dk_3 (dk_at dksX6_aheadByBlocks_1 10 rfl rfl)
theorem dX6_aheadByBlocks_33 : decode cX6_aheadByBlocks 33 = .ok (.goto 8, 3) := dk_167 0 8 (dk_at dksX6_aheadByBlocks_1 11 rfl rfl)
theorem dX6_aheadByBlocks_36 : decode cX6_aheadByBlocks 36 = .ok (.aload_n 0, 1) := dk_42 (dk_at dksX6_aheadByBlocks_1 14 rfl rfl)
theorem dX6_aheadByBlocks_37 : decode cX6_aheadByBlocks 37 = .ok (.iload_n 1, 1) := dk_27 (dk_at dksX6_aheadByBlocks_1 15 rfl rfl)
theorem dX6_aheadByBlocks_38 : decode cX6_aheadByBlocks 38 = .ok (.invokevirtual 207, 3) := dk_182 0 207 (dk_at dksX6_aheadByBlocks_1 16 rfl rfl)
theorem dX6_aheadByBlocks_41 : decode cX6_aheadByBlocks 41 = .ok (.ireturn, 1) := dk_172 (dk_at dksX6_aheadByBlocks_1 19 rfl rfl)
abbrev cX6_heard : ByteArray := prog_14_method_68_code
def yX6_heard : MethodName := ⟨RX6, "heard", "(I)I"⟩
def dkwX6_heard_2 : List UInt8 := [180, 0, 78, 4, 100, 27, 100, 16, 64, 112, 46, 172]
abbrev dktX6_heard_2 : List UInt8 := dkwX6_heard_2 ++ []
def dkwX6_heard_1 : List UInt8 := [167, 0, 4, 3, 181, 0, 47, 42, 180, 0, 47, 158, 0, 7, 3, 167, 0, 19, 42, 180, 0, 40, 42]
abbrev dktX6_heard_1 : List UInt8 := dkwX6_heard_1 ++ dktX6_heard_2
def dkwX6_heard_0 : List UInt8 := [42, 27, 3, 16, 63, 184, 0, 94, 154, 0, 7, 4, 167, 0, 16, 27, 42, 180, 0, 78, 161, 0, 7, 5]
abbrev dktX6_heard_0 : List UInt8 := dkwX6_heard_0 ++ dktX6_heard_1
theorem dksX6_heard_0 : cX6_heard.data.toList.drop 0 = dktX6_heard_0 := by decide +kernel
theorem dksX6_heard_1 : cX6_heard.data.toList.drop 24 = dktX6_heard_1 := dk_seg dksX6_heard_0 24 rfl rfl
theorem dksX6_heard_2 : cX6_heard.data.toList.drop 47 = dktX6_heard_2 := dk_seg dksX6_heard_1 23 rfl rfl
theorem dX6_heard_0 : decode cX6_heard 0 = .ok (.aload_n 0, 1) := dk_42 (dk_at dksX6_heard_0 0 rfl rfl)
theorem dX6_heard_1 : decode cX6_heard 1 = .ok (.iload_n 1, 1) := dk_27 (dk_at dksX6_heard_0 1 rfl rfl)
theorem dX6_heard_2 : decode cX6_heard 2 = .ok (.iconst 0, 1) := dk_3 (dk_at dksX6_heard_0 2 rfl rfl)
theorem dX6_heard_3 : decode cX6_heard 3 = .ok (.bipush 63, 2) := dk_16 63 (dk_at dksX6_heard_0 3 rfl rfl)
theorem dX6_heard_5 : decode cX6_heard 5 = .ok (.invokestatic 94, 3) := dk_184 0 94 (dk_at dksX6_heard_0 5 rfl rfl)
theorem dX6_heard_8 : decode cX6_heard 8 = .ok (.ifCond .ne 7, 3) := dk_154 0 7 (dk_at dksX6_heard_0 8 rfl rfl)
theorem dX6_heard_11 : decode cX6_heard 11 = .ok (.iconst 1, 1) := dk_4 (dk_at dksX6_heard_0 11 rfl rfl)
theorem dX6_heard_12 : decode cX6_heard 12 = .ok (.goto 16, 3) := dk_167 0 16 (dk_at dksX6_heard_0 12 rfl rfl)
theorem dX6_heard_15 : decode cX6_heard 15 = .ok (.iload_n 1, 1) := dk_27 (dk_at dksX6_heard_0 15 rfl rfl)
theorem dX6_heard_16 : decode cX6_heard 16 = .ok (.aload_n 0, 1) := dk_42 (dk_at dksX6_heard_0 16 rfl rfl)
theorem dX6_heard_17 : decode cX6_heard 17 = .ok (.getfield 78, 3) := dk_180 0 78 (dk_at dksX6_heard_0 17 rfl rfl)
theorem dX6_heard_20 : decode cX6_heard 20 = .ok (.if_icmp .lt 7, 3) := dk_161 0 7 (dk_at dksX6_heard_0 20 rfl rfl)
theorem dX6_heard_23 : decode cX6_heard 23 = .ok (.iconst 2, 1) := dk_5 (dk_at dksX6_heard_0 23 rfl rfl)
theorem dX6_heard_24 : decode cX6_heard 24 = .ok (.goto 4, 3) := dk_167 0 4 (dk_at dksX6_heard_1 0 rfl rfl)
theorem dX6_heard_27 : decode cX6_heard 27 = .ok (.iconst 0, 1) := dk_3 (dk_at dksX6_heard_1 3 rfl rfl)
theorem dX6_heard_28 : decode cX6_heard 28 = .ok (.putfield 47, 3) := dk_181 0 47 (dk_at dksX6_heard_1 4 rfl rfl)
theorem dX6_heard_31 : decode cX6_heard 31 = .ok (.aload_n 0, 1) := dk_42 (dk_at dksX6_heard_1 7 rfl rfl)
theorem dX6_heard_32 : decode cX6_heard 32 = .ok (.getfield 47, 3) := dk_180 0 47 (dk_at dksX6_heard_1 8 rfl rfl)
theorem dX6_heard_35 : decode cX6_heard 35 = .ok (.ifCond .le 7, 3) := dk_158 0 7 (dk_at dksX6_heard_1 11 rfl rfl)
theorem dX6_heard_38 : decode cX6_heard 38 = .ok (.iconst 0, 1) := dk_3 (dk_at dksX6_heard_1 14 rfl rfl)
theorem dX6_heard_39 : decode cX6_heard 39 = .ok (.goto 19, 3) := dk_167 0 19 (dk_at dksX6_heard_1 15 rfl rfl)
theorem dX6_heard_42 : decode cX6_heard 42 = .ok (.aload_n 0, 1) := dk_42 (dk_at dksX6_heard_1 18 rfl rfl)
theorem dX6_heard_43 : decode cX6_heard 43 = .ok (.getfield 40, 3) := dk_180 0 40 (dk_at dksX6_heard_1 19 rfl rfl)
theorem dX6_heard_46 : decode cX6_heard 46 = .ok (.aload_n 0, 1) := dk_42 (dk_at dksX6_heard_1 22 rfl rfl)
theorem dX6_heard_47 : decode cX6_heard 47 = .ok (.getfield 78, 3) := dk_180 0 78 (dk_at dksX6_heard_2 0 rfl rfl)
theorem dX6_heard_50 : decode cX6_heard 50 = .ok (.iconst 1, 1) := dk_4 (dk_at dksX6_heard_2 3 rfl rfl)
theorem dX6_heard_51 : decode cX6_heard 51 = .ok (.isub, 1) := dk_100 (dk_at dksX6_heard_2 4 rfl rfl)
theorem dX6_heard_52 : decode cX6_heard 52 = .ok (.iload_n 1, 1) := dk_27 (dk_at dksX6_heard_2 5 rfl rfl)
theorem dX6_heard_53 : decode cX6_heard 53 = .ok (.isub, 1) := dk_100 (dk_at dksX6_heard_2 6 rfl rfl)
theorem dX6_heard_54 : decode cX6_heard 54 = .ok (.bipush 64, 2) := dk_16 64 (dk_at dksX6_heard_2 7 rfl rfl)
theorem dX6_heard_56 : decode cX6_heard 56 = .ok (.irem, 1) := dk_112 (dk_at dksX6_heard_2 9 rfl rfl)
theorem dX6_heard_57 : decode cX6_heard 57 = .ok (.iaload, 1) := dk_46 (dk_at dksX6_heard_2 10 rfl rfl)
theorem dX6_heard_58 : decode cX6_heard 58 = .ok (.ireturn, 1) := dk_172 (dk_at dksX6_heard_2 11 rfl rfl)
abbrev cX6_outputOf : ByteArray := prog_14_method_69_code
def yX6_outputOf : MethodName := ⟨RX6, "outputOf", "(I)I"⟩
def dkwX6_outputOf_1 : List UInt8 := [96, 46, 172]
abbrev dktX6_outputOf_1 : List UInt8 := dkwX6_outputOf_1 ++ []
def dkwX6_outputOf_0 : List UInt8 := [42, 42, 27, 182, 0, 110, 182, 0, 121, 158, 0, 7, 3, 167, 0, 13, 42, 180, 0, 7, 17, 2, 118, 27]
abbrev dktX6_outputOf_0 : List UInt8 := dkwX6_outputOf_0 ++ dktX6_outputOf_1
theorem dksX6_outputOf_0 : cX6_outputOf.data.toList.drop 0 = dktX6_outputOf_0 := by decide +kernel
theorem dksX6_outputOf_1 : cX6_outputOf.data.toList.drop 24 = dktX6_outputOf_1 := dk_seg dksX6_outputOf_0 24 rfl rfl
theorem dX6_outputOf_0 : decode cX6_outputOf 0 = .ok (.aload_n 0, 1) := dk_42 (dk_at dksX6_outputOf_0 0 rfl rfl)
theorem dX6_outputOf_1 : decode cX6_outputOf 1 = .ok (.aload_n 0, 1) := dk_42 (dk_at dksX6_outputOf_0 1 rfl rfl)
theorem dX6_outputOf_2 : decode cX6_outputOf 2 = .ok (.iload_n 1, 1) := dk_27 (dk_at dksX6_outputOf_0 2 rfl rfl)
theorem dX6_outputOf_3 : decode cX6_outputOf 3 = .ok (.invokevirtual 110, 3) := dk_182 0 110 (dk_at dksX6_outputOf_0 3 rfl rfl)
theorem dX6_outputOf_6 : decode cX6_outputOf 6 = .ok (.invokevirtual 121, 3) := dk_182 0 121 (dk_at dksX6_outputOf_0 6 rfl rfl)
theorem dX6_outputOf_9 : decode cX6_outputOf 9 = .ok (.ifCond .le 7, 3) := dk_158 0 7 (dk_at dksX6_outputOf_0 9 rfl rfl)
theorem dX6_outputOf_12 : decode cX6_outputOf 12 = .ok (.iconst 0, 1) := dk_3 (dk_at dksX6_outputOf_0 12 rfl rfl)
theorem dX6_outputOf_13 : decode cX6_outputOf 13 = .ok (.goto 13, 3) := dk_167 0 13 (dk_at dksX6_outputOf_0 13 rfl rfl)
theorem dX6_outputOf_16 : decode cX6_outputOf 16 = .ok (.aload_n 0, 1) := dk_42 (dk_at dksX6_outputOf_0 16 rfl rfl)
theorem dX6_outputOf_17 : decode cX6_outputOf 17 = .ok (.getfield 7, 3) := dk_180 0 7 (dk_at dksX6_outputOf_0 17 rfl rfl)
theorem dX6_outputOf_20 : decode cX6_outputOf 20 = .ok (.sipush 630, 3) := dk_17 2 118 (dk_at dksX6_outputOf_0 20 rfl rfl)
theorem dX6_outputOf_23 : decode cX6_outputOf 23 = .ok (.iload_n 1, 1) := dk_27 (dk_at dksX6_outputOf_0 23 rfl rfl)
theorem dX6_outputOf_24 : decode cX6_outputOf 24 = .ok (.iadd, 1) := dk_96 (dk_at dksX6_outputOf_1 0 rfl rfl)
theorem dX6_outputOf_25 : decode cX6_outputOf 25 = .ok (.iaload, 1) := dk_46 (dk_at dksX6_outputOf_1 1 rfl rfl)
theorem dX6_outputOf_26 : decode cX6_outputOf 26 = .ok (.ireturn, 1) := dk_172 (dk_at dksX6_outputOf_1 2 rfl rfl)
abbrev cX6_time : ByteArray := prog_14_method_70_code
def yX6_time : MethodName := ⟨RX6, "time", "()I"⟩
def dkwX6_time_0 : List UInt8 := [42, 42, 180, 0, 78, 182, 0, 125, 172]
abbrev dktX6_time_0 : List UInt8 := dkwX6_time_0 ++ []
theorem dksX6_time_0 : cX6_time.data.toList.drop 0 = dktX6_time_0 := by decide +kernel
theorem dX6_time_0 : decode cX6_time 0 = .ok (.aload_n 0, 1) := dk_42 (dk_at dksX6_time_0 0 rfl rfl)
theorem dX6_time_1 : decode cX6_time 1 = .ok (.aload_n 0, 1) := dk_42 (dk_at dksX6_time_0 1 rfl rfl)
theorem dX6_time_2 : decode cX6_time 2 = .ok (.getfield 78, 3) := dk_180 0 78 (dk_at dksX6_time_0 2 rfl rfl)
theorem dX6_time_5 : decode cX6_time 5 = .ok (.invokevirtual 125, 3) := dk_182 0 125 (dk_at dksX6_time_0 5 rfl rfl)
theorem dX6_time_8 : decode cX6_time 8 = .ok (.ireturn, 1) := dk_172 (dk_at dksX6_time_0 8 rfl rfl)
abbrev cX6_greatest : ByteArray := prog_14_method_71_code
def yX6_greatest : MethodName := ⟨RX6, "greatest", "()I"⟩
def dkwX6_greatest_0 : List UInt8 := [42, 42, 180, 0, 81, 182, 0, 125, 172]
abbrev dktX6_greatest_0 : List UInt8 := dkwX6_greatest_0 ++ []
theorem dksX6_greatest_0 : cX6_greatest.data.toList.drop 0 = dktX6_greatest_0 := by decide +kernel
theorem dX6_greatest_0 : decode cX6_greatest 0 = .ok (.aload_n 0, 1) := dk_42 (dk_at dksX6_greatest_0 0 rfl rfl)
theorem dX6_greatest_1 : decode cX6_greatest 1 = .ok (.aload_n 0, 1) := dk_42 (dk_at dksX6_greatest_0 1 rfl rfl)
theorem dX6_greatest_2 : decode cX6_greatest 2 = .ok (.getfield 81, 3) := dk_180 0 81 (dk_at dksX6_greatest_0 2 rfl rfl)
theorem dX6_greatest_5 : decode cX6_greatest 5 = .ok (.invokevirtual 125, 3) := dk_182 0 125 (dk_at dksX6_greatest_0 5 rfl rfl)
theorem dX6_greatest_8 : decode cX6_greatest 8 = .ok (.ireturn, 1) := dk_172 (dk_at dksX6_greatest_0 8 rfl rfl)
abbrev cX6_energy : ByteArray := prog_14_method_72_code
def yX6_energy : MethodName := ⟨RX6, "energy", "()J"⟩
def dkwX6_energy_0 : List UInt8 := [42, 3, 181, 0, 47, 42, 180, 0, 87, 173]
abbrev dktX6_energy_0 : List UInt8 := dkwX6_energy_0 ++ []
theorem dksX6_energy_0 : cX6_energy.data.toList.drop 0 = dktX6_energy_0 := by decide +kernel
theorem dX6_energy_0 : decode cX6_energy 0 = .ok (.aload_n 0, 1) := dk_42 (dk_at dksX6_energy_0 0 rfl rfl)
theorem dX6_energy_1 : decode cX6_energy 1 = .ok (.iconst 0, 1) := dk_3 (dk_at dksX6_energy_0 1 rfl rfl)
theorem dX6_energy_2 : decode cX6_energy 2 = .ok (.putfield 47, 3) := dk_181 0 47 (dk_at dksX6_energy_0 2 rfl rfl)
theorem dX6_energy_5 : decode cX6_energy 5 = .ok (.aload_n 0, 1) := dk_42 (dk_at dksX6_energy_0 5 rfl rfl)
theorem dX6_energy_6 : decode cX6_energy 6 = .ok (.getfield 87, 3) := dk_180 0 87 (dk_at dksX6_energy_0 6 rfl rfl)
theorem dX6_energy_9 : decode cX6_energy 9 = .ok (.lreturn, 1) := dk_173 (dk_at dksX6_energy_0 9 rfl rfl)
abbrev cX6_meanEnergy : ByteArray := prog_14_method_73_code
def yX6_meanEnergy : MethodName := ⟨RX6, "meanEnergy", "()D"⟩
def dkwX6_meanEnergy_1 : List UInt8 := [180, 0, 87, 138, 42, 180, 0, 78, 135, 111, 175]
abbrev dktX6_meanEnergy_1 : List UInt8 := dkwX6_meanEnergy_1 ++ []
def dkwX6_meanEnergy_0 : List UInt8 := [42, 42, 180, 0, 78, 158, 0, 7, 4, 167, 0, 4, 3, 182, 0, 121, 158, 0, 7, 14, 167, 0, 14, 42]
abbrev dktX6_meanEnergy_0 : List UInt8 := dkwX6_meanEnergy_0 ++ dktX6_meanEnergy_1
theorem dksX6_meanEnergy_0 : cX6_meanEnergy.data.toList.drop 0 = dktX6_meanEnergy_0 := by decide +kernel
theorem dksX6_meanEnergy_1 : cX6_meanEnergy.data.toList.drop 24 = dktX6_meanEnergy_1 := dk_seg dksX6_meanEnergy_0 24 rfl rfl
theorem dX6_meanEnergy_0 : decode cX6_meanEnergy 0 = .ok (.aload_n 0, 1) := dk_42 (dk_at dksX6_meanEnergy_0 0 rfl rfl)
theorem dX6_meanEnergy_1 : decode cX6_meanEnergy 1 = .ok (.aload_n 0, 1) := dk_42 (dk_at dksX6_meanEnergy_0 1 rfl rfl)
theorem dX6_meanEnergy_2 : decode cX6_meanEnergy 2 = .ok (.getfield 78, 3) := dk_180 0 78 (dk_at dksX6_meanEnergy_0 2 rfl rfl)
theorem dX6_meanEnergy_5 : decode cX6_meanEnergy 5 = .ok (.ifCond .le 7, 3) := dk_158 0 7 (dk_at dksX6_meanEnergy_0 5 rfl rfl)
theorem dX6_meanEnergy_8 : decode cX6_meanEnergy 8 = .ok (.iconst 1, 1) := dk_4 (dk_at dksX6_meanEnergy_0 8 rfl rfl)
theorem dX6_meanEnergy_9 : decode cX6_meanEnergy 9 = .ok (.goto 4, 3) := dk_167 0 4 (dk_at dksX6_meanEnergy_0 9 rfl rfl)
theorem dX6_meanEnergy_12 : decode cX6_meanEnergy 12 = .ok (.iconst 0, 1) := dk_3 (dk_at dksX6_meanEnergy_0 12 rfl rfl)
theorem dX6_meanEnergy_13 : decode cX6_meanEnergy 13 = .ok (.invokevirtual 121, 3) := dk_182 0 121 (dk_at dksX6_meanEnergy_0 13 rfl rfl)
theorem dX6_meanEnergy_16 : decode cX6_meanEnergy 16 = .ok (.ifCond .le 7, 3) := dk_158 0 7 (dk_at dksX6_meanEnergy_0 16 rfl rfl)
theorem dX6_meanEnergy_19 : decode cX6_meanEnergy 19 = .ok (.dconst 0, 1) := dk_14 (dk_at dksX6_meanEnergy_0 19 rfl rfl)
theorem dX6_meanEnergy_20 : decode cX6_meanEnergy 20 = .ok (.goto 14, 3) := dk_167 0 14 (dk_at dksX6_meanEnergy_0 20 rfl rfl)
theorem dX6_meanEnergy_23 : decode cX6_meanEnergy 23 = .ok (.aload_n 0, 1) := dk_42 (dk_at dksX6_meanEnergy_0 23 rfl rfl)
theorem dX6_meanEnergy_24 : decode cX6_meanEnergy 24 = .ok (.getfield 87, 3) := dk_180 0 87 (dk_at dksX6_meanEnergy_1 0 rfl rfl)
theorem dX6_meanEnergy_27 : decode cX6_meanEnergy 27 = .ok (.l2d, 1) := dk_138 (dk_at dksX6_meanEnergy_1 3 rfl rfl)
theorem dX6_meanEnergy_28 : decode cX6_meanEnergy 28 = .ok (.aload_n 0, 1) := dk_42 (dk_at dksX6_meanEnergy_1 4 rfl rfl)
theorem dX6_meanEnergy_29 : decode cX6_meanEnergy 29 = .ok (.getfield 78, 3) := dk_180 0 78 (dk_at dksX6_meanEnergy_1 5 rfl rfl)
theorem dX6_meanEnergy_32 : decode cX6_meanEnergy 32 = .ok (.i2d, 1) := dk_135 (dk_at dksX6_meanEnergy_1 8 rfl rfl)
theorem dX6_meanEnergy_33 : decode cX6_meanEnergy 33 = .ok (.ddiv, 1) := dk_111 (dk_at dksX6_meanEnergy_1 9 rfl rfl)
theorem dX6_meanEnergy_34 : decode cX6_meanEnergy 34 = .ok (.dreturn, 1) := dk_175 (dk_at dksX6_meanEnergy_1 10 rfl rfl)
abbrev cX6_quietShare : ByteArray := prog_14_method_74_code
def yX6_quietShare : MethodName := ⟨RX6, "quietShare", "()F"⟩
def dkwX6_quietShare_1 : List UInt8 := [180, 0, 84, 134, 42, 180, 0, 78, 134, 110, 174]
abbrev dktX6_quietShare_1 : List UInt8 := dkwX6_quietShare_1 ++ []
def dkwX6_quietShare_0 : List UInt8 := [42, 42, 180, 0, 78, 158, 0, 7, 4, 167, 0, 4, 3, 182, 0, 121, 158, 0, 7, 11, 167, 0, 14, 42]
abbrev dktX6_quietShare_0 : List UInt8 := dkwX6_quietShare_0 ++ dktX6_quietShare_1
theorem dksX6_quietShare_0 : cX6_quietShare.data.toList.drop 0 = dktX6_quietShare_0 := by decide +kernel
theorem dksX6_quietShare_1 : cX6_quietShare.data.toList.drop 24 = dktX6_quietShare_1 := dk_seg dksX6_quietShare_0 24 rfl rfl
theorem dX6_quietShare_0 : decode cX6_quietShare 0 = .ok (.aload_n 0, 1) := dk_42 (dk_at dksX6_quietShare_0 0 rfl rfl)
theorem dX6_quietShare_1 : decode cX6_quietShare 1 = .ok (.aload_n 0, 1) := dk_42 (dk_at dksX6_quietShare_0 1 rfl rfl)
theorem dX6_quietShare_2 : decode cX6_quietShare 2 = .ok (.getfield 78, 3) := dk_180 0 78 (dk_at dksX6_quietShare_0 2 rfl rfl)
theorem dX6_quietShare_5 : decode cX6_quietShare 5 = .ok (.ifCond .le 7, 3) := dk_158 0 7 (dk_at dksX6_quietShare_0 5 rfl rfl)
theorem dX6_quietShare_8 : decode cX6_quietShare 8 = .ok (.iconst 1, 1) := dk_4 (dk_at dksX6_quietShare_0 8 rfl rfl)
theorem dX6_quietShare_9 : decode cX6_quietShare 9 = .ok (.goto 4, 3) := dk_167 0 4 (dk_at dksX6_quietShare_0 9 rfl rfl)
theorem dX6_quietShare_12 : decode cX6_quietShare 12 = .ok (.iconst 0, 1) := dk_3 (dk_at dksX6_quietShare_0 12 rfl rfl)
theorem dX6_quietShare_13 : decode cX6_quietShare 13 = .ok (.invokevirtual 121, 3) := dk_182 0 121 (dk_at dksX6_quietShare_0 13 rfl rfl)
theorem dX6_quietShare_16 : decode cX6_quietShare 16 = .ok (.ifCond .le 7, 3) := dk_158 0 7 (dk_at dksX6_quietShare_0 16 rfl rfl)
theorem dX6_quietShare_19 : decode cX6_quietShare 19 = .ok (.fconst 0, 1) := dk_11 (dk_at dksX6_quietShare_0 19 rfl rfl)
theorem dX6_quietShare_20 : decode cX6_quietShare 20 = .ok (.goto 14, 3) := dk_167 0 14 (dk_at dksX6_quietShare_0 20 rfl rfl)
theorem dX6_quietShare_23 : decode cX6_quietShare 23 = .ok (.aload_n 0, 1) := dk_42 (dk_at dksX6_quietShare_0 23 rfl rfl)
theorem dX6_quietShare_24 : decode cX6_quietShare 24 = .ok (.getfield 84, 3) := dk_180 0 84 (dk_at dksX6_quietShare_1 0 rfl rfl)
theorem dX6_quietShare_27 : decode cX6_quietShare 27 = .ok (.i2f, 1) := dk_134 (dk_at dksX6_quietShare_1 3 rfl rfl)
theorem dX6_quietShare_28 : decode cX6_quietShare 28 = .ok (.aload_n 0, 1) := dk_42 (dk_at dksX6_quietShare_1 4 rfl rfl)
theorem dX6_quietShare_29 : decode cX6_quietShare 29 = .ok (.getfield 78, 3) := dk_180 0 78 (dk_at dksX6_quietShare_1 5 rfl rfl)
theorem dX6_quietShare_32 : decode cX6_quietShare 32 = .ok (.i2f, 1) := dk_134 (dk_at dksX6_quietShare_1 8 rfl rfl)
theorem dX6_quietShare_33 : decode cX6_quietShare 33 = .ok (.fdiv, 1) := dk_110 (dk_at dksX6_quietShare_1 9 rfl rfl)
theorem dX6_quietShare_34 : decode cX6_quietShare 34 = .ok (.freturn, 1) := dk_174 (dk_at dksX6_quietShare_1 10 rfl rfl)
abbrev cX6_isConsistent : ByteArray := prog_14_method_76_code
def yX6_isConsistent : MethodName := ⟨RX6, "isConsistent", "()Z"⟩
def dkwX6_isConsistent_4 : List UInt8 := [154, 0, 5, 3, 172, 132, 1, 1, 167, 255, 231, 4, 172]
abbrev dktX6_isConsistent_4 : List UInt8 := dkwX6_isConsistent_4 ++ []
def dkwX6_isConsistent_3 : List UInt8 := [167, 255, 193, 3, 60, 27, 7, 162, 0, 26, 42, 27, 182, 0, 149, 3, 17, 3, 232, 184, 0, 94]
abbrev dktX6_isConsistent_3 : List UInt8 := dkwX6_isConsistent_3 ++ dktX6_isConsistent_4
def dkwX6_isConsistent_2 : List UInt8 := [182, 0, 210, 42, 27, 182, 0, 210, 164, 0, 5, 3, 172, 132, 2, 1, 167, 255, 209, 132, 1, 1]
abbrev dktX6_isConsistent_2 : List UInt8 := dkwX6_isConsistent_2 ++ dktX6_isConsistent_3
def dkwX6_isConsistent_1 : List UInt8 := [162, 0, 43, 42, 180, 0, 16, 27, 46, 5, 159, 0, 33, 42, 42, 180, 0, 28, 7, 27, 104, 28, 96, 46]
abbrev dktX6_isConsistent_1 : List UInt8 := dkwX6_isConsistent_1 ++ dktX6_isConsistent_2
def dkwX6_isConsistent_0 : List UInt8 := [42, 3, 181, 0, 47, 3, 60, 27, 42, 180, 0, 51, 162, 0, 61, 3, 61, 28, 42, 180, 0, 34, 27, 46]
abbrev dktX6_isConsistent_0 : List UInt8 := dkwX6_isConsistent_0 ++ dktX6_isConsistent_1
theorem dksX6_isConsistent_0 : cX6_isConsistent.data.toList.drop 0 = dktX6_isConsistent_0 := by decide +kernel
theorem dksX6_isConsistent_1 : cX6_isConsistent.data.toList.drop 24 = dktX6_isConsistent_1 := dk_seg dksX6_isConsistent_0 24 rfl rfl
theorem dksX6_isConsistent_2 : cX6_isConsistent.data.toList.drop 48 = dktX6_isConsistent_2 := dk_seg dksX6_isConsistent_1 24 rfl rfl
theorem dksX6_isConsistent_3 : cX6_isConsistent.data.toList.drop 70 = dktX6_isConsistent_3 := dk_seg dksX6_isConsistent_2 22 rfl rfl
theorem dksX6_isConsistent_4 : cX6_isConsistent.data.toList.drop 92 = dktX6_isConsistent_4 := dk_seg dksX6_isConsistent_3 22 rfl rfl
theorem dX6_isConsistent_0 : decode cX6_isConsistent 0 = .ok (.aload_n 0, 1) := dk_42 (dk_at dksX6_isConsistent_0 0 rfl rfl)
theorem dX6_isConsistent_1 : decode cX6_isConsistent 1 = .ok (.iconst 0, 1) := dk_3 (dk_at dksX6_isConsistent_0 1 rfl rfl)
theorem dX6_isConsistent_2 : decode cX6_isConsistent 2 = .ok (.putfield 47, 3) := dk_181 0 47 (dk_at dksX6_isConsistent_0 2 rfl rfl)
theorem dX6_isConsistent_5 : decode cX6_isConsistent 5 = .ok (.iconst 0, 1) := dk_3 (dk_at dksX6_isConsistent_0 5 rfl rfl)
theorem dX6_isConsistent_6 : decode cX6_isConsistent 6 = .ok (.istore_n 1, 1) := dk_60 (dk_at dksX6_isConsistent_0 6 rfl rfl)
theorem dX6_isConsistent_7 : decode cX6_isConsistent 7 = .ok (.iload_n 1, 1) := dk_27 (dk_at dksX6_isConsistent_0 7 rfl rfl)
theorem dX6_isConsistent_8 : decode cX6_isConsistent 8 = .ok (.aload_n 0, 1) := dk_42 (dk_at dksX6_isConsistent_0 8 rfl rfl)
theorem dX6_isConsistent_9 : decode cX6_isConsistent 9 = .ok (.getfield 51, 3) := dk_180 0 51 (dk_at dksX6_isConsistent_0 9 rfl rfl)
theorem dX6_isConsistent_12 : decode cX6_isConsistent 12 = .ok (.if_icmp .ge 61, 3) := dk_162 0 61 (dk_at dksX6_isConsistent_0 12 rfl rfl)
theorem dX6_isConsistent_15 : decode cX6_isConsistent 15 = .ok (.iconst 0, 1) := dk_3 (dk_at dksX6_isConsistent_0 15 rfl rfl)
theorem dX6_isConsistent_16 : decode cX6_isConsistent 16 = .ok (.istore_n 2, 1) := dk_61 (dk_at dksX6_isConsistent_0 16 rfl rfl)
theorem dX6_isConsistent_17 : decode cX6_isConsistent 17 = .ok (.iload_n 2, 1) := dk_28 (dk_at dksX6_isConsistent_0 17 rfl rfl)
theorem dX6_isConsistent_18 : decode cX6_isConsistent 18 = .ok (.aload_n 0, 1) := dk_42 (dk_at dksX6_isConsistent_0 18 rfl rfl)
theorem dX6_isConsistent_19 : decode cX6_isConsistent 19 = .ok (.getfield 34, 3) := dk_180 0 34 (dk_at dksX6_isConsistent_0 19 rfl rfl)
theorem dX6_isConsistent_22 : decode cX6_isConsistent 22 = .ok (.iload_n 1, 1) := dk_27 (dk_at dksX6_isConsistent_0 22 rfl rfl)
theorem dX6_isConsistent_23 : decode cX6_isConsistent 23 = .ok (.iaload, 1) := dk_46 (dk_at dksX6_isConsistent_0 23 rfl rfl)
theorem dX6_isConsistent_24 : decode cX6_isConsistent 24 = .ok (.if_icmp .ge 43, 3) := dk_162 0 43 (dk_at dksX6_isConsistent_1 0 rfl rfl)
theorem dX6_isConsistent_27 : decode cX6_isConsistent 27 = .ok (.aload_n 0, 1) := dk_42 (dk_at dksX6_isConsistent_1 3 rfl rfl)
theorem dX6_isConsistent_28 : decode cX6_isConsistent 28 = .ok (.getfield 16, 3) := dk_180 0 16 (dk_at dksX6_isConsistent_1 4 rfl rfl)
theorem dX6_isConsistent_31 : decode cX6_isConsistent 31 = .ok (.iload_n 1, 1) := dk_27 (dk_at dksX6_isConsistent_1 7 rfl rfl)
theorem dX6_isConsistent_32 : decode cX6_isConsistent 32 = .ok (.iaload, 1) := dk_46 (dk_at dksX6_isConsistent_1 8 rfl rfl)
theorem dX6_isConsistent_33 : decode cX6_isConsistent 33 = .ok (.iconst 2, 1) := dk_5 (dk_at dksX6_isConsistent_1 9 rfl rfl)
theorem dX6_isConsistent_34 : decode cX6_isConsistent 34 = .ok (.if_icmp .eq 33, 3) := dk_159 0 33 (dk_at dksX6_isConsistent_1 10 rfl rfl)
theorem dX6_isConsistent_37 : decode cX6_isConsistent 37 = .ok (.aload_n 0, 1) := dk_42 (dk_at dksX6_isConsistent_1 13 rfl rfl)
theorem dX6_isConsistent_38 : decode cX6_isConsistent 38 = .ok (.aload_n 0, 1) := dk_42 (dk_at dksX6_isConsistent_1 14 rfl rfl)
theorem dX6_isConsistent_39 : decode cX6_isConsistent 39 = .ok (.getfield 28, 3) := dk_180 0 28 (dk_at dksX6_isConsistent_1 15 rfl rfl)
theorem dX6_isConsistent_42 : decode cX6_isConsistent 42 = .ok (.iconst 4, 1) := dk_7 (dk_at dksX6_isConsistent_1 18 rfl rfl)
theorem dX6_isConsistent_43 : decode cX6_isConsistent 43 = .ok (.iload_n 1, 1) := dk_27 (dk_at dksX6_isConsistent_1 19 rfl rfl)
theorem dX6_isConsistent_44 : decode cX6_isConsistent 44 = .ok (.imul, 1) := dk_104 (dk_at dksX6_isConsistent_1 20 rfl rfl)
theorem dX6_isConsistent_45 : decode cX6_isConsistent 45 = .ok (.iload_n 2, 1) := dk_28 (dk_at dksX6_isConsistent_1 21 rfl rfl)
theorem dX6_isConsistent_46 : decode cX6_isConsistent 46 = .ok (.iadd, 1) := dk_96 (dk_at dksX6_isConsistent_1 22 rfl rfl)
theorem dX6_isConsistent_47 : decode cX6_isConsistent 47 = .ok (.iaload, 1) := dk_46 (dk_at dksX6_isConsistent_1 23 rfl rfl)
theorem dX6_isConsistent_48 : decode cX6_isConsistent 48 = .ok (.invokevirtual 210, 3) := dk_182 0 210 (dk_at dksX6_isConsistent_2 0 rfl rfl)
theorem dX6_isConsistent_51 : decode cX6_isConsistent 51 = .ok (.aload_n 0, 1) := dk_42 (dk_at dksX6_isConsistent_2 3 rfl rfl)
theorem dX6_isConsistent_52 : decode cX6_isConsistent 52 = .ok (.iload_n 1, 1) := dk_27 (dk_at dksX6_isConsistent_2 4 rfl rfl)
theorem dX6_isConsistent_53 : decode cX6_isConsistent 53 = .ok (.invokevirtual 210, 3) := dk_182 0 210 (dk_at dksX6_isConsistent_2 5 rfl rfl)
theorem dX6_isConsistent_56 : decode cX6_isConsistent 56 = .ok (.if_icmp .le 5, 3) := dk_164 0 5 (dk_at dksX6_isConsistent_2 8 rfl rfl)
theorem dX6_isConsistent_59 : decode cX6_isConsistent 59 = .ok (.iconst 0, 1) := dk_3 (dk_at dksX6_isConsistent_2 11 rfl rfl)
theorem dX6_isConsistent_60 : decode cX6_isConsistent 60 = .ok (.ireturn, 1) := dk_172 (dk_at dksX6_isConsistent_2 12 rfl rfl)
theorem dX6_isConsistent_61 : decode cX6_isConsistent 61 = .ok (.iinc 2 1, 3) := dk_132 2 1 (dk_at dksX6_isConsistent_2 13 rfl rfl)
theorem dX6_isConsistent_64 : decode cX6_isConsistent 64 = .ok (.goto (-47), 3) := dk_167 255 209 (dk_at dksX6_isConsistent_2 16 rfl rfl)
theorem dX6_isConsistent_67 : decode cX6_isConsistent 67 = .ok (.iinc 1 1, 3) := dk_132 1 1 (dk_at dksX6_isConsistent_2 19 rfl rfl)
theorem dX6_isConsistent_70 : decode cX6_isConsistent 70 = .ok (.goto (-63), 3) := dk_167 255 193 (dk_at dksX6_isConsistent_3 0 rfl rfl)
theorem dX6_isConsistent_73 : decode cX6_isConsistent 73 = .ok (.iconst 0, 1) := dk_3 (dk_at dksX6_isConsistent_3 3 rfl rfl)
theorem dX6_isConsistent_74 : decode cX6_isConsistent 74 = .ok (.istore_n 1, 1) := dk_60 (dk_at dksX6_isConsistent_3 4 rfl rfl)
theorem dX6_isConsistent_75 : decode cX6_isConsistent 75 = .ok (.iload_n 1, 1) := dk_27 (dk_at dksX6_isConsistent_3 5 rfl rfl)
theorem dX6_isConsistent_76 : decode cX6_isConsistent 76 = .ok (.iconst 4, 1) := dk_7 (dk_at dksX6_isConsistent_3 6 rfl rfl)
theorem dX6_isConsistent_77 : decode cX6_isConsistent 77 = .ok (.if_icmp .ge 26, 3) := dk_162 0 26 (dk_at dksX6_isConsistent_3 7 rfl rfl)
theorem dX6_isConsistent_80 : decode cX6_isConsistent 80 = .ok (.aload_n 0, 1) := dk_42 (dk_at dksX6_isConsistent_3 10 rfl rfl)
theorem dX6_isConsistent_81 : decode cX6_isConsistent 81 = .ok (.iload_n 1, 1) := dk_27 (dk_at dksX6_isConsistent_3 11 rfl rfl)
theorem dX6_isConsistent_82 : decode cX6_isConsistent 82 = .ok (.invokevirtual 149, 3) := dk_182 0 149 (dk_at dksX6_isConsistent_3 12 rfl rfl)
theorem dX6_isConsistent_85 : decode cX6_isConsistent 85 = .ok (.iconst 0, 1) := dk_3 (dk_at dksX6_isConsistent_3 15 rfl rfl)
theorem dX6_isConsistent_86 : decode cX6_isConsistent 86 = .ok (.sipush 1000, 3) := dk_17 3 232 (dk_at dksX6_isConsistent_3 16 rfl rfl)
theorem dX6_isConsistent_89 : decode cX6_isConsistent 89 = .ok (.invokestatic 94, 3) := dk_184 0 94 (dk_at dksX6_isConsistent_3 19 rfl rfl)
theorem dX6_isConsistent_92 : decode cX6_isConsistent 92 = .ok (.ifCond .ne 5, 3) := dk_154 0 5 (dk_at dksX6_isConsistent_4 0 rfl rfl)
theorem dX6_isConsistent_95 : decode cX6_isConsistent 95 = .ok (.iconst 0, 1) := dk_3 (dk_at dksX6_isConsistent_4 3 rfl rfl)
theorem dX6_isConsistent_96 : decode cX6_isConsistent 96 = .ok (.ireturn, 1) := dk_172 (dk_at dksX6_isConsistent_4 4 rfl rfl)
theorem dX6_isConsistent_97 : decode cX6_isConsistent 97 = .ok (.iinc 1 1, 3) := dk_132 1 1 (dk_at dksX6_isConsistent_4 5 rfl rfl)
theorem dX6_isConsistent_100 : decode cX6_isConsistent 100 = .ok (.goto (-25), 3) := dk_167 255 231 (dk_at dksX6_isConsistent_4 8 rfl rfl)
theorem dX6_isConsistent_103 : decode cX6_isConsistent 103 = .ok (.iconst 1, 1) := dk_4 (dk_at dksX6_isConsistent_4 11 rfl rfl)
theorem dX6_isConsistent_104 : decode cX6_isConsistent 104 = .ok (.ireturn, 1) := dk_172 (dk_at dksX6_isConsistent_4 12 rfl rfl)
abbrev cX6_placeOf : ByteArray := prog_14_method_75_code
def yX6_placeOf : MethodName := ⟨RX6, "placeOf", "(I)I"⟩
def dkwX6_placeOf_0 : List UInt8 := [3, 61, 42, 180, 0, 37, 28, 46, 27, 159, 0, 9, 132, 2, 1, 167, 255, 243, 28, 172]
abbrev dktX6_placeOf_0 : List UInt8 := dkwX6_placeOf_0 ++ []
theorem dksX6_placeOf_0 : cX6_placeOf.data.toList.drop 0 = dktX6_placeOf_0 := by decide +kernel
theorem dX6_placeOf_0 : decode cX6_placeOf 0 = .ok (.iconst 0, 1) := dk_3 (dk_at dksX6_placeOf_0 0 rfl rfl)
theorem dX6_placeOf_1 : decode cX6_placeOf 1 = .ok (.istore_n 2, 1) := dk_61 (dk_at dksX6_placeOf_0 1 rfl rfl)
theorem dX6_placeOf_2 : decode cX6_placeOf 2 = .ok (.aload_n 0, 1) := dk_42 (dk_at dksX6_placeOf_0 2 rfl rfl)
theorem dX6_placeOf_3 : decode cX6_placeOf 3 = .ok (.getfield 37, 3) := dk_180 0 37 (dk_at dksX6_placeOf_0 3 rfl rfl)
theorem dX6_placeOf_6 : decode cX6_placeOf 6 = .ok (.iload_n 2, 1) := dk_28 (dk_at dksX6_placeOf_0 6 rfl rfl)
theorem dX6_placeOf_7 : decode cX6_placeOf 7 = .ok (.iaload, 1) := dk_46 (dk_at dksX6_placeOf_0 7 rfl rfl)
theorem dX6_placeOf_8 : decode cX6_placeOf 8 = .ok (.iload_n 1, 1) := dk_27 (dk_at dksX6_placeOf_0 8 rfl rfl)
theorem dX6_placeOf_9 : decode cX6_placeOf 9 = .ok (.if_icmp .eq 9, 3) := dk_159 0 9 (dk_at dksX6_placeOf_0 9 rfl rfl)
theorem dX6_placeOf_12 : decode cX6_placeOf 12 = .ok (.iinc 2 1, 3) := dk_132 2 1 (dk_at dksX6_placeOf_0 12 rfl rfl)
theorem dX6_placeOf_15 : decode cX6_placeOf 15 = .ok (.goto (-13), 3) := dk_167 255 243 (dk_at dksX6_placeOf_0 15 rfl rfl)
theorem dX6_placeOf_18 : decode cX6_placeOf 18 = .ok (.iload_n 2, 1) := dk_28 (dk_at dksX6_placeOf_0 18 rfl rfl)
theorem dX6_placeOf_19 : decode cX6_placeOf 19 = .ok (.ireturn, 1) := dk_172 (dk_at dksX6_placeOf_0 19 rfl rfl)
theorem q65 : (Jvm.Cond.initialized "ToneGraphModel") ∈ lw_all := lw_g (lw_at lw_m1 13 rfl) rfl
theorem q292 : (Jvm.Cond.selects "ToneGraphModel" ({ cls := "java/lang/Object", name := "getClass", desc := "()Ljava/lang/Class;" } : Jvm.MethodName) ({ cls := "java/lang/Object", name := "getClass", desc := "()Ljava/lang/Class;" } : Jvm.MethodName)) ∈ lw_all := lw_g (lw_at lw_m2 0 rfl) rfl
theorem q1228 : (Jvm.Cond.instantiable "ToneGraphModel" (26 : Nat)) ∈ lw_all := lw_g (lw_at lw_m5 216 rfl) rfl
theorem q1230 : (Jvm.Cond.instanceMethod ({ cls := "ToneGraphModel", name := "<init>", desc := "()V" } : Jvm.MethodName)) ∈ lw_all := lw_g (lw_at lw_m5 218 rfl) rfl
theorem q1231 : (Jvm.Cond.code ({ cls := "ToneGraphModel", name := "<init>", desc := "()V" } : Jvm.MethodName) prog_14_method_1_code (1 : Nat) (Option.none : Option Jvm.ClassFile.FieldType)) ∈ lw_all := lw_g (lw_at lw_m5 219 rfl) rfl
theorem q1232 : (Jvm.Cond.methodLink "ToneGraphModel" (1 : Nat) ({ cls := "java/lang/Object", name := "<init>", desc := "()V" } : Jvm.MethodName)) ∈ lw_all := lw_g (lw_at lw_m5 220 rfl) rfl
theorem q1233 : (Jvm.Cond.methodLink "ToneGraphModel" (91 : Nat) ({ cls := "ToneGraphModel", name := "lays", desc := "()V" } : Jvm.MethodName)) ∈ lw_all := lw_g (lw_at lw_m5 221 rfl) rfl
theorem q1234 : (Jvm.Cond.privateMethod ({ cls := "ToneGraphModel", name := "lays", desc := "()V" } : Jvm.MethodName)) ∈ lw_tbl := lw_at lw_m5 222 rfl
theorem q1235 : (Jvm.Cond.instanceMethod ({ cls := "ToneGraphModel", name := "lays", desc := "()V" } : Jvm.MethodName)) ∈ lw_all := lw_g (lw_at lw_m5 223 rfl) rfl
theorem q1236 : (Jvm.Cond.code ({ cls := "ToneGraphModel", name := "lays", desc := "()V" } : Jvm.MethodName) prog_14_method_20_code (3 : Nat) (Option.none : Option Jvm.ClassFile.FieldType)) ∈ lw_all := lw_g (lw_at lw_m5 224 rfl) rfl
theorem q1237 : (Jvm.Cond.methodLink "ToneGraphModel" (118 : Nat) ({ cls := "ToneGraphModel", name := "canCome", desc := "(I)Z" } : Jvm.MethodName)) ∈ lw_all := lw_g (lw_at lw_m5 225 rfl) rfl
theorem q1238 : (Jvm.Cond.privateMethod ({ cls := "ToneGraphModel", name := "canCome", desc := "(I)Z" } : Jvm.MethodName)) ∈ lw_tbl := lw_at lw_m5 226 rfl
theorem q1239 : (Jvm.Cond.instanceMethod ({ cls := "ToneGraphModel", name := "canCome", desc := "(I)Z" } : Jvm.MethodName)) ∈ lw_all := lw_g (lw_at lw_m5 227 rfl) rfl
theorem q1240 : (Jvm.Cond.code ({ cls := "ToneGraphModel", name := "canCome", desc := "(I)Z" } : Jvm.MethodName) prog_14_method_19_code (3 : Nat) (Option.some Jvm.ClassFile.FieldType.boolean)) ∈ lw_all := lw_g (lw_at lw_m5 228 rfl) rfl
theorem q1241 : (Jvm.Cond.fieldLink "ToneGraphModel" (7 : Nat) "ToneGraphModel" "now" "[I") ∈ lw_all := lw_g (lw_at lw_m5 229 rfl) rfl
theorem q1242 : (Jvm.Cond.fieldLink "ToneGraphModel" (13 : Nat) "ToneGraphModel" "spare" "[I") ∈ lw_all := lw_g (lw_at lw_m5 230 rfl) rfl
theorem q1243 : (Jvm.Cond.fieldLink "ToneGraphModel" (16 : Nat) "ToneGraphModel" "kinds" "[I") ∈ lw_all := lw_g (lw_at lw_m5 231 rfl) rfl
theorem q1244 : (Jvm.Cond.fieldLink "ToneGraphModel" (19 : Nat) "ToneGraphModel" "firsts" "[I") ∈ lw_all := lw_g (lw_at lw_m5 232 rfl) rfl
theorem q1245 : (Jvm.Cond.fieldLink "ToneGraphModel" (22 : Nat) "ToneGraphModel" "seconds" "[I") ∈ lw_all := lw_g (lw_at lw_m5 233 rfl) rfl
theorem q1246 : (Jvm.Cond.fieldLink "ToneGraphModel" (25 : Nat) "ToneGraphModel" "thirds" "[I") ∈ lw_all := lw_g (lw_at lw_m5 234 rfl) rfl
theorem q1247 : (Jvm.Cond.fieldLink "ToneGraphModel" (28 : Nat) "ToneGraphModel" "sources" "[I") ∈ lw_all := lw_g (lw_at lw_m5 235 rfl) rfl
theorem q1248 : (Jvm.Cond.fieldLink "ToneGraphModel" (31 : Nat) "ToneGraphModel" "percents" "[I") ∈ lw_all := lw_g (lw_at lw_m5 236 rfl) rfl
theorem q1249 : (Jvm.Cond.fieldLink "ToneGraphModel" (34 : Nat) "ToneGraphModel" "counts" "[I") ∈ lw_all := lw_g (lw_at lw_m5 237 rfl) rfl
theorem q1250 : (Jvm.Cond.fieldLink "ToneGraphModel" (37 : Nat) "ToneGraphModel" "order" "[I") ∈ lw_all := lw_g (lw_at lw_m5 238 rfl) rfl
theorem q1251 : (Jvm.Cond.fieldLink "ToneGraphModel" (40 : Nat) "ToneGraphModel" "heard" "[I") ∈ lw_all := lw_g (lw_at lw_m5 239 rfl) rfl
theorem q1252 : (Jvm.Cond.fieldLink "ToneGraphModel" (43 : Nat) "ToneGraphModel" "isIn" "[Z") ∈ lw_all := lw_g (lw_at lw_m6 0 rfl) rfl
theorem q1253 : (Jvm.Cond.fieldLink "ToneGraphModel" (47 : Nat) "ToneGraphModel" "thrown" "I") ∈ lw_all := lw_g (lw_at lw_m6 1 rfl) rfl
theorem q1254 : (Jvm.Cond.fieldLink "ToneGraphModel" (51 : Nat) "ToneGraphModel" "nodes" "I") ∈ lw_all := lw_g (lw_at lw_m6 2 rfl) rfl
theorem q1255 : (Jvm.Cond.fieldLink "ToneGraphModel" (54 : Nat) "ToneGraphModel" "output" "I") ∈ lw_all := lw_g (lw_at lw_m6 3 rfl) rfl
theorem q1256 : (Jvm.Cond.fieldLink "ToneGraphModel" (57 : Nat) "ToneGraphModel" "wave" "I") ∈ lw_all := lw_g (lw_at lw_m6 4 rfl) rfl
theorem q1257 : (Jvm.Cond.fieldLink "ToneGraphModel" (60 : Nat) "ToneGraphModel" "attack" "I") ∈ lw_all := lw_g (lw_at lw_m6 5 rfl) rfl
theorem q1258 : (Jvm.Cond.fieldLink "ToneGraphModel" (63 : Nat) "ToneGraphModel" "decay" "I") ∈ lw_all := lw_g (lw_at lw_m6 6 rfl) rfl
theorem q1259 : (Jvm.Cond.fieldLink "ToneGraphModel" (66 : Nat) "ToneGraphModel" "sustain" "I") ∈ lw_all := lw_g (lw_at lw_m6 7 rfl) rfl
theorem q1260 : (Jvm.Cond.fieldLink "ToneGraphModel" (69 : Nat) "ToneGraphModel" "release" "I") ∈ lw_all := lw_g (lw_at lw_m6 8 rfl) rfl
theorem q1261 : (Jvm.Cond.fieldLink "ToneGraphModel" (72 : Nat) "ToneGraphModel" "stolen" "I") ∈ lw_all := lw_g (lw_at lw_m6 9 rfl) rfl
theorem q1262 : (Jvm.Cond.fieldLink "ToneGraphModel" (75 : Nat) "ToneGraphModel" "calls" "I") ∈ lw_all := lw_g (lw_at lw_m6 10 rfl) rfl
theorem q1263 : (Jvm.Cond.fieldLink "ToneGraphModel" (78 : Nat) "ToneGraphModel" "time" "I") ∈ lw_all := lw_g (lw_at lw_m6 11 rfl) rfl
theorem q1264 : (Jvm.Cond.fieldLink "ToneGraphModel" (81 : Nat) "ToneGraphModel" "greatest" "I") ∈ lw_all := lw_g (lw_at lw_m6 12 rfl) rfl
theorem q1265 : (Jvm.Cond.fieldLink "ToneGraphModel" (84 : Nat) "ToneGraphModel" "quiet" "I") ∈ lw_all := lw_g (lw_at lw_m6 13 rfl) rfl
theorem q1266 : (Jvm.Cond.fieldLink "ToneGraphModel" (87 : Nat) "ToneGraphModel" "energy" "J") ∈ lw_all := lw_g (lw_at lw_m6 14 rfl) rfl
theorem q1267 : (Jvm.Cond.laysFinal "ToneGraphModel" "ToneGraphModel" "now" "[I") ∈ lw_all := lw_g (lw_at lw_m6 15 rfl) rfl
theorem q1268 : (Jvm.Cond.soleField "ToneGraphModel" "now") ∈ lw_all := lw_g (lw_at lw_m6 16 rfl) rfl
theorem q1269 : (Jvm.Cond.laysFinal "ToneGraphModel" "ToneGraphModel" "spare" "[I") ∈ lw_all := lw_g (lw_at lw_m6 17 rfl) rfl
theorem q1270 : (Jvm.Cond.soleField "ToneGraphModel" "spare") ∈ lw_all := lw_g (lw_at lw_m6 18 rfl) rfl
theorem q1271 : (Jvm.Cond.laysFinal "ToneGraphModel" "ToneGraphModel" "kinds" "[I") ∈ lw_all := lw_g (lw_at lw_m6 19 rfl) rfl
theorem q1272 : (Jvm.Cond.soleField "ToneGraphModel" "kinds") ∈ lw_all := lw_g (lw_at lw_m6 20 rfl) rfl
theorem q1273 : (Jvm.Cond.laysFinal "ToneGraphModel" "ToneGraphModel" "firsts" "[I") ∈ lw_all := lw_g (lw_at lw_m6 21 rfl) rfl
theorem q1274 : (Jvm.Cond.soleField "ToneGraphModel" "firsts") ∈ lw_all := lw_g (lw_at lw_m6 22 rfl) rfl
theorem q1275 : (Jvm.Cond.laysFinal "ToneGraphModel" "ToneGraphModel" "seconds" "[I") ∈ lw_all := lw_g (lw_at lw_m6 23 rfl) rfl
theorem q1276 : (Jvm.Cond.soleField "ToneGraphModel" "seconds") ∈ lw_all := lw_g (lw_at lw_m6 24 rfl) rfl
theorem q1277 : (Jvm.Cond.laysFinal "ToneGraphModel" "ToneGraphModel" "thirds" "[I") ∈ lw_all := lw_g (lw_at lw_m6 25 rfl) rfl
theorem q1278 : (Jvm.Cond.soleField "ToneGraphModel" "thirds") ∈ lw_all := lw_g (lw_at lw_m6 26 rfl) rfl
theorem q1279 : (Jvm.Cond.laysFinal "ToneGraphModel" "ToneGraphModel" "sources" "[I") ∈ lw_all := lw_g (lw_at lw_m6 27 rfl) rfl
theorem q1280 : (Jvm.Cond.soleField "ToneGraphModel" "sources") ∈ lw_all := lw_g (lw_at lw_m6 28 rfl) rfl
theorem q1281 : (Jvm.Cond.laysFinal "ToneGraphModel" "ToneGraphModel" "percents" "[I") ∈ lw_all := lw_g (lw_at lw_m6 29 rfl) rfl
theorem q1282 : (Jvm.Cond.soleField "ToneGraphModel" "percents") ∈ lw_all := lw_g (lw_at lw_m6 30 rfl) rfl
theorem q1283 : (Jvm.Cond.laysFinal "ToneGraphModel" "ToneGraphModel" "counts" "[I") ∈ lw_all := lw_g (lw_at lw_m6 31 rfl) rfl
theorem q1284 : (Jvm.Cond.soleField "ToneGraphModel" "counts") ∈ lw_all := lw_g (lw_at lw_m6 32 rfl) rfl
theorem q1285 : (Jvm.Cond.laysFinal "ToneGraphModel" "ToneGraphModel" "order" "[I") ∈ lw_all := lw_g (lw_at lw_m6 33 rfl) rfl
theorem q1286 : (Jvm.Cond.soleField "ToneGraphModel" "order") ∈ lw_all := lw_g (lw_at lw_m6 34 rfl) rfl
theorem q1287 : (Jvm.Cond.laysFinal "ToneGraphModel" "ToneGraphModel" "heard" "[I") ∈ lw_all := lw_g (lw_at lw_m6 35 rfl) rfl
theorem q1288 : (Jvm.Cond.soleField "ToneGraphModel" "heard") ∈ lw_all := lw_g (lw_at lw_m6 36 rfl) rfl
theorem q1289 : (Jvm.Cond.laysFinal "ToneGraphModel" "ToneGraphModel" "isIn" "[Z") ∈ lw_all := lw_g (lw_at lw_m6 37 rfl) rfl
theorem q1290 : (Jvm.Cond.soleField "ToneGraphModel" "isIn") ∈ lw_all := lw_g (lw_at lw_m6 38 rfl) rfl
theorem q1291 : (Jvm.Cond.lays "ToneGraphModel" "ToneGraphModel" "thrown" "I") ∈ lw_all := lw_g (lw_at lw_m6 39 rfl) rfl
theorem q1292 : (Jvm.Cond.soleField "ToneGraphModel" "thrown") ∈ lw_all := lw_g (lw_at lw_m6 40 rfl) rfl
theorem q1293 : (Jvm.Cond.lays "ToneGraphModel" "ToneGraphModel" "nodes" "I") ∈ lw_all := lw_g (lw_at lw_m6 41 rfl) rfl
theorem q1294 : (Jvm.Cond.soleField "ToneGraphModel" "nodes") ∈ lw_all := lw_g (lw_at lw_m6 42 rfl) rfl
theorem q1295 : (Jvm.Cond.lays "ToneGraphModel" "ToneGraphModel" "output" "I") ∈ lw_all := lw_g (lw_at lw_m6 43 rfl) rfl
theorem q1296 : (Jvm.Cond.soleField "ToneGraphModel" "output") ∈ lw_all := lw_g (lw_at lw_m6 44 rfl) rfl
theorem q1297 : (Jvm.Cond.lays "ToneGraphModel" "ToneGraphModel" "wave" "I") ∈ lw_all := lw_g (lw_at lw_m6 45 rfl) rfl
theorem q1298 : (Jvm.Cond.soleField "ToneGraphModel" "wave") ∈ lw_all := lw_g (lw_at lw_m6 46 rfl) rfl
theorem q1299 : (Jvm.Cond.lays "ToneGraphModel" "ToneGraphModel" "attack" "I") ∈ lw_all := lw_g (lw_at lw_m6 47 rfl) rfl
theorem q1300 : (Jvm.Cond.soleField "ToneGraphModel" "attack") ∈ lw_all := lw_g (lw_at lw_m6 48 rfl) rfl
theorem q1301 : (Jvm.Cond.lays "ToneGraphModel" "ToneGraphModel" "decay" "I") ∈ lw_all := lw_g (lw_at lw_m6 49 rfl) rfl
theorem q1302 : (Jvm.Cond.soleField "ToneGraphModel" "decay") ∈ lw_all := lw_g (lw_at lw_m6 50 rfl) rfl
theorem q1303 : (Jvm.Cond.lays "ToneGraphModel" "ToneGraphModel" "sustain" "I") ∈ lw_all := lw_g (lw_at lw_m6 51 rfl) rfl
theorem q1304 : (Jvm.Cond.soleField "ToneGraphModel" "sustain") ∈ lw_all := lw_g (lw_at lw_m6 52 rfl) rfl
theorem q1305 : (Jvm.Cond.lays "ToneGraphModel" "ToneGraphModel" "release" "I") ∈ lw_all := lw_g (lw_at lw_m6 53 rfl) rfl
theorem q1306 : (Jvm.Cond.soleField "ToneGraphModel" "release") ∈ lw_all := lw_g (lw_at lw_m6 54 rfl) rfl
theorem q1307 : (Jvm.Cond.lays "ToneGraphModel" "ToneGraphModel" "stolen" "I") ∈ lw_all := lw_g (lw_at lw_m6 55 rfl) rfl
theorem q1308 : (Jvm.Cond.soleField "ToneGraphModel" "stolen") ∈ lw_all := lw_g (lw_at lw_m6 56 rfl) rfl
theorem q1309 : (Jvm.Cond.lays "ToneGraphModel" "ToneGraphModel" "calls" "I") ∈ lw_all := lw_g (lw_at lw_m6 57 rfl) rfl
theorem q1310 : (Jvm.Cond.soleField "ToneGraphModel" "calls") ∈ lw_all := lw_g (lw_at lw_m6 58 rfl) rfl
theorem q1311 : (Jvm.Cond.lays "ToneGraphModel" "ToneGraphModel" "time" "I") ∈ lw_all := lw_g (lw_at lw_m6 59 rfl) rfl
theorem q1312 : (Jvm.Cond.soleField "ToneGraphModel" "time") ∈ lw_all := lw_g (lw_at lw_m6 60 rfl) rfl
theorem q1313 : (Jvm.Cond.lays "ToneGraphModel" "ToneGraphModel" "greatest" "I") ∈ lw_all := lw_g (lw_at lw_m6 61 rfl) rfl
theorem q1314 : (Jvm.Cond.soleField "ToneGraphModel" "greatest") ∈ lw_all := lw_g (lw_at lw_m6 62 rfl) rfl
theorem q1315 : (Jvm.Cond.lays "ToneGraphModel" "ToneGraphModel" "quiet" "I") ∈ lw_all := lw_g (lw_at lw_m6 63 rfl) rfl
theorem q1316 : (Jvm.Cond.soleField "ToneGraphModel" "quiet") ∈ lw_all := lw_g (lw_at lw_m6 64 rfl) rfl
theorem q1317 : (Jvm.Cond.lays "ToneGraphModel" "ToneGraphModel" "energy" "J") ∈ lw_all := lw_g (lw_at lw_m6 65 rfl) rfl
theorem q1318 : (Jvm.Cond.soleField "ToneGraphModel" "energy") ∈ lw_all := lw_g (lw_at lw_m6 66 rfl) rfl
theorem q1319 : (Jvm.Cond.superclass "ToneGraphModel" "java/lang/Object") ∈ lw_all := lw_g (lw_at lw_m6 67 rfl) rfl
theorem q1322 : (Jvm.Cond.instanceMethod ({ cls := "ToneGraphModel", name := "thrown", desc := "()I" } : Jvm.MethodName)) ∈ lw_all := lw_g (lw_at lw_m6 70 rfl) rfl
theorem q1323 : (Jvm.Cond.selects "ToneGraphModel" ({ cls := "ToneGraphModel", name := "thrown", desc := "()I" } : Jvm.MethodName) ({ cls := "ToneGraphModel", name := "thrown", desc := "()I" } : Jvm.MethodName)) ∈ lw_all := lw_g (lw_at lw_m6 71 rfl) rfl
theorem q1324 : (Jvm.Cond.code ({ cls := "ToneGraphModel", name := "thrown", desc := "()I" } : Jvm.MethodName) prog_14_method_2_code (1 : Nat) (Option.some Jvm.ClassFile.FieldType.int)) ∈ lw_all := lw_g (lw_at lw_m6 72 rfl) rfl
theorem q1326 : (Jvm.Cond.instanceMethod ({ cls := "ToneGraphModel", name := "addGain", desc := "(I)I" } : Jvm.MethodName)) ∈ lw_all := lw_g (lw_at lw_m6 74 rfl) rfl
theorem q1327 : (Jvm.Cond.selects "ToneGraphModel" ({ cls := "ToneGraphModel", name := "addGain", desc := "(I)I" } : Jvm.MethodName) ({ cls := "ToneGraphModel", name := "addGain", desc := "(I)I" } : Jvm.MethodName)) ∈ lw_all := lw_g (lw_at lw_m6 75 rfl) rfl
theorem q1328 : (Jvm.Cond.code ({ cls := "ToneGraphModel", name := "addGain", desc := "(I)I" } : Jvm.MethodName) prog_14_method_11_code (2 : Nat) (Option.some Jvm.ClassFile.FieldType.int)) ∈ lw_all := lw_g (lw_at lw_m6 76 rfl) rfl
theorem q1329 : (Jvm.Cond.methodLink "ToneGraphModel" (94 : Nat) ({ cls := "ToneGraphModel", name := "in", desc := "(III)Z" } : Jvm.MethodName)) ∈ lw_all := lw_g (lw_at lw_m6 77 rfl) rfl
theorem q1330 : (Jvm.Cond.static ({ cls := "ToneGraphModel", name := "in", desc := "(III)Z" } : Jvm.MethodName)) ∈ lw_all := lw_g (lw_at lw_m6 78 rfl) rfl
theorem q1331 : (Jvm.Cond.code ({ cls := "ToneGraphModel", name := "in", desc := "(III)Z" } : Jvm.MethodName) prog_14_method_3_code (3 : Nat) (Option.some Jvm.ClassFile.FieldType.boolean)) ∈ lw_all := lw_g (lw_at lw_m6 79 rfl) rfl
theorem q1332 : (Jvm.Cond.methodLink "ToneGraphModel" (98 : Nat) ({ cls := "ToneGraphModel", name := "isFull", desc := "(Z)Z" } : Jvm.MethodName)) ∈ lw_all := lw_g (lw_at lw_m6 80 rfl) rfl
theorem q1333 : (Jvm.Cond.privateMethod ({ cls := "ToneGraphModel", name := "isFull", desc := "(Z)Z" } : Jvm.MethodName)) ∈ lw_tbl := lw_at lw_m6 81 rfl
theorem q1334 : (Jvm.Cond.instanceMethod ({ cls := "ToneGraphModel", name := "isFull", desc := "(Z)Z" } : Jvm.MethodName)) ∈ lw_all := lw_g (lw_at lw_m6 82 rfl) rfl
theorem q1335 : (Jvm.Cond.code ({ cls := "ToneGraphModel", name := "isFull", desc := "(Z)Z" } : Jvm.MethodName) prog_14_method_10_code (2 : Nat) (Option.some Jvm.ClassFile.FieldType.boolean)) ∈ lw_all := lw_g (lw_at lw_m6 83 rfl) rfl
theorem q1336 : (Jvm.Cond.methodLink "ToneGraphModel" (102 : Nat) ({ cls := "ToneGraphModel", name := "adds", desc := "(IIII)I" } : Jvm.MethodName)) ∈ lw_all := lw_g (lw_at lw_m6 84 rfl) rfl
theorem q1337 : (Jvm.Cond.privateMethod ({ cls := "ToneGraphModel", name := "adds", desc := "(IIII)I" } : Jvm.MethodName)) ∈ lw_tbl := lw_at lw_m6 85 rfl
theorem q1338 : (Jvm.Cond.instanceMethod ({ cls := "ToneGraphModel", name := "adds", desc := "(IIII)I" } : Jvm.MethodName)) ∈ lw_all := lw_g (lw_at lw_m6 86 rfl) rfl
theorem q1339 : (Jvm.Cond.code ({ cls := "ToneGraphModel", name := "adds", desc := "(IIII)I" } : Jvm.MethodName) prog_14_method_9_code (5 : Nat) (Option.some Jvm.ClassFile.FieldType.int)) ∈ lw_all := lw_g (lw_at lw_m6 87 rfl) rfl
theorem q1341 : (Jvm.Cond.instanceMethod ({ cls := "ToneGraphModel", name := "addDelay", desc := "(II)I" } : Jvm.MethodName)) ∈ lw_all := lw_g (lw_at lw_m6 89 rfl) rfl
theorem q1342 : (Jvm.Cond.selects "ToneGraphModel" ({ cls := "ToneGraphModel", name := "addDelay", desc := "(II)I" } : Jvm.MethodName) ({ cls := "ToneGraphModel", name := "addDelay", desc := "(II)I" } : Jvm.MethodName)) ∈ lw_all := lw_g (lw_at lw_m6 90 rfl) rfl
theorem q1343 : (Jvm.Cond.code ({ cls := "ToneGraphModel", name := "addDelay", desc := "(II)I" } : Jvm.MethodName) prog_14_method_12_code (3 : Nat) (Option.some Jvm.ClassFile.FieldType.int)) ∈ lw_all := lw_g (lw_at lw_m6 91 rfl) rfl
theorem q1345 : (Jvm.Cond.instanceMethod ({ cls := "ToneGraphModel", name := "addFilter", desc := "(III)I" } : Jvm.MethodName)) ∈ lw_all := lw_g (lw_at lw_m6 93 rfl) rfl
theorem q1346 : (Jvm.Cond.selects "ToneGraphModel" ({ cls := "ToneGraphModel", name := "addFilter", desc := "(III)I" } : Jvm.MethodName) ({ cls := "ToneGraphModel", name := "addFilter", desc := "(III)I" } : Jvm.MethodName)) ∈ lw_all := lw_g (lw_at lw_m6 94 rfl) rfl
theorem q1347 : (Jvm.Cond.code ({ cls := "ToneGraphModel", name := "addFilter", desc := "(III)I" } : Jvm.MethodName) prog_14_method_13_code (4 : Nat) (Option.some Jvm.ClassFile.FieldType.int)) ∈ lw_all := lw_g (lw_at lw_m6 95 rfl) rfl
theorem q1349 : (Jvm.Cond.instanceMethod ({ cls := "ToneGraphModel", name := "addBus", desc := "(I)I" } : Jvm.MethodName)) ∈ lw_all := lw_g (lw_at lw_m6 97 rfl) rfl
theorem q1350 : (Jvm.Cond.selects "ToneGraphModel" ({ cls := "ToneGraphModel", name := "addBus", desc := "(I)I" } : Jvm.MethodName) ({ cls := "ToneGraphModel", name := "addBus", desc := "(I)I" } : Jvm.MethodName)) ∈ lw_all := lw_g (lw_at lw_m6 98 rfl) rfl
theorem q1351 : (Jvm.Cond.code ({ cls := "ToneGraphModel", name := "addBus", desc := "(I)I" } : Jvm.MethodName) prog_14_method_14_code (2 : Nat) (Option.some Jvm.ClassFile.FieldType.int)) ∈ lw_all := lw_g (lw_at lw_m6 99 rfl) rfl
theorem q1353 : (Jvm.Cond.instanceMethod ({ cls := "ToneGraphModel", name := "connect", desc := "(III)I" } : Jvm.MethodName)) ∈ lw_all := lw_g (lw_at lw_m6 101 rfl) rfl
theorem q1354 : (Jvm.Cond.selects "ToneGraphModel" ({ cls := "ToneGraphModel", name := "connect", desc := "(III)I" } : Jvm.MethodName) ({ cls := "ToneGraphModel", name := "connect", desc := "(III)I" } : Jvm.MethodName)) ∈ lw_all := lw_g (lw_at lw_m6 102 rfl) rfl
theorem q1355 : (Jvm.Cond.code ({ cls := "ToneGraphModel", name := "connect", desc := "(III)I" } : Jvm.MethodName) prog_14_method_17_code (4 : Nat) (Option.some Jvm.ClassFile.FieldType.int)) ∈ lw_all := lw_g (lw_at lw_m6 103 rfl) rfl
theorem q1356 : (Jvm.Cond.methodLink "ToneGraphModel" (110 : Nat) ({ cls := "ToneGraphModel", name := "isNode", desc := "(I)Z" } : Jvm.MethodName)) ∈ lw_all := lw_g (lw_at lw_m6 104 rfl) rfl
theorem q1357 : (Jvm.Cond.privateMethod ({ cls := "ToneGraphModel", name := "isNode", desc := "(I)Z" } : Jvm.MethodName)) ∈ lw_tbl := lw_at lw_m6 105 rfl
theorem q1358 : (Jvm.Cond.instanceMethod ({ cls := "ToneGraphModel", name := "isNode", desc := "(I)Z" } : Jvm.MethodName)) ∈ lw_all := lw_g (lw_at lw_m6 106 rfl) rfl
theorem q1359 : (Jvm.Cond.code ({ cls := "ToneGraphModel", name := "isNode", desc := "(I)Z" } : Jvm.MethodName) prog_14_method_6_code (2 : Nat) (Option.some Jvm.ClassFile.FieldType.boolean)) ∈ lw_all := lw_g (lw_at lw_m6 107 rfl) rfl
theorem q1360 : (Jvm.Cond.methodLink "ToneGraphModel" (106 : Nat) ({ cls := "ToneGraphModel", name := "wire", desc := "(II)I" } : Jvm.MethodName)) ∈ lw_all := lw_g (lw_at lw_m6 108 rfl) rfl
theorem q1361 : (Jvm.Cond.privateMethod ({ cls := "ToneGraphModel", name := "wire", desc := "(II)I" } : Jvm.MethodName)) ∈ lw_tbl := lw_at lw_m6 109 rfl
theorem q1362 : (Jvm.Cond.instanceMethod ({ cls := "ToneGraphModel", name := "wire", desc := "(II)I" } : Jvm.MethodName)) ∈ lw_all := lw_g (lw_at lw_m6 110 rfl) rfl
theorem q1363 : (Jvm.Cond.code ({ cls := "ToneGraphModel", name := "wire", desc := "(II)I" } : Jvm.MethodName) prog_14_method_15_code (4 : Nat) (Option.some Jvm.ClassFile.FieldType.int)) ∈ lw_all := lw_g (lw_at lw_m6 111 rfl) rfl
theorem q1364 : (Jvm.Cond.methodLink "ToneGraphModel" (114 : Nat) ({ cls := "ToneGraphModel", name := "leads", desc := "(II)Z" } : Jvm.MethodName)) ∈ lw_all := lw_g (lw_at lw_m6 112 rfl) rfl
theorem q1365 : (Jvm.Cond.privateMethod ({ cls := "ToneGraphModel", name := "leads", desc := "(II)Z" } : Jvm.MethodName)) ∈ lw_tbl := lw_at lw_m6 113 rfl
theorem q1366 : (Jvm.Cond.instanceMethod ({ cls := "ToneGraphModel", name := "leads", desc := "(II)Z" } : Jvm.MethodName)) ∈ lw_all := lw_g (lw_at lw_m6 114 rfl) rfl
theorem q1367 : (Jvm.Cond.code ({ cls := "ToneGraphModel", name := "leads", desc := "(II)Z" } : Jvm.MethodName) prog_14_method_16_code (6 : Nat) (Option.some Jvm.ClassFile.FieldType.boolean)) ∈ lw_all := lw_g (lw_at lw_m6 115 rfl) rfl
theorem q1369 : (Jvm.Cond.instanceMethod ({ cls := "ToneGraphModel", name := "disconnect", desc := "(II)I" } : Jvm.MethodName)) ∈ lw_all := lw_g (lw_at lw_m6 117 rfl) rfl
theorem q1370 : (Jvm.Cond.selects "ToneGraphModel" ({ cls := "ToneGraphModel", name := "disconnect", desc := "(II)I" } : Jvm.MethodName) ({ cls := "ToneGraphModel", name := "disconnect", desc := "(II)I" } : Jvm.MethodName)) ∈ lw_all := lw_g (lw_at lw_m6 118 rfl) rfl
theorem q1371 : (Jvm.Cond.code ({ cls := "ToneGraphModel", name := "disconnect", desc := "(II)I" } : Jvm.MethodName) prog_14_method_18_code (6 : Nat) (Option.some Jvm.ClassFile.FieldType.int)) ∈ lw_all := lw_g (lw_at lw_m6 119 rfl) rfl
theorem q1373 : (Jvm.Cond.instanceMethod ({ cls := "ToneGraphModel", name := "setGain", desc := "(II)I" } : Jvm.MethodName)) ∈ lw_all := lw_g (lw_at lw_m6 121 rfl) rfl
theorem q1374 : (Jvm.Cond.selects "ToneGraphModel" ({ cls := "ToneGraphModel", name := "setGain", desc := "(II)I" } : Jvm.MethodName) ({ cls := "ToneGraphModel", name := "setGain", desc := "(II)I" } : Jvm.MethodName)) ∈ lw_all := lw_g (lw_at lw_m6 122 rfl) rfl
theorem q1375 : (Jvm.Cond.code ({ cls := "ToneGraphModel", name := "setGain", desc := "(II)I" } : Jvm.MethodName) prog_14_method_21_code (4 : Nat) (Option.some Jvm.ClassFile.FieldType.int)) ∈ lw_all := lw_g (lw_at lw_m6 123 rfl) rfl
theorem q1377 : (Jvm.Cond.instanceMethod ({ cls := "ToneGraphModel", name := "setOutput", desc := "(I)I" } : Jvm.MethodName)) ∈ lw_all := lw_g (lw_at lw_m6 125 rfl) rfl
theorem q1378 : (Jvm.Cond.selects "ToneGraphModel" ({ cls := "ToneGraphModel", name := "setOutput", desc := "(I)I" } : Jvm.MethodName) ({ cls := "ToneGraphModel", name := "setOutput", desc := "(I)I" } : Jvm.MethodName)) ∈ lw_all := lw_g (lw_at lw_m6 126 rfl) rfl
theorem q1379 : (Jvm.Cond.code ({ cls := "ToneGraphModel", name := "setOutput", desc := "(I)I" } : Jvm.MethodName) prog_14_method_22_code (3 : Nat) (Option.some Jvm.ClassFile.FieldType.int)) ∈ lw_all := lw_g (lw_at lw_m6 127 rfl) rfl
theorem q1380 : (Jvm.Cond.methodLink "ToneGraphModel" (121 : Nat) ({ cls := "ToneGraphModel", name := "checked", desc := "(Z)I" } : Jvm.MethodName)) ∈ lw_all := lw_g (lw_at lw_m6 128 rfl) rfl
theorem q1381 : (Jvm.Cond.privateMethod ({ cls := "ToneGraphModel", name := "checked", desc := "(Z)I" } : Jvm.MethodName)) ∈ lw_tbl := lw_at lw_m6 129 rfl
theorem q1382 : (Jvm.Cond.instanceMethod ({ cls := "ToneGraphModel", name := "checked", desc := "(Z)I" } : Jvm.MethodName)) ∈ lw_all := lw_g (lw_at lw_m6 130 rfl) rfl
theorem q1383 : (Jvm.Cond.code ({ cls := "ToneGraphModel", name := "checked", desc := "(Z)I" } : Jvm.MethodName) prog_14_method_5_code (2 : Nat) (Option.some Jvm.ClassFile.FieldType.int)) ∈ lw_all := lw_g (lw_at lw_m6 131 rfl) rfl
theorem q1385 : (Jvm.Cond.instanceMethod ({ cls := "ToneGraphModel", name := "nodes", desc := "()I" } : Jvm.MethodName)) ∈ lw_all := lw_g (lw_at lw_m6 133 rfl) rfl
theorem q1386 : (Jvm.Cond.selects "ToneGraphModel" ({ cls := "ToneGraphModel", name := "nodes", desc := "()I" } : Jvm.MethodName) ({ cls := "ToneGraphModel", name := "nodes", desc := "()I" } : Jvm.MethodName)) ∈ lw_all := lw_g (lw_at lw_m6 134 rfl) rfl
theorem q1387 : (Jvm.Cond.code ({ cls := "ToneGraphModel", name := "nodes", desc := "()I" } : Jvm.MethodName) prog_14_method_23_code (1 : Nat) (Option.some Jvm.ClassFile.FieldType.int)) ∈ lw_all := lw_g (lw_at lw_m6 135 rfl) rfl
theorem q1388 : (Jvm.Cond.methodLink "ToneGraphModel" (125 : Nat) ({ cls := "ToneGraphModel", name := "plain", desc := "(I)I" } : Jvm.MethodName)) ∈ lw_all := lw_g (lw_at lw_m6 136 rfl) rfl
theorem q1389 : (Jvm.Cond.privateMethod ({ cls := "ToneGraphModel", name := "plain", desc := "(I)I" } : Jvm.MethodName)) ∈ lw_tbl := lw_at lw_m6 137 rfl
theorem q1390 : (Jvm.Cond.instanceMethod ({ cls := "ToneGraphModel", name := "plain", desc := "(I)I" } : Jvm.MethodName)) ∈ lw_all := lw_g (lw_at lw_m6 138 rfl) rfl
theorem q1391 : (Jvm.Cond.code ({ cls := "ToneGraphModel", name := "plain", desc := "(I)I" } : Jvm.MethodName) prog_14_method_4_code (2 : Nat) (Option.some Jvm.ClassFile.FieldType.int)) ∈ lw_all := lw_g (lw_at lw_m6 139 rfl) rfl
theorem q1393 : (Jvm.Cond.instanceMethod ({ cls := "ToneGraphModel", name := "kindOf", desc := "(I)C" } : Jvm.MethodName)) ∈ lw_all := lw_g (lw_at lw_m6 141 rfl) rfl
theorem q1394 : (Jvm.Cond.selects "ToneGraphModel" ({ cls := "ToneGraphModel", name := "kindOf", desc := "(I)C" } : Jvm.MethodName) ({ cls := "ToneGraphModel", name := "kindOf", desc := "(I)C" } : Jvm.MethodName)) ∈ lw_all := lw_g (lw_at lw_m6 142 rfl) rfl
theorem q1395 : (Jvm.Cond.code ({ cls := "ToneGraphModel", name := "kindOf", desc := "(I)C" } : Jvm.MethodName) prog_14_method_24_code (3 : Nat) (Option.some Jvm.ClassFile.FieldType.char)) ∈ lw_all := lw_g (lw_at lw_m6 143 rfl) rfl
theorem q1397 : (Jvm.Cond.instanceMethod ({ cls := "ToneGraphModel", name := "wires", desc := "(I)I" } : Jvm.MethodName)) ∈ lw_all := lw_g (lw_at lw_m6 145 rfl) rfl
theorem q1398 : (Jvm.Cond.selects "ToneGraphModel" ({ cls := "ToneGraphModel", name := "wires", desc := "(I)I" } : Jvm.MethodName) ({ cls := "ToneGraphModel", name := "wires", desc := "(I)I" } : Jvm.MethodName)) ∈ lw_all := lw_g (lw_at lw_m6 146 rfl) rfl
theorem q1399 : (Jvm.Cond.code ({ cls := "ToneGraphModel", name := "wires", desc := "(I)I" } : Jvm.MethodName) prog_14_method_25_code (2 : Nat) (Option.some Jvm.ClassFile.FieldType.int)) ∈ lw_all := lw_g (lw_at lw_m6 147 rfl) rfl
theorem q1401 : (Jvm.Cond.instanceMethod ({ cls := "ToneGraphModel", name := "wireFrom", desc := "(II)I" } : Jvm.MethodName)) ∈ lw_all := lw_g (lw_at lw_m6 149 rfl) rfl
theorem q1402 : (Jvm.Cond.selects "ToneGraphModel" ({ cls := "ToneGraphModel", name := "wireFrom", desc := "(II)I" } : Jvm.MethodName) ({ cls := "ToneGraphModel", name := "wireFrom", desc := "(II)I" } : Jvm.MethodName)) ∈ lw_all := lw_g (lw_at lw_m6 150 rfl) rfl
theorem q1403 : (Jvm.Cond.code ({ cls := "ToneGraphModel", name := "wireFrom", desc := "(II)I" } : Jvm.MethodName) prog_14_method_27_code (3 : Nat) (Option.some Jvm.ClassFile.FieldType.int)) ∈ lw_all := lw_g (lw_at lw_m6 151 rfl) rfl
theorem q1404 : (Jvm.Cond.methodLink "ToneGraphModel" (129 : Nat) ({ cls := "ToneGraphModel", name := "hasNoWire", desc := "(II)Z" } : Jvm.MethodName)) ∈ lw_all := lw_g (lw_at lw_m6 152 rfl) rfl
theorem q1405 : (Jvm.Cond.privateMethod ({ cls := "ToneGraphModel", name := "hasNoWire", desc := "(II)Z" } : Jvm.MethodName)) ∈ lw_tbl := lw_at lw_m6 153 rfl
theorem q1406 : (Jvm.Cond.instanceMethod ({ cls := "ToneGraphModel", name := "hasNoWire", desc := "(II)Z" } : Jvm.MethodName)) ∈ lw_all := lw_g (lw_at lw_m6 154 rfl) rfl
theorem q1407 : (Jvm.Cond.code ({ cls := "ToneGraphModel", name := "hasNoWire", desc := "(II)Z" } : Jvm.MethodName) prog_14_method_26_code (3 : Nat) (Option.some Jvm.ClassFile.FieldType.boolean)) ∈ lw_all := lw_g (lw_at lw_m6 155 rfl) rfl
theorem q1409 : (Jvm.Cond.instanceMethod ({ cls := "ToneGraphModel", name := "wirePercent", desc := "(II)I" } : Jvm.MethodName)) ∈ lw_all := lw_g (lw_at lw_m6 157 rfl) rfl
theorem q1410 : (Jvm.Cond.selects "ToneGraphModel" ({ cls := "ToneGraphModel", name := "wirePercent", desc := "(II)I" } : Jvm.MethodName) ({ cls := "ToneGraphModel", name := "wirePercent", desc := "(II)I" } : Jvm.MethodName)) ∈ lw_all := lw_g (lw_at lw_m6 158 rfl) rfl
theorem q1411 : (Jvm.Cond.code ({ cls := "ToneGraphModel", name := "wirePercent", desc := "(II)I" } : Jvm.MethodName) prog_14_method_28_code (3 : Nat) (Option.some Jvm.ClassFile.FieldType.int)) ∈ lw_all := lw_g (lw_at lw_m6 159 rfl) rfl
theorem q1413 : (Jvm.Cond.instanceMethod ({ cls := "ToneGraphModel", name := "nodeAt", desc := "(I)I" } : Jvm.MethodName)) ∈ lw_all := lw_g (lw_at lw_m6 161 rfl) rfl
theorem q1414 : (Jvm.Cond.selects "ToneGraphModel" ({ cls := "ToneGraphModel", name := "nodeAt", desc := "(I)I" } : Jvm.MethodName) ({ cls := "ToneGraphModel", name := "nodeAt", desc := "(I)I" } : Jvm.MethodName)) ∈ lw_all := lw_g (lw_at lw_m6 162 rfl) rfl
theorem q1415 : (Jvm.Cond.code ({ cls := "ToneGraphModel", name := "nodeAt", desc := "(I)I" } : Jvm.MethodName) prog_14_method_29_code (2 : Nat) (Option.some Jvm.ClassFile.FieldType.int)) ∈ lw_all := lw_g (lw_at lw_m6 163 rfl) rfl
theorem q1417 : (Jvm.Cond.instanceMethod ({ cls := "ToneGraphModel", name := "longestBlock", desc := "()I" } : Jvm.MethodName)) ∈ lw_all := lw_g (lw_at lw_m6 165 rfl) rfl
theorem q1418 : (Jvm.Cond.selects "ToneGraphModel" ({ cls := "ToneGraphModel", name := "longestBlock", desc := "()I" } : Jvm.MethodName) ({ cls := "ToneGraphModel", name := "longestBlock", desc := "()I" } : Jvm.MethodName)) ∈ lw_all := lw_g (lw_at lw_m6 166 rfl) rfl
theorem q1419 : (Jvm.Cond.code ({ cls := "ToneGraphModel", name := "longestBlock", desc := "()I" } : Jvm.MethodName) prog_14_method_30_code (3 : Nat) (Option.some Jvm.ClassFile.FieldType.int)) ∈ lw_all := lw_g (lw_at lw_m6 167 rfl) rfl
theorem q1421 : (Jvm.Cond.instanceMethod ({ cls := "ToneGraphModel", name := "setWave", desc := "(C)C" } : Jvm.MethodName)) ∈ lw_all := lw_g (lw_at lw_m6 169 rfl) rfl
theorem q1422 : (Jvm.Cond.selects "ToneGraphModel" ({ cls := "ToneGraphModel", name := "setWave", desc := "(C)C" } : Jvm.MethodName) ({ cls := "ToneGraphModel", name := "setWave", desc := "(C)C" } : Jvm.MethodName)) ∈ lw_all := lw_g (lw_at lw_m6 170 rfl) rfl
theorem q1423 : (Jvm.Cond.code ({ cls := "ToneGraphModel", name := "setWave", desc := "(C)C" } : Jvm.MethodName) prog_14_method_31_code (3 : Nat) (Option.some Jvm.ClassFile.FieldType.char)) ∈ lw_all := lw_g (lw_at lw_m6 171 rfl) rfl
theorem q1425 : (Jvm.Cond.instanceMethod ({ cls := "ToneGraphModel", name := "setEnvelope", desc := "(IIII)I" } : Jvm.MethodName)) ∈ lw_all := lw_g (lw_at lw_m6 173 rfl) rfl
theorem q1426 : (Jvm.Cond.selects "ToneGraphModel" ({ cls := "ToneGraphModel", name := "setEnvelope", desc := "(IIII)I" } : Jvm.MethodName) ({ cls := "ToneGraphModel", name := "setEnvelope", desc := "(IIII)I" } : Jvm.MethodName)) ∈ lw_all := lw_g (lw_at lw_m6 174 rfl) rfl
theorem q1427 : (Jvm.Cond.code ({ cls := "ToneGraphModel", name := "setEnvelope", desc := "(IIII)I" } : Jvm.MethodName) prog_14_method_32_code (6 : Nat) (Option.some Jvm.ClassFile.FieldType.int)) ∈ lw_all := lw_g (lw_at lw_m6 175 rfl) rfl
theorem q1429 : (Jvm.Cond.instanceMethod ({ cls := "ToneGraphModel", name := "begin", desc := "(II)I" } : Jvm.MethodName)) ∈ lw_all := lw_g (lw_at lw_m6 177 rfl) rfl
theorem q1430 : (Jvm.Cond.selects "ToneGraphModel" ({ cls := "ToneGraphModel", name := "begin", desc := "(II)I" } : Jvm.MethodName) ({ cls := "ToneGraphModel", name := "begin", desc := "(II)I" } : Jvm.MethodName)) ∈ lw_all := lw_g (lw_at lw_m6 178 rfl) rfl
theorem q1431 : (Jvm.Cond.code ({ cls := "ToneGraphModel", name := "begin", desc := "(II)I" } : Jvm.MethodName) prog_14_method_39_code (5 : Nat) (Option.some Jvm.ClassFile.FieldType.int)) ∈ lw_all := lw_g (lw_at lw_m6 179 rfl) rfl
theorem q1432 : (Jvm.Cond.methodLink "ToneGraphModel" (141 : Nat) ({ cls := "ToneGraphModel", name := "voiceFor", desc := "()I" } : Jvm.MethodName)) ∈ lw_all := lw_g (lw_at lw_m6 180 rfl) rfl
theorem q1433 : (Jvm.Cond.privateMethod ({ cls := "ToneGraphModel", name := "voiceFor", desc := "()I" } : Jvm.MethodName)) ∈ lw_tbl := lw_at lw_m6 181 rfl
theorem q1434 : (Jvm.Cond.instanceMethod ({ cls := "ToneGraphModel", name := "voiceFor", desc := "()I" } : Jvm.MethodName)) ∈ lw_all := lw_g (lw_at lw_m6 182 rfl) rfl
theorem q1435 : (Jvm.Cond.code ({ cls := "ToneGraphModel", name := "voiceFor", desc := "()I" } : Jvm.MethodName) prog_14_method_38_code (3 : Nat) (Option.some Jvm.ClassFile.FieldType.int)) ∈ lw_all := lw_g (lw_at lw_m6 183 rfl) rfl
theorem q1436 : (Jvm.Cond.methodLink "ToneGraphModel" (135 : Nat) ({ cls := "ToneGraphModel", name := "plays", desc := "(I)Z" } : Jvm.MethodName)) ∈ lw_all := lw_g (lw_at lw_m6 184 rfl) rfl
theorem q1437 : (Jvm.Cond.privateMethod ({ cls := "ToneGraphModel", name := "plays", desc := "(I)Z" } : Jvm.MethodName)) ∈ lw_tbl := lw_at lw_m6 185 rfl
theorem q1438 : (Jvm.Cond.instanceMethod ({ cls := "ToneGraphModel", name := "plays", desc := "(I)Z" } : Jvm.MethodName)) ∈ lw_all := lw_g (lw_at lw_m6 186 rfl) rfl
theorem q1439 : (Jvm.Cond.code ({ cls := "ToneGraphModel", name := "plays", desc := "(I)Z" } : Jvm.MethodName) prog_14_method_35_code (2 : Nat) (Option.some Jvm.ClassFile.FieldType.boolean)) ∈ lw_all := lw_g (lw_at lw_m6 187 rfl) rfl
theorem q1440 : (Jvm.Cond.methodLink "ToneGraphModel" (132 : Nat) ({ cls := "ToneGraphModel", name := "at", desc := "(II)I" } : Jvm.MethodName)) ∈ lw_all := lw_g (lw_at lw_m6 188 rfl) rfl
theorem q1441 : (Jvm.Cond.privateMethod ({ cls := "ToneGraphModel", name := "at", desc := "(II)I" } : Jvm.MethodName)) ∈ lw_tbl := lw_at lw_m6 189 rfl
theorem q1442 : (Jvm.Cond.instanceMethod ({ cls := "ToneGraphModel", name := "at", desc := "(II)I" } : Jvm.MethodName)) ∈ lw_all := lw_g (lw_at lw_m6 190 rfl) rfl
theorem q1443 : (Jvm.Cond.code ({ cls := "ToneGraphModel", name := "at", desc := "(II)I" } : Jvm.MethodName) prog_14_method_33_code (3 : Nat) (Option.some Jvm.ClassFile.FieldType.int)) ∈ lw_all := lw_g (lw_at lw_m6 191 rfl) rfl
theorem q1444 : (Jvm.Cond.methodLink "ToneGraphModel" (138 : Nat) ({ cls := "ToneGraphModel", name := "isReleased", desc := "(I)Z" } : Jvm.MethodName)) ∈ lw_all := lw_g (lw_at lw_m6 192 rfl) rfl
theorem q1445 : (Jvm.Cond.privateMethod ({ cls := "ToneGraphModel", name := "isReleased", desc := "(I)Z" } : Jvm.MethodName)) ∈ lw_tbl := lw_at lw_m6 193 rfl
theorem q1446 : (Jvm.Cond.instanceMethod ({ cls := "ToneGraphModel", name := "isReleased", desc := "(I)Z" } : Jvm.MethodName)) ∈ lw_all := lw_g (lw_at lw_m6 194 rfl) rfl
theorem q1447 : (Jvm.Cond.code ({ cls := "ToneGraphModel", name := "isReleased", desc := "(I)Z" } : Jvm.MethodName) prog_14_method_36_code (2 : Nat) (Option.some Jvm.ClassFile.FieldType.boolean)) ∈ lw_all := lw_g (lw_at lw_m6 195 rfl) rfl
theorem q1448 : (Jvm.Cond.methodLink "ToneGraphModel" (145 : Nat) ({ cls := "ToneGraphModel", name := "lay", desc := "(III)V" } : Jvm.MethodName)) ∈ lw_all := lw_g (lw_at lw_m6 196 rfl) rfl
theorem q1449 : (Jvm.Cond.privateMethod ({ cls := "ToneGraphModel", name := "lay", desc := "(III)V" } : Jvm.MethodName)) ∈ lw_tbl := lw_at lw_m6 197 rfl
theorem q1450 : (Jvm.Cond.instanceMethod ({ cls := "ToneGraphModel", name := "lay", desc := "(III)V" } : Jvm.MethodName)) ∈ lw_all := lw_g (lw_at lw_m6 198 rfl) rfl
theorem q1451 : (Jvm.Cond.code ({ cls := "ToneGraphModel", name := "lay", desc := "(III)V" } : Jvm.MethodName) prog_14_method_34_code (4 : Nat) (Option.none : Option Jvm.ClassFile.FieldType)) ∈ lw_all := lw_g (lw_at lw_m6 199 rfl) rfl
theorem q1453 : (Jvm.Cond.instanceMethod ({ cls := "ToneGraphModel", name := "end", desc := "(I)I" } : Jvm.MethodName)) ∈ lw_all := lw_g (lw_at lw_m6 201 rfl) rfl
theorem q1454 : (Jvm.Cond.selects "ToneGraphModel" ({ cls := "ToneGraphModel", name := "end", desc := "(I)I" } : Jvm.MethodName) ({ cls := "ToneGraphModel", name := "end", desc := "(I)I" } : Jvm.MethodName)) ∈ lw_all := lw_g (lw_at lw_m6 202 rfl) rfl
theorem q1455 : (Jvm.Cond.code ({ cls := "ToneGraphModel", name := "end", desc := "(I)I" } : Jvm.MethodName) prog_14_method_42_code (4 : Nat) (Option.some Jvm.ClassFile.FieldType.int)) ∈ lw_all := lw_g (lw_at lw_m6 203 rfl) rfl
theorem q1456 : (Jvm.Cond.methodLink "ToneGraphModel" (152 : Nat) ({ cls := "ToneGraphModel", name := "isHeld", desc := "(I)Z" } : Jvm.MethodName)) ∈ lw_all := lw_g (lw_at lw_m6 204 rfl) rfl
theorem q1457 : (Jvm.Cond.privateMethod ({ cls := "ToneGraphModel", name := "isHeld", desc := "(I)Z" } : Jvm.MethodName)) ∈ lw_tbl := lw_at lw_m6 205 rfl
theorem q1458 : (Jvm.Cond.instanceMethod ({ cls := "ToneGraphModel", name := "isHeld", desc := "(I)Z" } : Jvm.MethodName)) ∈ lw_all := lw_g (lw_at lw_m6 206 rfl) rfl
theorem q1459 : (Jvm.Cond.code ({ cls := "ToneGraphModel", name := "isHeld", desc := "(I)Z" } : Jvm.MethodName) prog_14_method_37_code (2 : Nat) (Option.some Jvm.ClassFile.FieldType.boolean)) ∈ lw_all := lw_g (lw_at lw_m6 207 rfl) rfl
theorem q1460 : (Jvm.Cond.methodLink "ToneGraphModel" (155 : Nat) ({ cls := "ToneGraphModel", name := "releases", desc := "(I)V" } : Jvm.MethodName)) ∈ lw_all := lw_g (lw_at lw_m6 208 rfl) rfl
theorem q1461 : (Jvm.Cond.privateMethod ({ cls := "ToneGraphModel", name := "releases", desc := "(I)V" } : Jvm.MethodName)) ∈ lw_tbl := lw_at lw_m6 209 rfl
theorem q1462 : (Jvm.Cond.instanceMethod ({ cls := "ToneGraphModel", name := "releases", desc := "(I)V" } : Jvm.MethodName)) ∈ lw_all := lw_g (lw_at lw_m6 210 rfl) rfl
theorem q1463 : (Jvm.Cond.code ({ cls := "ToneGraphModel", name := "releases", desc := "(I)V" } : Jvm.MethodName) prog_14_method_41_code (3 : Nat) (Option.none : Option Jvm.ClassFile.FieldType)) ∈ lw_all := lw_g (lw_at lw_m6 211 rfl) rfl
theorem q1464 : (Jvm.Cond.methodLink "ToneGraphModel" (149 : Nat) ({ cls := "ToneGraphModel", name := "levelAt", desc := "(I)I" } : Jvm.MethodName)) ∈ lw_all := lw_g (lw_at lw_m6 212 rfl) rfl
theorem q1465 : (Jvm.Cond.privateMethod ({ cls := "ToneGraphModel", name := "levelAt", desc := "(I)I" } : Jvm.MethodName)) ∈ lw_tbl := lw_at lw_m6 213 rfl
theorem q1466 : (Jvm.Cond.instanceMethod ({ cls := "ToneGraphModel", name := "levelAt", desc := "(I)I" } : Jvm.MethodName)) ∈ lw_all := lw_g (lw_at lw_m6 214 rfl) rfl
theorem q1467 : (Jvm.Cond.code ({ cls := "ToneGraphModel", name := "levelAt", desc := "(I)I" } : Jvm.MethodName) prog_14_method_40_code (4 : Nat) (Option.some Jvm.ClassFile.FieldType.int)) ∈ lw_all := lw_g (lw_at lw_m6 215 rfl) rfl
theorem q1469 : (Jvm.Cond.instanceMethod ({ cls := "ToneGraphModel", name := "endAll", desc := "()I" } : Jvm.MethodName)) ∈ lw_all := lw_g (lw_at lw_m6 217 rfl) rfl
theorem q1470 : (Jvm.Cond.selects "ToneGraphModel" ({ cls := "ToneGraphModel", name := "endAll", desc := "()I" } : Jvm.MethodName) ({ cls := "ToneGraphModel", name := "endAll", desc := "()I" } : Jvm.MethodName)) ∈ lw_all := lw_g (lw_at lw_m6 218 rfl) rfl
theorem q1471 : (Jvm.Cond.code ({ cls := "ToneGraphModel", name := "endAll", desc := "()I" } : Jvm.MethodName) prog_14_method_43_code (3 : Nat) (Option.some Jvm.ClassFile.FieldType.int)) ∈ lw_all := lw_g (lw_at lw_m6 219 rfl) rfl
theorem q1473 : (Jvm.Cond.instanceMethod ({ cls := "ToneGraphModel", name := "sounding", desc := "()I" } : Jvm.MethodName)) ∈ lw_all := lw_g (lw_at lw_m6 221 rfl) rfl
theorem q1474 : (Jvm.Cond.selects "ToneGraphModel" ({ cls := "ToneGraphModel", name := "sounding", desc := "()I" } : Jvm.MethodName) ({ cls := "ToneGraphModel", name := "sounding", desc := "()I" } : Jvm.MethodName)) ∈ lw_all := lw_g (lw_at lw_m6 222 rfl) rfl
theorem q1475 : (Jvm.Cond.code ({ cls := "ToneGraphModel", name := "sounding", desc := "()I" } : Jvm.MethodName) prog_14_method_44_code (3 : Nat) (Option.some Jvm.ClassFile.FieldType.int)) ∈ lw_all := lw_g (lw_at lw_m6 223 rfl) rfl
theorem q1477 : (Jvm.Cond.instanceMethod ({ cls := "ToneGraphModel", name := "stateOf", desc := "(I)C" } : Jvm.MethodName)) ∈ lw_all := lw_g (lw_at lw_m6 225 rfl) rfl
theorem q1478 : (Jvm.Cond.selects "ToneGraphModel" ({ cls := "ToneGraphModel", name := "stateOf", desc := "(I)C" } : Jvm.MethodName) ({ cls := "ToneGraphModel", name := "stateOf", desc := "(I)C" } : Jvm.MethodName)) ∈ lw_all := lw_g (lw_at lw_m6 226 rfl) rfl
theorem q1479 : (Jvm.Cond.code ({ cls := "ToneGraphModel", name := "stateOf", desc := "(I)C" } : Jvm.MethodName) prog_14_method_46_code (3 : Nat) (Option.some Jvm.ClassFile.FieldType.char)) ∈ lw_all := lw_g (lw_at lw_m6 227 rfl) rfl
theorem q1480 : (Jvm.Cond.methodLink "ToneGraphModel" (159 : Nat) ({ cls := "ToneGraphModel", name := "isVoice", desc := "(I)Z" } : Jvm.MethodName)) ∈ lw_all := lw_g (lw_at lw_m6 228 rfl) rfl
theorem q1481 : (Jvm.Cond.static ({ cls := "ToneGraphModel", name := "isVoice", desc := "(I)Z" } : Jvm.MethodName)) ∈ lw_all := lw_g (lw_at lw_m6 229 rfl) rfl
theorem q1482 : (Jvm.Cond.code ({ cls := "ToneGraphModel", name := "isVoice", desc := "(I)Z" } : Jvm.MethodName) prog_14_method_45_code (1 : Nat) (Option.some Jvm.ClassFile.FieldType.boolean)) ∈ lw_all := lw_g (lw_at lw_m6 230 rfl) rfl
theorem q1484 : (Jvm.Cond.instanceMethod ({ cls := "ToneGraphModel", name := "keyOf", desc := "(I)I" } : Jvm.MethodName)) ∈ lw_all := lw_g (lw_at lw_m6 232 rfl) rfl
theorem q1485 : (Jvm.Cond.selects "ToneGraphModel" ({ cls := "ToneGraphModel", name := "keyOf", desc := "(I)I" } : Jvm.MethodName) ({ cls := "ToneGraphModel", name := "keyOf", desc := "(I)I" } : Jvm.MethodName)) ∈ lw_all := lw_g (lw_at lw_m6 233 rfl) rfl
theorem q1486 : (Jvm.Cond.code ({ cls := "ToneGraphModel", name := "keyOf", desc := "(I)I" } : Jvm.MethodName) prog_14_method_48_code (2 : Nat) (Option.some Jvm.ClassFile.FieldType.int)) ∈ lw_all := lw_g (lw_at lw_m6 234 rfl) rfl
theorem q1487 : (Jvm.Cond.methodLink "ToneGraphModel" (162 : Nat) ({ cls := "ToneGraphModel", name := "isSilent", desc := "(I)Z" } : Jvm.MethodName)) ∈ lw_all := lw_g (lw_at lw_m6 235 rfl) rfl
theorem q1488 : (Jvm.Cond.privateMethod ({ cls := "ToneGraphModel", name := "isSilent", desc := "(I)Z" } : Jvm.MethodName)) ∈ lw_tbl := lw_at lw_m6 236 rfl
theorem q1489 : (Jvm.Cond.instanceMethod ({ cls := "ToneGraphModel", name := "isSilent", desc := "(I)Z" } : Jvm.MethodName)) ∈ lw_all := lw_g (lw_at lw_m6 237 rfl) rfl
theorem q1490 : (Jvm.Cond.code ({ cls := "ToneGraphModel", name := "isSilent", desc := "(I)Z" } : Jvm.MethodName) prog_14_method_47_code (2 : Nat) (Option.some Jvm.ClassFile.FieldType.boolean)) ∈ lw_all := lw_g (lw_at lw_m6 238 rfl) rfl
theorem q1492 : (Jvm.Cond.instanceMethod ({ cls := "ToneGraphModel", name := "levelOf", desc := "(I)I" } : Jvm.MethodName)) ∈ lw_all := lw_g (lw_at lw_m7 0 rfl) rfl
theorem q1493 : (Jvm.Cond.selects "ToneGraphModel" ({ cls := "ToneGraphModel", name := "levelOf", desc := "(I)I" } : Jvm.MethodName) ({ cls := "ToneGraphModel", name := "levelOf", desc := "(I)I" } : Jvm.MethodName)) ∈ lw_all := lw_g (lw_at lw_m7 1 rfl) rfl
theorem q1494 : (Jvm.Cond.code ({ cls := "ToneGraphModel", name := "levelOf", desc := "(I)I" } : Jvm.MethodName) prog_14_method_49_code (2 : Nat) (Option.some Jvm.ClassFile.FieldType.int)) ∈ lw_all := lw_g (lw_at lw_m7 2 rfl) rfl
theorem q1496 : (Jvm.Cond.instanceMethod ({ cls := "ToneGraphModel", name := "phaseOf", desc := "(I)I" } : Jvm.MethodName)) ∈ lw_all := lw_g (lw_at lw_m7 4 rfl) rfl
theorem q1497 : (Jvm.Cond.selects "ToneGraphModel" ({ cls := "ToneGraphModel", name := "phaseOf", desc := "(I)I" } : Jvm.MethodName) ({ cls := "ToneGraphModel", name := "phaseOf", desc := "(I)I" } : Jvm.MethodName)) ∈ lw_all := lw_g (lw_at lw_m7 5 rfl) rfl
theorem q1498 : (Jvm.Cond.code ({ cls := "ToneGraphModel", name := "phaseOf", desc := "(I)I" } : Jvm.MethodName) prog_14_method_50_code (2 : Nat) (Option.some Jvm.ClassFile.FieldType.int)) ∈ lw_all := lw_g (lw_at lw_m7 6 rfl) rfl
theorem q1500 : (Jvm.Cond.instanceMethod ({ cls := "ToneGraphModel", name := "stolen", desc := "()I" } : Jvm.MethodName)) ∈ lw_all := lw_g (lw_at lw_m7 8 rfl) rfl
theorem q1501 : (Jvm.Cond.selects "ToneGraphModel" ({ cls := "ToneGraphModel", name := "stolen", desc := "()I" } : Jvm.MethodName) ({ cls := "ToneGraphModel", name := "stolen", desc := "()I" } : Jvm.MethodName)) ∈ lw_all := lw_g (lw_at lw_m7 9 rfl) rfl
theorem q1502 : (Jvm.Cond.code ({ cls := "ToneGraphModel", name := "stolen", desc := "()I" } : Jvm.MethodName) prog_14_method_51_code (1 : Nat) (Option.some Jvm.ClassFile.FieldType.int)) ∈ lw_all := lw_g (lw_at lw_m7 10 rfl) rfl
theorem q1504 : (Jvm.Cond.instanceMethod ({ cls := "ToneGraphModel", name := "play", desc := "(I)I" } : Jvm.MethodName)) ∈ lw_all := lw_g (lw_at lw_m7 12 rfl) rfl
theorem q1505 : (Jvm.Cond.selects "ToneGraphModel" ({ cls := "ToneGraphModel", name := "play", desc := "(I)I" } : Jvm.MethodName) ({ cls := "ToneGraphModel", name := "play", desc := "(I)I" } : Jvm.MethodName)) ∈ lw_all := lw_g (lw_at lw_m7 13 rfl) rfl
theorem q1506 : (Jvm.Cond.code ({ cls := "ToneGraphModel", name := "play", desc := "(I)I" } : Jvm.MethodName) prog_14_method_63_code (4 : Nat) (Option.some Jvm.ClassFile.FieldType.int)) ∈ lw_all := lw_g (lw_at lw_m7 14 rfl) rfl
theorem q1507 : (Jvm.Cond.methodLink "ToneGraphModel" (204 : Nat) ({ cls := "ToneGraphModel", name := "sampled", desc := "()I" } : Jvm.MethodName)) ∈ lw_all := lw_g (lw_at lw_m7 15 rfl) rfl
theorem q1508 : (Jvm.Cond.privateMethod ({ cls := "ToneGraphModel", name := "sampled", desc := "()I" } : Jvm.MethodName)) ∈ lw_tbl := lw_at lw_m7 16 rfl
theorem q1509 : (Jvm.Cond.instanceMethod ({ cls := "ToneGraphModel", name := "sampled", desc := "()I" } : Jvm.MethodName)) ∈ lw_all := lw_g (lw_at lw_m7 17 rfl) rfl
theorem q1510 : (Jvm.Cond.code ({ cls := "ToneGraphModel", name := "sampled", desc := "()I" } : Jvm.MethodName) prog_14_method_62_code (2 : Nat) (Option.some Jvm.ClassFile.FieldType.int)) ∈ lw_all := lw_g (lw_at lw_m7 18 rfl) rfl
theorem q1511 : (Jvm.Cond.methodLink "ToneGraphModel" (201 : Nat) ({ cls := "ToneGraphModel", name := "samples", desc := "()I" } : Jvm.MethodName)) ∈ lw_all := lw_g (lw_at lw_m7 19 rfl) rfl
theorem q1512 : (Jvm.Cond.privateMethod ({ cls := "ToneGraphModel", name := "samples", desc := "()I" } : Jvm.MethodName)) ∈ lw_tbl := lw_at lw_m7 20 rfl
theorem q1513 : (Jvm.Cond.instanceMethod ({ cls := "ToneGraphModel", name := "samples", desc := "()I" } : Jvm.MethodName)) ∈ lw_all := lw_g (lw_at lw_m7 21 rfl) rfl
theorem q1514 : (Jvm.Cond.code ({ cls := "ToneGraphModel", name := "samples", desc := "()I" } : Jvm.MethodName) prog_14_method_61_code (2 : Nat) (Option.some Jvm.ClassFile.FieldType.int)) ∈ lw_all := lw_g (lw_at lw_m7 22 rfl) rfl
theorem q1515 : (Jvm.Cond.methodLink "ToneGraphModel" (198 : Nat) ({ cls := "ToneGraphModel", name := "sounds", desc := "(I)I" } : Jvm.MethodName)) ∈ lw_all := lw_g (lw_at lw_m7 23 rfl) rfl
theorem q1516 : (Jvm.Cond.privateMethod ({ cls := "ToneGraphModel", name := "sounds", desc := "(I)I" } : Jvm.MethodName)) ∈ lw_tbl := lw_at lw_m7 24 rfl
theorem q1517 : (Jvm.Cond.instanceMethod ({ cls := "ToneGraphModel", name := "sounds", desc := "(I)I" } : Jvm.MethodName)) ∈ lw_all := lw_g (lw_at lw_m7 25 rfl) rfl
theorem q1518 : (Jvm.Cond.code ({ cls := "ToneGraphModel", name := "sounds", desc := "(I)I" } : Jvm.MethodName) prog_14_method_60_code (3 : Nat) (Option.some Jvm.ClassFile.FieldType.int)) ∈ lw_all := lw_g (lw_at lw_m7 26 rfl) rfl
theorem q1519 : (Jvm.Cond.methodLink "ToneGraphModel" (189 : Nat) ({ cls := "ToneGraphModel", name := "sung", desc := "()I" } : Jvm.MethodName)) ∈ lw_all := lw_g (lw_at lw_m7 27 rfl) rfl
theorem q1520 : (Jvm.Cond.privateMethod ({ cls := "ToneGraphModel", name := "sung", desc := "()I" } : Jvm.MethodName)) ∈ lw_tbl := lw_at lw_m7 28 rfl
theorem q1521 : (Jvm.Cond.instanceMethod ({ cls := "ToneGraphModel", name := "sung", desc := "()I" } : Jvm.MethodName)) ∈ lw_all := lw_g (lw_at lw_m7 29 rfl) rfl
theorem q1522 : (Jvm.Cond.code ({ cls := "ToneGraphModel", name := "sung", desc := "()I" } : Jvm.MethodName) prog_14_method_57_code (3 : Nat) (Option.some Jvm.ClassFile.FieldType.int)) ∈ lw_all := lw_g (lw_at lw_m7 30 rfl) rfl
theorem q1523 : (Jvm.Cond.methodLink "ToneGraphModel" (177 : Nat) ({ cls := "ToneGraphModel", name := "sings", desc := "(I)I" } : Jvm.MethodName)) ∈ lw_all := lw_g (lw_at lw_m7 31 rfl) rfl
theorem q1524 : (Jvm.Cond.privateMethod ({ cls := "ToneGraphModel", name := "sings", desc := "(I)I" } : Jvm.MethodName)) ∈ lw_tbl := lw_at lw_m7 32 rfl
theorem q1525 : (Jvm.Cond.instanceMethod ({ cls := "ToneGraphModel", name := "sings", desc := "(I)I" } : Jvm.MethodName)) ∈ lw_all := lw_g (lw_at lw_m7 33 rfl) rfl
theorem q1526 : (Jvm.Cond.code ({ cls := "ToneGraphModel", name := "sings", desc := "(I)I" } : Jvm.MethodName) prog_14_method_55_code (3 : Nat) (Option.some Jvm.ClassFile.FieldType.int)) ∈ lw_all := lw_g (lw_at lw_m7 34 rfl) rfl
theorem q1527 : (Jvm.Cond.methodLink "ToneGraphModel" (170 : Nat) ({ cls := "ToneGraphModel", name := "valueOf", desc := "(II)I" } : Jvm.MethodName)) ∈ lw_all := lw_g (lw_at lw_m7 35 rfl) rfl
theorem q1528 : (Jvm.Cond.static ({ cls := "ToneGraphModel", name := "valueOf", desc := "(II)I" } : Jvm.MethodName)) ∈ lw_all := lw_g (lw_at lw_m7 36 rfl) rfl
theorem q1529 : (Jvm.Cond.code ({ cls := "ToneGraphModel", name := "valueOf", desc := "(II)I" } : Jvm.MethodName) prog_14_method_54_code (2 : Nat) (Option.some Jvm.ClassFile.FieldType.int)) ∈ lw_all := lw_g (lw_at lw_m7 37 rfl) rfl
theorem q1530 : (Jvm.Cond.constant "ToneGraphModel" (168 : Nat) (32768 : Int32)) ∈ lw_all := lw_g (lw_at lw_m7 38 rfl) rfl
theorem q1531 : (Jvm.Cond.constant "ToneGraphModel" (169 : Nat) (65535 : Int32)) ∈ lw_all := lw_g (lw_at lw_m7 39 rfl) rfl
theorem q1532 : (Jvm.Cond.methodLink "ToneGraphModel" (173 : Nat) ({ cls := "ToneGraphModel", name := "stepOf", desc := "(I)I" } : Jvm.MethodName)) ∈ lw_all := lw_g (lw_at lw_m7 40 rfl) rfl
theorem q1533 : (Jvm.Cond.static ({ cls := "ToneGraphModel", name := "stepOf", desc := "(I)I" } : Jvm.MethodName)) ∈ lw_all := lw_g (lw_at lw_m7 41 rfl) rfl
theorem q1534 : (Jvm.Cond.code ({ cls := "ToneGraphModel", name := "stepOf", desc := "(I)I" } : Jvm.MethodName) prog_14_method_53_code (1 : Nat) (Option.some Jvm.ClassFile.FieldType.int)) ∈ lw_all := lw_g (lw_at lw_m7 42 rfl) rfl
theorem q1535 : (Jvm.Cond.methodLink "ToneGraphModel" (165 : Nat) ({ cls := "ToneGraphModel", name := "baseOf", desc := "(I)I" } : Jvm.MethodName)) ∈ lw_all := lw_g (lw_at lw_m7 43 rfl) rfl
theorem q1536 : (Jvm.Cond.static ({ cls := "ToneGraphModel", name := "baseOf", desc := "(I)I" } : Jvm.MethodName)) ∈ lw_all := lw_g (lw_at lw_m7 44 rfl) rfl
theorem q1537 : (Jvm.Cond.code ({ cls := "ToneGraphModel", name := "baseOf", desc := "(I)I" } : Jvm.MethodName) prog_14_method_52_code (1 : Nat) (Option.some Jvm.ClassFile.FieldType.int)) ∈ lw_all := lw_g (lw_at lw_m7 45 rfl) rfl
theorem q1538 : (Jvm.Cond.constant "ToneGraphModel" (176 : Nat) (65536 : Int32)) ∈ lw_all := lw_g (lw_at lw_m7 46 rfl) rfl
theorem q1539 : (Jvm.Cond.methodLink "ToneGraphModel" (192 : Nat) ({ cls := "ToneGraphModel", name := "filtered", desc := "(I)I" } : Jvm.MethodName)) ∈ lw_all := lw_g (lw_at lw_m7 47 rfl) rfl
theorem q1540 : (Jvm.Cond.privateMethod ({ cls := "ToneGraphModel", name := "filtered", desc := "(I)I" } : Jvm.MethodName)) ∈ lw_tbl := lw_at lw_m7 48 rfl
theorem q1541 : (Jvm.Cond.instanceMethod ({ cls := "ToneGraphModel", name := "filtered", desc := "(I)I" } : Jvm.MethodName)) ∈ lw_all := lw_g (lw_at lw_m7 49 rfl) rfl
theorem q1542 : (Jvm.Cond.code ({ cls := "ToneGraphModel", name := "filtered", desc := "(I)I" } : Jvm.MethodName) prog_14_method_58_code (4 : Nat) (Option.some Jvm.ClassFile.FieldType.int)) ∈ lw_all := lw_g (lw_at lw_m7 50 rfl) rfl
theorem q1543 : (Jvm.Cond.methodLink "ToneGraphModel" (180 : Nat) ({ cls := "ToneGraphModel", name := "inputOf", desc := "(I)I" } : Jvm.MethodName)) ∈ lw_all := lw_g (lw_at lw_m7 51 rfl) rfl
theorem q1544 : (Jvm.Cond.privateMethod ({ cls := "ToneGraphModel", name := "inputOf", desc := "(I)I" } : Jvm.MethodName)) ∈ lw_tbl := lw_at lw_m7 52 rfl
theorem q1545 : (Jvm.Cond.instanceMethod ({ cls := "ToneGraphModel", name := "inputOf", desc := "(I)I" } : Jvm.MethodName)) ∈ lw_all := lw_g (lw_at lw_m7 53 rfl) rfl
theorem q1546 : (Jvm.Cond.code ({ cls := "ToneGraphModel", name := "inputOf", desc := "(I)I" } : Jvm.MethodName) prog_14_method_56_code (4 : Nat) (Option.some Jvm.ClassFile.FieldType.int)) ∈ lw_all := lw_g (lw_at lw_m7 54 rfl) rfl
theorem q1547 : (Jvm.Cond.methodLink "ToneGraphModel" (183 : Nat) ({ cls := "ToneGraphModel", name := "cut", desc := "(I)I" } : Jvm.MethodName)) ∈ lw_all := lw_g (lw_at lw_m7 55 rfl) rfl
theorem q1548 : (Jvm.Cond.static ({ cls := "ToneGraphModel", name := "cut", desc := "(I)I" } : Jvm.MethodName)) ∈ lw_all := lw_g (lw_at lw_m7 56 rfl) rfl
theorem q1549 : (Jvm.Cond.code ({ cls := "ToneGraphModel", name := "cut", desc := "(I)I" } : Jvm.MethodName) prog_14_method_7_code (1 : Nat) (Option.some Jvm.ClassFile.FieldType.int)) ∈ lw_all := lw_g (lw_at lw_m7 57 rfl) rfl
theorem q1550 : (Jvm.Cond.methodLink "ToneGraphModel" (195 : Nat) ({ cls := "ToneGraphModel", name := "limited", desc := "(II)I" } : Jvm.MethodName)) ∈ lw_all := lw_g (lw_at lw_m7 58 rfl) rfl
theorem q1551 : (Jvm.Cond.static ({ cls := "ToneGraphModel", name := "limited", desc := "(II)I" } : Jvm.MethodName)) ∈ lw_all := lw_g (lw_at lw_m7 59 rfl) rfl
theorem q1552 : (Jvm.Cond.code ({ cls := "ToneGraphModel", name := "limited", desc := "(II)I" } : Jvm.MethodName) prog_14_method_59_code (3 : Nat) (Option.some Jvm.ClassFile.FieldType.int)) ∈ lw_all := lw_g (lw_at lw_m7 60 rfl) rfl
theorem q1553 : (Jvm.Cond.methodLink "ToneGraphModel" (186 : Nat) ({ cls := "ToneGraphModel", name := "size", desc := "(I)I" } : Jvm.MethodName)) ∈ lw_all := lw_g (lw_at lw_m7 61 rfl) rfl
theorem q1554 : (Jvm.Cond.static ({ cls := "ToneGraphModel", name := "size", desc := "(I)I" } : Jvm.MethodName)) ∈ lw_all := lw_g (lw_at lw_m7 62 rfl) rfl
theorem q1555 : (Jvm.Cond.code ({ cls := "ToneGraphModel", name := "size", desc := "(I)I" } : Jvm.MethodName) prog_14_method_8_code (1 : Nat) (Option.some Jvm.ClassFile.FieldType.int)) ∈ lw_all := lw_g (lw_at lw_m7 63 rfl) rfl
theorem q1557 : (Jvm.Cond.instanceMethod ({ cls := "ToneGraphModel", name := "step", desc := "()I" } : Jvm.MethodName)) ∈ lw_all := lw_g (lw_at lw_m7 65 rfl) rfl
theorem q1558 : (Jvm.Cond.selects "ToneGraphModel" ({ cls := "ToneGraphModel", name := "step", desc := "()I" } : Jvm.MethodName) ({ cls := "ToneGraphModel", name := "step", desc := "()I" } : Jvm.MethodName)) ∈ lw_all := lw_g (lw_at lw_m7 66 rfl) rfl
theorem q1559 : (Jvm.Cond.code ({ cls := "ToneGraphModel", name := "step", desc := "()I" } : Jvm.MethodName) prog_14_method_64_code (1 : Nat) (Option.some Jvm.ClassFile.FieldType.int)) ∈ lw_all := lw_g (lw_at lw_m7 67 rfl) rfl
theorem q1561 : (Jvm.Cond.instanceMethod ({ cls := "ToneGraphModel", name := "ahead", desc := "(I)I" } : Jvm.MethodName)) ∈ lw_all := lw_g (lw_at lw_m7 69 rfl) rfl
theorem q1562 : (Jvm.Cond.selects "ToneGraphModel" ({ cls := "ToneGraphModel", name := "ahead", desc := "(I)I" } : Jvm.MethodName) ({ cls := "ToneGraphModel", name := "ahead", desc := "(I)I" } : Jvm.MethodName)) ∈ lw_all := lw_g (lw_at lw_m7 70 rfl) rfl
theorem q1563 : (Jvm.Cond.code ({ cls := "ToneGraphModel", name := "ahead", desc := "(I)I" } : Jvm.MethodName) prog_14_method_66_code (2 : Nat) (Option.some Jvm.ClassFile.FieldType.int)) ∈ lw_all := lw_g (lw_at lw_m7 71 rfl) rfl
theorem q1564 : (Jvm.Cond.methodLink "ToneGraphModel" (207 : Nat) ({ cls := "ToneGraphModel", name := "foreseen", desc := "(I)I" } : Jvm.MethodName)) ∈ lw_all := lw_g (lw_at lw_m7 72 rfl) rfl
theorem q1565 : (Jvm.Cond.privateMethod ({ cls := "ToneGraphModel", name := "foreseen", desc := "(I)I" } : Jvm.MethodName)) ∈ lw_tbl := lw_at lw_m7 73 rfl
theorem q1566 : (Jvm.Cond.instanceMethod ({ cls := "ToneGraphModel", name := "foreseen", desc := "(I)I" } : Jvm.MethodName)) ∈ lw_all := lw_g (lw_at lw_m7 74 rfl) rfl
theorem q1567 : (Jvm.Cond.code ({ cls := "ToneGraphModel", name := "foreseen", desc := "(I)I" } : Jvm.MethodName) prog_14_method_65_code (4 : Nat) (Option.some Jvm.ClassFile.FieldType.int)) ∈ lw_all := lw_g (lw_at lw_m7 75 rfl) rfl
theorem q1569 : (Jvm.Cond.instanceMethod ({ cls := "ToneGraphModel", name := "aheadByBlocks", desc := "(II)I" } : Jvm.MethodName)) ∈ lw_all := lw_g (lw_at lw_m7 77 rfl) rfl
theorem q1570 : (Jvm.Cond.selects "ToneGraphModel" ({ cls := "ToneGraphModel", name := "aheadByBlocks", desc := "(II)I" } : Jvm.MethodName) ({ cls := "ToneGraphModel", name := "aheadByBlocks", desc := "(II)I" } : Jvm.MethodName)) ∈ lw_all := lw_g (lw_at lw_m7 78 rfl) rfl
theorem q1571 : (Jvm.Cond.code ({ cls := "ToneGraphModel", name := "aheadByBlocks", desc := "(II)I" } : Jvm.MethodName) prog_14_method_67_code (3 : Nat) (Option.some Jvm.ClassFile.FieldType.int)) ∈ lw_all := lw_g (lw_at lw_m7 79 rfl) rfl
theorem q1573 : (Jvm.Cond.instanceMethod ({ cls := "ToneGraphModel", name := "heard", desc := "(I)I" } : Jvm.MethodName)) ∈ lw_all := lw_g (lw_at lw_m7 81 rfl) rfl
theorem q1574 : (Jvm.Cond.selects "ToneGraphModel" ({ cls := "ToneGraphModel", name := "heard", desc := "(I)I" } : Jvm.MethodName) ({ cls := "ToneGraphModel", name := "heard", desc := "(I)I" } : Jvm.MethodName)) ∈ lw_all := lw_g (lw_at lw_m7 82 rfl) rfl
theorem q1575 : (Jvm.Cond.code ({ cls := "ToneGraphModel", name := "heard", desc := "(I)I" } : Jvm.MethodName) prog_14_method_68_code (2 : Nat) (Option.some Jvm.ClassFile.FieldType.int)) ∈ lw_all := lw_g (lw_at lw_m7 83 rfl) rfl
theorem q1577 : (Jvm.Cond.instanceMethod ({ cls := "ToneGraphModel", name := "outputOf", desc := "(I)I" } : Jvm.MethodName)) ∈ lw_all := lw_g (lw_at lw_m7 85 rfl) rfl
theorem q1578 : (Jvm.Cond.selects "ToneGraphModel" ({ cls := "ToneGraphModel", name := "outputOf", desc := "(I)I" } : Jvm.MethodName) ({ cls := "ToneGraphModel", name := "outputOf", desc := "(I)I" } : Jvm.MethodName)) ∈ lw_all := lw_g (lw_at lw_m7 86 rfl) rfl
theorem q1579 : (Jvm.Cond.code ({ cls := "ToneGraphModel", name := "outputOf", desc := "(I)I" } : Jvm.MethodName) prog_14_method_69_code (2 : Nat) (Option.some Jvm.ClassFile.FieldType.int)) ∈ lw_all := lw_g (lw_at lw_m7 87 rfl) rfl
theorem q1581 : (Jvm.Cond.instanceMethod ({ cls := "ToneGraphModel", name := "time", desc := "()I" } : Jvm.MethodName)) ∈ lw_all := lw_g (lw_at lw_m7 89 rfl) rfl
theorem q1582 : (Jvm.Cond.selects "ToneGraphModel" ({ cls := "ToneGraphModel", name := "time", desc := "()I" } : Jvm.MethodName) ({ cls := "ToneGraphModel", name := "time", desc := "()I" } : Jvm.MethodName)) ∈ lw_all := lw_g (lw_at lw_m7 90 rfl) rfl
theorem q1583 : (Jvm.Cond.code ({ cls := "ToneGraphModel", name := "time", desc := "()I" } : Jvm.MethodName) prog_14_method_70_code (1 : Nat) (Option.some Jvm.ClassFile.FieldType.int)) ∈ lw_all := lw_g (lw_at lw_m7 91 rfl) rfl
theorem q1585 : (Jvm.Cond.instanceMethod ({ cls := "ToneGraphModel", name := "greatest", desc := "()I" } : Jvm.MethodName)) ∈ lw_all := lw_g (lw_at lw_m7 93 rfl) rfl
theorem q1586 : (Jvm.Cond.selects "ToneGraphModel" ({ cls := "ToneGraphModel", name := "greatest", desc := "()I" } : Jvm.MethodName) ({ cls := "ToneGraphModel", name := "greatest", desc := "()I" } : Jvm.MethodName)) ∈ lw_all := lw_g (lw_at lw_m7 94 rfl) rfl
theorem q1587 : (Jvm.Cond.code ({ cls := "ToneGraphModel", name := "greatest", desc := "()I" } : Jvm.MethodName) prog_14_method_71_code (1 : Nat) (Option.some Jvm.ClassFile.FieldType.int)) ∈ lw_all := lw_g (lw_at lw_m7 95 rfl) rfl
theorem q1589 : (Jvm.Cond.instanceMethod ({ cls := "ToneGraphModel", name := "energy", desc := "()J" } : Jvm.MethodName)) ∈ lw_all := lw_g (lw_at lw_m7 97 rfl) rfl
theorem q1590 : (Jvm.Cond.selects "ToneGraphModel" ({ cls := "ToneGraphModel", name := "energy", desc := "()J" } : Jvm.MethodName) ({ cls := "ToneGraphModel", name := "energy", desc := "()J" } : Jvm.MethodName)) ∈ lw_all := lw_g (lw_at lw_m7 98 rfl) rfl
theorem q1591 : (Jvm.Cond.code ({ cls := "ToneGraphModel", name := "energy", desc := "()J" } : Jvm.MethodName) prog_14_method_72_code (1 : Nat) (Option.some Jvm.ClassFile.FieldType.long)) ∈ lw_all := lw_g (lw_at lw_m7 99 rfl) rfl
theorem q1593 : (Jvm.Cond.instanceMethod ({ cls := "ToneGraphModel", name := "meanEnergy", desc := "()D" } : Jvm.MethodName)) ∈ lw_all := lw_g (lw_at lw_m7 101 rfl) rfl
theorem q1594 : (Jvm.Cond.selects "ToneGraphModel" ({ cls := "ToneGraphModel", name := "meanEnergy", desc := "()D" } : Jvm.MethodName) ({ cls := "ToneGraphModel", name := "meanEnergy", desc := "()D" } : Jvm.MethodName)) ∈ lw_all := lw_g (lw_at lw_m7 102 rfl) rfl
theorem q1595 : (Jvm.Cond.code ({ cls := "ToneGraphModel", name := "meanEnergy", desc := "()D" } : Jvm.MethodName) prog_14_method_73_code (1 : Nat) (Option.some Jvm.ClassFile.FieldType.double)) ∈ lw_all := lw_g (lw_at lw_m7 103 rfl) rfl
theorem q1597 : (Jvm.Cond.instanceMethod ({ cls := "ToneGraphModel", name := "quietShare", desc := "()F" } : Jvm.MethodName)) ∈ lw_all := lw_g (lw_at lw_m7 105 rfl) rfl
theorem q1598 : (Jvm.Cond.selects "ToneGraphModel" ({ cls := "ToneGraphModel", name := "quietShare", desc := "()F" } : Jvm.MethodName) ({ cls := "ToneGraphModel", name := "quietShare", desc := "()F" } : Jvm.MethodName)) ∈ lw_all := lw_g (lw_at lw_m7 106 rfl) rfl
theorem q1599 : (Jvm.Cond.code ({ cls := "ToneGraphModel", name := "quietShare", desc := "()F" } : Jvm.MethodName) prog_14_method_74_code (1 : Nat) (Option.some Jvm.ClassFile.FieldType.float)) ∈ lw_all := lw_g (lw_at lw_m7 107 rfl) rfl
theorem q1601 : (Jvm.Cond.instanceMethod ({ cls := "ToneGraphModel", name := "isConsistent", desc := "()Z" } : Jvm.MethodName)) ∈ lw_all := lw_g (lw_at lw_m7 109 rfl) rfl
theorem q1602 : (Jvm.Cond.selects "ToneGraphModel" ({ cls := "ToneGraphModel", name := "isConsistent", desc := "()Z" } : Jvm.MethodName) ({ cls := "ToneGraphModel", name := "isConsistent", desc := "()Z" } : Jvm.MethodName)) ∈ lw_all := lw_g (lw_at lw_m7 110 rfl) rfl
theorem q1603 : (Jvm.Cond.code ({ cls := "ToneGraphModel", name := "isConsistent", desc := "()Z" } : Jvm.MethodName) prog_14_method_76_code (3 : Nat) (Option.some Jvm.ClassFile.FieldType.boolean)) ∈ lw_all := lw_g (lw_at lw_m7 111 rfl) rfl
theorem q1604 : (Jvm.Cond.methodLink "ToneGraphModel" (210 : Nat) ({ cls := "ToneGraphModel", name := "placeOf", desc := "(I)I" } : Jvm.MethodName)) ∈ lw_all := lw_g (lw_at lw_m7 112 rfl) rfl
theorem q1605 : (Jvm.Cond.privateMethod ({ cls := "ToneGraphModel", name := "placeOf", desc := "(I)I" } : Jvm.MethodName)) ∈ lw_tbl := lw_at lw_m7 113 rfl
theorem q1606 : (Jvm.Cond.instanceMethod ({ cls := "ToneGraphModel", name := "placeOf", desc := "(I)I" } : Jvm.MethodName)) ∈ lw_all := lw_g (lw_at lw_m7 114 rfl) rfl
theorem q1607 : (Jvm.Cond.code ({ cls := "ToneGraphModel", name := "placeOf", desc := "(I)I" } : Jvm.MethodName) prog_14_method_75_code (3 : Nat) (Option.some Jvm.ClassFile.FieldType.int)) ∈ lw_all := lw_g (lw_at lw_m7 115 rfl) rfl
theorem q1623 : (Jvm.Cond.castable "ToneGraphModel" "java/lang/Object") ∈ lw_tbl := lw_at lw_m7 131 rfl
theorem in_X6 : ∀ w ∈ wsX60, w ∈ lw_all := lw_in wsX60 [1267, 1269, 1271, 1273, 1275, 1277, 1279, 1281, 1283, 1285, 1287, 1289, 1291, 1293, 1295, 1297, 1299, 1301, 1303, 1305, 1307, 1309, 1311, 1313, 1315, 1317] (by decide +kernel) (by decide +kernel)

/-! ToneGraph$Envelope -/
set_option maxRecDepth 100000
def RX2 : String := "ToneGraph$Envelope"
def TX2 : u_T := fun k => match k with
  | 0 => ("ToneGraph$Envelope", "attack", "I", true)
  | 1 => ("ToneGraph$Envelope", "decay", "I", true)
  | 2 => ("ToneGraph$Envelope", "sustain", "I", true)
  | _ => ("ToneGraph$Envelope", "release", "I", true)
def tyX2 : Nat → FieldType := fun k => match k with
  | 0 => .int
  | 1 => .int
  | 2 => .int
  | _ => .int
abbrev wsX20 : List Cond := u_ws RX2 TX2 4
theorem nmX2 : ∀ a, a < 4 → ∀ b, b < 4 → a ≠ b → (TX2 a).2.1 ≠ (TX2 b).2.1 := by decide +kernel
theorem tyX2_ok : ∀ k, k < 4 → parseFieldDescriptor (TX2 k).2.2.1 = some (tyX2 k) := by decide +kernel
abbrev cX2_init : ByteArray := prog_6_method_1_code
def yX2_init : MethodName := ⟨RX2, "<init>", "()V"⟩
def dkwX2_init_0 : List UInt8 := [42, 17, 3, 232, 183, 0, 3, 177]
abbrev dktX2_init_0 : List UInt8 := dkwX2_init_0 ++ []
theorem dksX2_init_0 : cX2_init.data.toList.drop 0 = dktX2_init_0 := by decide +kernel
theorem dX2_init_0 : decode cX2_init 0 = .ok (.aload_n 0, 1) := dk_42 (dk_at dksX2_init_0 0 rfl rfl)
theorem dX2_init_1 : decode cX2_init 1 = .ok (.sipush 1000, 3) := dk_17 3 232 (dk_at dksX2_init_0 1 rfl rfl)
theorem dX2_init_4 : decode cX2_init 4 = .ok (.invokespecial 3, 3) := dk_183 0 3 (dk_at dksX2_init_0 4 rfl rfl)
theorem dX2_init_7 : decode cX2_init 7 = .ok (.return_, 1) := dk_177 (dk_at dksX2_init_0 7 rfl rfl)
abbrev cX2_init_2 : ByteArray := prog_6_method_2_code
def yX2_init_2 : MethodName := ⟨RX2, "<init>", "(I)V"⟩
def dkwX2_init_2_0 : List UInt8 := [42, 3, 3, 27, 3, 183, 0, 9, 177]
abbrev dktX2_init_2_0 : List UInt8 := dkwX2_init_2_0 ++ []
theorem dksX2_init_2_0 : cX2_init_2.data.toList.drop 0 = dktX2_init_2_0 := by decide +kernel
theorem dX2_init_2_0 : decode cX2_init_2 0 = .ok (.aload_n 0, 1) := dk_42 (dk_at dksX2_init_2_0 0 rfl rfl)
theorem dX2_init_2_1 : decode cX2_init_2 1 = .ok (.iconst 0, 1) := dk_3 (dk_at dksX2_init_2_0 1 rfl rfl)
theorem dX2_init_2_2 : decode cX2_init_2 2 = .ok (.iconst 0, 1) := dk_3 (dk_at dksX2_init_2_0 2 rfl rfl)
theorem dX2_init_2_3 : decode cX2_init_2 3 = .ok (.iload_n 1, 1) := dk_27 (dk_at dksX2_init_2_0 3 rfl rfl)
theorem dX2_init_2_4 : decode cX2_init_2 4 = .ok (.iconst 0, 1) := dk_3 (dk_at dksX2_init_2_0 4 rfl rfl)
theorem dX2_init_2_5 : decode cX2_init_2 5 = .ok (.invokespecial 9, 3) := dk_183 0 9 (dk_at dksX2_init_2_0 5 rfl rfl)
theorem dX2_init_2_8 : decode cX2_init_2 8 = .ok (.return_, 1) := dk_177 (dk_at dksX2_init_2_0 8 rfl rfl)
abbrev cX2_init_3 : ByteArray := prog_6_method_3_code
def yX2_init_3 : MethodName := ⟨RX2, "<init>", "(IIII)V"⟩
def dkwX2_init_3_1 : List UInt8 := [181, 0, 27, 177]
abbrev dktX2_init_3_1 : List UInt8 := dkwX2_init_3_1 ++ []
def dkwX2_init_3_0 : List UInt8 := [42, 183, 0, 12, 42, 27, 181, 0, 17, 42, 28, 181, 0, 21, 42, 29, 181, 0, 24, 42, 21, 4]
abbrev dktX2_init_3_0 : List UInt8 := dkwX2_init_3_0 ++ dktX2_init_3_1
theorem dksX2_init_3_0 : cX2_init_3.data.toList.drop 0 = dktX2_init_3_0 := by decide +kernel
theorem dksX2_init_3_1 : cX2_init_3.data.toList.drop 22 = dktX2_init_3_1 := dk_seg dksX2_init_3_0 22 rfl rfl
theorem dX2_init_3_0 : decode cX2_init_3 0 = .ok (.aload_n 0, 1) := dk_42 (dk_at dksX2_init_3_0 0 rfl rfl)
theorem dX2_init_3_1 : decode cX2_init_3 1 = .ok (.invokespecial 12, 3) := dk_183 0 12 (dk_at dksX2_init_3_0 1 rfl rfl)
theorem dX2_init_3_4 : decode cX2_init_3 4 = .ok (.aload_n 0, 1) := dk_42 (dk_at dksX2_init_3_0 4 rfl rfl)
theorem dX2_init_3_5 : decode cX2_init_3 5 = .ok (.iload_n 1, 1) := dk_27 (dk_at dksX2_init_3_0 5 rfl rfl)
theorem dX2_init_3_6 : decode cX2_init_3 6 = .ok (.putfield 17, 3) := dk_181 0 17 (dk_at dksX2_init_3_0 6 rfl rfl)
theorem dX2_init_3_9 : decode cX2_init_3 9 = .ok (.aload_n 0, 1) := dk_42 (dk_at dksX2_init_3_0 9 rfl rfl)
theorem dX2_init_3_10 : decode cX2_init_3 10 = .ok (.iload_n 2, 1) := dk_28 (dk_at dksX2_init_3_0 10 rfl rfl)
theorem dX2_init_3_11 : decode cX2_init_3 11 = .ok (.putfield 21, 3) := dk_181 0 21 (dk_at dksX2_init_3_0 11 rfl rfl)
theorem dX2_init_3_14 : decode cX2_init_3 14 = .ok (.aload_n 0, 1) := dk_42 (dk_at dksX2_init_3_0 14 rfl rfl)
theorem dX2_init_3_15 : decode cX2_init_3 15 = .ok (.iload_n 3, 1) := dk_29 (dk_at dksX2_init_3_0 15 rfl rfl)
theorem dX2_init_3_16 : decode cX2_init_3 16 = .ok (.putfield 24, 3) := dk_181 0 24 (dk_at dksX2_init_3_0 16 rfl rfl)
theorem dX2_init_3_19 : decode cX2_init_3 19 = .ok (.aload_n 0, 1) := dk_42 (dk_at dksX2_init_3_0 19 rfl rfl)
theorem dX2_init_3_20 : decode cX2_init_3 20 = .ok (.iload 4, 2) := dk_21 4 (dk_at dksX2_init_3_0 20 rfl rfl)
theorem dX2_init_3_22 : decode cX2_init_3 22 = .ok (.putfield 27, 3) := dk_181 0 27 (dk_at dksX2_init_3_1 0 rfl rfl)
theorem dX2_init_3_25 : decode cX2_init_3 25 = .ok (.return_, 1) := dk_177 (dk_at dksX2_init_3_1 3 rfl rfl)
abbrev cX2_level : ByteArray := prog_6_method_4_code
def yX2_level : MethodName := ⟨RX2, "level", "(I)I"⟩
def dkwX2_level_2 : List UInt8 := [180, 0, 21, 108, 100, 167, 0, 7, 42, 180, 0, 24, 172]
abbrev dktX2_level_2 : List UInt8 := dkwX2_level_2 ++ []
def dkwX2_level_1 : List UInt8 := [100, 61, 28, 42, 180, 0, 21, 162, 0, 25, 17, 3, 232, 17, 3, 232, 42, 180, 0, 24, 100, 28, 104, 42]
abbrev dktX2_level_1 : List UInt8 := dkwX2_level_1 ++ dktX2_level_2
def dkwX2_level_0 : List UInt8 := [27, 42, 180, 0, 17, 162, 0, 14, 17, 3, 232, 27, 104, 42, 180, 0, 17, 108, 172, 27, 42, 180, 0, 17]
abbrev dktX2_level_0 : List UInt8 := dkwX2_level_0 ++ dktX2_level_1
theorem dksX2_level_0 : cX2_level.data.toList.drop 0 = dktX2_level_0 := by decide +kernel
theorem dksX2_level_1 : cX2_level.data.toList.drop 24 = dktX2_level_1 := dk_seg dksX2_level_0 24 rfl rfl
theorem dksX2_level_2 : cX2_level.data.toList.drop 48 = dktX2_level_2 := dk_seg dksX2_level_1 24 rfl rfl
theorem dX2_level_0 : decode cX2_level 0 = .ok (.iload_n 1, 1) := dk_27 (dk_at dksX2_level_0 0 rfl rfl)
theorem dX2_level_1 : decode cX2_level 1 = .ok (.aload_n 0, 1) := dk_42 (dk_at dksX2_level_0 1 rfl rfl)
theorem dX2_level_2 : decode cX2_level 2 = .ok (.getfield 17, 3) := dk_180 0 17 (dk_at dksX2_level_0 2 rfl rfl)
theorem dX2_level_5 : decode cX2_level 5 = .ok (.if_icmp .ge 14, 3) := dk_162 0 14 (dk_at dksX2_level_0 5 rfl rfl)
theorem dX2_level_8 : decode cX2_level 8 = .ok (.sipush 1000, 3) := dk_17 3 232 (dk_at dksX2_level_0 8 rfl rfl)
theorem dX2_level_11 : decode cX2_level 11 = .ok (.iload_n 1, 1) := dk_27 (dk_at dksX2_level_0 11 rfl rfl)
theorem dX2_level_12 : decode cX2_level 12 = .ok (.imul, 1) := dk_104 (dk_at dksX2_level_0 12 rfl rfl)
theorem dX2_level_13 : decode cX2_level 13 = .ok (.aload_n 0, 1) := dk_42 (dk_at dksX2_level_0 13 rfl rfl)
theorem dX2_level_14 : decode cX2_level 14 = .ok (.getfield 17, 3) := dk_180 0 17 (dk_at dksX2_level_0 14 rfl rfl)
theorem dX2_level_17 : decode cX2_level 17 = .ok (.idiv, 1) := dk_108 (dk_at dksX2_level_0 17 rfl rfl)
theorem dX2_level_18 : decode cX2_level 18 = .ok (.ireturn, 1) := dk_172 (dk_at dksX2_level_0 18 rfl rfl)
theorem dX2_level_19 : decode cX2_level 19 = .ok (.iload_n 1, 1) := dk_27 (dk_at dksX2_level_0 19 rfl rfl)
theorem dX2_level_20 : decode cX2_level 20 = .ok (.aload_n 0, 1) := dk_42 (dk_at dksX2_level_0 20 rfl rfl)
theorem dX2_level_21 : decode cX2_level 21 = .ok (.getfield 17, 3) := dk_180 0 17 (dk_at dksX2_level_0 21 rfl rfl)
theorem dX2_level_24 : decode cX2_level 24 = .ok (.isub, 1) := dk_100 (dk_at dksX2_level_1 0 rfl rfl)
theorem dX2_level_25 : decode cX2_level 25 = .ok (.istore_n 2, 1) := dk_61 (dk_at dksX2_level_1 1 rfl rfl)
theorem dX2_level_26 : decode cX2_level 26 = .ok (.iload_n 2, 1) := dk_28 (dk_at dksX2_level_1 2 rfl rfl)
theorem dX2_level_27 : decode cX2_level 27 = .ok (.aload_n 0, 1) := dk_42 (dk_at dksX2_level_1 3 rfl rfl)
theorem dX2_level_28 : decode cX2_level 28 = .ok (.getfield 21, 3) := dk_180 0 21 (dk_at dksX2_level_1 4 rfl rfl)
theorem dX2_level_31 : decode cX2_level 31 = .ok (.if_icmp .ge 25, 3) := dk_162 0 25 (dk_at dksX2_level_1 7 rfl rfl)
theorem dX2_level_34 : decode cX2_level 34 = .ok (.sipush 1000, 3) := dk_17 3 232 (dk_at dksX2_level_1 10 rfl rfl)
theorem dX2_level_37 : decode cX2_level 37 = .ok (.sipush 1000, 3) := dk_17 3 232 (dk_at dksX2_level_1 13 rfl rfl)
theorem dX2_level_40 : decode cX2_level 40 = .ok (.aload_n 0, 1) := dk_42 (dk_at dksX2_level_1 16 rfl rfl)
theorem dX2_level_41 : decode cX2_level 41 = .ok (.getfield 24, 3) := dk_180 0 24 (dk_at dksX2_level_1 17 rfl rfl)
theorem dX2_level_44 : decode cX2_level 44 = .ok (.isub, 1) := dk_100 (dk_at dksX2_level_1 20 rfl rfl)
theorem dX2_level_45 : decode cX2_level 45 = .ok (.iload_n 2, 1) := dk_28 (dk_at dksX2_level_1 21 rfl rfl)
theorem dX2_level_46 : decode cX2_level 46 = .ok (.imul, 1) := dk_104 (dk_at dksX2_level_1 22 rfl rfl)
theorem dX2_level_47 : decode cX2_level 47 = .ok (.aload_n 0, 1) := dk_42 (dk_at dksX2_level_1 23 rfl rfl)
theorem dX2_level_48 : decode cX2_level 48 = .ok (.getfield 21, 3) := dk_180 0 21 (dk_at dksX2_level_2 0 rfl rfl)
theorem dX2_level_51 : decode cX2_level 51 = .ok (.idiv, 1) := dk_108 (dk_at dksX2_level_2 3 rfl rfl)
theorem dX2_level_52 : decode cX2_level 52 = .ok (.isub, 1) := dk_100 (dk_at dksX2_level_2 4 rfl rfl)
theorem dX2_level_53 : decode cX2_level 53 = .ok (.goto 7, 3) := dk_167 0 7 (dk_at dksX2_level_2 5 rfl rfl)
theorem dX2_level_56 : decode cX2_level 56 = .ok (.aload_n 0, 1) := dk_42 (dk_at dksX2_level_2 8 rfl rfl)
theorem dX2_level_57 : decode cX2_level 57 = .ok (.getfield 24, 3) := dk_180 0 24 (dk_at dksX2_level_2 9 rfl rfl)
theorem dX2_level_60 : decode cX2_level 60 = .ok (.ireturn, 1) := dk_172 (dk_at dksX2_level_2 12 rfl rfl)
abbrev cX2_state : ByteArray := prog_6_method_5_code
def yX2_state : MethodName := ⟨RX2, "state", "(I)C"⟩
def dkwX2_state_1 : List UInt8 := [162, 0, 8, 16, 100, 167, 0, 5, 16, 115, 172]
abbrev dktX2_state_1 : List UInt8 := dkwX2_state_1 ++ []
def dkwX2_state_0 : List UInt8 := [27, 42, 180, 0, 17, 162, 0, 8, 16, 97, 167, 0, 23, 27, 42, 180, 0, 17, 100, 42, 180, 0, 21]
abbrev dktX2_state_0 : List UInt8 := dkwX2_state_0 ++ dktX2_state_1
theorem dksX2_state_0 : cX2_state.data.toList.drop 0 = dktX2_state_0 := by decide +kernel
theorem dksX2_state_1 : cX2_state.data.toList.drop 23 = dktX2_state_1 := dk_seg dksX2_state_0 23 rfl rfl
theorem dX2_state_0 : decode cX2_state 0 = .ok (.iload_n 1, 1) := dk_27 (dk_at dksX2_state_0 0 rfl rfl)
theorem dX2_state_1 : decode cX2_state 1 = .ok (.aload_n 0, 1) := dk_42 (dk_at dksX2_state_0 1 rfl rfl)
theorem dX2_state_2 : decode cX2_state 2 = .ok (.getfield 17, 3) := dk_180 0 17 (dk_at dksX2_state_0 2 rfl rfl)
theorem dX2_state_5 : decode cX2_state 5 = .ok (.if_icmp .ge 8, 3) := dk_162 0 8 (dk_at dksX2_state_0 5 rfl rfl)
theorem dX2_state_8 : decode cX2_state 8 = .ok (.bipush 97, 2) := dk_16 97 (dk_at dksX2_state_0 8 rfl rfl)
theorem dX2_state_10 : decode cX2_state 10 = .ok (.goto 23, 3) := dk_167 0 23 (dk_at dksX2_state_0 10 rfl rfl)
theorem dX2_state_13 : decode cX2_state 13 = .ok (.iload_n 1, 1) := dk_27 (dk_at dksX2_state_0 13 rfl rfl)
theorem dX2_state_14 : decode cX2_state 14 = .ok (.aload_n 0, 1) := dk_42 (dk_at dksX2_state_0 14 rfl rfl)
theorem dX2_state_15 : decode cX2_state 15 = .ok (.getfield 17, 3) := dk_180 0 17 (dk_at dksX2_state_0 15 rfl rfl)
theorem dX2_state_18 : decode cX2_state 18 = .ok (.isub, 1) := dk_100 (dk_at dksX2_state_0 18 rfl rfl)
theorem dX2_state_19 : decode cX2_state 19 = .ok (.aload_n 0, 1) := dk_42 (dk_at dksX2_state_0 19 rfl rfl)
theorem dX2_state_20 : decode cX2_state 20 = .ok (.getfield 21, 3) := dk_180 0 21 (dk_at dksX2_state_0 20 rfl rfl)
theorem dX2_state_23 : decode cX2_state 23 = .ok (.if_icmp .ge 8, 3) := dk_162 0 8 (dk_at dksX2_state_1 0 rfl rfl)
theorem dX2_state_26 : decode cX2_state 26 = .ok (.bipush 100, 2) := dk_16 100 (dk_at dksX2_state_1 3 rfl rfl)
theorem dX2_state_28 : decode cX2_state 28 = .ok (.goto 5, 3) := dk_167 0 5 (dk_at dksX2_state_1 5 rfl rfl)
theorem dX2_state_31 : decode cX2_state 31 = .ok (.bipush 115, 2) := dk_16 115 (dk_at dksX2_state_1 8 rfl rfl)
theorem dX2_state_33 : decode cX2_state 33 = .ok (.ireturn, 1) := dk_172 (dk_at dksX2_state_1 10 rfl rfl)
theorem q57 : (Jvm.Cond.initialized "ToneGraph$Envelope") ∈ lw_all := lw_g (lw_at lw_m1 5 rfl) rfl
theorem q119 : (Jvm.Cond.instantiable "ToneGraph$Envelope" (4 : Nat)) ∈ lw_all := lw_g (lw_at lw_m1 67 rfl) rfl
theorem q121 : (Jvm.Cond.instanceMethod ({ cls := "ToneGraph$Envelope", name := "<init>", desc := "()V" } : Jvm.MethodName)) ∈ lw_all := lw_g (lw_at lw_m1 69 rfl) rfl
theorem q122 : (Jvm.Cond.code ({ cls := "ToneGraph$Envelope", name := "<init>", desc := "()V" } : Jvm.MethodName) prog_6_method_1_code (1 : Nat) (Option.none : Option Jvm.ClassFile.FieldType)) ∈ lw_all := lw_g (lw_at lw_m1 70 rfl) rfl
theorem q123 : (Jvm.Cond.methodLink "ToneGraph$Envelope" (3 : Nat) ({ cls := "ToneGraph$Envelope", name := "<init>", desc := "(I)V" } : Jvm.MethodName)) ∈ lw_all := lw_g (lw_at lw_m1 71 rfl) rfl
theorem q124 : (Jvm.Cond.instanceMethod ({ cls := "ToneGraph$Envelope", name := "<init>", desc := "(I)V" } : Jvm.MethodName)) ∈ lw_all := lw_g (lw_at lw_m1 72 rfl) rfl
theorem q125 : (Jvm.Cond.code ({ cls := "ToneGraph$Envelope", name := "<init>", desc := "(I)V" } : Jvm.MethodName) prog_6_method_2_code (2 : Nat) (Option.none : Option Jvm.ClassFile.FieldType)) ∈ lw_all := lw_g (lw_at lw_m1 73 rfl) rfl
theorem q126 : (Jvm.Cond.methodLink "ToneGraph$Envelope" (9 : Nat) ({ cls := "ToneGraph$Envelope", name := "<init>", desc := "(IIII)V" } : Jvm.MethodName)) ∈ lw_all := lw_g (lw_at lw_m1 74 rfl) rfl
theorem q127 : (Jvm.Cond.instanceMethod ({ cls := "ToneGraph$Envelope", name := "<init>", desc := "(IIII)V" } : Jvm.MethodName)) ∈ lw_all := lw_g (lw_at lw_m1 75 rfl) rfl
theorem q128 : (Jvm.Cond.code ({ cls := "ToneGraph$Envelope", name := "<init>", desc := "(IIII)V" } : Jvm.MethodName) prog_6_method_3_code (5 : Nat) (Option.none : Option Jvm.ClassFile.FieldType)) ∈ lw_all := lw_g (lw_at lw_m1 76 rfl) rfl
theorem q129 : (Jvm.Cond.methodLink "ToneGraph$Envelope" (12 : Nat) ({ cls := "java/lang/Object", name := "<init>", desc := "()V" } : Jvm.MethodName)) ∈ lw_all := lw_g (lw_at lw_m1 77 rfl) rfl
theorem q130 : (Jvm.Cond.fieldLink "ToneGraph$Envelope" (17 : Nat) "ToneGraph$Envelope" "attack" "I") ∈ lw_all := lw_g (lw_at lw_m1 78 rfl) rfl
theorem q131 : (Jvm.Cond.fieldLink "ToneGraph$Envelope" (21 : Nat) "ToneGraph$Envelope" "decay" "I") ∈ lw_all := lw_g (lw_at lw_m1 79 rfl) rfl
theorem q132 : (Jvm.Cond.fieldLink "ToneGraph$Envelope" (24 : Nat) "ToneGraph$Envelope" "sustain" "I") ∈ lw_all := lw_g (lw_at lw_m1 80 rfl) rfl
theorem q135 : (Jvm.Cond.fieldLink "ToneGraph$Envelope" (27 : Nat) "ToneGraph$Envelope" "release" "I") ∈ lw_all := lw_g (lw_at lw_m1 83 rfl) rfl
theorem q137 : (Jvm.Cond.laysFinal "ToneGraph$Envelope" "ToneGraph$Envelope" "attack" "I") ∈ lw_all := lw_g (lw_at lw_m1 85 rfl) rfl
theorem q138 : (Jvm.Cond.soleField "ToneGraph$Envelope" "attack") ∈ lw_all := lw_g (lw_at lw_m1 86 rfl) rfl
theorem q139 : (Jvm.Cond.laysFinal "ToneGraph$Envelope" "ToneGraph$Envelope" "decay" "I") ∈ lw_all := lw_g (lw_at lw_m1 87 rfl) rfl
theorem q140 : (Jvm.Cond.soleField "ToneGraph$Envelope" "decay") ∈ lw_all := lw_g (lw_at lw_m1 88 rfl) rfl
theorem q141 : (Jvm.Cond.laysFinal "ToneGraph$Envelope" "ToneGraph$Envelope" "sustain" "I") ∈ lw_all := lw_g (lw_at lw_m1 89 rfl) rfl
theorem q142 : (Jvm.Cond.soleField "ToneGraph$Envelope" "sustain") ∈ lw_all := lw_g (lw_at lw_m1 90 rfl) rfl
theorem q143 : (Jvm.Cond.laysFinal "ToneGraph$Envelope" "ToneGraph$Envelope" "release" "I") ∈ lw_all := lw_g (lw_at lw_m1 91 rfl) rfl
theorem q144 : (Jvm.Cond.soleField "ToneGraph$Envelope" "release") ∈ lw_all := lw_g (lw_at lw_m1 92 rfl) rfl
theorem q145 : (Jvm.Cond.superclass "ToneGraph$Envelope" "java/lang/Object") ∈ lw_all := lw_g (lw_at lw_m1 93 rfl) rfl
theorem q287 : (Jvm.Cond.selects "ToneGraph$Envelope" ({ cls := "java/lang/Object", name := "getClass", desc := "()Ljava/lang/Class;" } : Jvm.MethodName) ({ cls := "java/lang/Object", name := "getClass", desc := "()Ljava/lang/Class;" } : Jvm.MethodName)) ∈ lw_all := lw_g (lw_at lw_m1 235 rfl) rfl
theorem q405 : (Jvm.Cond.instanceMethod ({ cls := "ToneGraph$Envelope", name := "level", desc := "(I)I" } : Jvm.MethodName)) ∈ lw_all := lw_g (lw_at lw_m2 113 rfl) rfl
theorem q406 : (Jvm.Cond.selects "ToneGraph$Envelope" ({ cls := "ToneGraph$Envelope", name := "level", desc := "(I)I" } : Jvm.MethodName) ({ cls := "ToneGraph$Envelope", name := "level", desc := "(I)I" } : Jvm.MethodName)) ∈ lw_all := lw_g (lw_at lw_m2 114 rfl) rfl
theorem q407 : (Jvm.Cond.code ({ cls := "ToneGraph$Envelope", name := "level", desc := "(I)I" } : Jvm.MethodName) prog_6_method_4_code (3 : Nat) (Option.some Jvm.ClassFile.FieldType.int)) ∈ lw_all := lw_g (lw_at lw_m2 115 rfl) rfl
theorem q686 : (Jvm.Cond.instanceMethod ({ cls := "ToneGraph$Envelope", name := "state", desc := "(I)C" } : Jvm.MethodName)) ∈ lw_all := lw_g (lw_at lw_m3 154 rfl) rfl
theorem q687 : (Jvm.Cond.selects "ToneGraph$Envelope" ({ cls := "ToneGraph$Envelope", name := "state", desc := "(I)C" } : Jvm.MethodName) ({ cls := "ToneGraph$Envelope", name := "state", desc := "(I)C" } : Jvm.MethodName)) ∈ lw_all := lw_g (lw_at lw_m3 155 rfl) rfl
theorem q688 : (Jvm.Cond.code ({ cls := "ToneGraph$Envelope", name := "state", desc := "(I)C" } : Jvm.MethodName) prog_6_method_5_code (2 : Nat) (Option.some Jvm.ClassFile.FieldType.char)) ∈ lw_all := lw_g (lw_at lw_m3 156 rfl) rfl
theorem q1621 : (Jvm.Cond.castable "ToneGraph$Envelope" "java/lang/Object") ∈ lw_tbl := lw_at lw_m7 129 rfl
theorem in_X2 : ∀ w ∈ wsX20, w ∈ lw_all := lw_in wsX20 [137, 139, 141, 143] (by decide +kernel) (by decide +kernel)

/-! ToneGraph$Node -/
set_option maxRecDepth 100000
def RX3 : String := "ToneGraph$Node"
abbrev cX3_init : ByteArray := prog_9_method_1_code
def yX3_init : MethodName := ⟨RX3, "<init>", "(IC[I)V"⟩
def dkwX3_init_1 : List UInt8 := [27, 181, 0, 22, 42, 28, 181, 0, 26, 42, 45, 181, 0, 30, 42, 45, 190, 188, 10, 181, 0, 33, 177]
abbrev dktX3_init_1 : List UInt8 := dkwX3_init_1 ++ []
def dkwX3_init_0 : List UInt8 := [42, 183, 0, 3, 42, 187, 0, 9, 89, 183, 0, 11, 181, 0, 12, 42, 16, 64, 188, 10, 181, 0, 18, 42]
abbrev dktX3_init_0 : List UInt8 := dkwX3_init_0 ++ dktX3_init_1
theorem dksX3_init_0 : cX3_init.data.toList.drop 0 = dktX3_init_0 := by decide +kernel
theorem dksX3_init_1 : cX3_init.data.toList.drop 24 = dktX3_init_1 := dk_seg dksX3_init_0 24 rfl rfl
theorem dX3_init_0 : decode cX3_init 0 = .ok (.aload_n 0, 1) := dk_42 (dk_at dksX3_init_0 0 rfl rfl)
theorem dX3_init_1 : decode cX3_init 1 = .ok (.invokespecial 3, 3) := dk_183 0 3 (dk_at dksX3_init_0 1 rfl rfl)
theorem dX3_init_4 : decode cX3_init 4 = .ok (.aload_n 0, 1) := dk_42 (dk_at dksX3_init_0 4 rfl rfl)
theorem dX3_init_5 : decode cX3_init 5 = .ok (.new 9, 3) := dk_187 0 9 (dk_at dksX3_init_0 5 rfl rfl)
theorem dX3_init_8 : decode cX3_init 8 = .ok (.dup, 1) := dk_89 (dk_at dksX3_init_0 8 rfl rfl)
theorem dX3_init_9 : decode cX3_init 9 = .ok (.invokespecial 11, 3) := dk_183 0 11 (dk_at dksX3_init_0 9 rfl rfl)
theorem dX3_init_12 : decode cX3_init 12 = .ok (.putfield 12, 3) := dk_181 0 12 (dk_at dksX3_init_0 12 rfl rfl)
theorem dX3_init_15 : decode cX3_init 15 = .ok (.aload_n 0, 1) := dk_42 (dk_at dksX3_init_0 15 rfl rfl)
theorem dX3_init_16 : decode cX3_init 16 = .ok (.bipush 64, 2) := dk_16 64 (dk_at dksX3_init_0 16 rfl rfl)
theorem dX3_init_18 : decode cX3_init 18 = .ok (.newarray .int, 2) := dk_188_10 (dk_at dksX3_init_0 18 rfl rfl)
theorem dX3_init_20 : decode cX3_init 20 = .ok (.putfield 18, 3) := dk_181 0 18 (dk_at dksX3_init_0 20 rfl rfl)
theorem dX3_init_23 : decode cX3_init 23 = .ok (.aload_n 0, 1) := dk_42 (dk_at dksX3_init_0 23 rfl rfl)
theorem dX3_init_24 : decode cX3_init 24 = .ok (.iload_n 1, 1) := dk_27 (dk_at dksX3_init_1 0 rfl rfl)
theorem dX3_init_25 : decode cX3_init 25 = .ok (.putfield 22, 3) := dk_181 0 22 (dk_at dksX3_init_1 1 rfl rfl)
theorem dX3_init_28 : decode cX3_init 28 = .ok (.aload_n 0, 1) := dk_42 (dk_at dksX3_init_1 4 rfl rfl)
theorem dX3_init_29 : decode cX3_init 29 = .ok (.iload_n 2, 1) := dk_28 (dk_at dksX3_init_1 5 rfl rfl)
theorem dX3_init_30 : decode cX3_init 30 = .ok (.putfield 26, 3) := dk_181 0 26 (dk_at dksX3_init_1 6 rfl rfl)
theorem dX3_init_33 : decode cX3_init 33 = .ok (.aload_n 0, 1) := dk_42 (dk_at dksX3_init_1 9 rfl rfl)
theorem dX3_init_34 : decode cX3_init 34 = .ok (.aload_n 3, 1) := dk_45 (dk_at dksX3_init_1 10 rfl rfl)
theorem dX3_init_35 : decode cX3_init 35 = .ok (.putfield 30, 3) := dk_181 0 30 (dk_at dksX3_init_1 11 rfl rfl)
theorem dX3_init_38 : decode cX3_init 38 = .ok (.aload_n 0, 1) := dk_42 (dk_at dksX3_init_1 14 rfl rfl)
theorem dX3_init_39 : decode cX3_init 39 = .ok (.aload_n 3, 1) := dk_45 (dk_at dksX3_init_1 15 rfl rfl)
theorem dX3_init_40 : decode cX3_init 40 = .ok (.arraylength, 1) := dk_190 (dk_at dksX3_init_1 16 rfl rfl)
theorem dX3_init_41 : decode cX3_init 41 = .ok (.newarray .int, 2) := dk_188_10 (dk_at dksX3_init_1 17 rfl rfl)
theorem dX3_init_43 : decode cX3_init 43 = .ok (.putfield 33, 3) := dk_181 0 33 (dk_at dksX3_init_1 19 rfl rfl)
theorem dX3_init_46 : decode cX3_init 46 = .ok (.return_, 1) := dk_177 (dk_at dksX3_init_1 22 rfl rfl)
abbrev cX3_isDelay : ByteArray := prog_9_method_5_code
def yX3_isDelay : MethodName := ⟨RX3, "isDelay", "()Z"⟩
theorem dX3_isDelay_0 : decode cX3_isDelay 0 = .ok (.iconst 0, 1) := by decide +kernel
theorem dX3_isDelay_1 : decode cX3_isDelay 1 = .ok (.ireturn, 1) := by decide +kernel
abbrev cX3_tick : ByteArray := prog_9_method_6_code
def yX3_tick : MethodName := ⟨RX3, "tick", "()V"⟩
def dkwX3_tick_0 : List UInt8 := [42, 42, 42, 182, 0, 56, 182, 0, 59, 184, 0, 63, 181, 0, 50, 177]
abbrev dktX3_tick_0 : List UInt8 := dkwX3_tick_0 ++ []
theorem dksX3_tick_0 : cX3_tick.data.toList.drop 0 = dktX3_tick_0 := by decide +kernel
theorem dX3_tick_0 : decode cX3_tick 0 = .ok (.aload_n 0, 1) := dk_42 (dk_at dksX3_tick_0 0 rfl rfl)
theorem dX3_tick_1 : decode cX3_tick 1 = .ok (.aload_n 0, 1) := dk_42 (dk_at dksX3_tick_0 1 rfl rfl)
theorem dX3_tick_2 : decode cX3_tick 2 = .ok (.aload_n 0, 1) := dk_42 (dk_at dksX3_tick_0 2 rfl rfl)
theorem dX3_tick_3 : decode cX3_tick 3 = .ok (.invokevirtual 56, 3) := dk_182 0 56 (dk_at dksX3_tick_0 3 rfl rfl)
theorem dX3_tick_6 : decode cX3_tick 6 = .ok (.invokevirtual 59, 3) := dk_182 0 59 (dk_at dksX3_tick_0 6 rfl rfl)
theorem dX3_tick_9 : decode cX3_tick 9 = .ok (.invokestatic 63, 3) := dk_184 0 63 (dk_at dksX3_tick_0 9 rfl rfl)
theorem dX3_tick_12 : decode cX3_tick 12 = .ok (.putfield 50, 3) := dk_181 0 50 (dk_at dksX3_tick_0 12 rfl rfl)
theorem dX3_tick_15 : decode cX3_tick 15 = .ok (.return_, 1) := dk_177 (dk_at dksX3_tick_0 15 rfl rfl)
abbrev cX3_input : ByteArray := prog_9_method_2_code
def yX3_input : MethodName := ⟨RX3, "input", "()I"⟩
def dkwX3_input_2 : List UInt8 := [132, 2, 1, 167, 255, 212, 27, 172]
abbrev dktX3_input_2 : List UInt8 := dkwX3_input_2 ++ []
def dkwX3_input_1 : List UInt8 := [192, 0, 44, 78, 27, 45, 180, 0, 46, 180, 0, 50, 45, 180, 0, 53, 104, 16, 100, 108, 96, 60]
abbrev dktX3_input_1 : List UInt8 := dkwX3_input_1 ++ dktX3_input_2
def dkwX3_input_0 : List UInt8 := [3, 60, 3, 61, 28, 42, 180, 0, 12, 182, 0, 36, 162, 0, 39, 42, 180, 0, 12, 28, 182, 0, 40]
abbrev dktX3_input_0 : List UInt8 := dkwX3_input_0 ++ dktX3_input_1
theorem dksX3_input_0 : cX3_input.data.toList.drop 0 = dktX3_input_0 := by decide +kernel
theorem dksX3_input_1 : cX3_input.data.toList.drop 23 = dktX3_input_1 := dk_seg dksX3_input_0 23 rfl rfl
theorem dksX3_input_2 : cX3_input.data.toList.drop 45 = dktX3_input_2 := dk_seg dksX3_input_1 22 rfl rfl
theorem dX3_input_0 : decode cX3_input 0 = .ok (.iconst 0, 1) := dk_3 (dk_at dksX3_input_0 0 rfl rfl)
theorem dX3_input_1 : decode cX3_input 1 = .ok (.istore_n 1, 1) := dk_60 (dk_at dksX3_input_0 1 rfl rfl)
theorem dX3_input_2 : decode cX3_input 2 = .ok (.iconst 0, 1) := dk_3 (dk_at dksX3_input_0 2 rfl rfl)
theorem dX3_input_3 : decode cX3_input 3 = .ok (.istore_n 2, 1) := dk_61 (dk_at dksX3_input_0 3 rfl rfl)
theorem dX3_input_4 : decode cX3_input 4 = .ok (.iload_n 2, 1) := dk_28 (dk_at dksX3_input_0 4 rfl rfl)
theorem dX3_input_5 : decode cX3_input 5 = .ok (.aload_n 0, 1) := dk_42 (dk_at dksX3_input_0 5 rfl rfl)
theorem dX3_input_6 : decode cX3_input 6 = .ok (.getfield 12, 3) := dk_180 0 12 (dk_at dksX3_input_0 6 rfl rfl)
theorem dX3_input_9 : decode cX3_input 9 = .ok (.invokevirtual 36, 3) := dk_182 0 36 (dk_at dksX3_input_0 9 rfl rfl)
theorem dX3_input_12 : decode cX3_input 12 = .ok (.if_icmp .ge 39, 3) := dk_162 0 39 (dk_at dksX3_input_0 12 rfl rfl)
theorem dX3_input_15 : decode cX3_input 15 = .ok (.aload_n 0, 1) := dk_42 (dk_at dksX3_input_0 15 rfl rfl)
theorem dX3_input_16 : decode cX3_input 16 = .ok (.getfield 12, 3) := dk_180 0 12 (dk_at dksX3_input_0 16 rfl rfl)
theorem dX3_input_19 : decode cX3_input 19 = .ok (.iload_n 2, 1) := dk_28 (dk_at dksX3_input_0 19 rfl rfl)
theorem dX3_input_20 : decode cX3_input 20 = .ok (.invokevirtual 40, 3) := dk_182 0 40 (dk_at dksX3_input_0 20 rfl rfl)
theorem dX3_input_23 : decode cX3_input 23 = .ok (.checkcast 44, 3) := dk_192 0 44 (dk_at dksX3_input_1 0 rfl rfl)
theorem dX3_input_26 : decode cX3_input 26 = .ok (.astore_n 3, 1) := dk_78 (dk_at dksX3_input_1 3 rfl rfl)
theorem dX3_input_27 : decode cX3_input 27 = .ok (.iload_n 1, 1) := dk_27 (dk_at dksX3_input_1 4 rfl rfl)
theorem dX3_input_28 : decode cX3_input 28 = .ok (.aload_n 3, 1) := dk_45 (dk_at dksX3_input_1 5 rfl rfl)
theorem dX3_input_29 : decode cX3_input 29 = .ok (.getfield 46, 3) := dk_180 0 46 (dk_at dksX3_input_1 6 rfl rfl)
theorem dX3_input_32 : decode cX3_input 32 = .ok (.getfield 50, 3) := dk_180 0 50 (dk_at dksX3_input_1 9 rfl rfl)
theorem dX3_input_35 : decode cX3_input 35 = .ok (.aload_n 3, 1) := dk_45 (dk_at dksX3_input_1 12 rfl rfl)
theorem dX3_input_36 : decode cX3_input 36 = .ok (.getfield 53, 3) := dk_180 0 53 (dk_at dksX3_input_1 13 rfl rfl)
theorem dX3_input_39 : decode cX3_input 39 = .ok (.imul, 1) := dk_104 (dk_at dksX3_input_1 16 rfl rfl)
theorem dX3_input_40 : decode cX3_input 40 = .ok (.bipush 100, 2) := dk_16 100 (dk_at dksX3_input_1 17 rfl rfl)
theorem dX3_input_42 : decode cX3_input 42 = .ok (.idiv, 1) := dk_108 (dk_at dksX3_input_1 19 rfl rfl)
theorem dX3_input_43 : decode cX3_input 43 = .ok (.iadd, 1) := dk_96 (dk_at dksX3_input_1 20 rfl rfl)
theorem dX3_input_44 : decode cX3_input 44 = .ok (.istore_n 1, 1) := dk_60 (dk_at dksX3_input_1 21 rfl rfl)
theorem dX3_input_45 : decode cX3_input 45 = .ok (.iinc 2 1, 3) := dk_132 2 1 (dk_at dksX3_input_2 0 rfl rfl)
theorem dX3_input_48 : decode cX3_input 48 = .ok (.goto (-44), 3) := dk_167 255 212 (dk_at dksX3_input_2 3 rfl rfl)
theorem dX3_input_51 : decode cX3_input 51 = .ok (.iload_n 1, 1) := dk_27 (dk_at dksX3_input_2 6 rfl rfl)
theorem dX3_input_52 : decode cX3_input 52 = .ok (.ireturn, 1) := dk_172 (dk_at dksX3_input_2 7 rfl rfl)
abbrev cX3_takeIn : ByteArray := prog_9_method_8_code
def yX3_takeIn : MethodName := ⟨RX3, "takeIn", "()V"⟩
theorem dX3_takeIn_0 : decode cX3_takeIn 0 = .ok (.return_, 1) := by decide +kernel
abbrev cX3_keep : ByteArray := prog_9_method_10_code
def yX3_keep : MethodName := ⟨RX3, "keep", "()V"⟩
def dkwX3_keep_1 : List UInt8 := [184, 0, 71, 177]
abbrev dktX3_keep_1 : List UInt8 := dkwX3_keep_1 ++ []
def dkwX3_keep_0 : List UInt8 := [42, 42, 180, 0, 50, 181, 0, 68, 42, 180, 0, 30, 3, 42, 180, 0, 33, 3, 42, 180, 0, 30, 190]
abbrev dktX3_keep_0 : List UInt8 := dkwX3_keep_0 ++ dktX3_keep_1
theorem dksX3_keep_0 : cX3_keep.data.toList.drop 0 = dktX3_keep_0 := by decide +kernel
theorem dksX3_keep_1 : cX3_keep.data.toList.drop 23 = dktX3_keep_1 := dk_seg dksX3_keep_0 23 rfl rfl
theorem dX3_keep_0 : decode cX3_keep 0 = .ok (.aload_n 0, 1) := dk_42 (dk_at dksX3_keep_0 0 rfl rfl)
theorem dX3_keep_1 : decode cX3_keep 1 = .ok (.aload_n 0, 1) := dk_42 (dk_at dksX3_keep_0 1 rfl rfl)
theorem dX3_keep_2 : decode cX3_keep 2 = .ok (.getfield 50, 3) := dk_180 0 50 (dk_at dksX3_keep_0 2 rfl rfl)
theorem dX3_keep_5 : decode cX3_keep 5 = .ok (.putfield 68, 3) := dk_181 0 68 (dk_at dksX3_keep_0 5 rfl rfl)
theorem dX3_keep_8 : decode cX3_keep 8 = .ok (.aload_n 0, 1) := dk_42 (dk_at dksX3_keep_0 8 rfl rfl)
theorem dX3_keep_9 : decode cX3_keep 9 = .ok (.getfield 30, 3) := dk_180 0 30 (dk_at dksX3_keep_0 9 rfl rfl)
theorem dX3_keep_12 : decode cX3_keep 12 = .ok (.iconst 0, 1) := dk_3 (dk_at dksX3_keep_0 12 rfl rfl)
theorem dX3_keep_13 : decode cX3_keep 13 = .ok (.aload_n 0, 1) := dk_42 (dk_at dksX3_keep_0 13 rfl rfl)
theorem dX3_keep_14 : decode cX3_keep 14 = .ok (.getfield 33, 3) := dk_180 0 33 (dk_at dksX3_keep_0 14 rfl rfl)
theorem dX3_keep_17 : decode cX3_keep 17 = .ok (.iconst 0, 1) := dk_3 (dk_at dksX3_keep_0 17 rfl rfl)
theorem dX3_keep_18 : decode cX3_keep 18 = .ok (.aload_n 0, 1) := dk_42 (dk_at dksX3_keep_0 18 rfl rfl)
theorem dX3_keep_19 : decode cX3_keep 19 = .ok (.getfield 30, 3) := dk_180 0 30 (dk_at dksX3_keep_0 19 rfl rfl)
theorem dX3_keep_22 : decode cX3_keep 22 = .ok (.arraylength, 1) := dk_190 (dk_at dksX3_keep_0 22 rfl rfl)
theorem dX3_keep_23 : decode cX3_keep 23 = .ok (.invokestatic 71, 3) := dk_184 0 71 (dk_at dksX3_keep_1 0 rfl rfl)
theorem dX3_keep_26 : decode cX3_keep 26 = .ok (.return_, 1) := dk_177 (dk_at dksX3_keep_1 3 rfl rfl)
abbrev cX3_takeBack : ByteArray := prog_9_method_11_code
def yX3_takeBack : MethodName := ⟨RX3, "takeBack", "()V"⟩
def dkwX3_takeBack_1 : List UInt8 := [184, 0, 71, 177]
abbrev dktX3_takeBack_1 : List UInt8 := dkwX3_takeBack_1 ++ []
def dkwX3_takeBack_0 : List UInt8 := [42, 42, 180, 0, 68, 181, 0, 50, 42, 180, 0, 33, 3, 42, 180, 0, 30, 3, 42, 180, 0, 30, 190]
abbrev dktX3_takeBack_0 : List UInt8 := dkwX3_takeBack_0 ++ dktX3_takeBack_1
theorem dksX3_takeBack_0 : cX3_takeBack.data.toList.drop 0 = dktX3_takeBack_0 := by decide +kernel
theorem dksX3_takeBack_1 : cX3_takeBack.data.toList.drop 23 = dktX3_takeBack_1 := dk_seg dksX3_takeBack_0 23 rfl rfl
theorem dX3_takeBack_0 : decode cX3_takeBack 0 = .ok (.aload_n 0, 1) := dk_42 (dk_at dksX3_takeBack_0 0 rfl rfl)
theorem dX3_takeBack_1 : decode cX3_takeBack 1 = .ok (.aload_n 0, 1) := dk_42 (dk_at dksX3_takeBack_0 1 rfl rfl)
theorem dX3_takeBack_2 : decode cX3_takeBack 2 = .ok (.getfield 68, 3) := dk_180 0 68 (dk_at dksX3_takeBack_0 2 rfl rfl)
theorem dX3_takeBack_5 : decode cX3_takeBack 5 = .ok (.putfield 50, 3) := dk_181 0 50 (dk_at dksX3_takeBack_0 5 rfl rfl)
theorem dX3_takeBack_8 : decode cX3_takeBack 8 = .ok (.aload_n 0, 1) := dk_42 (dk_at dksX3_takeBack_0 8 rfl rfl)
theorem dX3_takeBack_9 : decode cX3_takeBack 9 = .ok (.getfield 33, 3) := dk_180 0 33 (dk_at dksX3_takeBack_0 9 rfl rfl)
theorem dX3_takeBack_12 : decode cX3_takeBack 12 = .ok (.iconst 0, 1) := dk_3 (dk_at dksX3_takeBack_0 12 rfl rfl)
theorem dX3_takeBack_13 : decode cX3_takeBack 13 = .ok (.aload_n 0, 1) := dk_42 (dk_at dksX3_takeBack_0 13 rfl rfl)
theorem dX3_takeBack_14 : decode cX3_takeBack 14 = .ok (.getfield 30, 3) := dk_180 0 30 (dk_at dksX3_takeBack_0 14 rfl rfl)
theorem dX3_takeBack_17 : decode cX3_takeBack 17 = .ok (.iconst 0, 1) := dk_3 (dk_at dksX3_takeBack_0 17 rfl rfl)
theorem dX3_takeBack_18 : decode cX3_takeBack 18 = .ok (.aload_n 0, 1) := dk_42 (dk_at dksX3_takeBack_0 18 rfl rfl)
theorem dX3_takeBack_19 : decode cX3_takeBack 19 = .ok (.getfield 30, 3) := dk_180 0 30 (dk_at dksX3_takeBack_0 19 rfl rfl)
theorem dX3_takeBack_22 : decode cX3_takeBack 22 = .ok (.arraylength, 1) := dk_190 (dk_at dksX3_takeBack_0 22 rfl rfl)
theorem dX3_takeBack_23 : decode cX3_takeBack 23 = .ok (.invokestatic 71, 3) := dk_184 0 71 (dk_at dksX3_takeBack_1 0 rfl rfl)
theorem dX3_takeBack_26 : decode cX3_takeBack 26 = .ok (.return_, 1) := dk_177 (dk_at dksX3_takeBack_1 3 rfl rfl)
abbrev cX3_fill : ByteArray := prog_9_method_7_code
def yX3_fill : MethodName := ⟨RX3, "fill", "(I)V"⟩
def dkwX3_fill_1 : List UInt8 := [79, 132, 2, 1, 167, 255, 230, 42, 42, 180, 0, 18, 27, 4, 100, 46, 181, 0, 50, 177]
abbrev dktX3_fill_1 : List UInt8 := dkwX3_fill_1 ++ []
def dkwX3_fill_0 : List UInt8 := [3, 61, 28, 27, 162, 0, 27, 42, 180, 0, 18, 28, 42, 42, 28, 182, 0, 66, 182, 0, 59, 184, 0, 63]
abbrev dktX3_fill_0 : List UInt8 := dkwX3_fill_0 ++ dktX3_fill_1
theorem dksX3_fill_0 : cX3_fill.data.toList.drop 0 = dktX3_fill_0 := by decide +kernel
theorem dksX3_fill_1 : cX3_fill.data.toList.drop 24 = dktX3_fill_1 := dk_seg dksX3_fill_0 24 rfl rfl
theorem dX3_fill_0 : decode cX3_fill 0 = .ok (.iconst 0, 1) := dk_3 (dk_at dksX3_fill_0 0 rfl rfl)
theorem dX3_fill_1 : decode cX3_fill 1 = .ok (.istore_n 2, 1) := dk_61 (dk_at dksX3_fill_0 1 rfl rfl)
theorem dX3_fill_2 : decode cX3_fill 2 = .ok (.iload_n 2, 1) := dk_28 (dk_at dksX3_fill_0 2 rfl rfl)
theorem dX3_fill_3 : decode cX3_fill 3 = .ok (.iload_n 1, 1) := dk_27 (dk_at dksX3_fill_0 3 rfl rfl)
theorem dX3_fill_4 : decode cX3_fill 4 = .ok (.if_icmp .ge 27, 3) := dk_162 0 27 (dk_at dksX3_fill_0 4 rfl rfl)
theorem dX3_fill_7 : decode cX3_fill 7 = .ok (.aload_n 0, 1) := dk_42 (dk_at dksX3_fill_0 7 rfl rfl)
theorem dX3_fill_8 : decode cX3_fill 8 = .ok (.getfield 18, 3) := dk_180 0 18 (dk_at dksX3_fill_0 8 rfl rfl)
theorem dX3_fill_11 : decode cX3_fill 11 = .ok (.iload_n 2, 1) := dk_28 (dk_at dksX3_fill_0 11 rfl rfl)
theorem dX3_fill_12 : decode cX3_fill 12 = .ok (.aload_n 0, 1) := dk_42 (dk_at dksX3_fill_0 12 rfl rfl)
theorem dX3_fill_13 : decode cX3_fill 13 = .ok (.aload_n 0, 1) := dk_42 (dk_at dksX3_fill_0 13 rfl rfl)
theorem dX3_fill_14 : decode cX3_fill 14 = .ok (.iload_n 2, 1) := dk_28 (dk_at dksX3_fill_0 14 rfl rfl)
theorem dX3_fill_15 : decode cX3_fill 15 = .ok (.invokevirtual 66, 3) := dk_182 0 66 (dk_at dksX3_fill_0 15 rfl rfl)
theorem dX3_fill_18 : decode cX3_fill 18 = .ok (.invokevirtual 59, 3) := dk_182 0 59 (dk_at dksX3_fill_0 18 rfl rfl)
theorem dX3_fill_21 : decode cX3_fill 21 = .ok (.invokestatic 63, 3) := dk_184 0 63 (dk_at dksX3_fill_0 21 rfl rfl)
theorem dX3_fill_24 : decode cX3_fill 24 = .ok (.iastore, 1) := dk_79 (dk_at dksX3_fill_1 0 rfl rfl)
theorem dX3_fill_25 : decode cX3_fill 25 = .ok (.iinc 2 1, 3) := dk_132 2 1 (dk_at dksX3_fill_1 1 rfl rfl)
theorem dX3_fill_28 : decode cX3_fill 28 = .ok (.goto (-26), 3) := dk_167 255 230 (dk_at dksX3_fill_1 4 rfl rfl)
theorem dX3_fill_31 : decode cX3_fill 31 = .ok (.aload_n 0, 1) := dk_42 (dk_at dksX3_fill_1 7 rfl rfl)
theorem dX3_fill_32 : decode cX3_fill 32 = .ok (.aload_n 0, 1) := dk_42 (dk_at dksX3_fill_1 8 rfl rfl)
theorem dX3_fill_33 : decode cX3_fill 33 = .ok (.getfield 18, 3) := dk_180 0 18 (dk_at dksX3_fill_1 9 rfl rfl)
theorem dX3_fill_36 : decode cX3_fill 36 = .ok (.iload_n 1, 1) := dk_27 (dk_at dksX3_fill_1 12 rfl rfl)
theorem dX3_fill_37 : decode cX3_fill 37 = .ok (.iconst 1, 1) := dk_4 (dk_at dksX3_fill_1 13 rfl rfl)
theorem dX3_fill_38 : decode cX3_fill 38 = .ok (.isub, 1) := dk_100 (dk_at dksX3_fill_1 14 rfl rfl)
theorem dX3_fill_39 : decode cX3_fill 39 = .ok (.iaload, 1) := dk_46 (dk_at dksX3_fill_1 15 rfl rfl)
theorem dX3_fill_40 : decode cX3_fill 40 = .ok (.putfield 50, 3) := dk_181 0 50 (dk_at dksX3_fill_1 16 rfl rfl)
theorem dX3_fill_43 : decode cX3_fill 43 = .ok (.return_, 1) := dk_177 (dk_at dksX3_fill_1 19 rfl rfl)
abbrev cX3_input_2 : ByteArray := prog_9_method_3_code
def yX3_input_2 : MethodName := ⟨RX3, "input", "(I)I"⟩
def dkwX3_input_2_2 : List UInt8 := [108, 96, 61, 132, 3, 1, 167, 255, 207, 28, 172]
abbrev dktX3_input_2_2 : List UInt8 := dkwX3_input_2_2 ++ []
def dkwX3_input_2_1 : List UInt8 := [192, 0, 44, 58, 4, 28, 25, 4, 180, 0, 46, 180, 0, 18, 27, 46, 25, 4, 180, 0, 53, 104, 16, 100]
abbrev dktX3_input_2_1 : List UInt8 := dkwX3_input_2_1 ++ dktX3_input_2_2
def dkwX3_input_2_0 : List UInt8 := [3, 61, 3, 62, 29, 42, 180, 0, 12, 182, 0, 36, 162, 0, 44, 42, 180, 0, 12, 29, 182, 0, 40]
abbrev dktX3_input_2_0 : List UInt8 := dkwX3_input_2_0 ++ dktX3_input_2_1
theorem dksX3_input_2_0 : cX3_input_2.data.toList.drop 0 = dktX3_input_2_0 := by decide +kernel
theorem dksX3_input_2_1 : cX3_input_2.data.toList.drop 23 = dktX3_input_2_1 := dk_seg dksX3_input_2_0 23 rfl rfl
theorem dksX3_input_2_2 : cX3_input_2.data.toList.drop 47 = dktX3_input_2_2 := dk_seg dksX3_input_2_1 24 rfl rfl
theorem dX3_input_2_0 : decode cX3_input_2 0 = .ok (.iconst 0, 1) := dk_3 (dk_at dksX3_input_2_0 0 rfl rfl)
theorem dX3_input_2_1 : decode cX3_input_2 1 = .ok (.istore_n 2, 1) := dk_61 (dk_at dksX3_input_2_0 1 rfl rfl)
theorem dX3_input_2_2 : decode cX3_input_2 2 = .ok (.iconst 0, 1) := dk_3 (dk_at dksX3_input_2_0 2 rfl rfl)
theorem dX3_input_2_3 : decode cX3_input_2 3 = .ok (.istore_n 3, 1) := dk_62 (dk_at dksX3_input_2_0 3 rfl rfl)
theorem dX3_input_2_4 : decode cX3_input_2 4 = .ok (.iload_n 3, 1) := dk_29 (dk_at dksX3_input_2_0 4 rfl rfl)
theorem dX3_input_2_5 : decode cX3_input_2 5 = .ok (.aload_n 0, 1) := dk_42 (dk_at dksX3_input_2_0 5 rfl rfl)
theorem dX3_input_2_6 : decode cX3_input_2 6 = .ok (.getfield 12, 3) := dk_180 0 12 (dk_at dksX3_input_2_0 6 rfl rfl)
theorem dX3_input_2_9 : decode cX3_input_2 9 = .ok (.invokevirtual 36, 3) := dk_182 0 36 (dk_at dksX3_input_2_0 9 rfl rfl)
theorem dX3_input_2_12 : decode cX3_input_2 12 = .ok (.if_icmp .ge 44, 3) := dk_162 0 44 (dk_at dksX3_input_2_0 12 rfl rfl)
theorem dX3_input_2_15 : decode cX3_input_2 15 = .ok (.aload_n 0, 1) := dk_42 (dk_at dksX3_input_2_0 15 rfl rfl)
theorem dX3_input_2_16 : decode cX3_input_2 16 = .ok (.getfield 12, 3) := dk_180 0 12 (dk_at dksX3_input_2_0 16 rfl rfl)
theorem dX3_input_2_19 : decode cX3_input_2 19 = .ok (.iload_n 3, 1) := dk_29 (dk_at dksX3_input_2_0 19 rfl rfl)
theorem dX3_input_2_20 : decode cX3_input_2 20 = .ok (.invokevirtual 40, 3) := dk_182 0 40 (dk_at dksX3_input_2_0 20 rfl rfl)
theorem dX3_input_2_23 : decode cX3_input_2 23 = .ok (.checkcast 44, 3) := dk_192 0 44 (dk_at dksX3_input_2_1 0 rfl rfl)
theorem dX3_input_2_26 : decode cX3_input_2 26 = .ok (.astore 4, 2) := dk_58 4 (dk_at dksX3_input_2_1 3 rfl rfl)
theorem dX3_input_2_28 : decode cX3_input_2 28 = .ok (.iload_n 2, 1) := dk_28 (dk_at dksX3_input_2_1 5 rfl rfl)
theorem dX3_input_2_29 : decode cX3_input_2 29 = .ok (.aload 4, 2) := dk_25 4 (dk_at dksX3_input_2_1 6 rfl rfl)
theorem dX3_input_2_31 : decode cX3_input_2 31 = .ok (.getfield 46, 3) := dk_180 0 46 (dk_at dksX3_input_2_1 8 rfl rfl)
theorem dX3_input_2_34 : decode cX3_input_2 34 = .ok (.getfield 18, 3) := dk_180 0 18 (dk_at dksX3_input_2_1 11 rfl rfl)
theorem dX3_input_2_37 : decode cX3_input_2 37 = .ok (.iload_n 1, 1) := dk_27 (dk_at dksX3_input_2_1 14 rfl rfl)
theorem dX3_input_2_38 : decode cX3_input_2 38 = .ok (.iaload, 1) := dk_46 (dk_at dksX3_input_2_1 15 rfl rfl)
theorem dX3_input_2_39 : decode cX3_input_2 39 = .ok (.aload 4, 2) := dk_25 4 (dk_at dksX3_input_2_1 16 rfl rfl)
theorem dX3_input_2_41 : decode cX3_input_2 41 = .ok (.getfield 53, 3) := dk_180 0 53 (dk_at dksX3_input_2_1 18 rfl rfl)
theorem dX3_input_2_44 : decode cX3_input_2 44 = .ok (.imul, 1) := dk_104 (dk_at dksX3_input_2_1 21 rfl rfl)
theorem dX3_input_2_45 : decode cX3_input_2 45 = .ok (.bipush 100, 2) := dk_16 100 (dk_at dksX3_input_2_1 22 rfl rfl)
theorem dX3_input_2_47 : decode cX3_input_2 47 = .ok (.idiv, 1) := dk_108 (dk_at dksX3_input_2_2 0 rfl rfl)
theorem dX3_input_2_48 : decode cX3_input_2 48 = .ok (.iadd, 1) := dk_96 (dk_at dksX3_input_2_2 1 rfl rfl)
theorem dX3_input_2_49 : decode cX3_input_2 49 = .ok (.istore_n 2, 1) := dk_61 (dk_at dksX3_input_2_2 2 rfl rfl)
theorem dX3_input_2_50 : decode cX3_input_2 50 = .ok (.iinc 3 1, 3) := dk_132 3 1 (dk_at dksX3_input_2_2 3 rfl rfl)
theorem dX3_input_2_53 : decode cX3_input_2 53 = .ok (.goto (-49), 3) := dk_167 255 207 (dk_at dksX3_input_2_2 6 rfl rfl)
theorem dX3_input_2_56 : decode cX3_input_2 56 = .ok (.iload_n 2, 1) := dk_28 (dk_at dksX3_input_2_2 9 rfl rfl)
theorem dX3_input_2_57 : decode cX3_input_2 57 = .ok (.ireturn, 1) := dk_172 (dk_at dksX3_input_2_2 10 rfl rfl)
abbrev cX3_takeIn_2 : ByteArray := prog_9_method_9_code
def yX3_takeIn_2 : MethodName := ⟨RX3, "takeIn", "(I)V"⟩
theorem dX3_takeIn_2_0 : decode cX3_takeIn_2 0 = .ok (.return_, 1) := by decide +kernel
abbrev cX3_wireFrom : ByteArray := prog_9_method_12_code
def yX3_wireFrom : MethodName := ⟨RX3, "wireFrom", "(LToneGraph$Node;)LToneGraph$Wire;"⟩
def dkwX3_wireFrom_2 : List UInt8 := [167, 255, 212, 1, 176]
abbrev dktX3_wireFrom_2 : List UInt8 := dkwX3_wireFrom_2 ++ []
def dkwX3_wireFrom_1 : List UInt8 := [180, 0, 46, 43, 166, 0, 15, 42, 180, 0, 12, 28, 182, 0, 40, 192, 0, 44, 176, 132, 2, 1]
abbrev dktX3_wireFrom_1 : List UInt8 := dkwX3_wireFrom_1 ++ dktX3_wireFrom_2
def dkwX3_wireFrom_0 : List UInt8 := [3, 61, 28, 42, 180, 0, 12, 182, 0, 36, 162, 0, 39, 42, 180, 0, 12, 28, 182, 0, 40, 192, 0, 44]
abbrev dktX3_wireFrom_0 : List UInt8 := dkwX3_wireFrom_0 ++ dktX3_wireFrom_1
theorem dksX3_wireFrom_0 : cX3_wireFrom.data.toList.drop 0 = dktX3_wireFrom_0 := by decide +kernel
theorem dksX3_wireFrom_1 : cX3_wireFrom.data.toList.drop 24 = dktX3_wireFrom_1 := dk_seg dksX3_wireFrom_0 24 rfl rfl
theorem dksX3_wireFrom_2 : cX3_wireFrom.data.toList.drop 46 = dktX3_wireFrom_2 := dk_seg dksX3_wireFrom_1 22 rfl rfl
theorem dX3_wireFrom_0 : decode cX3_wireFrom 0 = .ok (.iconst 0, 1) := dk_3 (dk_at dksX3_wireFrom_0 0 rfl rfl)
theorem dX3_wireFrom_1 : decode cX3_wireFrom 1 = .ok (.istore_n 2, 1) := dk_61 (dk_at dksX3_wireFrom_0 1 rfl rfl)
theorem dX3_wireFrom_2 : decode cX3_wireFrom 2 = .ok (.iload_n 2, 1) := dk_28 (dk_at dksX3_wireFrom_0 2 rfl rfl)
theorem dX3_wireFrom_3 : decode cX3_wireFrom 3 = .ok (.aload_n 0, 1) := dk_42 (dk_at dksX3_wireFrom_0 3 rfl rfl)
theorem dX3_wireFrom_4 : decode cX3_wireFrom 4 = .ok (.getfield 12, 3) := dk_180 0 12 (dk_at dksX3_wireFrom_0 4 rfl rfl)
theorem dX3_wireFrom_7 : decode cX3_wireFrom 7 = .ok (.invokevirtual 36, 3) := dk_182 0 36 (dk_at dksX3_wireFrom_0 7 rfl rfl)
theorem dX3_wireFrom_10 : decode cX3_wireFrom 10 = .ok (.if_icmp .ge 39, 3) := dk_162 0 39 (dk_at dksX3_wireFrom_0 10 rfl rfl)
theorem dX3_wireFrom_13 : decode cX3_wireFrom 13 = .ok (.aload_n 0, 1) := dk_42 (dk_at dksX3_wireFrom_0 13 rfl rfl)
theorem dX3_wireFrom_14 : decode cX3_wireFrom 14 = .ok (.getfield 12, 3) := dk_180 0 12 (dk_at dksX3_wireFrom_0 14 rfl rfl)
theorem dX3_wireFrom_17 : decode cX3_wireFrom 17 = .ok (.iload_n 2, 1) := dk_28 (dk_at dksX3_wireFrom_0 17 rfl rfl)
theorem dX3_wireFrom_18 : decode cX3_wireFrom 18 = .ok (.invokevirtual 40, 3) := dk_182 0 40 (dk_at dksX3_wireFrom_0 18 rfl rfl)
theorem dX3_wireFrom_21 : decode cX3_wireFrom 21 = .ok (.checkcast 44, 3) := dk_192 0 44 (dk_at dksX3_wireFrom_0 21 rfl rfl)
theorem dX3_wireFrom_24 : decode cX3_wireFrom 24 = .ok (.getfield 46, 3) := dk_180 0 46 (dk_at dksX3_wireFrom_1 0 rfl rfl)
theorem dX3_wireFrom_27 : decode cX3_wireFrom 27 = .ok (.aload_n 1, 1) := dk_43 (dk_at dksX3_wireFrom_1 3 rfl rfl)
theorem dX3_wireFrom_28 : decode cX3_wireFrom 28 = .ok (.if_acmp .ne 15, 3) := dk_166 0 15 (dk_at dksX3_wireFrom_1 4 rfl rfl)
theorem dX3_wireFrom_31 : decode cX3_wireFrom 31 = .ok (.aload_n 0, 1) := dk_42 (dk_at dksX3_wireFrom_1 7 rfl rfl)
theorem dX3_wireFrom_32 : decode cX3_wireFrom 32 = .ok (.getfield 12, 3) := dk_180 0 12 (dk_at dksX3_wireFrom_1 8 rfl rfl)
theorem dX3_wireFrom_35 : decode cX3_wireFrom 35 = .ok (.iload_n 2, 1) := dk_28 (dk_at dksX3_wireFrom_1 11 rfl rfl)
theorem dX3_wireFrom_36 : decode cX3_wireFrom 36 = .ok (.invokevirtual 40, 3) := dk_182 0 40 (dk_at dksX3_wireFrom_1 12 rfl rfl)
theorem dX3_wireFrom_39 : decode cX3_wireFrom 39 = .ok (.checkcast 44, 3) := dk_192 0 44 (dk_at dksX3_wireFrom_1 15 rfl rfl)
theorem dX3_wireFrom_42 : decode cX3_wireFrom 42 = .ok (.areturn, 1) := dk_176 (dk_at dksX3_wireFrom_1 18 rfl rfl)
theorem dX3_wireFrom_43 : decode cX3_wireFrom 43 = .ok (.iinc 2 1, 3) := dk_132 2 1 (dk_at dksX3_wireFrom_1 19 rfl rfl)
theorem dX3_wireFrom_46 : decode cX3_wireFrom 46 = .ok (.goto (-44), 3) := dk_167 255 212 (dk_at dksX3_wireFrom_2 0 rfl rfl)
theorem dX3_wireFrom_49 : decode cX3_wireFrom 49 = .ok (.aconst_null, 1) := dk_1 (dk_at dksX3_wireFrom_2 3 rfl rfl)
theorem dX3_wireFrom_50 : decode cX3_wireFrom 50 = .ok (.areturn, 1) := dk_176 (dk_at dksX3_wireFrom_2 4 rfl rfl)
abbrev cX3_follows : ByteArray := prog_9_method_13_code
def yX3_follows : MethodName := ⟨RX3, "follows", "(LToneGraph$Node;)Z"⟩
def dkwX3_follows_2 : List UInt8 := [180, 0, 46, 43, 182, 0, 81, 61, 132, 3, 1, 167, 255, 212, 28, 172]
abbrev dktX3_follows_2 : List UInt8 := dkwX3_follows_2 ++ []
def dkwX3_follows_1 : List UInt8 := [42, 182, 0, 77, 154, 0, 32, 28, 154, 0, 28, 42, 180, 0, 12, 29, 182, 0, 40, 192, 0, 44]
abbrev dktX3_follows_1 : List UInt8 := dkwX3_follows_1 ++ dktX3_follows_2
def dkwX3_follows_0 : List UInt8 := [42, 43, 166, 0, 7, 4, 167, 0, 4, 3, 61, 3, 62, 29, 42, 180, 0, 12, 182, 0, 36, 162, 0, 39]
abbrev dktX3_follows_0 : List UInt8 := dkwX3_follows_0 ++ dktX3_follows_1
theorem dksX3_follows_0 : cX3_follows.data.toList.drop 0 = dktX3_follows_0 := by decide +kernel
theorem dksX3_follows_1 : cX3_follows.data.toList.drop 24 = dktX3_follows_1 := dk_seg dksX3_follows_0 24 rfl rfl
theorem dksX3_follows_2 : cX3_follows.data.toList.drop 46 = dktX3_follows_2 := dk_seg dksX3_follows_1 22 rfl rfl
theorem dX3_follows_0 : decode cX3_follows 0 = .ok (.aload_n 0, 1) := dk_42 (dk_at dksX3_follows_0 0 rfl rfl)
theorem dX3_follows_1 : decode cX3_follows 1 = .ok (.aload_n 1, 1) := dk_43 (dk_at dksX3_follows_0 1 rfl rfl)
theorem dX3_follows_2 : decode cX3_follows 2 = .ok (.if_acmp .ne 7, 3) := dk_166 0 7 (dk_at dksX3_follows_0 2 rfl rfl)
theorem dX3_follows_5 : decode cX3_follows 5 = .ok (.iconst 1, 1) := dk_4 (dk_at dksX3_follows_0 5 rfl rfl)
theorem dX3_follows_6 : decode cX3_follows 6 = .ok (.goto 4, 3) := dk_167 0 4 (dk_at dksX3_follows_0 6 rfl rfl)
theorem dX3_follows_9 : decode cX3_follows 9 = .ok (.iconst 0, 1) := dk_3 (dk_at dksX3_follows_0 9 rfl rfl)
theorem dX3_follows_10 : decode cX3_follows 10 = .ok (.istore_n 2, 1) := dk_61 (dk_at dksX3_follows_0 10 rfl rfl)
theorem dX3_follows_11 : decode cX3_follows 11 = .ok (.iconst 0, 1) := dk_3 (dk_at dksX3_follows_0 11 rfl rfl)
theorem dX3_follows_12 : decode cX3_follows 12 = .ok (.istore_n 3, 1) := dk_62 (dk_at dksX3_follows_0 12 rfl rfl)
theorem dX3_follows_13 : decode cX3_follows 13 = .ok (.iload_n 3, 1) := dk_29 (dk_at dksX3_follows_0 13 rfl rfl)
theorem dX3_follows_14 : decode cX3_follows 14 = .ok (.aload_n 0, 1) := dk_42 (dk_at dksX3_follows_0 14 rfl rfl)
theorem dX3_follows_15 : decode cX3_follows 15 = .ok (.getfield 12, 3) := dk_180 0 12 (dk_at dksX3_follows_0 15 rfl rfl)
theorem dX3_follows_18 : decode cX3_follows 18 = .ok (.invokevirtual 36, 3) := dk_182 0 36 (dk_at dksX3_follows_0 18 rfl rfl)
theorem dX3_follows_21 : decode cX3_follows 21 = .ok (.if_icmp .ge 39, 3) := dk_162 0 39 (dk_at dksX3_follows_0 21 rfl rfl)
theorem dX3_follows_24 : decode cX3_follows 24 = .ok (.aload_n 0, 1) := dk_42 (dk_at dksX3_follows_1 0 rfl rfl)
theorem dX3_follows_25 : decode cX3_follows 25 = .ok (.invokevirtual 77, 3) := dk_182 0 77 (dk_at dksX3_follows_1 1 rfl rfl)
theorem dX3_follows_28 : decode cX3_follows 28 = .ok (.ifCond .ne 32, 3) := dk_154 0 32 (dk_at dksX3_follows_1 4 rfl rfl)
theorem dX3_follows_31 : decode cX3_follows 31 = .ok (.iload_n 2, 1) := dk_28 (dk_at dksX3_follows_1 7 rfl rfl)
theorem dX3_follows_32 : decode cX3_follows 32 = .ok (.ifCond .ne 28, 3) := dk_154 0 28 (dk_at dksX3_follows_1 8 rfl rfl)
theorem dX3_follows_35 : decode cX3_follows 35 = .ok (.aload_n 0, 1) := dk_42 (dk_at dksX3_follows_1 11 rfl rfl)
theorem dX3_follows_36 : decode cX3_follows 36 = .ok (.getfield 12, 3) := dk_180 0 12 (dk_at dksX3_follows_1 12 rfl rfl)
theorem dX3_follows_39 : decode cX3_follows 39 = .ok (.iload_n 3, 1) := dk_29 (dk_at dksX3_follows_1 15 rfl rfl)
theorem dX3_follows_40 : decode cX3_follows 40 = .ok (.invokevirtual 40, 3) := dk_182 0 40 (dk_at dksX3_follows_1 16 rfl rfl)
theorem dX3_follows_43 : decode cX3_follows 43 = .ok (.checkcast 44, 3) := dk_192 0 44 (dk_at dksX3_follows_1 19 rfl rfl)
theorem dX3_follows_46 : decode cX3_follows 46 = .ok (.getfield 46, 3) := dk_180 0 46 (dk_at dksX3_follows_2 0 rfl rfl)
theorem dX3_follows_49 : decode cX3_follows 49 = .ok (.aload_n 1, 1) := dk_43 (dk_at dksX3_follows_2 3 rfl rfl)
theorem dX3_follows_50 : decode cX3_follows 50 = .ok (.invokevirtual 81, 3) := dk_182 0 81 (dk_at dksX3_follows_2 4 rfl rfl)
theorem dX3_follows_53 : decode cX3_follows 53 = .ok (.istore_n 2, 1) := dk_61 (dk_at dksX3_follows_2 7 rfl rfl)
theorem dX3_follows_54 : decode cX3_follows 54 = .ok (.iinc 3 1, 3) := dk_132 3 1 (dk_at dksX3_follows_2 8 rfl rfl)
theorem dX3_follows_57 : decode cX3_follows 57 = .ok (.goto (-44), 3) := dk_167 255 212 (dk_at dksX3_follows_2 11 rfl rfl)
theorem dX3_follows_60 : decode cX3_follows 60 = .ok (.iload_n 2, 1) := dk_28 (dk_at dksX3_follows_2 14 rfl rfl)
theorem dX3_follows_61 : decode cX3_follows 61 = .ok (.ireturn, 1) := dk_172 (dk_at dksX3_follows_2 15 rfl rfl)
theorem q58 : (Jvm.Cond.initialized "ToneGraph$Node") ∈ lw_all := lw_g (lw_at lw_m1 6 rfl) rfl
theorem q152 : (Jvm.Cond.instanceMethod ({ cls := "ToneGraph$Node", name := "<init>", desc := "(IC[I)V" } : Jvm.MethodName)) ∈ lw_all := lw_g (lw_at lw_m1 100 rfl) rfl
theorem q153 : (Jvm.Cond.code ({ cls := "ToneGraph$Node", name := "<init>", desc := "(IC[I)V" } : Jvm.MethodName) prog_9_method_1_code (4 : Nat) (Option.none : Option Jvm.ClassFile.FieldType)) ∈ lw_all := lw_g (lw_at lw_m1 101 rfl) rfl
theorem q154 : (Jvm.Cond.methodLink "ToneGraph$Node" (3 : Nat) ({ cls := "java/lang/Object", name := "<init>", desc := "()V" } : Jvm.MethodName)) ∈ lw_all := lw_g (lw_at lw_m1 102 rfl) rfl
theorem q155 : (Jvm.Cond.classLink "ToneGraph$Node" (9 : Nat) "java/util/ArrayList") ∈ lw_all := lw_g (lw_at lw_m1 103 rfl) rfl
theorem q156 : (Jvm.Cond.methodLink "ToneGraph$Node" (11 : Nat) ({ cls := "java/util/ArrayList", name := "<init>", desc := "()V" } : Jvm.MethodName)) ∈ lw_all := lw_g (lw_at lw_m1 104 rfl) rfl
theorem q210 : (Jvm.Cond.fieldLink "ToneGraph$Node" (22 : Nat) "ToneGraph$Node" "number" "I") ∈ lw_all := lw_g (lw_at lw_m1 158 rfl) rfl
theorem q212 : (Jvm.Cond.fieldLink "ToneGraph$Node" (26 : Nat) "ToneGraph$Node" "kind" "C") ∈ lw_all := lw_g (lw_at lw_m1 160 rfl) rfl
theorem q214 : (Jvm.Cond.fieldLink "ToneGraph$Node" (12 : Nat) "ToneGraph$Node" "wires" "Ljava/util/ArrayList;") ∈ lw_all := lw_g (lw_at lw_m1 162 rfl) rfl
theorem q216 : (Jvm.Cond.fieldLink "ToneGraph$Node" (18 : Nat) "ToneGraph$Node" "row" "[I") ∈ lw_all := lw_g (lw_at lw_m1 164 rfl) rfl
theorem q220 : (Jvm.Cond.fieldLink "ToneGraph$Node" (50 : Nat) "ToneGraph$Node" "now" "I") ∈ lw_all := lw_g (lw_at lw_m1 168 rfl) rfl
theorem q224 : (Jvm.Cond.fieldLink "ToneGraph$Node" (68 : Nat) "ToneGraph$Node" "nowKept" "I") ∈ lw_all := lw_g (lw_at lw_m1 172 rfl) rfl
theorem q225 : (Jvm.Cond.fieldLink "ToneGraph$Node" (30 : Nat) "ToneGraph$Node" "numbers" "[I") ∈ lw_all := lw_g (lw_at lw_m1 173 rfl) rfl
theorem q228 : (Jvm.Cond.fieldLink "ToneGraph$Node" (33 : Nat) "ToneGraph$Node" "numbersKept" "[I") ∈ lw_all := lw_g (lw_at lw_m1 176 rfl) rfl
theorem q233 : (Jvm.Cond.soleField "ToneGraph$Node" "number") ∈ lw_all := lw_g (lw_at lw_m1 181 rfl) rfl
theorem q235 : (Jvm.Cond.soleField "ToneGraph$Node" "kind") ∈ lw_all := lw_g (lw_at lw_m1 183 rfl) rfl
theorem q237 : (Jvm.Cond.soleField "ToneGraph$Node" "wires") ∈ lw_all := lw_g (lw_at lw_m1 185 rfl) rfl
theorem q239 : (Jvm.Cond.soleField "ToneGraph$Node" "row") ∈ lw_all := lw_g (lw_at lw_m1 187 rfl) rfl
theorem q241 : (Jvm.Cond.soleField "ToneGraph$Node" "now") ∈ lw_all := lw_g (lw_at lw_m1 189 rfl) rfl
theorem q243 : (Jvm.Cond.soleField "ToneGraph$Node" "nowKept") ∈ lw_all := lw_g (lw_at lw_m1 191 rfl) rfl
theorem q245 : (Jvm.Cond.soleField "ToneGraph$Node" "numbers") ∈ lw_all := lw_g (lw_at lw_m1 193 rfl) rfl
theorem q247 : (Jvm.Cond.soleField "ToneGraph$Node" "numbersKept") ∈ lw_all := lw_g (lw_at lw_m1 195 rfl) rfl
theorem q249 : (Jvm.Cond.soleField "ToneGraph$Node" "placed") ∈ lw_all := lw_g (lw_at lw_m1 197 rfl) rfl
theorem q384 : (Jvm.Cond.instanceMethod ({ cls := "ToneGraph$Node", name := "isDelay", desc := "()Z" } : Jvm.MethodName)) ∈ lw_all := lw_g (lw_at lw_m2 92 rfl) rfl
theorem q385 : (Jvm.Cond.sameMethod "ToneGraph$Node" "ToneGraph$Node" "isDelay" "()Z") ∈ lw_all := lw_g (lw_at lw_m2 93 rfl) rfl
theorem q393 : (Jvm.Cond.code ({ cls := "ToneGraph$Node", name := "isDelay", desc := "()Z" } : Jvm.MethodName) prog_9_method_5_code (1 : Nat) (Option.some Jvm.ClassFile.FieldType.boolean)) ∈ lw_all := lw_g (lw_at lw_m2 101 rfl) rfl
theorem q425 : (Jvm.Cond.instanceMethod ({ cls := "ToneGraph$Node", name := "tick", desc := "()V" } : Jvm.MethodName)) ∈ lw_all := lw_g (lw_at lw_m2 133 rfl) rfl
theorem q426 : (Jvm.Cond.sameMethod "ToneGraph$Node" "ToneGraph$Node" "tick" "()V") ∈ lw_all := lw_g (lw_at lw_m2 134 rfl) rfl
theorem q432 : (Jvm.Cond.code ({ cls := "ToneGraph$Node", name := "tick", desc := "()V" } : Jvm.MethodName) prog_9_method_6_code (1 : Nat) (Option.none : Option Jvm.ClassFile.FieldType)) ∈ lw_all := lw_g (lw_at lw_m2 140 rfl) rfl
theorem q433 : (Jvm.Cond.methodLink "ToneGraph$Node" (56 : Nat) ({ cls := "ToneGraph$Node", name := "input", desc := "()I" } : Jvm.MethodName)) ∈ lw_all := lw_g (lw_at lw_m2 141 rfl) rfl
theorem q434 : (Jvm.Cond.instanceMethod ({ cls := "ToneGraph$Node", name := "input", desc := "()I" } : Jvm.MethodName)) ∈ lw_all := lw_g (lw_at lw_m2 142 rfl) rfl
theorem q435 : (Jvm.Cond.sameMethod "ToneGraph$Node" "ToneGraph$Node" "input" "()I") ∈ lw_all := lw_g (lw_at lw_m2 143 rfl) rfl
theorem q441 : (Jvm.Cond.code ({ cls := "ToneGraph$Node", name := "input", desc := "()I" } : Jvm.MethodName) prog_9_method_2_code (4 : Nat) (Option.some Jvm.ClassFile.FieldType.int)) ∈ lw_all := lw_g (lw_at lw_m2 149 rfl) rfl
theorem q442 : (Jvm.Cond.methodLink "ToneGraph$Node" (36 : Nat) ({ cls := "java/util/ArrayList", name := "size", desc := "()I" } : Jvm.MethodName)) ∈ lw_all := lw_g (lw_at lw_m2 150 rfl) rfl
theorem q443 : (Jvm.Cond.methodLink "ToneGraph$Node" (40 : Nat) ({ cls := "java/util/ArrayList", name := "get", desc := "(I)Ljava/lang/Object;" } : Jvm.MethodName)) ∈ lw_all := lw_g (lw_at lw_m2 151 rfl) rfl
theorem q444 : (Jvm.Cond.classLink "ToneGraph$Node" (44 : Nat) "ToneGraph$Wire") ∈ lw_all := lw_g (lw_at lw_m2 152 rfl) rfl
theorem q445 : (Jvm.Cond.methodLink "ToneGraph$Node" (59 : Nat) ({ cls := "ToneGraph$Node", name := "made", desc := "(I)I" } : Jvm.MethodName)) ∈ lw_all := lw_g (lw_at lw_m2 153 rfl) rfl
theorem q446 : (Jvm.Cond.declares ({ cls := "ToneGraph$Node", name := "made", desc := "(I)I" } : Jvm.MethodName)) ∈ lw_tbl := lw_at lw_m2 154 rfl
theorem q447 : (Jvm.Cond.sameMethod "ToneGraph$Node" "ToneGraph$Node" "made" "(I)I") ∈ lw_all := lw_g (lw_at lw_m2 155 rfl) rfl
theorem q493 : (Jvm.Cond.methodLinkNest "ToneGraph$Node" (63 : Nat) ({ cls := "ToneGraph", name := "cut", desc := "(I)I" } : Jvm.MethodName) "ToneGraph") ∈ lw_tbl := lw_at lw_m2 201 rfl
theorem q495 : (Jvm.Cond.instanceMethod ({ cls := "ToneGraph$Node", name := "takeIn", desc := "()V" } : Jvm.MethodName)) ∈ lw_all := lw_g (lw_at lw_m2 203 rfl) rfl
theorem q496 : (Jvm.Cond.sameMethod "ToneGraph$Node" "ToneGraph$Node" "takeIn" "()V") ∈ lw_all := lw_g (lw_at lw_m2 204 rfl) rfl
theorem q504 : (Jvm.Cond.declares ({ cls := "ToneGraph$Node", name := "input", desc := "()I" } : Jvm.MethodName)) ∈ lw_tbl := lw_at lw_m2 212 rfl
theorem q514 : (Jvm.Cond.code ({ cls := "ToneGraph$Node", name := "takeIn", desc := "()V" } : Jvm.MethodName) prog_9_method_8_code (1 : Nat) (Option.none : Option Jvm.ClassFile.FieldType)) ∈ lw_all := lw_g (lw_at lw_m2 222 rfl) rfl
theorem q625 : (Jvm.Cond.instanceMethod ({ cls := "ToneGraph$Node", name := "keep", desc := "()V" } : Jvm.MethodName)) ∈ lw_all := lw_g (lw_at lw_m3 93 rfl) rfl
theorem q626 : (Jvm.Cond.sameMethod "ToneGraph$Node" "ToneGraph$Node" "keep" "()V") ∈ lw_all := lw_g (lw_at lw_m3 94 rfl) rfl
theorem q632 : (Jvm.Cond.code ({ cls := "ToneGraph$Node", name := "keep", desc := "()V" } : Jvm.MethodName) prog_9_method_10_code (1 : Nat) (Option.none : Option Jvm.ClassFile.FieldType)) ∈ lw_all := lw_g (lw_at lw_m3 100 rfl) rfl
theorem q633 : (Jvm.Cond.methodLink "ToneGraph$Node" (71 : Nat) ({ cls := "java/lang/System", name := "arraycopy", desc := "(Ljava/lang/Object;ILjava/lang/Object;II)V" } : Jvm.MethodName)) ∈ lw_all := lw_g (lw_at lw_m3 101 rfl) rfl
theorem q646 : (Jvm.Cond.instanceMethod ({ cls := "ToneGraph$Node", name := "takeBack", desc := "()V" } : Jvm.MethodName)) ∈ lw_all := lw_g (lw_at lw_m3 114 rfl) rfl
theorem q647 : (Jvm.Cond.sameMethod "ToneGraph$Node" "ToneGraph$Node" "takeBack" "()V") ∈ lw_all := lw_g (lw_at lw_m3 115 rfl) rfl
theorem q653 : (Jvm.Cond.code ({ cls := "ToneGraph$Node", name := "takeBack", desc := "()V" } : Jvm.MethodName) prog_9_method_11_code (1 : Nat) (Option.none : Option Jvm.ClassFile.FieldType)) ∈ lw_all := lw_g (lw_at lw_m3 121 rfl) rfl
theorem q671 : (Jvm.Cond.instanceMethod ({ cls := "ToneGraph$Node", name := "fill", desc := "(I)V" } : Jvm.MethodName)) ∈ lw_all := lw_g (lw_at lw_m3 139 rfl) rfl
theorem q672 : (Jvm.Cond.sameMethod "ToneGraph$Node" "ToneGraph$Node" "fill" "(I)V") ∈ lw_all := lw_g (lw_at lw_m3 140 rfl) rfl
theorem q694 : (Jvm.Cond.code ({ cls := "ToneGraph$Node", name := "fill", desc := "(I)V" } : Jvm.MethodName) prog_9_method_7_code (3 : Nat) (Option.none : Option Jvm.ClassFile.FieldType)) ∈ lw_all := lw_g (lw_at lw_m3 162 rfl) rfl
theorem q695 : (Jvm.Cond.methodLink "ToneGraph$Node" (66 : Nat) ({ cls := "ToneGraph$Node", name := "input", desc := "(I)I" } : Jvm.MethodName)) ∈ lw_all := lw_g (lw_at lw_m3 163 rfl) rfl
theorem q696 : (Jvm.Cond.instanceMethod ({ cls := "ToneGraph$Node", name := "input", desc := "(I)I" } : Jvm.MethodName)) ∈ lw_all := lw_g (lw_at lw_m3 164 rfl) rfl
theorem q697 : (Jvm.Cond.sameMethod "ToneGraph$Node" "ToneGraph$Node" "input" "(I)I") ∈ lw_all := lw_g (lw_at lw_m3 165 rfl) rfl
theorem q703 : (Jvm.Cond.code ({ cls := "ToneGraph$Node", name := "input", desc := "(I)I" } : Jvm.MethodName) prog_9_method_3_code (5 : Nat) (Option.some Jvm.ClassFile.FieldType.int)) ∈ lw_all := lw_g (lw_at lw_m3 171 rfl) rfl
theorem q705 : (Jvm.Cond.instanceMethod ({ cls := "ToneGraph$Node", name := "takeIn", desc := "(I)V" } : Jvm.MethodName)) ∈ lw_all := lw_g (lw_at lw_m3 173 rfl) rfl
theorem q706 : (Jvm.Cond.sameMethod "ToneGraph$Node" "ToneGraph$Node" "takeIn" "(I)V") ∈ lw_all := lw_g (lw_at lw_m3 174 rfl) rfl
theorem q714 : (Jvm.Cond.declares ({ cls := "ToneGraph$Node", name := "input", desc := "(I)I" } : Jvm.MethodName)) ∈ lw_tbl := lw_at lw_m3 182 rfl
theorem q718 : (Jvm.Cond.code ({ cls := "ToneGraph$Node", name := "takeIn", desc := "(I)V" } : Jvm.MethodName) prog_9_method_9_code (2 : Nat) (Option.none : Option Jvm.ClassFile.FieldType)) ∈ lw_all := lw_g (lw_at lw_m3 186 rfl) rfl
theorem q926 : (Jvm.Cond.instanceMethod ({ cls := "ToneGraph$Node", name := "wireFrom", desc := "(LToneGraph$Node;)LToneGraph$Wire;" } : Jvm.MethodName)) ∈ lw_all := lw_g (lw_at lw_m4 154 rfl) rfl
theorem q927 : (Jvm.Cond.sameMethod "ToneGraph$Node" "ToneGraph$Node" "wireFrom" "(LToneGraph$Node;)LToneGraph$Wire;") ∈ lw_all := lw_g (lw_at lw_m4 155 rfl) rfl
theorem q933 : (Jvm.Cond.code ({ cls := "ToneGraph$Node", name := "wireFrom", desc := "(LToneGraph$Node;)LToneGraph$Wire;" } : Jvm.MethodName) prog_9_method_12_code (3 : Nat) (Option.some (Jvm.ClassFile.FieldType.object "ToneGraph$Wire"))) ∈ lw_all := lw_g (lw_at lw_m4 161 rfl) rfl
theorem q935 : (Jvm.Cond.instanceMethod ({ cls := "ToneGraph$Node", name := "follows", desc := "(LToneGraph$Node;)Z" } : Jvm.MethodName)) ∈ lw_all := lw_g (lw_at lw_m4 163 rfl) rfl
theorem q936 : (Jvm.Cond.sameMethod "ToneGraph$Node" "ToneGraph$Node" "follows" "(LToneGraph$Node;)Z") ∈ lw_all := lw_g (lw_at lw_m4 164 rfl) rfl
theorem q942 : (Jvm.Cond.code ({ cls := "ToneGraph$Node", name := "follows", desc := "(LToneGraph$Node;)Z" } : Jvm.MethodName) prog_9_method_13_code (4 : Nat) (Option.some Jvm.ClassFile.FieldType.boolean)) ∈ lw_all := lw_g (lw_at lw_m4 170 rfl) rfl
theorem q943 : (Jvm.Cond.methodLink "ToneGraph$Node" (77 : Nat) ({ cls := "ToneGraph$Node", name := "isDelay", desc := "()Z" } : Jvm.MethodName)) ∈ lw_all := lw_g (lw_at lw_m4 171 rfl) rfl
theorem q944 : (Jvm.Cond.methodLink "ToneGraph$Node" (81 : Nat) ({ cls := "ToneGraph$Node", name := "follows", desc := "(LToneGraph$Node;)Z" } : Jvm.MethodName)) ∈ lw_all := lw_g (lw_at lw_m4 172 rfl) rfl
theorem q966 : (Jvm.Cond.fieldLinkNest "ToneGraph$Node" (46 : Nat) "ToneGraph$Wire" "from" "LToneGraph$Node;" "ToneGraph") ∈ lw_tbl := lw_at lw_m4 194 rfl
theorem q969 : (Jvm.Cond.fieldLinkNest "ToneGraph$Node" (53 : Nat) "ToneGraph$Wire" "percent" "I" "ToneGraph") ∈ lw_tbl := lw_at lw_m4 197 rfl

/-! ToneGraph$Chorus -/
set_option maxRecDepth 100000
def RX4 : String := "ToneGraph$Chorus"
def TX4 : u_T := fun k => match k with
  | 0 => ("ToneGraph$Node", "number", "I", true)
  | 1 => ("ToneGraph$Node", "kind", "C", true)
  | 2 => ("ToneGraph$Node", "wires", "Ljava/util/ArrayList;", true)
  | 3 => ("ToneGraph$Node", "row", "[I", true)
  | 4 => ("ToneGraph$Node", "now", "I", false)
  | 5 => ("ToneGraph$Node", "nowKept", "I", false)
  | 6 => ("ToneGraph$Node", "numbers", "[I", true)
  | 7 => ("ToneGraph$Node", "numbersKept", "[I", true)
  | 8 => ("ToneGraph$Node", "placed", "Z", false)
  | _ => ("ToneGraph$Chorus", "voices", "[LToneGraph$Voice;", true)
def tyX4 : Nat → FieldType := fun k => match k with
  | 0 => .int
  | 1 => .char
  | 2 => .object "java/util/ArrayList"
  | 3 => .array .int
  | 4 => .int
  | 5 => .int
  | 6 => .array .int
  | 7 => .array .int
  | 8 => .boolean
  | _ => .array (.object "ToneGraph$Voice")
abbrev wsX40 : List Cond := u_ws RX4 TX4 10
theorem nmX4 : ∀ a, a < 10 → ∀ b, b < 10 → a ≠ b → (TX4 a).2.1 ≠ (TX4 b).2.1 := by decide +kernel
theorem tyX4_ok : ∀ k, k < 10 → parseFieldDescriptor (TX4 k).2.2.1 = some (tyX4 k) := by decide +kernel
abbrev cX4_init : ByteArray := prog_4_method_1_code
def yX4_init : MethodName := ⟨RX4, "<init>", "()V"⟩
def dkwX4_init_1 : List UInt8 := [162, 0, 23, 42, 180, 0, 11, 27, 187, 0, 9, 89, 27, 183, 0, 17, 83, 132, 1, 1, 167, 255, 234, 177]
abbrev dktX4_init_1 : List UInt8 := dkwX4_init_1 ++ []
def dkwX4_init_0 : List UInt8 := [42, 3, 16, 118, 3, 188, 10, 183, 0, 3, 42, 7, 189, 0, 9, 181, 0, 11, 3, 60, 27, 7]
abbrev dktX4_init_0 : List UInt8 := dkwX4_init_0 ++ dktX4_init_1
theorem dksX4_init_0 : cX4_init.data.toList.drop 0 = dktX4_init_0 := by decide +kernel
theorem dksX4_init_1 : cX4_init.data.toList.drop 22 = dktX4_init_1 := dk_seg dksX4_init_0 22 rfl rfl
theorem dX4_init_0 : decode cX4_init 0 = .ok (.aload_n 0, 1) := dk_42 (dk_at dksX4_init_0 0 rfl rfl)
theorem dX4_init_1 : decode cX4_init 1 = .ok (.iconst 0, 1) := dk_3 (dk_at dksX4_init_0 1 rfl rfl)
theorem dX4_init_2 : decode cX4_init 2 = .ok (.bipush 118, 2) := dk_16 118 (dk_at dksX4_init_0 2 rfl rfl)
theorem dX4_init_4 : decode cX4_init 4 = .ok (.iconst 0, 1) := dk_3 (dk_at dksX4_init_0 4 rfl rfl)
theorem dX4_init_5 : decode cX4_init 5 = .ok (.newarray .int, 2) := dk_188_10 (dk_at dksX4_init_0 5 rfl rfl)
theorem dX4_init_7 : decode cX4_init 7 = .ok (.invokespecial 3, 3) := dk_183 0 3 (dk_at dksX4_init_0 7 rfl rfl)
theorem dX4_init_10 : decode cX4_init 10 = .ok (.aload_n 0, 1) := dk_42 (dk_at dksX4_init_0 10 rfl rfl)
theorem dX4_init_11 : decode cX4_init 11 = .ok (.iconst 4, 1) := dk_7 (dk_at dksX4_init_0 11 rfl rfl)
theorem dX4_init_12 : decode cX4_init 12 = .ok (.anewarray 9, 3) := dk_189 0 9 (dk_at dksX4_init_0 12 rfl rfl)
theorem dX4_init_15 : decode cX4_init 15 = .ok (.putfield 11, 3) := dk_181 0 11 (dk_at dksX4_init_0 15 rfl rfl)
theorem dX4_init_18 : decode cX4_init 18 = .ok (.iconst 0, 1) := dk_3 (dk_at dksX4_init_0 18 rfl rfl)
theorem dX4_init_19 : decode cX4_init 19 = .ok (.istore_n 1, 1) := dk_60 (dk_at dksX4_init_0 19 rfl rfl)
theorem dX4_init_20 : decode cX4_init 20 = .ok (.iload_n 1, 1) := dk_27 (dk_at dksX4_init_0 20 rfl rfl)
theorem dX4_init_21 : decode cX4_init 21 = .ok (.iconst 4, 1) := dk_7 (dk_at dksX4_init_0 21 rfl rfl)
theorem dX4_init_22 : decode cX4_init 22 = .ok (.if_icmp .ge 23, 3) := dk_162 0 23 (dk_at dksX4_init_1 0 rfl rfl)
theorem dX4_init_25 : decode cX4_init 25 = .ok (.aload_n 0, 1) := dk_42 (dk_at dksX4_init_1 3 rfl rfl)
theorem dX4_init_26 : decode cX4_init 26 = .ok (.getfield 11, 3) := dk_180 0 11 (dk_at dksX4_init_1 4 rfl rfl)
theorem dX4_init_29 : decode cX4_init 29 = .ok (.iload_n 1, 1) := dk_27 (dk_at dksX4_init_1 7 rfl rfl)
theorem dX4_init_30 : decode cX4_init 30 = .ok (.new 9, 3) := dk_187 0 9 (dk_at dksX4_init_1 8 rfl rfl)
theorem dX4_init_33 : decode cX4_init 33 = .ok (.dup, 1) := dk_89 (dk_at dksX4_init_1 11 rfl rfl)
theorem dX4_init_34 : decode cX4_init 34 = .ok (.iload_n 1, 1) := dk_27 (dk_at dksX4_init_1 12 rfl rfl)
theorem dX4_init_35 : decode cX4_init 35 = .ok (.invokespecial 17, 3) := dk_183 0 17 (dk_at dksX4_init_1 13 rfl rfl)
theorem dX4_init_38 : decode cX4_init 38 = .ok (.aastore, 1) := dk_83 (dk_at dksX4_init_1 16 rfl rfl)
theorem dX4_init_39 : decode cX4_init 39 = .ok (.iinc 1 1, 3) := dk_132 1 1 (dk_at dksX4_init_1 17 rfl rfl)
theorem dX4_init_42 : decode cX4_init 42 = .ok (.goto (-22), 3) := dk_167 255 234 (dk_at dksX4_init_1 20 rfl rfl)
theorem dX4_init_45 : decode cX4_init 45 = .ok (.return_, 1) := dk_177 (dk_at dksX4_init_1 23 rfl rfl)
abbrev cX4_made : ByteArray := prog_4_method_2_code
def yX4_made : MethodName := ⟨RX4, "made", "(I)I"⟩
def dkwX4_made_1 : List UInt8 := [167, 255, 236, 28, 172]
abbrev dktX4_made_1 : List UInt8 := dkwX4_made_1 ++ []
def dkwX4_made_0 : List UInt8 := [27, 61, 3, 62, 29, 7, 162, 0, 21, 28, 42, 180, 0, 11, 29, 50, 182, 0, 20, 96, 61, 132, 3, 1]
abbrev dktX4_made_0 : List UInt8 := dkwX4_made_0 ++ dktX4_made_1
theorem dksX4_made_0 : cX4_made.data.toList.drop 0 = dktX4_made_0 := by decide +kernel
theorem dksX4_made_1 : cX4_made.data.toList.drop 24 = dktX4_made_1 := dk_seg dksX4_made_0 24 rfl rfl
theorem dX4_made_0 : decode cX4_made 0 = .ok (.iload_n 1, 1) := dk_27 (dk_at dksX4_made_0 0 rfl rfl)
theorem dX4_made_1 : decode cX4_made 1 = .ok (.istore_n 2, 1) := dk_61 (dk_at dksX4_made_0 1 rfl rfl)
theorem dX4_made_2 : decode cX4_made 2 = .ok (.iconst 0, 1) := dk_3 (dk_at dksX4_made_0 2 rfl rfl)
theorem dX4_made_3 : decode cX4_made 3 = .ok (.istore_n 3, 1) := dk_62 (dk_at dksX4_made_0 3 rfl rfl)
theorem dX4_made_4 : decode cX4_made 4 = .ok (.iload_n 3, 1) := dk_29 (dk_at dksX4_made_0 4 rfl rfl)
theorem dX4_made_5 : decode cX4_made 5 = .ok (.iconst 4, 1) := dk_7 (dk_at dksX4_made_0 5 rfl rfl)
theorem dX4_made_6 : decode cX4_made 6 = .ok (.if_icmp .ge 21, 3) := dk_162 0 21 (dk_at dksX4_made_0 6 rfl rfl)
theorem dX4_made_9 : decode cX4_made 9 = .ok (.iload_n 2, 1) := dk_28 (dk_at dksX4_made_0 9 rfl rfl)
theorem dX4_made_10 : decode cX4_made 10 = .ok (.aload_n 0, 1) := dk_42 (dk_at dksX4_made_0 10 rfl rfl)
theorem dX4_made_11 : decode cX4_made 11 = .ok (.getfield 11, 3) := dk_180 0 11 (dk_at dksX4_made_0 11 rfl rfl)
theorem dX4_made_14 : decode cX4_made 14 = .ok (.iload_n 3, 1) := dk_29 (dk_at dksX4_made_0 14 rfl rfl)
theorem dX4_made_15 : decode cX4_made 15 = .ok (.aaload, 1) := dk_50 (dk_at dksX4_made_0 15 rfl rfl)
theorem dX4_made_16 : decode cX4_made 16 = .ok (.invokevirtual 20, 3) := dk_182 0 20 (dk_at dksX4_made_0 16 rfl rfl)
theorem dX4_made_19 : decode cX4_made 19 = .ok (.iadd, 1) := dk_96 (dk_at dksX4_made_0 19 rfl rfl)
theorem dX4_made_20 : decode cX4_made 20 = .ok (.istore_n 2, 1) := dk_61 (dk_at dksX4_made_0 20 rfl rfl)
theorem dX4_made_21 : decode cX4_made 21 = .ok (.iinc 3 1, 3) := dk_132 3 1 (dk_at dksX4_made_0 21 rfl rfl)
theorem dX4_made_24 : decode cX4_made 24 = .ok (.goto (-20), 3) := dk_167 255 236 (dk_at dksX4_made_1 0 rfl rfl)
theorem dX4_made_27 : decode cX4_made 27 = .ok (.iload_n 2, 1) := dk_28 (dk_at dksX4_made_1 3 rfl rfl)
theorem dX4_made_28 : decode cX4_made 28 = .ok (.ireturn, 1) := dk_172 (dk_at dksX4_made_1 4 rfl rfl)
abbrev cX4_keep : ByteArray := prog_4_method_4_code
def yX4_keep : MethodName := ⟨RX4, "keep", "()V"⟩
def dkwX4_keep_1 : List UInt8 := [167, 255, 239, 177]
abbrev dktX4_keep_1 : List UInt8 := dkwX4_keep_1 ++ []
def dkwX4_keep_0 : List UInt8 := [42, 183, 0, 36, 3, 60, 27, 7, 162, 0, 18, 42, 180, 0, 11, 27, 50, 182, 0, 40, 132, 1, 1]
abbrev dktX4_keep_0 : List UInt8 := dkwX4_keep_0 ++ dktX4_keep_1
theorem dksX4_keep_0 : cX4_keep.data.toList.drop 0 = dktX4_keep_0 := by decide +kernel
theorem dksX4_keep_1 : cX4_keep.data.toList.drop 23 = dktX4_keep_1 := dk_seg dksX4_keep_0 23 rfl rfl
theorem dX4_keep_0 : decode cX4_keep 0 = .ok (.aload_n 0, 1) := dk_42 (dk_at dksX4_keep_0 0 rfl rfl)
theorem dX4_keep_1 : decode cX4_keep 1 = .ok (.invokespecial 36, 3) := dk_183 0 36 (dk_at dksX4_keep_0 1 rfl rfl)
theorem dX4_keep_4 : decode cX4_keep 4 = .ok (.iconst 0, 1) := dk_3 (dk_at dksX4_keep_0 4 rfl rfl)
theorem dX4_keep_5 : decode cX4_keep 5 = .ok (.istore_n 1, 1) := dk_60 (dk_at dksX4_keep_0 5 rfl rfl)
theorem dX4_keep_6 : decode cX4_keep 6 = .ok (.iload_n 1, 1) := dk_27 (dk_at dksX4_keep_0 6 rfl rfl)
theorem dX4_keep_7 : decode cX4_keep 7 = .ok (.iconst 4, 1) := dk_7 (dk_at dksX4_keep_0 7 rfl rfl)
theorem dX4_keep_8 : decode cX4_keep 8 = .ok (.if_icmp .ge 18, 3) := dk_162 0 18 (dk_at dksX4_keep_0 8 rfl rfl)
theorem dX4_keep_11 : decode cX4_keep 11 = .ok (.aload_n 0, 1) := dk_42 (dk_at dksX4_keep_0 11 rfl rfl)
theorem dX4_keep_12 : decode cX4_keep 12 = .ok (.getfield 11, 3) := dk_180 0 11 (dk_at dksX4_keep_0 12 rfl rfl)
theorem dX4_keep_15 : decode cX4_keep 15 = .ok (.iload_n 1, 1) := dk_27 (dk_at dksX4_keep_0 15 rfl rfl)
theorem dX4_keep_16 : decode cX4_keep 16 = .ok (.aaload, 1) := dk_50 (dk_at dksX4_keep_0 16 rfl rfl)
theorem dX4_keep_17 : decode cX4_keep 17 = .ok (.invokevirtual 40, 3) := dk_182 0 40 (dk_at dksX4_keep_0 17 rfl rfl)
theorem dX4_keep_20 : decode cX4_keep 20 = .ok (.iinc 1 1, 3) := dk_132 1 1 (dk_at dksX4_keep_0 20 rfl rfl)
theorem dX4_keep_23 : decode cX4_keep 23 = .ok (.goto (-17), 3) := dk_167 255 239 (dk_at dksX4_keep_1 0 rfl rfl)
theorem dX4_keep_26 : decode cX4_keep 26 = .ok (.return_, 1) := dk_177 (dk_at dksX4_keep_1 3 rfl rfl)
abbrev cX4_takeBack : ByteArray := prog_4_method_5_code
def yX4_takeBack : MethodName := ⟨RX4, "takeBack", "()V"⟩
def dkwX4_takeBack_1 : List UInt8 := [167, 255, 239, 177]
abbrev dktX4_takeBack_1 : List UInt8 := dkwX4_takeBack_1 ++ []
def dkwX4_takeBack_0 : List UInt8 := [42, 183, 0, 41, 3, 60, 27, 7, 162, 0, 18, 42, 180, 0, 11, 27, 50, 182, 0, 44, 132, 1, 1]
abbrev dktX4_takeBack_0 : List UInt8 := dkwX4_takeBack_0 ++ dktX4_takeBack_1
theorem dksX4_takeBack_0 : cX4_takeBack.data.toList.drop 0 = dktX4_takeBack_0 := by decide +kernel
theorem dksX4_takeBack_1 : cX4_takeBack.data.toList.drop 23 = dktX4_takeBack_1 := dk_seg dksX4_takeBack_0 23 rfl rfl
theorem dX4_takeBack_0 : decode cX4_takeBack 0 = .ok (.aload_n 0, 1) := dk_42 (dk_at dksX4_takeBack_0 0 rfl rfl)
theorem dX4_takeBack_1 : decode cX4_takeBack 1 = .ok (.invokespecial 41, 3) := dk_183 0 41 (dk_at dksX4_takeBack_0 1 rfl rfl)
theorem dX4_takeBack_4 : decode cX4_takeBack 4 = .ok (.iconst 0, 1) := dk_3 (dk_at dksX4_takeBack_0 4 rfl rfl)
theorem dX4_takeBack_5 : decode cX4_takeBack 5 = .ok (.istore_n 1, 1) := dk_60 (dk_at dksX4_takeBack_0 5 rfl rfl)
theorem dX4_takeBack_6 : decode cX4_takeBack 6 = .ok (.iload_n 1, 1) := dk_27 (dk_at dksX4_takeBack_0 6 rfl rfl)
theorem dX4_takeBack_7 : decode cX4_takeBack 7 = .ok (.iconst 4, 1) := dk_7 (dk_at dksX4_takeBack_0 7 rfl rfl)
theorem dX4_takeBack_8 : decode cX4_takeBack 8 = .ok (.if_icmp .ge 18, 3) := dk_162 0 18 (dk_at dksX4_takeBack_0 8 rfl rfl)
theorem dX4_takeBack_11 : decode cX4_takeBack 11 = .ok (.aload_n 0, 1) := dk_42 (dk_at dksX4_takeBack_0 11 rfl rfl)
theorem dX4_takeBack_12 : decode cX4_takeBack 12 = .ok (.getfield 11, 3) := dk_180 0 11 (dk_at dksX4_takeBack_0 12 rfl rfl)
theorem dX4_takeBack_15 : decode cX4_takeBack 15 = .ok (.iload_n 1, 1) := dk_27 (dk_at dksX4_takeBack_0 15 rfl rfl)
theorem dX4_takeBack_16 : decode cX4_takeBack 16 = .ok (.aaload, 1) := dk_50 (dk_at dksX4_takeBack_0 16 rfl rfl)
theorem dX4_takeBack_17 : decode cX4_takeBack 17 = .ok (.invokevirtual 44, 3) := dk_182 0 44 (dk_at dksX4_takeBack_0 17 rfl rfl)
theorem dX4_takeBack_20 : decode cX4_takeBack 20 = .ok (.iinc 1 1, 3) := dk_132 1 1 (dk_at dksX4_takeBack_0 20 rfl rfl)
theorem dX4_takeBack_23 : decode cX4_takeBack 23 = .ok (.goto (-17), 3) := dk_167 255 239 (dk_at dksX4_takeBack_1 0 rfl rfl)
theorem dX4_takeBack_26 : decode cX4_takeBack 26 = .ok (.return_, 1) := dk_177 (dk_at dksX4_takeBack_1 3 rfl rfl)
abbrev cX4_fill : ByteArray := prog_4_method_3_code
def yX4_fill : MethodName := ⟨RX4, "fill", "(I)V"⟩
def dkwX4_fill_2 : List UInt8 := [42, 180, 0, 24, 27, 4, 100, 46, 181, 0, 32, 177]
abbrev dktX4_fill_2 : List UInt8 := dkwX4_fill_2 ++ []
def dkwX4_fill_1 : List UInt8 := [162, 0, 23, 42, 180, 0, 11, 28, 50, 42, 180, 0, 24, 27, 182, 0, 28, 132, 2, 1, 167, 255, 234, 42]
abbrev dktX4_fill_1 : List UInt8 := dkwX4_fill_1 ++ dktX4_fill_2
def dkwX4_fill_0 : List UInt8 := [3, 61, 28, 27, 162, 0, 16, 42, 180, 0, 24, 28, 3, 79, 132, 2, 1, 167, 255, 241, 3, 61, 28, 7]
abbrev dktX4_fill_0 : List UInt8 := dkwX4_fill_0 ++ dktX4_fill_1
theorem dksX4_fill_0 : cX4_fill.data.toList.drop 0 = dktX4_fill_0 := by decide +kernel
theorem dksX4_fill_1 : cX4_fill.data.toList.drop 24 = dktX4_fill_1 := dk_seg dksX4_fill_0 24 rfl rfl
theorem dksX4_fill_2 : cX4_fill.data.toList.drop 48 = dktX4_fill_2 := dk_seg dksX4_fill_1 24 rfl rfl
theorem dX4_fill_0 : decode cX4_fill 0 = .ok (.iconst 0, 1) := dk_3 (dk_at dksX4_fill_0 0 rfl rfl)
theorem dX4_fill_1 : decode cX4_fill 1 = .ok (.istore_n 2, 1) := dk_61 (dk_at dksX4_fill_0 1 rfl rfl)
theorem dX4_fill_2 : decode cX4_fill 2 = .ok (.iload_n 2, 1) := dk_28 (dk_at dksX4_fill_0 2 rfl rfl)
theorem dX4_fill_3 : decode cX4_fill 3 = .ok (.iload_n 1, 1) := dk_27 (dk_at dksX4_fill_0 3 rfl rfl)
theorem dX4_fill_4 : decode cX4_fill 4 = .ok (.if_icmp .ge 16, 3) := dk_162 0 16 (dk_at dksX4_fill_0 4 rfl rfl)
theorem dX4_fill_7 : decode cX4_fill 7 = .ok (.aload_n 0, 1) := dk_42 (dk_at dksX4_fill_0 7 rfl rfl)
theorem dX4_fill_8 : decode cX4_fill 8 = .ok (.getfield 24, 3) := dk_180 0 24 (dk_at dksX4_fill_0 8 rfl rfl)
theorem dX4_fill_11 : decode cX4_fill 11 = .ok (.iload_n 2, 1) := dk_28 (dk_at dksX4_fill_0 11 rfl rfl)
theorem dX4_fill_12 : decode cX4_fill 12 = .ok (.iconst 0, 1) := dk_3 (dk_at dksX4_fill_0 12 rfl rfl)
theorem dX4_fill_13 : decode cX4_fill 13 = .ok (.iastore, 1) := dk_79 (dk_at dksX4_fill_0 13 rfl rfl)
theorem dX4_fill_14 : decode cX4_fill 14 = .ok (.iinc 2 1, 3) := dk_132 2 1 (dk_at dksX4_fill_0 14 rfl rfl)
theorem dX4_fill_17 : decode cX4_fill 17 = .ok (.goto (-15), 3) := dk_167 255 241 (dk_at dksX4_fill_0 17 rfl rfl)
theorem dX4_fill_20 : decode cX4_fill 20 = .ok (.iconst 0, 1) := dk_3 (dk_at dksX4_fill_0 20 rfl rfl)
theorem dX4_fill_21 : decode cX4_fill 21 = .ok (.istore_n 2, 1) := dk_61 (dk_at dksX4_fill_0 21 rfl rfl)
theorem dX4_fill_22 : decode cX4_fill 22 = .ok (.iload_n 2, 1) := dk_28 (dk_at dksX4_fill_0 22 rfl rfl)
theorem dX4_fill_23 : decode cX4_fill 23 = .ok (.iconst 4, 1) := dk_7 (dk_at dksX4_fill_0 23 rfl rfl)
theorem dX4_fill_24 : decode cX4_fill 24 = .ok (.if_icmp .ge 23, 3) := dk_162 0 23 (dk_at dksX4_fill_1 0 rfl rfl)
theorem dX4_fill_27 : decode cX4_fill 27 = .ok (.aload_n 0, 1) := dk_42 (dk_at dksX4_fill_1 3 rfl rfl)
theorem dX4_fill_28 : decode cX4_fill 28 = .ok (.getfield 11, 3) := dk_180 0 11 (dk_at dksX4_fill_1 4 rfl rfl)
theorem dX4_fill_31 : decode cX4_fill 31 = .ok (.iload_n 2, 1) := dk_28 (dk_at dksX4_fill_1 7 rfl rfl)
theorem dX4_fill_32 : decode cX4_fill 32 = .ok (.aaload, 1) := dk_50 (dk_at dksX4_fill_1 8 rfl rfl)
theorem dX4_fill_33 : decode cX4_fill 33 = .ok (.aload_n 0, 1) := dk_42 (dk_at dksX4_fill_1 9 rfl rfl)
theorem dX4_fill_34 : decode cX4_fill 34 = .ok (.getfield 24, 3) := dk_180 0 24 (dk_at dksX4_fill_1 10 rfl rfl)
theorem dX4_fill_37 : decode cX4_fill 37 = .ok (.iload_n 1, 1) := dk_27 (dk_at dksX4_fill_1 13 rfl rfl)
theorem dX4_fill_38 : decode cX4_fill 38 = .ok (.invokevirtual 28, 3) := dk_182 0 28 (dk_at dksX4_fill_1 14 rfl rfl)
theorem dX4_fill_41 : decode cX4_fill 41 = .ok (.iinc 2 1, 3) := dk_132 2 1 (dk_at dksX4_fill_1 17 rfl rfl)
theorem dX4_fill_44 : decode cX4_fill 44 = .ok (.goto (-22), 3) := dk_167 255 234 (dk_at dksX4_fill_1 20 rfl rfl)
theorem dX4_fill_47 : decode cX4_fill 47 = .ok (.aload_n 0, 1) := dk_42 (dk_at dksX4_fill_1 23 rfl rfl)
theorem dX4_fill_48 : decode cX4_fill 48 = .ok (.aload_n 0, 1) := dk_42 (dk_at dksX4_fill_2 0 rfl rfl)
theorem dX4_fill_49 : decode cX4_fill 49 = .ok (.getfield 24, 3) := dk_180 0 24 (dk_at dksX4_fill_2 1 rfl rfl)
theorem dX4_fill_52 : decode cX4_fill 52 = .ok (.iload_n 1, 1) := dk_27 (dk_at dksX4_fill_2 4 rfl rfl)
theorem dX4_fill_53 : decode cX4_fill 53 = .ok (.iconst 1, 1) := dk_4 (dk_at dksX4_fill_2 5 rfl rfl)
theorem dX4_fill_54 : decode cX4_fill 54 = .ok (.isub, 1) := dk_100 (dk_at dksX4_fill_2 6 rfl rfl)
theorem dX4_fill_55 : decode cX4_fill 55 = .ok (.iaload, 1) := dk_46 (dk_at dksX4_fill_2 7 rfl rfl)
theorem dX4_fill_56 : decode cX4_fill 56 = .ok (.putfield 32, 3) := dk_181 0 32 (dk_at dksX4_fill_2 8 rfl rfl)
theorem dX4_fill_59 : decode cX4_fill 59 = .ok (.return_, 1) := dk_177 (dk_at dksX4_fill_2 11 rfl rfl)
theorem q59 : (Jvm.Cond.initialized "ToneGraph$Chorus") ∈ lw_all := lw_g (lw_at lw_m1 7 rfl) rfl
theorem q147 : (Jvm.Cond.instantiable "ToneGraph$Chorus" (10 : Nat)) ∈ lw_all := lw_g (lw_at lw_m1 95 rfl) rfl
theorem q149 : (Jvm.Cond.instanceMethod ({ cls := "ToneGraph$Chorus", name := "<init>", desc := "()V" } : Jvm.MethodName)) ∈ lw_all := lw_g (lw_at lw_m1 97 rfl) rfl
theorem q150 : (Jvm.Cond.code ({ cls := "ToneGraph$Chorus", name := "<init>", desc := "()V" } : Jvm.MethodName) prog_4_method_1_code (2 : Nat) (Option.none : Option Jvm.ClassFile.FieldType)) ∈ lw_all := lw_g (lw_at lw_m1 98 rfl) rfl
theorem q151 : (Jvm.Cond.methodLink "ToneGraph$Chorus" (3 : Nat) ({ cls := "ToneGraph$Node", name := "<init>", desc := "(IC[I)V" } : Jvm.MethodName)) ∈ lw_all := lw_g (lw_at lw_m1 99 rfl) rfl
theorem q157 : (Jvm.Cond.classLink "ToneGraph$Chorus" (9 : Nat) "ToneGraph$Voice") ∈ lw_all := lw_g (lw_at lw_m1 105 rfl) rfl
theorem q160 : (Jvm.Cond.methodLink "ToneGraph$Chorus" (17 : Nat) ({ cls := "ToneGraph$Voice", name := "<init>", desc := "(I)V" } : Jvm.MethodName)) ∈ lw_all := lw_g (lw_at lw_m1 108 rfl) rfl
theorem q208 : (Jvm.Cond.fieldLink "ToneGraph$Chorus" (11 : Nat) "ToneGraph$Chorus" "voices" "[LToneGraph$Voice;") ∈ lw_all := lw_g (lw_at lw_m1 156 rfl) rfl
theorem q217 : (Jvm.Cond.fieldLinkNest "ToneGraph$Chorus" (24 : Nat) "ToneGraph$Node" "row" "[I" "ToneGraph") ∈ lw_tbl := lw_at lw_m1 165 rfl
theorem q221 : (Jvm.Cond.fieldLinkNest "ToneGraph$Chorus" (32 : Nat) "ToneGraph$Node" "now" "I" "ToneGraph") ∈ lw_tbl := lw_at lw_m1 169 rfl
theorem q230 : (Jvm.Cond.laysFinal "ToneGraph$Chorus" "ToneGraph$Chorus" "voices" "[LToneGraph$Voice;") ∈ lw_all := lw_g (lw_at lw_m1 178 rfl) rfl
theorem q231 : (Jvm.Cond.soleField "ToneGraph$Chorus" "voices") ∈ lw_all := lw_g (lw_at lw_m1 179 rfl) rfl
theorem q232 : (Jvm.Cond.laysFinal "ToneGraph$Chorus" "ToneGraph$Node" "number" "I") ∈ lw_all := lw_g (lw_at lw_m1 180 rfl) rfl
theorem q234 : (Jvm.Cond.laysFinal "ToneGraph$Chorus" "ToneGraph$Node" "kind" "C") ∈ lw_all := lw_g (lw_at lw_m1 182 rfl) rfl
theorem q236 : (Jvm.Cond.laysFinal "ToneGraph$Chorus" "ToneGraph$Node" "wires" "Ljava/util/ArrayList;") ∈ lw_all := lw_g (lw_at lw_m1 184 rfl) rfl
theorem q238 : (Jvm.Cond.laysFinal "ToneGraph$Chorus" "ToneGraph$Node" "row" "[I") ∈ lw_all := lw_g (lw_at lw_m1 186 rfl) rfl
theorem q240 : (Jvm.Cond.lays "ToneGraph$Chorus" "ToneGraph$Node" "now" "I") ∈ lw_all := lw_g (lw_at lw_m1 188 rfl) rfl
theorem q242 : (Jvm.Cond.lays "ToneGraph$Chorus" "ToneGraph$Node" "nowKept" "I") ∈ lw_all := lw_g (lw_at lw_m1 190 rfl) rfl
theorem q244 : (Jvm.Cond.laysFinal "ToneGraph$Chorus" "ToneGraph$Node" "numbers" "[I") ∈ lw_all := lw_g (lw_at lw_m1 192 rfl) rfl
theorem q246 : (Jvm.Cond.laysFinal "ToneGraph$Chorus" "ToneGraph$Node" "numbersKept" "[I") ∈ lw_all := lw_g (lw_at lw_m1 194 rfl) rfl
theorem q248 : (Jvm.Cond.lays "ToneGraph$Chorus" "ToneGraph$Node" "placed" "Z") ∈ lw_all := lw_g (lw_at lw_m1 196 rfl) rfl
theorem q250 : (Jvm.Cond.superclass "ToneGraph$Chorus" "ToneGraph$Node") ∈ lw_all := lw_g (lw_at lw_m1 198 rfl) rfl
theorem q285 : (Jvm.Cond.selects "ToneGraph$Chorus" ({ cls := "java/lang/Object", name := "getClass", desc := "()Ljava/lang/Class;" } : Jvm.MethodName) ({ cls := "java/lang/Object", name := "getClass", desc := "()Ljava/lang/Class;" } : Jvm.MethodName)) ∈ lw_all := lw_g (lw_at lw_m1 233 rfl) rfl
theorem q387 : (Jvm.Cond.selects "ToneGraph$Chorus" ({ cls := "ToneGraph$Node", name := "isDelay", desc := "()Z" } : Jvm.MethodName) ({ cls := "ToneGraph$Node", name := "isDelay", desc := "()Z" } : Jvm.MethodName)) ∈ lw_all := lw_g (lw_at lw_m2 95 rfl) rfl
theorem q428 : (Jvm.Cond.selects "ToneGraph$Chorus" ({ cls := "ToneGraph$Node", name := "tick", desc := "()V" } : Jvm.MethodName) ({ cls := "ToneGraph$Node", name := "tick", desc := "()V" } : Jvm.MethodName)) ∈ lw_all := lw_g (lw_at lw_m2 136 rfl) rfl
theorem q437 : (Jvm.Cond.selects "ToneGraph$Chorus" ({ cls := "ToneGraph$Node", name := "input", desc := "()I" } : Jvm.MethodName) ({ cls := "ToneGraph$Node", name := "input", desc := "()I" } : Jvm.MethodName)) ∈ lw_all := lw_g (lw_at lw_m2 145 rfl) rfl
theorem q454 : (Jvm.Cond.selects "ToneGraph$Chorus" ({ cls := "ToneGraph$Node", name := "made", desc := "(I)I" } : Jvm.MethodName) ({ cls := "ToneGraph$Chorus", name := "made", desc := "(I)I" } : Jvm.MethodName)) ∈ lw_all := lw_g (lw_at lw_m2 162 rfl) rfl
theorem q455 : (Jvm.Cond.instanceMethod ({ cls := "ToneGraph$Chorus", name := "made", desc := "(I)I" } : Jvm.MethodName)) ∈ lw_all := lw_g (lw_at lw_m2 163 rfl) rfl
theorem q456 : (Jvm.Cond.code ({ cls := "ToneGraph$Chorus", name := "made", desc := "(I)I" } : Jvm.MethodName) prog_4_method_2_code (4 : Nat) (Option.some Jvm.ClassFile.FieldType.int)) ∈ lw_all := lw_g (lw_at lw_m2 164 rfl) rfl
theorem q457 : (Jvm.Cond.methodLink "ToneGraph$Chorus" (20 : Nat) ({ cls := "ToneGraph$Voice", name := "next", desc := "()I" } : Jvm.MethodName)) ∈ lw_all := lw_g (lw_at lw_m2 165 rfl) rfl
theorem q498 : (Jvm.Cond.selects "ToneGraph$Chorus" ({ cls := "ToneGraph$Node", name := "takeIn", desc := "()V" } : Jvm.MethodName) ({ cls := "ToneGraph$Node", name := "takeIn", desc := "()V" } : Jvm.MethodName)) ∈ lw_all := lw_g (lw_at lw_m2 206 rfl) rfl
theorem q628 : (Jvm.Cond.selects "ToneGraph$Chorus" ({ cls := "ToneGraph$Node", name := "keep", desc := "()V" } : Jvm.MethodName) ({ cls := "ToneGraph$Chorus", name := "keep", desc := "()V" } : Jvm.MethodName)) ∈ lw_all := lw_g (lw_at lw_m3 96 rfl) rfl
theorem q629 : (Jvm.Cond.instanceMethod ({ cls := "ToneGraph$Chorus", name := "keep", desc := "()V" } : Jvm.MethodName)) ∈ lw_all := lw_g (lw_at lw_m3 97 rfl) rfl
theorem q630 : (Jvm.Cond.code ({ cls := "ToneGraph$Chorus", name := "keep", desc := "()V" } : Jvm.MethodName) prog_4_method_4_code (2 : Nat) (Option.none : Option Jvm.ClassFile.FieldType)) ∈ lw_all := lw_g (lw_at lw_m3 98 rfl) rfl
theorem q631 : (Jvm.Cond.methodLink "ToneGraph$Chorus" (36 : Nat) ({ cls := "ToneGraph$Node", name := "keep", desc := "()V" } : Jvm.MethodName)) ∈ lw_all := lw_g (lw_at lw_m3 99 rfl) rfl
theorem q634 : (Jvm.Cond.methodLink "ToneGraph$Chorus" (40 : Nat) ({ cls := "ToneGraph$Voice", name := "keep", desc := "()V" } : Jvm.MethodName)) ∈ lw_all := lw_g (lw_at lw_m3 102 rfl) rfl
theorem q649 : (Jvm.Cond.selects "ToneGraph$Chorus" ({ cls := "ToneGraph$Node", name := "takeBack", desc := "()V" } : Jvm.MethodName) ({ cls := "ToneGraph$Chorus", name := "takeBack", desc := "()V" } : Jvm.MethodName)) ∈ lw_all := lw_g (lw_at lw_m3 117 rfl) rfl
theorem q650 : (Jvm.Cond.instanceMethod ({ cls := "ToneGraph$Chorus", name := "takeBack", desc := "()V" } : Jvm.MethodName)) ∈ lw_all := lw_g (lw_at lw_m3 118 rfl) rfl
theorem q651 : (Jvm.Cond.code ({ cls := "ToneGraph$Chorus", name := "takeBack", desc := "()V" } : Jvm.MethodName) prog_4_method_5_code (2 : Nat) (Option.none : Option Jvm.ClassFile.FieldType)) ∈ lw_all := lw_g (lw_at lw_m3 119 rfl) rfl
theorem q652 : (Jvm.Cond.methodLink "ToneGraph$Chorus" (41 : Nat) ({ cls := "ToneGraph$Node", name := "takeBack", desc := "()V" } : Jvm.MethodName)) ∈ lw_all := lw_g (lw_at lw_m3 120 rfl) rfl
theorem q654 : (Jvm.Cond.methodLink "ToneGraph$Chorus" (44 : Nat) ({ cls := "ToneGraph$Voice", name := "takeBack", desc := "()V" } : Jvm.MethodName)) ∈ lw_all := lw_g (lw_at lw_m3 122 rfl) rfl
theorem q674 : (Jvm.Cond.selects "ToneGraph$Chorus" ({ cls := "ToneGraph$Node", name := "fill", desc := "(I)V" } : Jvm.MethodName) ({ cls := "ToneGraph$Chorus", name := "fill", desc := "(I)V" } : Jvm.MethodName)) ∈ lw_all := lw_g (lw_at lw_m3 142 rfl) rfl
theorem q675 : (Jvm.Cond.instanceMethod ({ cls := "ToneGraph$Chorus", name := "fill", desc := "(I)V" } : Jvm.MethodName)) ∈ lw_all := lw_g (lw_at lw_m3 143 rfl) rfl
theorem q676 : (Jvm.Cond.code ({ cls := "ToneGraph$Chorus", name := "fill", desc := "(I)V" } : Jvm.MethodName) prog_4_method_3_code (3 : Nat) (Option.none : Option Jvm.ClassFile.FieldType)) ∈ lw_all := lw_g (lw_at lw_m3 144 rfl) rfl
theorem q677 : (Jvm.Cond.methodLink "ToneGraph$Chorus" (28 : Nat) ({ cls := "ToneGraph$Voice", name := "addTo", desc := "([II)V" } : Jvm.MethodName)) ∈ lw_all := lw_g (lw_at lw_m3 145 rfl) rfl
theorem q699 : (Jvm.Cond.selects "ToneGraph$Chorus" ({ cls := "ToneGraph$Node", name := "input", desc := "(I)I" } : Jvm.MethodName) ({ cls := "ToneGraph$Node", name := "input", desc := "(I)I" } : Jvm.MethodName)) ∈ lw_all := lw_g (lw_at lw_m3 167 rfl) rfl
theorem q708 : (Jvm.Cond.selects "ToneGraph$Chorus" ({ cls := "ToneGraph$Node", name := "takeIn", desc := "(I)V" } : Jvm.MethodName) ({ cls := "ToneGraph$Node", name := "takeIn", desc := "(I)V" } : Jvm.MethodName)) ∈ lw_all := lw_g (lw_at lw_m3 176 rfl) rfl
theorem q929 : (Jvm.Cond.selects "ToneGraph$Chorus" ({ cls := "ToneGraph$Node", name := "wireFrom", desc := "(LToneGraph$Node;)LToneGraph$Wire;" } : Jvm.MethodName) ({ cls := "ToneGraph$Node", name := "wireFrom", desc := "(LToneGraph$Node;)LToneGraph$Wire;" } : Jvm.MethodName)) ∈ lw_all := lw_g (lw_at lw_m4 157 rfl) rfl
theorem q938 : (Jvm.Cond.selects "ToneGraph$Chorus" ({ cls := "ToneGraph$Node", name := "follows", desc := "(LToneGraph$Node;)Z" } : Jvm.MethodName) ({ cls := "ToneGraph$Node", name := "follows", desc := "(LToneGraph$Node;)Z" } : Jvm.MethodName)) ∈ lw_all := lw_g (lw_at lw_m4 166 rfl) rfl
theorem q1614 : (Jvm.Cond.castable "ToneGraph$Chorus" "ToneGraph$Node") ∈ lw_tbl := lw_at lw_m7 122 rfl
theorem q1622 : (Jvm.Cond.castable "ToneGraph$Chorus" "java/lang/Object") ∈ lw_tbl := lw_at lw_m7 130 rfl
theorem in_X4 : ∀ w ∈ wsX40, w ∈ lw_all := lw_in wsX40 [232, 234, 236, 238, 240, 242, 244, 246, 248, 230] (by decide +kernel) (by decide +kernel)

/-! ToneGraph$Voice -/
set_option maxRecDepth 100000
def RX5 : String := "ToneGraph$Voice"
def TX5 : u_T := fun k => match k with
  | 0 => ("ToneGraph$Voice", "number", "I", true)
  | 1 => ("ToneGraph$Voice", "playing", "Z", false)
  | 2 => ("ToneGraph$Voice", "released", "Z", false)
  | 3 => ("ToneGraph$Voice", "wave", "LToneGraph$Wave;", false)
  | 4 => ("ToneGraph$Voice", "envelope", "LToneGraph$Envelope;", false)
  | 5 => ("ToneGraph$Voice", "key", "I", false)
  | 6 => ("ToneGraph$Voice", "velocity", "I", false)
  | 7 => ("ToneGraph$Voice", "phase", "I", false)
  | 8 => ("ToneGraph$Voice", "sample", "I", false)
  | 9 => ("ToneGraph$Voice", "top", "I", false)
  | 10 => ("ToneGraph$Voice", "turn", "J", false)
  | _ => ("ToneGraph$Voice", "kept", "[I", true)
def tyX5 : Nat → FieldType := fun k => match k with
  | 0 => .int
  | 1 => .boolean
  | 2 => .boolean
  | 3 => .object "ToneGraph$Wave"
  | 4 => .object "ToneGraph$Envelope"
  | 5 => .int
  | 6 => .int
  | 7 => .int
  | 8 => .int
  | 9 => .int
  | 10 => .long
  | _ => .array .int
abbrev wsX50 : List Cond := u_ws RX5 TX5 12
theorem nmX5 : ∀ a, a < 12 → ∀ b, b < 12 → a ≠ b → (TX5 a).2.1 ≠ (TX5 b).2.1 := by decide +kernel
theorem tyX5_ok : ∀ k, k < 12 → parseFieldDescriptor (TX5 k).2.2.1 = some (tyX5 k) := by decide +kernel
abbrev cX5_init : ByteArray := prog_10_method_1_code
def yX5_init : MethodName := ⟨RX5, "<init>", "(I)V"⟩
def dkwX5_init_0 : List UInt8 := [42, 183, 0, 3, 42, 6, 188, 10, 181, 0, 9, 42, 27, 181, 0, 15, 177]
abbrev dktX5_init_0 : List UInt8 := dkwX5_init_0 ++ []
theorem dksX5_init_0 : cX5_init.data.toList.drop 0 = dktX5_init_0 := by decide +kernel
theorem dX5_init_0 : decode cX5_init 0 = .ok (.aload_n 0, 1) := dk_42 (dk_at dksX5_init_0 0 rfl rfl)
theorem dX5_init_1 : decode cX5_init 1 = .ok (.invokespecial 3, 3) := dk_183 0 3 (dk_at dksX5_init_0 1 rfl rfl)
theorem dX5_init_4 : decode cX5_init 4 = .ok (.aload_n 0, 1) := dk_42 (dk_at dksX5_init_0 4 rfl rfl)
theorem dX5_init_5 : decode cX5_init 5 = .ok (.iconst 3, 1) := dk_6 (dk_at dksX5_init_0 5 rfl rfl)
theorem dX5_init_6 : decode cX5_init 6 = .ok (.newarray .int, 2) := dk_188_10 (dk_at dksX5_init_0 6 rfl rfl)
theorem dX5_init_8 : decode cX5_init 8 = .ok (.putfield 9, 3) := dk_181 0 9 (dk_at dksX5_init_0 8 rfl rfl)
theorem dX5_init_11 : decode cX5_init 11 = .ok (.aload_n 0, 1) := dk_42 (dk_at dksX5_init_0 11 rfl rfl)
theorem dX5_init_12 : decode cX5_init 12 = .ok (.iload_n 1, 1) := dk_27 (dk_at dksX5_init_0 12 rfl rfl)
theorem dX5_init_13 : decode cX5_init 13 = .ok (.putfield 15, 3) := dk_181 0 15 (dk_at dksX5_init_0 13 rfl rfl)
theorem dX5_init_16 : decode cX5_init 16 = .ok (.return_, 1) := dk_177 (dk_at dksX5_init_0 16 rfl rfl)
abbrev cX5_release : ByteArray := prog_10_method_3_code
def yX5_release : MethodName := ⟨RX5, "release", "(J)V"⟩
def dkwX5_release_2 : List UInt8 := [181, 0, 19, 177]
abbrev dktX5_release_2 : List UInt8 := dkwX5_release_2 ++ []
def dkwX5_release_1 : List UInt8 := [181, 0, 43, 42, 31, 181, 0, 46, 42, 42, 180, 0, 36, 180, 0, 59, 158, 0, 7, 4, 167, 0, 4, 3]
abbrev dktX5_release_1 : List UInt8 := dkwX5_release_1 ++ dktX5_release_2
def dkwX5_release_0 : List UInt8 := [42, 42, 180, 0, 36, 42, 180, 0, 43, 182, 0, 50, 181, 0, 56, 42, 4, 181, 0, 23, 42, 3]
abbrev dktX5_release_0 : List UInt8 := dkwX5_release_0 ++ dktX5_release_1
theorem dksX5_release_0 : cX5_release.data.toList.drop 0 = dktX5_release_0 := by decide +kernel
theorem dksX5_release_1 : cX5_release.data.toList.drop 22 = dktX5_release_1 := dk_seg dksX5_release_0 22 rfl rfl
theorem dksX5_release_2 : cX5_release.data.toList.drop 46 = dktX5_release_2 := dk_seg dksX5_release_1 24 rfl rfl
theorem dX5_release_0 : decode cX5_release 0 = .ok (.aload_n 0, 1) := dk_42 (dk_at dksX5_release_0 0 rfl rfl)
theorem dX5_release_1 : decode cX5_release 1 = .ok (.aload_n 0, 1) := dk_42 (dk_at dksX5_release_0 1 rfl rfl)
theorem dX5_release_2 : decode cX5_release 2 = .ok (.getfield 36, 3) := dk_180 0 36 (dk_at dksX5_release_0 2 rfl rfl)
theorem dX5_release_5 : decode cX5_release 5 = .ok (.aload_n 0, 1) := dk_42 (dk_at dksX5_release_0 5 rfl rfl)
theorem dX5_release_6 : decode cX5_release 6 = .ok (.getfield 43, 3) := dk_180 0 43 (dk_at dksX5_release_0 6 rfl rfl)
theorem dX5_release_9 : decode cX5_release 9 = .ok (.invokevirtual 50, 3) := dk_182 0 50 (dk_at dksX5_release_0 9 rfl rfl)
theorem dX5_release_12 : decode cX5_release 12 = .ok (.putfield 56, 3) := dk_181 0 56 (dk_at dksX5_release_0 12 rfl rfl)
theorem dX5_release_15 : decode cX5_release 15 = .ok (.aload_n 0, 1) := dk_42 (dk_at dksX5_release_0 15 rfl rfl)
theorem dX5_release_16 : decode cX5_release 16 = .ok (.iconst 1, 1) := dk_4 (dk_at dksX5_release_0 16 rfl rfl)
theorem dX5_release_17 : decode cX5_release 17 = .ok (.putfield 23, 3) := dk_181 0 23 (dk_at dksX5_release_0 17 rfl rfl)
theorem dX5_release_20 : decode cX5_release 20 = .ok (.aload_n 0, 1) := dk_42 (dk_at dksX5_release_0 20 rfl rfl)
theorem dX5_release_21 : decode cX5_release 21 = .ok (.iconst 0, 1) := dk_3 (dk_at dksX5_release_0 21 rfl rfl)
theorem dX5_release_22 : decode cX5_release 22 = .ok (.putfield 43, 3) := dk_181 0 43 (dk_at dksX5_release_1 0 rfl rfl)
theorem dX5_release_25 : decode cX5_release 25 = .ok (.aload_n 0, 1) := dk_42 (dk_at dksX5_release_1 3 rfl rfl)
theorem dX5_release_26 : decode cX5_release 26 = .ok (.lload_n 1, 1) := dk_31 (dk_at dksX5_release_1 4 rfl rfl)
theorem dX5_release_27 : decode cX5_release 27 = .ok (.putfield 46, 3) := dk_181 0 46 (dk_at dksX5_release_1 5 rfl rfl)
theorem dX5_release_30 : decode cX5_release 30 = .ok (.aload_n 0, 1) := dk_42 (dk_at dksX5_release_1 8 rfl rfl)
theorem dX5_release_31 : decode cX5_release 31 = .ok (.aload_n 0, 1) := dk_42 (dk_at dksX5_release_1 9 rfl rfl)
theorem dX5_release_32 : decode cX5_release 32 = .ok (.getfield 36, 3) := dk_180 0 36 (dk_at dksX5_release_1 10 rfl rfl)
theorem dX5_release_35 : decode cX5_release 35 = .ok (.getfield 59, 3) := dk_180 0 59 (dk_at dksX5_release_1 13 rfl rfl)
theorem dX5_release_38 : decode cX5_release 38 = .ok (.ifCond .le 7, 3) := dk_158 0 7 (dk_at dksX5_release_1 16 rfl rfl)
theorem dX5_release_41 : decode cX5_release 41 = .ok (.iconst 1, 1) := dk_4 (dk_at dksX5_release_1 19 rfl rfl)
theorem dX5_release_42 : decode cX5_release 42 = .ok (.goto 4, 3) := dk_167 0 4 (dk_at dksX5_release_1 20 rfl rfl)
theorem dX5_release_45 : decode cX5_release 45 = .ok (.iconst 0, 1) := dk_3 (dk_at dksX5_release_1 23 rfl rfl)
theorem dX5_release_46 : decode cX5_release 46 = .ok (.putfield 19, 3) := dk_181 0 19 (dk_at dksX5_release_2 0 rfl rfl)
theorem dX5_release_49 : decode cX5_release 49 = .ok (.return_, 1) := dk_177 (dk_at dksX5_release_2 3 rfl rfl)
abbrev cX5_next : ByteArray := prog_10_method_8_code
def yX5_next : MethodName := ⟨RX5, "next", "()I"⟩
def dkwX5_next_0 : List UInt8 := [42, 180, 0, 19, 154, 0, 5, 3, 172, 42, 42, 182, 0, 75, 182, 0, 78, 60, 42, 182, 0, 81, 27, 172]
abbrev dktX5_next_0 : List UInt8 := dkwX5_next_0 ++ []
theorem dksX5_next_0 : cX5_next.data.toList.drop 0 = dktX5_next_0 := by decide +kernel
theorem dX5_next_0 : decode cX5_next 0 = .ok (.aload_n 0, 1) := dk_42 (dk_at dksX5_next_0 0 rfl rfl)
theorem dX5_next_1 : decode cX5_next 1 = .ok (.getfield 19, 3) := dk_180 0 19 (dk_at dksX5_next_0 1 rfl rfl)
theorem dX5_next_4 : decode cX5_next 4 = .ok (.ifCond .ne 5, 3) := dk_154 0 5 (dk_at dksX5_next_0 4 rfl rfl)
theorem dX5_next_7 : decode cX5_next 7 = .ok (.iconst 0, 1) := dk_3 (dk_at dksX5_next_0 7 rfl rfl)
theorem dX5_next_8 : decode cX5_next 8 = .ok (.ireturn, 1) := dk_172 (dk_at dksX5_next_0 8 rfl rfl)
theorem dX5_next_9 : decode cX5_next 9 = .ok (.aload_n 0, 1) := dk_42 (dk_at dksX5_next_0 9 rfl rfl)
theorem dX5_next_10 : decode cX5_next 10 = .ok (.aload_n 0, 1) := dk_42 (dk_at dksX5_next_0 10 rfl rfl)
theorem dX5_next_11 : decode cX5_next 11 = .ok (.invokevirtual 75, 3) := dk_182 0 75 (dk_at dksX5_next_0 11 rfl rfl)
theorem dX5_next_14 : decode cX5_next 14 = .ok (.invokevirtual 78, 3) := dk_182 0 78 (dk_at dksX5_next_0 14 rfl rfl)
theorem dX5_next_17 : decode cX5_next 17 = .ok (.istore_n 1, 1) := dk_60 (dk_at dksX5_next_0 17 rfl rfl)
theorem dX5_next_18 : decode cX5_next 18 = .ok (.aload_n 0, 1) := dk_42 (dk_at dksX5_next_0 18 rfl rfl)
theorem dX5_next_19 : decode cX5_next 19 = .ok (.invokevirtual 81, 3) := dk_182 0 81 (dk_at dksX5_next_0 19 rfl rfl)
theorem dX5_next_22 : decode cX5_next 22 = .ok (.iload_n 1, 1) := dk_27 (dk_at dksX5_next_0 22 rfl rfl)
theorem dX5_next_23 : decode cX5_next 23 = .ok (.ireturn, 1) := dk_172 (dk_at dksX5_next_0 23 rfl rfl)
abbrev cX5_level : ByteArray := prog_10_method_4_code
def yX5_level : MethodName := ⟨RX5, "level", "()I"⟩
def dkwX5_level_2 : List UInt8 := [180, 0, 43, 182, 0, 50, 172]
abbrev dktX5_level_2 : List UInt8 := dkwX5_level_2 ++ []
def dkwX5_level_1 : List UInt8 := [42, 180, 0, 43, 104, 42, 180, 0, 36, 180, 0, 59, 108, 100, 167, 0, 14, 42, 180, 0, 36, 42]
abbrev dktX5_level_1 : List UInt8 := dkwX5_level_1 ++ dktX5_level_2
def dkwX5_level_0 : List UInt8 := [42, 180, 0, 19, 154, 0, 5, 3, 172, 42, 180, 0, 23, 153, 0, 28, 42, 180, 0, 56, 42, 180, 0, 56]
abbrev dktX5_level_0 : List UInt8 := dkwX5_level_0 ++ dktX5_level_1
theorem dksX5_level_0 : cX5_level.data.toList.drop 0 = dktX5_level_0 := by decide +kernel
theorem dksX5_level_1 : cX5_level.data.toList.drop 24 = dktX5_level_1 := dk_seg dksX5_level_0 24 rfl rfl
theorem dksX5_level_2 : cX5_level.data.toList.drop 46 = dktX5_level_2 := dk_seg dksX5_level_1 22 rfl rfl
theorem dX5_level_0 : decode cX5_level 0 = .ok (.aload_n 0, 1) := dk_42 (dk_at dksX5_level_0 0 rfl rfl)
theorem dX5_level_1 : decode cX5_level 1 = .ok (.getfield 19, 3) := dk_180 0 19 (dk_at dksX5_level_0 1 rfl rfl)
theorem dX5_level_4 : decode cX5_level 4 = .ok (.ifCond .ne 5, 3) := dk_154 0 5 (dk_at dksX5_level_0 4 rfl rfl)
theorem dX5_level_7 : decode cX5_level 7 = .ok (.iconst 0, 1) := dk_3 (dk_at dksX5_level_0 7 rfl rfl)
theorem dX5_level_8 : decode cX5_level 8 = .ok (.ireturn, 1) := dk_172 (dk_at dksX5_level_0 8 rfl rfl)
theorem dX5_level_9 : decode cX5_level 9 = .ok (.aload_n 0, 1) := dk_42 (dk_at dksX5_level_0 9 rfl rfl)
theorem dX5_level_10 : decode cX5_level 10 = .ok (.getfield 23, 3) := dk_180 0 23 (dk_at dksX5_level_0 10 rfl rfl)
theorem dX5_level_13 : decode cX5_level 13 = .ok (.ifCond .eq 28, 3) := dk_153 0 28 (dk_at dksX5_level_0 13 rfl rfl)
theorem dX5_level_16 : decode cX5_level 16 = .ok (.aload_n 0, 1) := dk_42 (dk_at dksX5_level_0 16 rfl rfl)
theorem dX5_level_17 : decode cX5_level 17 = .ok (.getfield 56, 3) := dk_180 0 56 (dk_at dksX5_level_0 17 rfl rfl)
theorem dX5_level_20 : decode cX5_level 20 = .ok (.aload_n 0, 1) := dk_42 (dk_at dksX5_level_0 20 rfl rfl)
theorem dX5_level_21 : decode cX5_level 21 = .ok (.getfield 56, 3) := dk_180 0 56 (dk_at dksX5_level_0 21 rfl rfl)
theorem dX5_level_24 : decode cX5_level 24 = .ok (.aload_n 0, 1) := dk_42 (dk_at dksX5_level_1 0 rfl rfl)
theorem dX5_level_25 : decode cX5_level 25 = .ok (.getfield 43, 3) := dk_180 0 43 (dk_at dksX5_level_1 1 rfl rfl)
theorem dX5_level_28 : decode cX5_level 28 = .ok (.imul, 1) := dk_104 (dk_at dksX5_level_1 4 rfl rfl)
theorem dX5_level_29 : decode cX5_level 29 = .ok (.aload_n 0, 1) := dk_42 (dk_at dksX5_level_1 5 rfl rfl)
theorem dX5_level_30 : decode cX5_level 30 = .ok (.getfield 36, 3) := dk_180 0 36 (dk_at dksX5_level_1 6 rfl rfl)
theorem dX5_level_33 : decode cX5_level 33 = .ok (.getfield 59, 3) := dk_180 0 59 (dk_at dksX5_level_1 9 rfl rfl)
theorem dX5_level_36 : decode cX5_level 36 = .ok (.idiv, 1) := dk_108 (dk_at dksX5_level_1 12 rfl rfl)
theorem dX5_level_37 : decode cX5_level 37 = .ok (.isub, 1) := dk_100 (dk_at dksX5_level_1 13 rfl rfl)
theorem dX5_level_38 : decode cX5_level 38 = .ok (.goto 14, 3) := dk_167 0 14 (dk_at dksX5_level_1 14 rfl rfl)
theorem dX5_level_41 : decode cX5_level 41 = .ok (.aload_n 0, 1) := dk_42 (dk_at dksX5_level_1 17 rfl rfl)
theorem dX5_level_42 : decode cX5_level 42 = .ok (.getfield 36, 3) := dk_180 0 36 (dk_at dksX5_level_1 18 rfl rfl)
theorem dX5_level_45 : decode cX5_level 45 = .ok (.aload_n 0, 1) := dk_42 (dk_at dksX5_level_1 21 rfl rfl)
theorem dX5_level_46 : decode cX5_level 46 = .ok (.getfield 43, 3) := dk_180 0 43 (dk_at dksX5_level_2 0 rfl rfl)
theorem dX5_level_49 : decode cX5_level 49 = .ok (.invokevirtual 50, 3) := dk_182 0 50 (dk_at dksX5_level_2 3 rfl rfl)
theorem dX5_level_52 : decode cX5_level 52 = .ok (.ireturn, 1) := dk_172 (dk_at dksX5_level_2 6 rfl rfl)
abbrev cX5_sound : ByteArray := prog_10_method_7_code
def yX5_sound : MethodName := ⟨RX5, "sound", "(I)I"⟩
def dkwX5_sound_1 : List UInt8 := [16, 100, 108, 172]
abbrev dktX5_sound_1 : List UInt8 := dkwX5_sound_1 ++ []
def dkwX5_sound_0 : List UInt8 := [42, 180, 0, 32, 42, 180, 0, 40, 185, 0, 70, 2, 0, 27, 104, 17, 3, 232, 108, 42, 180, 0, 29, 104]
abbrev dktX5_sound_0 : List UInt8 := dkwX5_sound_0 ++ dktX5_sound_1
theorem dksX5_sound_0 : cX5_sound.data.toList.drop 0 = dktX5_sound_0 := by decide +kernel
theorem dksX5_sound_1 : cX5_sound.data.toList.drop 24 = dktX5_sound_1 := dk_seg dksX5_sound_0 24 rfl rfl
theorem dX5_sound_0 : decode cX5_sound 0 = .ok (.aload_n 0, 1) := dk_42 (dk_at dksX5_sound_0 0 rfl rfl)
theorem dX5_sound_1 : decode cX5_sound 1 = .ok (.getfield 32, 3) := dk_180 0 32 (dk_at dksX5_sound_0 1 rfl rfl)
theorem dX5_sound_4 : decode cX5_sound 4 = .ok (.aload_n 0, 1) := dk_42 (dk_at dksX5_sound_0 4 rfl rfl)
theorem dX5_sound_5 : decode cX5_sound 5 = .ok (.getfield 40, 3) := dk_180 0 40 (dk_at dksX5_sound_0 5 rfl rfl)
theorem dX5_sound_8 : decode cX5_sound 8 = .ok (.invokeinterface 70 2, 5) := by decide +kernel
theorem dX5_sound_13 : decode cX5_sound 13 = .ok (.iload_n 1, 1) := dk_27 (dk_at dksX5_sound_0 13 rfl rfl)
theorem dX5_sound_14 : decode cX5_sound 14 = .ok (.imul, 1) := dk_104 (dk_at dksX5_sound_0 14 rfl rfl)
theorem dX5_sound_15 : decode cX5_sound 15 = .ok (.sipush 1000, 3) := dk_17 3 232 (dk_at dksX5_sound_0 15 rfl rfl)
theorem dX5_sound_18 : decode cX5_sound 18 = .ok (.idiv, 1) := dk_108 (dk_at dksX5_sound_0 18 rfl rfl)
theorem dX5_sound_19 : decode cX5_sound 19 = .ok (.aload_n 0, 1) := dk_42 (dk_at dksX5_sound_0 19 rfl rfl)
theorem dX5_sound_20 : decode cX5_sound 20 = .ok (.getfield 29, 3) := dk_180 0 29 (dk_at dksX5_sound_0 20 rfl rfl)
theorem dX5_sound_23 : decode cX5_sound 23 = .ok (.imul, 1) := dk_104 (dk_at dksX5_sound_0 23 rfl rfl)
theorem dX5_sound_24 : decode cX5_sound 24 = .ok (.bipush 100, 2) := dk_16 100 (dk_at dksX5_sound_1 0 rfl rfl)
theorem dX5_sound_26 : decode cX5_sound 26 = .ok (.idiv, 1) := dk_108 (dk_at dksX5_sound_1 2 rfl rfl)
theorem dX5_sound_27 : decode cX5_sound 27 = .ok (.ireturn, 1) := dk_172 (dk_at dksX5_sound_1 3 rfl rfl)
abbrev cX5_goOn : ByteArray := prog_10_method_6_code
def yX5_goOn : MethodName := ⟨RX5, "goOn", "()V"⟩
def dkwX5_goOn_2 : List UInt8 := [180, 0, 59, 162, 0, 7, 4, 167, 0, 4, 3, 181, 0, 19, 177]
abbrev dktX5_goOn_2 : List UInt8 := dkwX5_goOn_2 ++ []
def dkwX5_goOn_1 : List UInt8 := [18, 69, 112, 181, 0, 40, 42, 42, 180, 0, 23, 153, 0, 17, 42, 180, 0, 43, 42, 180, 0, 36]
abbrev dktX5_goOn_1 : List UInt8 := dkwX5_goOn_1 ++ dktX5_goOn_2
def dkwX5_goOn_0 : List UInt8 := [42, 89, 180, 0, 43, 4, 96, 181, 0, 43, 42, 42, 180, 0, 40, 178, 0, 66, 42, 180, 0, 26, 46, 96]
abbrev dktX5_goOn_0 : List UInt8 := dkwX5_goOn_0 ++ dktX5_goOn_1
theorem dksX5_goOn_0 : cX5_goOn.data.toList.drop 0 = dktX5_goOn_0 := by decide +kernel
theorem dksX5_goOn_1 : cX5_goOn.data.toList.drop 24 = dktX5_goOn_1 := dk_seg dksX5_goOn_0 24 rfl rfl
theorem dksX5_goOn_2 : cX5_goOn.data.toList.drop 46 = dktX5_goOn_2 := dk_seg dksX5_goOn_1 22 rfl rfl
theorem dX5_goOn_0 : decode cX5_goOn 0 = .ok (.aload_n 0, 1) := dk_42 (dk_at dksX5_goOn_0 0 rfl rfl)
theorem dX5_goOn_1 : decode cX5_goOn 1 = .ok (.dup, 1) := dk_89 (dk_at dksX5_goOn_0 1 rfl rfl)
theorem dX5_goOn_2 : decode cX5_goOn 2 = .ok (.getfield 43, 3) := dk_180 0 43 (dk_at dksX5_goOn_0 2 rfl rfl)
theorem dX5_goOn_5 : decode cX5_goOn 5 = .ok (.iconst 1, 1) := dk_4 (dk_at dksX5_goOn_0 5 rfl rfl)
theorem dX5_goOn_6 : decode cX5_goOn 6 = .ok (.iadd, 1) := dk_96 (dk_at dksX5_goOn_0 6 rfl rfl)
theorem dX5_goOn_7 : decode cX5_goOn 7 = .ok (.putfield 43, 3) := dk_181 0 43 (dk_at dksX5_goOn_0 7 rfl rfl)
theorem dX5_goOn_10 : decode cX5_goOn 10 = .ok (.aload_n 0, 1) := dk_42 (dk_at dksX5_goOn_0 10 rfl rfl)
theorem dX5_goOn_11 : decode cX5_goOn 11 = .ok (.aload_n 0, 1) := dk_42 (dk_at dksX5_goOn_0 11 rfl rfl)
theorem dX5_goOn_12 : decode cX5_goOn 12 = .ok (.getfield 40, 3) := dk_180 0 40 (dk_at dksX5_goOn_0 12 rfl rfl)
theorem dX5_goOn_15 : decode cX5_goOn 15 = .ok (.getstatic 66, 3) := dk_178 0 66 (dk_at dksX5_goOn_0 15 rfl rfl)
theorem dX5_goOn_18 : decode cX5_goOn 18 = .ok (.aload_n 0, 1) := dk_42 (dk_at dksX5_goOn_0 18 rfl rfl)
theorem dX5_goOn_19 : decode cX5_goOn 19 = .ok (.getfield 26, 3) := dk_180 0 26 (dk_at dksX5_goOn_0 19 rfl rfl)
theorem dX5_goOn_22 : decode cX5_goOn 22 = .ok (.iaload, 1) := dk_46 (dk_at dksX5_goOn_0 22 rfl rfl)
theorem dX5_goOn_23 : decode cX5_goOn 23 = .ok (.iadd, 1) := dk_96 (dk_at dksX5_goOn_0 23 rfl rfl)
theorem dX5_goOn_24 : decode cX5_goOn 24 = .ok (.ldc 69, 2) := dk_18 69 (dk_at dksX5_goOn_1 0 rfl rfl)
theorem dX5_goOn_26 : decode cX5_goOn 26 = .ok (.irem, 1) := dk_112 (dk_at dksX5_goOn_1 2 rfl rfl)
theorem dX5_goOn_27 : decode cX5_goOn 27 = .ok (.putfield 40, 3) := dk_181 0 40 (dk_at dksX5_goOn_1 3 rfl rfl)
theorem dX5_goOn_30 : decode cX5_goOn 30 = .ok (.aload_n 0, 1) := dk_42 (dk_at dksX5_goOn_1 6 rfl rfl)
theorem dX5_goOn_31 : decode cX5_goOn 31 = .ok (.aload_n 0, 1) := dk_42 (dk_at dksX5_goOn_1 7 rfl rfl)
theorem dX5_goOn_32 : decode cX5_goOn 32 = .ok (.getfield 23, 3) := dk_180 0 23 (dk_at dksX5_goOn_1 8 rfl rfl)
theorem dX5_goOn_35 : decode cX5_goOn 35 = .ok (.ifCond .eq 17, 3) := dk_153 0 17 (dk_at dksX5_goOn_1 11 rfl rfl)
theorem dX5_goOn_38 : decode cX5_goOn 38 = .ok (.aload_n 0, 1) := dk_42 (dk_at dksX5_goOn_1 14 rfl rfl)
theorem dX5_goOn_39 : decode cX5_goOn 39 = .ok (.getfield 43, 3) := dk_180 0 43 (dk_at dksX5_goOn_1 15 rfl rfl)
theorem dX5_goOn_42 : decode cX5_goOn 42 = .ok (.aload_n 0, 1) := dk_42 (dk_at dksX5_goOn_1 18 rfl rfl)
theorem dX5_goOn_43 : decode cX5_goOn 43 = .ok (.getfield 36, 3) := dk_180 0 36 (dk_at dksX5_goOn_1 19 rfl rfl)
theorem dX5_goOn_46 : decode cX5_goOn 46 = .ok (.getfield 59, 3) := dk_180 0 59 (dk_at dksX5_goOn_2 0 rfl rfl)
theorem dX5_goOn_49 : decode cX5_goOn 49 = .ok (.if_icmp .ge 7, 3) := dk_162 0 7 (dk_at dksX5_goOn_2 3 rfl rfl)
theorem dX5_goOn_52 : decode cX5_goOn 52 = .ok (.iconst 1, 1) := dk_4 (dk_at dksX5_goOn_2 6 rfl rfl)
theorem dX5_goOn_53 : decode cX5_goOn 53 = .ok (.goto 4, 3) := dk_167 0 4 (dk_at dksX5_goOn_2 7 rfl rfl)
theorem dX5_goOn_56 : decode cX5_goOn 56 = .ok (.iconst 0, 1) := dk_3 (dk_at dksX5_goOn_2 10 rfl rfl)
theorem dX5_goOn_57 : decode cX5_goOn 57 = .ok (.putfield 19, 3) := dk_181 0 19 (dk_at dksX5_goOn_2 11 rfl rfl)
theorem dX5_goOn_60 : decode cX5_goOn 60 = .ok (.return_, 1) := dk_177 (dk_at dksX5_goOn_2 14 rfl rfl)
abbrev cX5_keep : ByteArray := prog_10_method_10_code
def yX5_keep : MethodName := ⟨RX5, "keep", "()V"⟩
def dkwX5_keep_1 : List UInt8 := [180, 0, 40, 79, 42, 180, 0, 9, 5, 42, 180, 0, 43, 79, 177]
abbrev dktX5_keep_1 : List UInt8 := dkwX5_keep_1 ++ []
def dkwX5_keep_0 : List UInt8 := [42, 180, 0, 9, 3, 42, 180, 0, 19, 153, 0, 7, 4, 167, 0, 4, 3, 79, 42, 180, 0, 9, 4, 42]
abbrev dktX5_keep_0 : List UInt8 := dkwX5_keep_0 ++ dktX5_keep_1
theorem dksX5_keep_0 : cX5_keep.data.toList.drop 0 = dktX5_keep_0 := by decide +kernel
theorem dksX5_keep_1 : cX5_keep.data.toList.drop 24 = dktX5_keep_1 := dk_seg dksX5_keep_0 24 rfl rfl
theorem dX5_keep_0 : decode cX5_keep 0 = .ok (.aload_n 0, 1) := dk_42 (dk_at dksX5_keep_0 0 rfl rfl)
theorem dX5_keep_1 : decode cX5_keep 1 = .ok (.getfield 9, 3) := dk_180 0 9 (dk_at dksX5_keep_0 1 rfl rfl)
theorem dX5_keep_4 : decode cX5_keep 4 = .ok (.iconst 0, 1) := dk_3 (dk_at dksX5_keep_0 4 rfl rfl)
theorem dX5_keep_5 : decode cX5_keep 5 = .ok (.aload_n 0, 1) := dk_42 (dk_at dksX5_keep_0 5 rfl rfl)
theorem dX5_keep_6 : decode cX5_keep 6 = .ok (.getfield 19, 3) := dk_180 0 19 (dk_at dksX5_keep_0 6 rfl rfl)
theorem dX5_keep_9 : decode cX5_keep 9 = .ok (.ifCond .eq 7, 3) := dk_153 0 7 (dk_at dksX5_keep_0 9 rfl rfl)
theorem dX5_keep_12 : decode cX5_keep 12 = .ok (.iconst 1, 1) := dk_4 (dk_at dksX5_keep_0 12 rfl rfl)
theorem dX5_keep_13 : decode cX5_keep 13 = .ok (.goto 4, 3) := dk_167 0 4 (dk_at dksX5_keep_0 13 rfl rfl)
theorem dX5_keep_16 : decode cX5_keep 16 = .ok (.iconst 0, 1) := dk_3 (dk_at dksX5_keep_0 16 rfl rfl)
theorem dX5_keep_17 : decode cX5_keep 17 = .ok (.iastore, 1) := dk_79 (dk_at dksX5_keep_0 17 rfl rfl)
theorem dX5_keep_18 : decode cX5_keep 18 = .ok (.aload_n 0, 1) := dk_42 (dk_at dksX5_keep_0 18 rfl rfl)
theorem dX5_keep_19 : decode cX5_keep 19 = .ok (.getfield 9, 3) := dk_180 0 9 (dk_at dksX5_keep_0 19 rfl rfl)
theorem dX5_keep_22 : decode cX5_keep 22 = .ok (.iconst 1, 1) := dk_4 (dk_at dksX5_keep_0 22 rfl rfl)
theorem dX5_keep_23 : decode cX5_keep 23 = .ok (.aload_n 0, 1) := dk_42 (dk_at dksX5_keep_0 23 rfl rfl)
theorem dX5_keep_24 : decode cX5_keep 24 = .ok (.getfield 40, 3) := dk_180 0 40 (dk_at dksX5_keep_1 0 rfl rfl)
theorem dX5_keep_27 : decode cX5_keep 27 = .ok (.iastore, 1) := dk_79 (dk_at dksX5_keep_1 3 rfl rfl)
theorem dX5_keep_28 : decode cX5_keep 28 = .ok (.aload_n 0, 1) := dk_42 (dk_at dksX5_keep_1 4 rfl rfl)
theorem dX5_keep_29 : decode cX5_keep 29 = .ok (.getfield 9, 3) := dk_180 0 9 (dk_at dksX5_keep_1 5 rfl rfl)
theorem dX5_keep_32 : decode cX5_keep 32 = .ok (.iconst 2, 1) := dk_5 (dk_at dksX5_keep_1 8 rfl rfl)
theorem dX5_keep_33 : decode cX5_keep 33 = .ok (.aload_n 0, 1) := dk_42 (dk_at dksX5_keep_1 9 rfl rfl)
theorem dX5_keep_34 : decode cX5_keep 34 = .ok (.getfield 43, 3) := dk_180 0 43 (dk_at dksX5_keep_1 10 rfl rfl)
theorem dX5_keep_37 : decode cX5_keep 37 = .ok (.iastore, 1) := dk_79 (dk_at dksX5_keep_1 13 rfl rfl)
theorem dX5_keep_38 : decode cX5_keep 38 = .ok (.return_, 1) := dk_177 (dk_at dksX5_keep_1 14 rfl rfl)
abbrev cX5_takeBack : ByteArray := prog_10_method_11_code
def yX5_takeBack : MethodName := ⟨RX5, "takeBack", "()V"⟩
def dkwX5_takeBack_1 : List UInt8 := [4, 46, 181, 0, 40, 42, 42, 180, 0, 9, 5, 46, 181, 0, 43, 177]
abbrev dktX5_takeBack_1 : List UInt8 := dkwX5_takeBack_1 ++ []
def dkwX5_takeBack_0 : List UInt8 := [42, 42, 180, 0, 9, 3, 46, 4, 160, 0, 7, 4, 167, 0, 4, 3, 181, 0, 19, 42, 42, 180, 0, 9]
abbrev dktX5_takeBack_0 : List UInt8 := dkwX5_takeBack_0 ++ dktX5_takeBack_1
theorem dksX5_takeBack_0 : cX5_takeBack.data.toList.drop 0 = dktX5_takeBack_0 := by decide +kernel
theorem dksX5_takeBack_1 : cX5_takeBack.data.toList.drop 24 = dktX5_takeBack_1 := dk_seg dksX5_takeBack_0 24 rfl rfl
theorem dX5_takeBack_0 : decode cX5_takeBack 0 = .ok (.aload_n 0, 1) := dk_42 (dk_at dksX5_takeBack_0 0 rfl rfl)
theorem dX5_takeBack_1 : decode cX5_takeBack 1 = .ok (.aload_n 0, 1) := dk_42 (dk_at dksX5_takeBack_0 1 rfl rfl)
theorem dX5_takeBack_2 : decode cX5_takeBack 2 = .ok (.getfield 9, 3) := dk_180 0 9 (dk_at dksX5_takeBack_0 2 rfl rfl)
theorem dX5_takeBack_5 : decode cX5_takeBack 5 = .ok (.iconst 0, 1) := dk_3 (dk_at dksX5_takeBack_0 5 rfl rfl)
theorem dX5_takeBack_6 : decode cX5_takeBack 6 = .ok (.iaload, 1) := dk_46 (dk_at dksX5_takeBack_0 6 rfl rfl)
theorem dX5_takeBack_7 : decode cX5_takeBack 7 = .ok (.iconst 1, 1) := dk_4 (dk_at dksX5_takeBack_0 7 rfl rfl)
theorem dX5_takeBack_8 : decode cX5_takeBack 8 = .ok (.if_icmp .ne 7, 3) := dk_160 0 7 (dk_at dksX5_takeBack_0 8 rfl rfl)
theorem dX5_takeBack_11 : decode cX5_takeBack 11 = .ok (.iconst 1, 1) := dk_4 (dk_at dksX5_takeBack_0 11 rfl rfl)
theorem dX5_takeBack_12 : decode cX5_takeBack 12 = .ok (.goto 4, 3) := dk_167 0 4 (dk_at dksX5_takeBack_0 12 rfl rfl)
theorem dX5_takeBack_15 : decode cX5_takeBack 15 = .ok (.iconst 0, 1) := dk_3 (dk_at dksX5_takeBack_0 15 rfl rfl)
theorem dX5_takeBack_16 : decode cX5_takeBack 16 = .ok (.putfield 19, 3) := dk_181 0 19 (dk_at dksX5_takeBack_0 16 rfl rfl)
theorem dX5_takeBack_19 : decode cX5_takeBack 19 = .ok (.aload_n 0, 1) := dk_42 (dk_at dksX5_takeBack_0 19 rfl rfl)
theorem dX5_takeBack_20 : decode cX5_takeBack 20 = .ok (.aload_n 0, 1) := dk_42 (dk_at dksX5_takeBack_0 20 rfl rfl)
theorem dX5_takeBack_21 : decode cX5_takeBack 21 = .ok (.getfield 9, 3) := dk_180 0 9 (dk_at dksX5_takeBack_0 21 rfl rfl)
theorem dX5_takeBack_24 : decode cX5_takeBack 24 = .ok (.iconst 1, 1) := dk_4 (dk_at dksX5_takeBack_1 0 rfl rfl)
theorem dX5_takeBack_25 : decode cX5_takeBack 25 = .ok (.iaload, 1) := dk_46 (dk_at dksX5_takeBack_1 1 rfl rfl)
theorem dX5_takeBack_26 : decode cX5_takeBack 26 = .ok (.putfield 40, 3) := dk_181 0 40 (dk_at dksX5_takeBack_1 2 rfl rfl)
theorem dX5_takeBack_29 : decode cX5_takeBack 29 = .ok (.aload_n 0, 1) := dk_42 (dk_at dksX5_takeBack_1 5 rfl rfl)
theorem dX5_takeBack_30 : decode cX5_takeBack 30 = .ok (.aload_n 0, 1) := dk_42 (dk_at dksX5_takeBack_1 6 rfl rfl)
theorem dX5_takeBack_31 : decode cX5_takeBack 31 = .ok (.getfield 9, 3) := dk_180 0 9 (dk_at dksX5_takeBack_1 7 rfl rfl)
theorem dX5_takeBack_34 : decode cX5_takeBack 34 = .ok (.iconst 2, 1) := dk_5 (dk_at dksX5_takeBack_1 10 rfl rfl)
theorem dX5_takeBack_35 : decode cX5_takeBack 35 = .ok (.iaload, 1) := dk_46 (dk_at dksX5_takeBack_1 11 rfl rfl)
theorem dX5_takeBack_36 : decode cX5_takeBack 36 = .ok (.putfield 43, 3) := dk_181 0 43 (dk_at dksX5_takeBack_1 12 rfl rfl)
theorem dX5_takeBack_39 : decode cX5_takeBack 39 = .ok (.return_, 1) := dk_177 (dk_at dksX5_takeBack_1 15 rfl rfl)
abbrev cX5_addTo : ByteArray := prog_10_method_9_code
def yX5_addTo : MethodName := ⟨RX5, "addTo", "([II)V"⟩
def dkwX5_addTo_3 : List UInt8 := [132, 3, 1, 167, 255, 204, 167, 255, 183, 177]
abbrev dktX5_addTo_3 : List UInt8 := dkwX5_addTo_3 ++ []
def dkwX5_addTo_2 : List UInt8 := [42, 180, 0, 36, 180, 0, 87, 167, 0, 7, 42, 182, 0, 75, 182, 0, 78, 96, 79, 42, 182, 0, 81]
abbrev dktX5_addTo_2 : List UInt8 := dkwX5_addTo_2 ++ dktX5_addTo_3
def dkwX5_addTo_1 : List UInt8 := [162, 0, 53, 42, 182, 0, 84, 21, 4, 160, 0, 44, 43, 29, 92, 46, 42, 21, 4, 16, 115, 160, 0, 13]
abbrev dktX5_addTo_1 : List UInt8 := dkwX5_addTo_1 ++ dktX5_addTo_2
def dkwX5_addTo_0 : List UInt8 := [3, 62, 29, 28, 162, 0, 74, 42, 180, 0, 19, 153, 0, 67, 42, 182, 0, 84, 54, 4, 29, 28]
abbrev dktX5_addTo_0 : List UInt8 := dkwX5_addTo_0 ++ dktX5_addTo_1
theorem dksX5_addTo_0 : cX5_addTo.data.toList.drop 0 = dktX5_addTo_0 := by decide +kernel
theorem dksX5_addTo_1 : cX5_addTo.data.toList.drop 22 = dktX5_addTo_1 := dk_seg dksX5_addTo_0 22 rfl rfl
theorem dksX5_addTo_2 : cX5_addTo.data.toList.drop 46 = dktX5_addTo_2 := dk_seg dksX5_addTo_1 24 rfl rfl
theorem dksX5_addTo_3 : cX5_addTo.data.toList.drop 69 = dktX5_addTo_3 := dk_seg dksX5_addTo_2 23 rfl rfl
theorem dX5_addTo_0 : decode cX5_addTo 0 = .ok (.iconst 0, 1) := dk_3 (dk_at dksX5_addTo_0 0 rfl rfl)
theorem dX5_addTo_1 : decode cX5_addTo 1 = .ok (.istore_n 3, 1) := dk_62 (dk_at dksX5_addTo_0 1 rfl rfl)
theorem dX5_addTo_2 : decode cX5_addTo 2 = .ok (.iload_n 3, 1) := dk_29 (dk_at dksX5_addTo_0 2 rfl rfl)
theorem dX5_addTo_3 : decode cX5_addTo 3 = .ok (.iload_n 2, 1) := dk_28 (dk_at dksX5_addTo_0 3 rfl rfl)
theorem dX5_addTo_4 : decode cX5_addTo 4 = .ok (.if_icmp .ge 74, 3) := dk_162 0 74 (dk_at dksX5_addTo_0 4 rfl rfl)
theorem dX5_addTo_7 : decode cX5_addTo 7 = .ok (.aload_n 0, 1) := dk_42 (dk_at dksX5_addTo_0 7 rfl rfl)
theorem dX5_addTo_8 : decode cX5_addTo 8 = .ok (.getfield 19, 3) := dk_180 0 19 (dk_at dksX5_addTo_0 8 rfl rfl)
theorem dX5_addTo_11 : decode cX5_addTo 11 = .ok (.ifCond .eq 67, 3) := dk_153 0 67 (dk_at dksX5_addTo_0 11 rfl rfl)
theorem dX5_addTo_14 : decode cX5_addTo 14 = .ok (.aload_n 0, 1) := dk_42 (dk_at dksX5_addTo_0 14 rfl rfl)
theorem dX5_addTo_15 : decode cX5_addTo 15 = .ok (.invokevirtual 84, 3) := dk_182 0 84 (dk_at dksX5_addTo_0 15 rfl rfl)
theorem dX5_addTo_18 : decode cX5_addTo 18 = .ok (.istore 4, 2) := dk_54 4 (dk_at dksX5_addTo_0 18 rfl rfl)
theorem dX5_addTo_20 : decode cX5_addTo 20 = .ok (.iload_n 3, 1) := dk_29 (dk_at dksX5_addTo_0 20 rfl rfl)
theorem dX5_addTo_21 : decode cX5_addTo 21 = .ok (.iload_n 2, 1) := dk_28 (dk_at dksX5_addTo_0 21 rfl rfl)
theorem dX5_addTo_22 : decode cX5_addTo 22 = .ok (.if_icmp .ge 53, 3) := dk_162 0 53 (dk_at dksX5_addTo_1 0 rfl rfl)
theorem dX5_addTo_25 : decode cX5_addTo 25 = .ok (.aload_n 0, 1) := dk_42 (dk_at dksX5_addTo_1 3 rfl rfl)
theorem dX5_addTo_26 : decode cX5_addTo 26 = .ok (.invokevirtual 84, 3) := dk_182 0 84 (dk_at dksX5_addTo_1 4 rfl rfl)
theorem dX5_addTo_29 : decode cX5_addTo 29 = .ok (.iload 4, 2) := dk_21 4 (dk_at dksX5_addTo_1 7 rfl rfl)
theorem dX5_addTo_31 : decode cX5_addTo 31 = .ok (.if_icmp .ne 44, 3) := dk_160 0 44 (dk_at dksX5_addTo_1 9 rfl rfl)
theorem dX5_addTo_34 : decode cX5_addTo 34 = .ok (.aload_n 1, 1) := dk_43 (dk_at dksX5_addTo_1 12 rfl rfl)
theorem dX5_addTo_35 : decode cX5_addTo 35 = .ok (.iload_n 3, 1) := dk_29 (dk_at dksX5_addTo_1 13 rfl rfl)
theorem dX5_addTo_36 : decode cX5_addTo 36 = .ok (.dup2, 1) := dk_92 (dk_at dksX5_addTo_1 14 rfl rfl)
theorem dX5_addTo_37 : decode cX5_addTo 37 = .ok (.iaload, 1) := dk_46 (dk_at dksX5_addTo_1 15 rfl rfl)
theorem dX5_addTo_38 : decode cX5_addTo 38 = .ok (.aload_n 0, 1) := dk_42 (dk_at dksX5_addTo_1 16 rfl rfl)
theorem dX5_addTo_39 : decode cX5_addTo 39 = .ok (.iload 4, 2) := dk_21 4 (dk_at dksX5_addTo_1 17 rfl rfl)
theorem dX5_addTo_41 : decode cX5_addTo 41 = .ok (.bipush 115, 2) := dk_16 115 (dk_at dksX5_addTo_1 19 rfl rfl)
theorem dX5_addTo_43 : decode cX5_addTo 43 = .ok (.if_icmp .ne 13, 3) := dk_160 0 13 (dk_at dksX5_addTo_1 21 rfl rfl)
theorem dX5_addTo_46 : decode cX5_addTo 46 = .ok (.aload_n 0, 1) := dk_42 (dk_at dksX5_addTo_2 0 rfl rfl)
theorem dX5_addTo_47 : decode cX5_addTo 47 = .ok (.getfield 36, 3) := dk_180 0 36 (dk_at dksX5_addTo_2 1 rfl rfl)
theorem dX5_addTo_50 : decode cX5_addTo 50 = .ok (.getfield 87, 3) := dk_180 0 87 (dk_at dksX5_addTo_2 4 rfl rfl)
theorem dX5_addTo_53 : decode cX5_addTo 53 = .ok (.goto 7, 3) := dk_167 0 7 (dk_at dksX5_addTo_2 7 rfl rfl)
theorem dX5_addTo_56 : decode cX5_addTo 56 = .ok (.aload_n 0, 1) := dk_42 (dk_at dksX5_addTo_2 10 rfl rfl)
theorem dX5_addTo_57 : decode cX5_addTo 57 = .ok (.invokevirtual 75, 3) := dk_182 0 75 (dk_at dksX5_addTo_2 11 rfl rfl)
theorem dX5_addTo_60 : decode cX5_addTo 60 = .ok (.invokevirtual 78, 3) := dk_182 0 78 (dk_at dksX5_addTo_2 14 rfl rfl)
theorem dX5_addTo_63 : decode cX5_addTo 63 = .ok (.iadd, 1) := dk_96 (dk_at dksX5_addTo_2 17 rfl rfl)
theorem dX5_addTo_64 : decode cX5_addTo 64 = .ok (.iastore, 1) := dk_79 (dk_at dksX5_addTo_2 18 rfl rfl)
theorem dX5_addTo_65 : decode cX5_addTo 65 = .ok (.aload_n 0, 1) := dk_42 (dk_at dksX5_addTo_2 19 rfl rfl)
theorem dX5_addTo_66 : decode cX5_addTo 66 = .ok (.invokevirtual 81, 3) := dk_182 0 81 (dk_at dksX5_addTo_2 20 rfl rfl)
theorem dX5_addTo_69 : decode cX5_addTo 69 = .ok (.iinc 3 1, 3) := dk_132 3 1 (dk_at dksX5_addTo_3 0 rfl rfl)
theorem dX5_addTo_72 : decode cX5_addTo 72 = .ok (.goto (-52), 3) := dk_167 255 204 (dk_at dksX5_addTo_3 3 rfl rfl)
theorem dX5_addTo_75 : decode cX5_addTo 75 = .ok (.goto (-73), 3) := dk_167 255 183 (dk_at dksX5_addTo_3 6 rfl rfl)
theorem dX5_addTo_78 : decode cX5_addTo 78 = .ok (.return_, 1) := dk_177 (dk_at dksX5_addTo_3 9 rfl rfl)
abbrev cX5_state : ByteArray := prog_10_method_5_code
def yX5_state : MethodName := ⟨RX5, "state", "()C"⟩
def dkwX5_state_1 : List UInt8 := [42, 180, 0, 36, 42, 180, 0, 43, 182, 0, 62, 172]
abbrev dktX5_state_1 : List UInt8 := dkwX5_state_1 ++ []
def dkwX5_state_0 : List UInt8 := [42, 180, 0, 19, 154, 0, 8, 16, 102, 167, 0, 26, 42, 180, 0, 23, 153, 0, 8, 16, 114, 167, 0, 14]
abbrev dktX5_state_0 : List UInt8 := dkwX5_state_0 ++ dktX5_state_1
theorem dksX5_state_0 : cX5_state.data.toList.drop 0 = dktX5_state_0 := by decide +kernel
theorem dksX5_state_1 : cX5_state.data.toList.drop 24 = dktX5_state_1 := dk_seg dksX5_state_0 24 rfl rfl
theorem dX5_state_0 : decode cX5_state 0 = .ok (.aload_n 0, 1) := dk_42 (dk_at dksX5_state_0 0 rfl rfl)
theorem dX5_state_1 : decode cX5_state 1 = .ok (.getfield 19, 3) := dk_180 0 19 (dk_at dksX5_state_0 1 rfl rfl)
theorem dX5_state_4 : decode cX5_state 4 = .ok (.ifCond .ne 8, 3) := dk_154 0 8 (dk_at dksX5_state_0 4 rfl rfl)
theorem dX5_state_7 : decode cX5_state 7 = .ok (.bipush 102, 2) := dk_16 102 (dk_at dksX5_state_0 7 rfl rfl)
theorem dX5_state_9 : decode cX5_state 9 = .ok (.goto 26, 3) := dk_167 0 26 (dk_at dksX5_state_0 9 rfl rfl)
theorem dX5_state_12 : decode cX5_state 12 = .ok (.aload_n 0, 1) := dk_42 (dk_at dksX5_state_0 12 rfl rfl)
theorem dX5_state_13 : decode cX5_state 13 = .ok (.getfield 23, 3) := dk_180 0 23 (dk_at dksX5_state_0 13 rfl rfl)
theorem dX5_state_16 : decode cX5_state 16 = .ok (.ifCond .eq 8, 3) := dk_153 0 8 (dk_at dksX5_state_0 16 rfl rfl)
theorem dX5_state_19 : decode cX5_state 19 = .ok (.bipush 114, 2) := dk_16 114 (dk_at dksX5_state_0 19 rfl rfl)
theorem dX5_state_21 : decode cX5_state 21 = .ok (.goto 14, 3) := dk_167 0 14 (dk_at dksX5_state_0 21 rfl rfl)
theorem dX5_state_24 : decode cX5_state 24 = .ok (.aload_n 0, 1) := dk_42 (dk_at dksX5_state_1 0 rfl rfl)
theorem dX5_state_25 : decode cX5_state 25 = .ok (.getfield 36, 3) := dk_180 0 36 (dk_at dksX5_state_1 1 rfl rfl)
theorem dX5_state_28 : decode cX5_state 28 = .ok (.aload_n 0, 1) := dk_42 (dk_at dksX5_state_1 4 rfl rfl)
theorem dX5_state_29 : decode cX5_state 29 = .ok (.getfield 43, 3) := dk_180 0 43 (dk_at dksX5_state_1 5 rfl rfl)
theorem dX5_state_32 : decode cX5_state 32 = .ok (.invokevirtual 62, 3) := dk_182 0 62 (dk_at dksX5_state_1 8 rfl rfl)
theorem dX5_state_35 : decode cX5_state 35 = .ok (.ireturn, 1) := dk_172 (dk_at dksX5_state_1 11 rfl rfl)
abbrev cX5_begin : ByteArray := prog_10_method_2_code
def yX5_begin : MethodName := ⟨RX5, "begin", "(IILToneGraph$Wave;LToneGraph$Envelope;J)V"⟩
def dkwX5_begin_2 : List UInt8 := [181, 0, 46, 177]
abbrev dktX5_begin_2 : List UInt8 := dkwX5_begin_2 ++ []
def dkwX5_begin_1 : List UInt8 := [181, 0, 32, 42, 25, 4, 181, 0, 36, 42, 3, 181, 0, 40, 42, 3, 181, 0, 43, 42, 22, 5]
abbrev dktX5_begin_1 : List UInt8 := dkwX5_begin_1 ++ dktX5_begin_2
def dkwX5_begin_0 : List UInt8 := [42, 4, 181, 0, 19, 42, 3, 181, 0, 23, 42, 27, 181, 0, 26, 42, 28, 181, 0, 29, 42, 45]
abbrev dktX5_begin_0 : List UInt8 := dkwX5_begin_0 ++ dktX5_begin_1
theorem dksX5_begin_0 : cX5_begin.data.toList.drop 0 = dktX5_begin_0 := by decide +kernel
theorem dksX5_begin_1 : cX5_begin.data.toList.drop 22 = dktX5_begin_1 := dk_seg dksX5_begin_0 22 rfl rfl
theorem dksX5_begin_2 : cX5_begin.data.toList.drop 44 = dktX5_begin_2 := dk_seg dksX5_begin_1 22 rfl rfl
theorem dX5_begin_0 : decode cX5_begin 0 = .ok (.aload_n 0, 1) := dk_42 (dk_at dksX5_begin_0 0 rfl rfl)
theorem dX5_begin_1 : decode cX5_begin 1 = .ok (.iconst 1, 1) := dk_4 (dk_at dksX5_begin_0 1 rfl rfl)
theorem dX5_begin_2 : decode cX5_begin 2 = .ok (.putfield 19, 3) := dk_181 0 19 (dk_at dksX5_begin_0 2 rfl rfl)
theorem dX5_begin_5 : decode cX5_begin 5 = .ok (.aload_n 0, 1) := dk_42 (dk_at dksX5_begin_0 5 rfl rfl)
theorem dX5_begin_6 : decode cX5_begin 6 = .ok (.iconst 0, 1) := dk_3 (dk_at dksX5_begin_0 6 rfl rfl)
theorem dX5_begin_7 : decode cX5_begin 7 = .ok (.putfield 23, 3) := dk_181 0 23 (dk_at dksX5_begin_0 7 rfl rfl)
theorem dX5_begin_10 : decode cX5_begin 10 = .ok (.aload_n 0, 1) := dk_42 (dk_at dksX5_begin_0 10 rfl rfl)
theorem dX5_begin_11 : decode cX5_begin 11 = .ok (.iload_n 1, 1) := dk_27 (dk_at dksX5_begin_0 11 rfl rfl)
theorem dX5_begin_12 : decode cX5_begin 12 = .ok (.putfield 26, 3) := dk_181 0 26 (dk_at dksX5_begin_0 12 rfl rfl)
theorem dX5_begin_15 : decode cX5_begin 15 = .ok (.aload_n 0, 1) := dk_42 (dk_at dksX5_begin_0 15 rfl rfl)
theorem dX5_begin_16 : decode cX5_begin 16 = .ok (.iload_n 2, 1) := dk_28 (dk_at dksX5_begin_0 16 rfl rfl)
theorem dX5_begin_17 : decode cX5_begin 17 = .ok (.putfield 29, 3) := dk_181 0 29 (dk_at dksX5_begin_0 17 rfl rfl)
theorem dX5_begin_20 : decode cX5_begin 20 = .ok (.aload_n 0, 1) := dk_42 (dk_at dksX5_begin_0 20 rfl rfl)
theorem dX5_begin_21 : decode cX5_begin 21 = .ok (.aload_n 3, 1) := dk_45 (dk_at dksX5_begin_0 21 rfl rfl)
theorem dX5_begin_22 : decode cX5_begin 22 = .ok (.putfield 32, 3) := dk_181 0 32 (dk_at dksX5_begin_1 0 rfl rfl)
theorem dX5_begin_25 : decode cX5_begin 25 = .ok (.aload_n 0, 1) := dk_42 (dk_at dksX5_begin_1 3 rfl rfl)
theorem dX5_begin_26 : decode cX5_begin 26 = .ok (.aload 4, 2) := dk_25 4 (dk_at dksX5_begin_1 4 rfl rfl)
theorem dX5_begin_28 : decode cX5_begin 28 = .ok (.putfield 36, 3) := dk_181 0 36 (dk_at dksX5_begin_1 6 rfl rfl)
theorem dX5_begin_31 : decode cX5_begin 31 = .ok (.aload_n 0, 1) := dk_42 (dk_at dksX5_begin_1 9 rfl rfl)
theorem dX5_begin_32 : decode cX5_begin 32 = .ok (.iconst 0, 1) := dk_3 (dk_at dksX5_begin_1 10 rfl rfl)
theorem dX5_begin_33 : decode cX5_begin 33 = .ok (.putfield 40, 3) := dk_181 0 40 (dk_at dksX5_begin_1 11 rfl rfl)
theorem dX5_begin_36 : decode cX5_begin 36 = .ok (.aload_n 0, 1) := dk_42 (dk_at dksX5_begin_1 14 rfl rfl)
theorem dX5_begin_37 : decode cX5_begin 37 = .ok (.iconst 0, 1) := dk_3 (dk_at dksX5_begin_1 15 rfl rfl)
theorem dX5_begin_38 : decode cX5_begin 38 = .ok (.putfield 43, 3) := dk_181 0 43 (dk_at dksX5_begin_1 16 rfl rfl)
theorem dX5_begin_41 : decode cX5_begin 41 = .ok (.aload_n 0, 1) := dk_42 (dk_at dksX5_begin_1 19 rfl rfl)
theorem dX5_begin_42 : decode cX5_begin 42 = .ok (.lload 5, 2) := dk_22 5 (dk_at dksX5_begin_1 20 rfl rfl)
theorem dX5_begin_44 : decode cX5_begin 44 = .ok (.putfield 46, 3) := dk_181 0 46 (dk_at dksX5_begin_2 0 rfl rfl)
theorem dX5_begin_47 : decode cX5_begin 47 = .ok (.return_, 1) := dk_177 (dk_at dksX5_begin_2 3 rfl rfl)
theorem q60 : (Jvm.Cond.initialized "ToneGraph$Voice") ∈ lw_all := lw_g (lw_at lw_m1 8 rfl) rfl
theorem q133 : (Jvm.Cond.fieldLinkNest "ToneGraph$Voice" (87 : Nat) "ToneGraph$Envelope" "sustain" "I" "ToneGraph") ∈ lw_tbl := lw_at lw_m1 81 rfl
theorem q136 : (Jvm.Cond.fieldLinkNest "ToneGraph$Voice" (59 : Nat) "ToneGraph$Envelope" "release" "I" "ToneGraph") ∈ lw_tbl := lw_at lw_m1 84 rfl
theorem q159 : (Jvm.Cond.instantiable "ToneGraph$Voice" (12 : Nat)) ∈ lw_all := lw_g (lw_at lw_m1 107 rfl) rfl
theorem q161 : (Jvm.Cond.instanceMethod ({ cls := "ToneGraph$Voice", name := "<init>", desc := "(I)V" } : Jvm.MethodName)) ∈ lw_all := lw_g (lw_at lw_m1 109 rfl) rfl
theorem q162 : (Jvm.Cond.code ({ cls := "ToneGraph$Voice", name := "<init>", desc := "(I)V" } : Jvm.MethodName) prog_10_method_1_code (2 : Nat) (Option.none : Option Jvm.ClassFile.FieldType)) ∈ lw_all := lw_g (lw_at lw_m1 110 rfl) rfl
theorem q163 : (Jvm.Cond.methodLink "ToneGraph$Voice" (3 : Nat) ({ cls := "java/lang/Object", name := "<init>", desc := "()V" } : Jvm.MethodName)) ∈ lw_all := lw_g (lw_at lw_m1 111 rfl) rfl
theorem q164 : (Jvm.Cond.fieldLink "ToneGraph$Voice" (15 : Nat) "ToneGraph$Voice" "number" "I") ∈ lw_all := lw_g (lw_at lw_m1 112 rfl) rfl
theorem q166 : (Jvm.Cond.fieldLink "ToneGraph$Voice" (19 : Nat) "ToneGraph$Voice" "playing" "Z") ∈ lw_all := lw_g (lw_at lw_m1 114 rfl) rfl
theorem q168 : (Jvm.Cond.fieldLink "ToneGraph$Voice" (23 : Nat) "ToneGraph$Voice" "released" "Z") ∈ lw_all := lw_g (lw_at lw_m1 116 rfl) rfl
theorem q170 : (Jvm.Cond.fieldLink "ToneGraph$Voice" (32 : Nat) "ToneGraph$Voice" "wave" "LToneGraph$Wave;") ∈ lw_all := lw_g (lw_at lw_m1 118 rfl) rfl
theorem q171 : (Jvm.Cond.fieldLink "ToneGraph$Voice" (36 : Nat) "ToneGraph$Voice" "envelope" "LToneGraph$Envelope;") ∈ lw_all := lw_g (lw_at lw_m1 119 rfl) rfl
theorem q172 : (Jvm.Cond.fieldLink "ToneGraph$Voice" (26 : Nat) "ToneGraph$Voice" "key" "I") ∈ lw_all := lw_g (lw_at lw_m1 120 rfl) rfl
theorem q174 : (Jvm.Cond.fieldLink "ToneGraph$Voice" (29 : Nat) "ToneGraph$Voice" "velocity" "I") ∈ lw_all := lw_g (lw_at lw_m1 122 rfl) rfl
theorem q175 : (Jvm.Cond.fieldLink "ToneGraph$Voice" (40 : Nat) "ToneGraph$Voice" "phase" "I") ∈ lw_all := lw_g (lw_at lw_m1 123 rfl) rfl
theorem q177 : (Jvm.Cond.fieldLink "ToneGraph$Voice" (43 : Nat) "ToneGraph$Voice" "sample" "I") ∈ lw_all := lw_g (lw_at lw_m1 125 rfl) rfl
theorem q178 : (Jvm.Cond.fieldLink "ToneGraph$Voice" (56 : Nat) "ToneGraph$Voice" "top" "I") ∈ lw_all := lw_g (lw_at lw_m1 126 rfl) rfl
theorem q179 : (Jvm.Cond.fieldLink "ToneGraph$Voice" (46 : Nat) "ToneGraph$Voice" "turn" "J") ∈ lw_all := lw_g (lw_at lw_m1 127 rfl) rfl
theorem q181 : (Jvm.Cond.fieldLink "ToneGraph$Voice" (9 : Nat) "ToneGraph$Voice" "kept" "[I") ∈ lw_all := lw_g (lw_at lw_m1 129 rfl) rfl
theorem q182 : (Jvm.Cond.laysFinal "ToneGraph$Voice" "ToneGraph$Voice" "number" "I") ∈ lw_all := lw_g (lw_at lw_m1 130 rfl) rfl
theorem q183 : (Jvm.Cond.soleField "ToneGraph$Voice" "number") ∈ lw_all := lw_g (lw_at lw_m1 131 rfl) rfl
theorem q184 : (Jvm.Cond.lays "ToneGraph$Voice" "ToneGraph$Voice" "playing" "Z") ∈ lw_all := lw_g (lw_at lw_m1 132 rfl) rfl
theorem q185 : (Jvm.Cond.soleField "ToneGraph$Voice" "playing") ∈ lw_all := lw_g (lw_at lw_m1 133 rfl) rfl
theorem q186 : (Jvm.Cond.lays "ToneGraph$Voice" "ToneGraph$Voice" "released" "Z") ∈ lw_all := lw_g (lw_at lw_m1 134 rfl) rfl
theorem q187 : (Jvm.Cond.soleField "ToneGraph$Voice" "released") ∈ lw_all := lw_g (lw_at lw_m1 135 rfl) rfl
theorem q188 : (Jvm.Cond.lays "ToneGraph$Voice" "ToneGraph$Voice" "wave" "LToneGraph$Wave;") ∈ lw_all := lw_g (lw_at lw_m1 136 rfl) rfl
theorem q189 : (Jvm.Cond.soleField "ToneGraph$Voice" "wave") ∈ lw_all := lw_g (lw_at lw_m1 137 rfl) rfl
theorem q190 : (Jvm.Cond.lays "ToneGraph$Voice" "ToneGraph$Voice" "envelope" "LToneGraph$Envelope;") ∈ lw_all := lw_g (lw_at lw_m1 138 rfl) rfl
theorem q191 : (Jvm.Cond.soleField "ToneGraph$Voice" "envelope") ∈ lw_all := lw_g (lw_at lw_m1 139 rfl) rfl
theorem q192 : (Jvm.Cond.lays "ToneGraph$Voice" "ToneGraph$Voice" "key" "I") ∈ lw_all := lw_g (lw_at lw_m1 140 rfl) rfl
theorem q193 : (Jvm.Cond.soleField "ToneGraph$Voice" "key") ∈ lw_all := lw_g (lw_at lw_m1 141 rfl) rfl
theorem q194 : (Jvm.Cond.lays "ToneGraph$Voice" "ToneGraph$Voice" "velocity" "I") ∈ lw_all := lw_g (lw_at lw_m1 142 rfl) rfl
theorem q195 : (Jvm.Cond.soleField "ToneGraph$Voice" "velocity") ∈ lw_all := lw_g (lw_at lw_m1 143 rfl) rfl
theorem q196 : (Jvm.Cond.lays "ToneGraph$Voice" "ToneGraph$Voice" "phase" "I") ∈ lw_all := lw_g (lw_at lw_m1 144 rfl) rfl
theorem q197 : (Jvm.Cond.soleField "ToneGraph$Voice" "phase") ∈ lw_all := lw_g (lw_at lw_m1 145 rfl) rfl
theorem q198 : (Jvm.Cond.lays "ToneGraph$Voice" "ToneGraph$Voice" "sample" "I") ∈ lw_all := lw_g (lw_at lw_m1 146 rfl) rfl
theorem q199 : (Jvm.Cond.soleField "ToneGraph$Voice" "sample") ∈ lw_all := lw_g (lw_at lw_m1 147 rfl) rfl
theorem q200 : (Jvm.Cond.lays "ToneGraph$Voice" "ToneGraph$Voice" "top" "I") ∈ lw_all := lw_g (lw_at lw_m1 148 rfl) rfl
theorem q201 : (Jvm.Cond.soleField "ToneGraph$Voice" "top") ∈ lw_all := lw_g (lw_at lw_m1 149 rfl) rfl
theorem q202 : (Jvm.Cond.lays "ToneGraph$Voice" "ToneGraph$Voice" "turn" "J") ∈ lw_all := lw_g (lw_at lw_m1 150 rfl) rfl
theorem q203 : (Jvm.Cond.soleField "ToneGraph$Voice" "turn") ∈ lw_all := lw_g (lw_at lw_m1 151 rfl) rfl
theorem q204 : (Jvm.Cond.laysFinal "ToneGraph$Voice" "ToneGraph$Voice" "kept" "[I") ∈ lw_all := lw_g (lw_at lw_m1 152 rfl) rfl
theorem q205 : (Jvm.Cond.soleField "ToneGraph$Voice" "kept") ∈ lw_all := lw_g (lw_at lw_m1 153 rfl) rfl
theorem q206 : (Jvm.Cond.superclass "ToneGraph$Voice" "java/lang/Object") ∈ lw_all := lw_g (lw_at lw_m1 154 rfl) rfl
theorem q290 : (Jvm.Cond.selects "ToneGraph$Voice" ({ cls := "java/lang/Object", name := "getClass", desc := "()Ljava/lang/Class;" } : Jvm.MethodName) ({ cls := "java/lang/Object", name := "getClass", desc := "()Ljava/lang/Class;" } : Jvm.MethodName)) ∈ lw_all := lw_g (lw_at lw_m1 238 rfl) rfl
theorem q401 : (Jvm.Cond.instanceMethod ({ cls := "ToneGraph$Voice", name := "release", desc := "(J)V" } : Jvm.MethodName)) ∈ lw_all := lw_g (lw_at lw_m2 109 rfl) rfl
theorem q402 : (Jvm.Cond.selects "ToneGraph$Voice" ({ cls := "ToneGraph$Voice", name := "release", desc := "(J)V" } : Jvm.MethodName) ({ cls := "ToneGraph$Voice", name := "release", desc := "(J)V" } : Jvm.MethodName)) ∈ lw_all := lw_g (lw_at lw_m2 110 rfl) rfl
theorem q403 : (Jvm.Cond.code ({ cls := "ToneGraph$Voice", name := "release", desc := "(J)V" } : Jvm.MethodName) prog_10_method_3_code (3 : Nat) (Option.none : Option Jvm.ClassFile.FieldType)) ∈ lw_all := lw_g (lw_at lw_m2 111 rfl) rfl
theorem q404 : (Jvm.Cond.methodLink "ToneGraph$Voice" (50 : Nat) ({ cls := "ToneGraph$Envelope", name := "level", desc := "(I)I" } : Jvm.MethodName)) ∈ lw_all := lw_g (lw_at lw_m2 112 rfl) rfl
theorem q458 : (Jvm.Cond.instanceMethod ({ cls := "ToneGraph$Voice", name := "next", desc := "()I" } : Jvm.MethodName)) ∈ lw_all := lw_g (lw_at lw_m2 166 rfl) rfl
theorem q459 : (Jvm.Cond.selects "ToneGraph$Voice" ({ cls := "ToneGraph$Voice", name := "next", desc := "()I" } : Jvm.MethodName) ({ cls := "ToneGraph$Voice", name := "next", desc := "()I" } : Jvm.MethodName)) ∈ lw_all := lw_g (lw_at lw_m2 167 rfl) rfl
theorem q460 : (Jvm.Cond.code ({ cls := "ToneGraph$Voice", name := "next", desc := "()I" } : Jvm.MethodName) prog_10_method_8_code (2 : Nat) (Option.some Jvm.ClassFile.FieldType.int)) ∈ lw_all := lw_g (lw_at lw_m2 168 rfl) rfl
theorem q461 : (Jvm.Cond.methodLink "ToneGraph$Voice" (75 : Nat) ({ cls := "ToneGraph$Voice", name := "level", desc := "()I" } : Jvm.MethodName)) ∈ lw_all := lw_g (lw_at lw_m2 169 rfl) rfl
theorem q462 : (Jvm.Cond.instanceMethod ({ cls := "ToneGraph$Voice", name := "level", desc := "()I" } : Jvm.MethodName)) ∈ lw_all := lw_g (lw_at lw_m2 170 rfl) rfl
theorem q463 : (Jvm.Cond.selects "ToneGraph$Voice" ({ cls := "ToneGraph$Voice", name := "level", desc := "()I" } : Jvm.MethodName) ({ cls := "ToneGraph$Voice", name := "level", desc := "()I" } : Jvm.MethodName)) ∈ lw_all := lw_g (lw_at lw_m2 171 rfl) rfl
theorem q464 : (Jvm.Cond.code ({ cls := "ToneGraph$Voice", name := "level", desc := "()I" } : Jvm.MethodName) prog_10_method_4_code (1 : Nat) (Option.some Jvm.ClassFile.FieldType.int)) ∈ lw_all := lw_g (lw_at lw_m2 172 rfl) rfl
theorem q465 : (Jvm.Cond.methodLink "ToneGraph$Voice" (78 : Nat) ({ cls := "ToneGraph$Voice", name := "sound", desc := "(I)I" } : Jvm.MethodName)) ∈ lw_all := lw_g (lw_at lw_m2 173 rfl) rfl
theorem q466 : (Jvm.Cond.privateMethod ({ cls := "ToneGraph$Voice", name := "sound", desc := "(I)I" } : Jvm.MethodName)) ∈ lw_tbl := lw_at lw_m2 174 rfl
theorem q467 : (Jvm.Cond.instanceMethod ({ cls := "ToneGraph$Voice", name := "sound", desc := "(I)I" } : Jvm.MethodName)) ∈ lw_all := lw_g (lw_at lw_m2 175 rfl) rfl
theorem q468 : (Jvm.Cond.code ({ cls := "ToneGraph$Voice", name := "sound", desc := "(I)I" } : Jvm.MethodName) prog_10_method_7_code (2 : Nat) (Option.some Jvm.ClassFile.FieldType.int)) ∈ lw_all := lw_g (lw_at lw_m2 176 rfl) rfl
theorem q469 : (Jvm.Cond.interfaceEntry "ToneGraph$Voice" (70 : Nat)) ∈ lw_tbl := lw_at lw_m2 177 rfl
theorem q470 : (Jvm.Cond.methodLink "ToneGraph$Voice" (70 : Nat) ({ cls := "ToneGraph$Wave", name := "at", desc := "(I)I" } : Jvm.MethodName)) ∈ lw_all := lw_g (lw_at lw_m2 178 rfl) rfl
theorem q473 : (Jvm.Cond.methodLink "ToneGraph$Voice" (81 : Nat) ({ cls := "ToneGraph$Voice", name := "goOn", desc := "()V" } : Jvm.MethodName)) ∈ lw_all := lw_g (lw_at lw_m2 181 rfl) rfl
theorem q474 : (Jvm.Cond.privateMethod ({ cls := "ToneGraph$Voice", name := "goOn", desc := "()V" } : Jvm.MethodName)) ∈ lw_tbl := lw_at lw_m2 182 rfl
theorem q475 : (Jvm.Cond.instanceMethod ({ cls := "ToneGraph$Voice", name := "goOn", desc := "()V" } : Jvm.MethodName)) ∈ lw_all := lw_g (lw_at lw_m2 183 rfl) rfl
theorem q476 : (Jvm.Cond.code ({ cls := "ToneGraph$Voice", name := "goOn", desc := "()V" } : Jvm.MethodName) prog_10_method_6_code (1 : Nat) (Option.none : Option Jvm.ClassFile.FieldType)) ∈ lw_all := lw_g (lw_at lw_m2 184 rfl) rfl
theorem q477 : (Jvm.Cond.fieldLinkNest "ToneGraph$Voice" (66 : Nat) "ToneGraph" "STEPS" "[I" "ToneGraph") ∈ lw_tbl := lw_at lw_m2 185 rfl
theorem q479 : (Jvm.Cond.constant "ToneGraph$Voice" (69 : Nat) (65536 : Int32)) ∈ lw_all := lw_g (lw_at lw_m2 187 rfl) rfl
theorem q635 : (Jvm.Cond.instanceMethod ({ cls := "ToneGraph$Voice", name := "keep", desc := "()V" } : Jvm.MethodName)) ∈ lw_all := lw_g (lw_at lw_m3 103 rfl) rfl
theorem q636 : (Jvm.Cond.selects "ToneGraph$Voice" ({ cls := "ToneGraph$Voice", name := "keep", desc := "()V" } : Jvm.MethodName) ({ cls := "ToneGraph$Voice", name := "keep", desc := "()V" } : Jvm.MethodName)) ∈ lw_all := lw_g (lw_at lw_m3 104 rfl) rfl
theorem q637 : (Jvm.Cond.code ({ cls := "ToneGraph$Voice", name := "keep", desc := "()V" } : Jvm.MethodName) prog_10_method_10_code (1 : Nat) (Option.none : Option Jvm.ClassFile.FieldType)) ∈ lw_all := lw_g (lw_at lw_m3 105 rfl) rfl
theorem q655 : (Jvm.Cond.instanceMethod ({ cls := "ToneGraph$Voice", name := "takeBack", desc := "()V" } : Jvm.MethodName)) ∈ lw_all := lw_g (lw_at lw_m3 123 rfl) rfl
theorem q656 : (Jvm.Cond.selects "ToneGraph$Voice" ({ cls := "ToneGraph$Voice", name := "takeBack", desc := "()V" } : Jvm.MethodName) ({ cls := "ToneGraph$Voice", name := "takeBack", desc := "()V" } : Jvm.MethodName)) ∈ lw_all := lw_g (lw_at lw_m3 124 rfl) rfl
theorem q657 : (Jvm.Cond.code ({ cls := "ToneGraph$Voice", name := "takeBack", desc := "()V" } : Jvm.MethodName) prog_10_method_11_code (1 : Nat) (Option.none : Option Jvm.ClassFile.FieldType)) ∈ lw_all := lw_g (lw_at lw_m3 125 rfl) rfl
theorem q678 : (Jvm.Cond.instanceMethod ({ cls := "ToneGraph$Voice", name := "addTo", desc := "([II)V" } : Jvm.MethodName)) ∈ lw_all := lw_g (lw_at lw_m3 146 rfl) rfl
theorem q679 : (Jvm.Cond.selects "ToneGraph$Voice" ({ cls := "ToneGraph$Voice", name := "addTo", desc := "([II)V" } : Jvm.MethodName) ({ cls := "ToneGraph$Voice", name := "addTo", desc := "([II)V" } : Jvm.MethodName)) ∈ lw_all := lw_g (lw_at lw_m3 147 rfl) rfl
theorem q680 : (Jvm.Cond.code ({ cls := "ToneGraph$Voice", name := "addTo", desc := "([II)V" } : Jvm.MethodName) prog_10_method_9_code (5 : Nat) (Option.none : Option Jvm.ClassFile.FieldType)) ∈ lw_all := lw_g (lw_at lw_m3 148 rfl) rfl
theorem q681 : (Jvm.Cond.methodLink "ToneGraph$Voice" (84 : Nat) ({ cls := "ToneGraph$Voice", name := "state", desc := "()C" } : Jvm.MethodName)) ∈ lw_all := lw_g (lw_at lw_m3 149 rfl) rfl
theorem q682 : (Jvm.Cond.instanceMethod ({ cls := "ToneGraph$Voice", name := "state", desc := "()C" } : Jvm.MethodName)) ∈ lw_all := lw_g (lw_at lw_m3 150 rfl) rfl
theorem q683 : (Jvm.Cond.selects "ToneGraph$Voice" ({ cls := "ToneGraph$Voice", name := "state", desc := "()C" } : Jvm.MethodName) ({ cls := "ToneGraph$Voice", name := "state", desc := "()C" } : Jvm.MethodName)) ∈ lw_all := lw_g (lw_at lw_m3 151 rfl) rfl
theorem q684 : (Jvm.Cond.code ({ cls := "ToneGraph$Voice", name := "state", desc := "()C" } : Jvm.MethodName) prog_10_method_5_code (1 : Nat) (Option.some Jvm.ClassFile.FieldType.char)) ∈ lw_all := lw_g (lw_at lw_m3 152 rfl) rfl
theorem q685 : (Jvm.Cond.methodLink "ToneGraph$Voice" (62 : Nat) ({ cls := "ToneGraph$Envelope", name := "state", desc := "(I)C" } : Jvm.MethodName)) ∈ lw_all := lw_g (lw_at lw_m3 153 rfl) rfl
theorem q1112 : (Jvm.Cond.instanceMethod ({ cls := "ToneGraph$Voice", name := "begin", desc := "(IILToneGraph$Wave;LToneGraph$Envelope;J)V" } : Jvm.MethodName)) ∈ lw_all := lw_g (lw_at lw_m5 100 rfl) rfl
theorem q1113 : (Jvm.Cond.selects "ToneGraph$Voice" ({ cls := "ToneGraph$Voice", name := "begin", desc := "(IILToneGraph$Wave;LToneGraph$Envelope;J)V" } : Jvm.MethodName) ({ cls := "ToneGraph$Voice", name := "begin", desc := "(IILToneGraph$Wave;LToneGraph$Envelope;J)V" } : Jvm.MethodName)) ∈ lw_all := lw_g (lw_at lw_m5 101 rfl) rfl
theorem q1114 : (Jvm.Cond.code ({ cls := "ToneGraph$Voice", name := "begin", desc := "(IILToneGraph$Wave;LToneGraph$Envelope;J)V" } : Jvm.MethodName) prog_10_method_2_code (7 : Nat) (Option.none : Option Jvm.ClassFile.FieldType)) ∈ lw_all := lw_g (lw_at lw_m5 102 rfl) rfl
theorem q1618 : (Jvm.Cond.castable "ToneGraph$Voice" "java/lang/Object") ∈ lw_tbl := lw_at lw_m7 126 rfl
theorem in_X5 : ∀ w ∈ wsX50, w ∈ lw_all := lw_in wsX50 [182, 184, 186, 188, 190, 192, 194, 196, 198, 200, 202, 204] (by decide +kernel) (by decide +kernel)

/-! ToneGraph$Gain -/
set_option maxRecDepth 100000
def RX7 : String := "ToneGraph$Gain"
def TX7 : u_T := fun k => match k with
  | 0 => ("ToneGraph$Node", "number", "I", true)
  | 1 => ("ToneGraph$Node", "kind", "C", true)
  | 2 => ("ToneGraph$Node", "wires", "Ljava/util/ArrayList;", true)
  | 3 => ("ToneGraph$Node", "row", "[I", true)
  | 4 => ("ToneGraph$Node", "now", "I", false)
  | 5 => ("ToneGraph$Node", "nowKept", "I", false)
  | 6 => ("ToneGraph$Node", "numbers", "[I", true)
  | 7 => ("ToneGraph$Node", "numbersKept", "[I", true)
  | 8 => ("ToneGraph$Node", "placed", "Z", false)
  | _ => ("ToneGraph$Gain", "percent", "I", false)
def tyX7 : Nat → FieldType := fun k => match k with
  | 0 => .int
  | 1 => .char
  | 2 => .object "java/util/ArrayList"
  | 3 => .array .int
  | 4 => .int
  | 5 => .int
  | 6 => .array .int
  | 7 => .array .int
  | 8 => .boolean
  | _ => .int
abbrev wsX70 : List Cond := u_ws RX7 TX7 10
theorem nmX7 : ∀ a, a < 10 → ∀ b, b < 10 → a ≠ b → (TX7 a).2.1 ≠ (TX7 b).2.1 := by decide +kernel
theorem tyX7_ok : ∀ k, k < 10 → parseFieldDescriptor (TX7 k).2.2.1 = some (tyX7 k) := by decide +kernel
abbrev cX7_made : ByteArray := prog_8_method_2_code
def yX7_made : MethodName := ⟨RX7, "made", "(I)I"⟩
def dkwX7_made_0 : List UInt8 := [27, 42, 180, 0, 7, 104, 16, 100, 108, 172]
abbrev dktX7_made_0 : List UInt8 := dkwX7_made_0 ++ []
theorem dksX7_made_0 : cX7_made.data.toList.drop 0 = dktX7_made_0 := by decide +kernel
theorem dX7_made_0 : decode cX7_made 0 = .ok (.iload_n 1, 1) := dk_27 (dk_at dksX7_made_0 0 rfl rfl)
theorem dX7_made_1 : decode cX7_made 1 = .ok (.aload_n 0, 1) := dk_42 (dk_at dksX7_made_0 1 rfl rfl)
theorem dX7_made_2 : decode cX7_made 2 = .ok (.getfield 7, 3) := dk_180 0 7 (dk_at dksX7_made_0 2 rfl rfl)
theorem dX7_made_5 : decode cX7_made 5 = .ok (.imul, 1) := dk_104 (dk_at dksX7_made_0 5 rfl rfl)
theorem dX7_made_6 : decode cX7_made 6 = .ok (.bipush 100, 2) := dk_16 100 (dk_at dksX7_made_0 6 rfl rfl)
theorem dX7_made_8 : decode cX7_made 8 = .ok (.idiv, 1) := dk_108 (dk_at dksX7_made_0 8 rfl rfl)
theorem dX7_made_9 : decode cX7_made 9 = .ok (.ireturn, 1) := dk_172 (dk_at dksX7_made_0 9 rfl rfl)
abbrev cX7_init : ByteArray := prog_8_method_1_code
def yX7_init : MethodName := ⟨RX7, "<init>", "(II)V"⟩
def dkwX7_init_0 : List UInt8 := [42, 27, 16, 103, 3, 188, 10, 183, 0, 1, 42, 28, 181, 0, 7, 177]
abbrev dktX7_init_0 : List UInt8 := dkwX7_init_0 ++ []
theorem dksX7_init_0 : cX7_init.data.toList.drop 0 = dktX7_init_0 := by decide +kernel
theorem dX7_init_0 : decode cX7_init 0 = .ok (.aload_n 0, 1) := dk_42 (dk_at dksX7_init_0 0 rfl rfl)
theorem dX7_init_1 : decode cX7_init 1 = .ok (.iload_n 1, 1) := dk_27 (dk_at dksX7_init_0 1 rfl rfl)
theorem dX7_init_2 : decode cX7_init 2 = .ok (.bipush 103, 2) := dk_16 103 (dk_at dksX7_init_0 2 rfl rfl)
theorem dX7_init_4 : decode cX7_init 4 = .ok (.iconst 0, 1) := dk_3 (dk_at dksX7_init_0 4 rfl rfl)
theorem dX7_init_5 : decode cX7_init 5 = .ok (.newarray .int, 2) := dk_188_10 (dk_at dksX7_init_0 5 rfl rfl)
theorem dX7_init_7 : decode cX7_init 7 = .ok (.invokespecial 1, 3) := dk_183 0 1 (dk_at dksX7_init_0 7 rfl rfl)
theorem dX7_init_10 : decode cX7_init 10 = .ok (.aload_n 0, 1) := dk_42 (dk_at dksX7_init_0 10 rfl rfl)
theorem dX7_init_11 : decode cX7_init 11 = .ok (.iload_n 2, 1) := dk_28 (dk_at dksX7_init_0 11 rfl rfl)
theorem dX7_init_12 : decode cX7_init 12 = .ok (.putfield 7, 3) := dk_181 0 7 (dk_at dksX7_init_0 12 rfl rfl)
theorem dX7_init_15 : decode cX7_init 15 = .ok (.return_, 1) := dk_177 (dk_at dksX7_init_0 15 rfl rfl)
theorem q71 : (Jvm.Cond.initialized "ToneGraph$Gain") ∈ lw_all := lw_g (lw_at lw_m1 19 rfl) rfl
theorem q289 : (Jvm.Cond.selects "ToneGraph$Gain" ({ cls := "java/lang/Object", name := "getClass", desc := "()Ljava/lang/Class;" } : Jvm.MethodName) ({ cls := "java/lang/Object", name := "getClass", desc := "()Ljava/lang/Class;" } : Jvm.MethodName)) ∈ lw_all := lw_g (lw_at lw_m1 237 rfl) rfl
theorem q392 : (Jvm.Cond.selects "ToneGraph$Gain" ({ cls := "ToneGraph$Node", name := "isDelay", desc := "()Z" } : Jvm.MethodName) ({ cls := "ToneGraph$Node", name := "isDelay", desc := "()Z" } : Jvm.MethodName)) ∈ lw_all := lw_g (lw_at lw_m2 100 rfl) rfl
theorem q431 : (Jvm.Cond.selects "ToneGraph$Gain" ({ cls := "ToneGraph$Node", name := "tick", desc := "()V" } : Jvm.MethodName) ({ cls := "ToneGraph$Node", name := "tick", desc := "()V" } : Jvm.MethodName)) ∈ lw_all := lw_g (lw_at lw_m2 139 rfl) rfl
theorem q440 : (Jvm.Cond.selects "ToneGraph$Gain" ({ cls := "ToneGraph$Node", name := "input", desc := "()I" } : Jvm.MethodName) ({ cls := "ToneGraph$Node", name := "input", desc := "()I" } : Jvm.MethodName)) ∈ lw_all := lw_g (lw_at lw_m2 148 rfl) rfl
theorem q490 : (Jvm.Cond.selects "ToneGraph$Gain" ({ cls := "ToneGraph$Node", name := "made", desc := "(I)I" } : Jvm.MethodName) ({ cls := "ToneGraph$Gain", name := "made", desc := "(I)I" } : Jvm.MethodName)) ∈ lw_all := lw_g (lw_at lw_m2 198 rfl) rfl
theorem q491 : (Jvm.Cond.instanceMethod ({ cls := "ToneGraph$Gain", name := "made", desc := "(I)I" } : Jvm.MethodName)) ∈ lw_all := lw_g (lw_at lw_m2 199 rfl) rfl
theorem q492 : (Jvm.Cond.code ({ cls := "ToneGraph$Gain", name := "made", desc := "(I)I" } : Jvm.MethodName) prog_8_method_2_code (2 : Nat) (Option.some Jvm.ClassFile.FieldType.int)) ∈ lw_all := lw_g (lw_at lw_m2 200 rfl) rfl
theorem q513 : (Jvm.Cond.selects "ToneGraph$Gain" ({ cls := "ToneGraph$Node", name := "takeIn", desc := "()V" } : Jvm.MethodName) ({ cls := "ToneGraph$Node", name := "takeIn", desc := "()V" } : Jvm.MethodName)) ∈ lw_all := lw_g (lw_at lw_m2 221 rfl) rfl
theorem q640 : (Jvm.Cond.selects "ToneGraph$Gain" ({ cls := "ToneGraph$Node", name := "keep", desc := "()V" } : Jvm.MethodName) ({ cls := "ToneGraph$Node", name := "keep", desc := "()V" } : Jvm.MethodName)) ∈ lw_all := lw_g (lw_at lw_m3 108 rfl) rfl
theorem q660 : (Jvm.Cond.selects "ToneGraph$Gain" ({ cls := "ToneGraph$Node", name := "takeBack", desc := "()V" } : Jvm.MethodName) ({ cls := "ToneGraph$Node", name := "takeBack", desc := "()V" } : Jvm.MethodName)) ∈ lw_all := lw_g (lw_at lw_m3 128 rfl) rfl
theorem q693 : (Jvm.Cond.selects "ToneGraph$Gain" ({ cls := "ToneGraph$Node", name := "fill", desc := "(I)V" } : Jvm.MethodName) ({ cls := "ToneGraph$Node", name := "fill", desc := "(I)V" } : Jvm.MethodName)) ∈ lw_all := lw_g (lw_at lw_m3 161 rfl) rfl
theorem q702 : (Jvm.Cond.selects "ToneGraph$Gain" ({ cls := "ToneGraph$Node", name := "input", desc := "(I)I" } : Jvm.MethodName) ({ cls := "ToneGraph$Node", name := "input", desc := "(I)I" } : Jvm.MethodName)) ∈ lw_all := lw_g (lw_at lw_m3 170 rfl) rfl
theorem q717 : (Jvm.Cond.selects "ToneGraph$Gain" ({ cls := "ToneGraph$Node", name := "takeIn", desc := "(I)V" } : Jvm.MethodName) ({ cls := "ToneGraph$Node", name := "takeIn", desc := "(I)V" } : Jvm.MethodName)) ∈ lw_all := lw_g (lw_at lw_m3 185 rfl) rfl
theorem q751 : (Jvm.Cond.instantiable "ToneGraph$Gain" (10 : Nat)) ∈ lw_all := lw_g (lw_at lw_m3 219 rfl) rfl
theorem q753 : (Jvm.Cond.instanceMethod ({ cls := "ToneGraph$Gain", name := "<init>", desc := "(II)V" } : Jvm.MethodName)) ∈ lw_all := lw_g (lw_at lw_m3 221 rfl) rfl
theorem q754 : (Jvm.Cond.code ({ cls := "ToneGraph$Gain", name := "<init>", desc := "(II)V" } : Jvm.MethodName) prog_8_method_1_code (3 : Nat) (Option.none : Option Jvm.ClassFile.FieldType)) ∈ lw_all := lw_g (lw_at lw_m3 222 rfl) rfl
theorem q755 : (Jvm.Cond.methodLink "ToneGraph$Gain" (1 : Nat) ({ cls := "ToneGraph$Node", name := "<init>", desc := "(IC[I)V" } : Jvm.MethodName)) ∈ lw_all := lw_g (lw_at lw_m3 223 rfl) rfl
theorem q756 : (Jvm.Cond.fieldLink "ToneGraph$Gain" (7 : Nat) "ToneGraph$Gain" "percent" "I") ∈ lw_all := lw_g (lw_at lw_m3 224 rfl) rfl
theorem q758 : (Jvm.Cond.lays "ToneGraph$Gain" "ToneGraph$Gain" "percent" "I") ∈ lw_all := lw_g (lw_at lw_m3 226 rfl) rfl
theorem q759 : (Jvm.Cond.soleField "ToneGraph$Gain" "percent") ∈ lw_all := lw_g (lw_at lw_m3 227 rfl) rfl
theorem q760 : (Jvm.Cond.laysFinal "ToneGraph$Gain" "ToneGraph$Node" "number" "I") ∈ lw_all := lw_g (lw_at lw_m3 228 rfl) rfl
theorem q761 : (Jvm.Cond.laysFinal "ToneGraph$Gain" "ToneGraph$Node" "kind" "C") ∈ lw_all := lw_g (lw_at lw_m3 229 rfl) rfl
theorem q762 : (Jvm.Cond.laysFinal "ToneGraph$Gain" "ToneGraph$Node" "wires" "Ljava/util/ArrayList;") ∈ lw_all := lw_g (lw_at lw_m3 230 rfl) rfl
theorem q763 : (Jvm.Cond.laysFinal "ToneGraph$Gain" "ToneGraph$Node" "row" "[I") ∈ lw_all := lw_g (lw_at lw_m3 231 rfl) rfl
theorem q764 : (Jvm.Cond.lays "ToneGraph$Gain" "ToneGraph$Node" "now" "I") ∈ lw_all := lw_g (lw_at lw_m3 232 rfl) rfl
theorem q765 : (Jvm.Cond.lays "ToneGraph$Gain" "ToneGraph$Node" "nowKept" "I") ∈ lw_all := lw_g (lw_at lw_m3 233 rfl) rfl
theorem q766 : (Jvm.Cond.laysFinal "ToneGraph$Gain" "ToneGraph$Node" "numbers" "[I") ∈ lw_all := lw_g (lw_at lw_m3 234 rfl) rfl
theorem q767 : (Jvm.Cond.laysFinal "ToneGraph$Gain" "ToneGraph$Node" "numbersKept" "[I") ∈ lw_all := lw_g (lw_at lw_m3 235 rfl) rfl
theorem q768 : (Jvm.Cond.lays "ToneGraph$Gain" "ToneGraph$Node" "placed" "Z") ∈ lw_all := lw_g (lw_at lw_m3 236 rfl) rfl
theorem q769 : (Jvm.Cond.superclass "ToneGraph$Gain" "ToneGraph$Node") ∈ lw_all := lw_g (lw_at lw_m3 237 rfl) rfl
theorem q932 : (Jvm.Cond.selects "ToneGraph$Gain" ({ cls := "ToneGraph$Node", name := "wireFrom", desc := "(LToneGraph$Node;)LToneGraph$Wire;" } : Jvm.MethodName) ({ cls := "ToneGraph$Node", name := "wireFrom", desc := "(LToneGraph$Node;)LToneGraph$Wire;" } : Jvm.MethodName)) ∈ lw_all := lw_g (lw_at lw_m4 160 rfl) rfl
theorem q941 : (Jvm.Cond.selects "ToneGraph$Gain" ({ cls := "ToneGraph$Node", name := "follows", desc := "(LToneGraph$Node;)Z" } : Jvm.MethodName) ({ cls := "ToneGraph$Node", name := "follows", desc := "(LToneGraph$Node;)Z" } : Jvm.MethodName)) ∈ lw_all := lw_g (lw_at lw_m4 169 rfl) rfl
theorem q1617 : (Jvm.Cond.castable "ToneGraph$Gain" "ToneGraph$Node") ∈ lw_tbl := lw_at lw_m7 125 rfl
theorem q1626 : (Jvm.Cond.castable "ToneGraph$Gain" "java/lang/Object") ∈ lw_tbl := lw_at lw_m7 134 rfl
theorem in_X7 : ∀ w ∈ wsX70, w ∈ lw_all := lw_in wsX70 [760, 761, 762, 763, 764, 765, 766, 767, 768, 758] (by decide +kernel) (by decide +kernel)

/-! ToneGraph$Delay -/
set_option maxRecDepth 100000
def RX8 : String := "ToneGraph$Delay"
def TX8 : u_T := fun k => match k with
  | 0 => ("ToneGraph$Node", "number", "I", true)
  | 1 => ("ToneGraph$Node", "kind", "C", true)
  | 2 => ("ToneGraph$Node", "wires", "Ljava/util/ArrayList;", true)
  | 3 => ("ToneGraph$Node", "row", "[I", true)
  | 4 => ("ToneGraph$Node", "now", "I", false)
  | 5 => ("ToneGraph$Node", "nowKept", "I", false)
  | 6 => ("ToneGraph$Node", "numbers", "[I", true)
  | 7 => ("ToneGraph$Node", "numbersKept", "[I", true)
  | 8 => ("ToneGraph$Node", "placed", "Z", false)
  | 9 => ("ToneGraph$Delay", "length", "I", true)
  | _ => ("ToneGraph$Delay", "feedback", "I", true)
def tyX8 : Nat → FieldType := fun k => match k with
  | 0 => .int
  | 1 => .char
  | 2 => .object "java/util/ArrayList"
  | 3 => .array .int
  | 4 => .int
  | 5 => .int
  | 6 => .array .int
  | 7 => .array .int
  | 8 => .boolean
  | 9 => .int
  | _ => .int
abbrev wsX80 : List Cond := u_ws RX8 TX8 11
theorem nmX8 : ∀ a, a < 11 → ∀ b, b < 11 → a ≠ b → (TX8 a).2.1 ≠ (TX8 b).2.1 := by decide +kernel
theorem tyX8_ok : ∀ k, k < 11 → parseFieldDescriptor (TX8 k).2.2.1 = some (tyX8 k) := by decide +kernel
abbrev cX8_isDelay : ByteArray := prog_5_method_2_code
def yX8_isDelay : MethodName := ⟨RX8, "isDelay", "()Z"⟩
theorem dX8_isDelay_0 : decode cX8_isDelay 0 = .ok (.iconst 1, 1) := by decide +kernel
theorem dX8_isDelay_1 : decode cX8_isDelay 1 = .ok (.ireturn, 1) := by decide +kernel
abbrev cX8_made : ByteArray := prog_5_method_3_code
def yX8_made : MethodName := ⟨RX8, "made", "(I)I"⟩
def dkwX8_made_0 : List UInt8 := [42, 180, 0, 16, 42, 180, 0, 16, 42, 180, 0, 7, 46, 46, 172]
abbrev dktX8_made_0 : List UInt8 := dkwX8_made_0 ++ []
theorem dksX8_made_0 : cX8_made.data.toList.drop 0 = dktX8_made_0 := by decide +kernel
theorem dX8_made_0 : decode cX8_made 0 = .ok (.aload_n 0, 1) := dk_42 (dk_at dksX8_made_0 0 rfl rfl)
theorem dX8_made_1 : decode cX8_made 1 = .ok (.getfield 16, 3) := dk_180 0 16 (dk_at dksX8_made_0 1 rfl rfl)
theorem dX8_made_4 : decode cX8_made 4 = .ok (.aload_n 0, 1) := dk_42 (dk_at dksX8_made_0 4 rfl rfl)
theorem dX8_made_5 : decode cX8_made 5 = .ok (.getfield 16, 3) := dk_180 0 16 (dk_at dksX8_made_0 5 rfl rfl)
theorem dX8_made_8 : decode cX8_made 8 = .ok (.aload_n 0, 1) := dk_42 (dk_at dksX8_made_0 8 rfl rfl)
theorem dX8_made_9 : decode cX8_made 9 = .ok (.getfield 7, 3) := dk_180 0 7 (dk_at dksX8_made_0 9 rfl rfl)
theorem dX8_made_12 : decode cX8_made 12 = .ok (.iaload, 1) := dk_46 (dk_at dksX8_made_0 12 rfl rfl)
theorem dX8_made_13 : decode cX8_made 13 = .ok (.iaload, 1) := dk_46 (dk_at dksX8_made_0 13 rfl rfl)
theorem dX8_made_14 : decode cX8_made 14 = .ok (.ireturn, 1) := dk_172 (dk_at dksX8_made_0 14 rfl rfl)
abbrev cX8_takeIn : ByteArray := prog_5_method_6_code
def yX8_takeIn : MethodName := ⟨RX8, "takeIn", "()V"⟩
def dkwX8_takeIn_0 : List UInt8 := [42, 42, 182, 0, 32, 42, 180, 0, 23, 182, 0, 36, 177]
abbrev dktX8_takeIn_0 : List UInt8 := dkwX8_takeIn_0 ++ []
theorem dksX8_takeIn_0 : cX8_takeIn.data.toList.drop 0 = dktX8_takeIn_0 := by decide +kernel
theorem dX8_takeIn_0 : decode cX8_takeIn 0 = .ok (.aload_n 0, 1) := dk_42 (dk_at dksX8_takeIn_0 0 rfl rfl)
theorem dX8_takeIn_1 : decode cX8_takeIn 1 = .ok (.aload_n 0, 1) := dk_42 (dk_at dksX8_takeIn_0 1 rfl rfl)
theorem dX8_takeIn_2 : decode cX8_takeIn 2 = .ok (.invokevirtual 32, 3) := dk_182 0 32 (dk_at dksX8_takeIn_0 2 rfl rfl)
theorem dX8_takeIn_5 : decode cX8_takeIn 5 = .ok (.aload_n 0, 1) := dk_42 (dk_at dksX8_takeIn_0 5 rfl rfl)
theorem dX8_takeIn_6 : decode cX8_takeIn 6 = .ok (.getfield 23, 3) := dk_180 0 23 (dk_at dksX8_takeIn_0 6 rfl rfl)
theorem dX8_takeIn_9 : decode cX8_takeIn 9 = .ok (.invokevirtual 36, 3) := dk_182 0 36 (dk_at dksX8_takeIn_0 9 rfl rfl)
theorem dX8_takeIn_12 : decode cX8_takeIn 12 = .ok (.return_, 1) := dk_177 (dk_at dksX8_takeIn_0 12 rfl rfl)
abbrev cX8_put : ByteArray := prog_5_method_5_code
def yX8_put : MethodName := ⟨RX8, "put", "(II)V"⟩
def dkwX8_put_2 : List UInt8 := [180, 0, 7, 112, 79, 177]
abbrev dktX8_put_2 : List UInt8 := dkwX8_put_2 ++ []
def dkwX8_put_1 : List UInt8 := [184, 0, 26, 79, 42, 180, 0, 16, 42, 180, 0, 7, 42, 180, 0, 16, 42, 180, 0, 7, 46, 4, 96, 42]
abbrev dktX8_put_1 : List UInt8 := dkwX8_put_1 ++ dktX8_put_2
def dkwX8_put_0 : List UInt8 := [42, 180, 0, 16, 42, 180, 0, 16, 42, 180, 0, 7, 46, 27, 28, 42, 180, 0, 13, 104, 16, 100, 108, 96]
abbrev dktX8_put_0 : List UInt8 := dkwX8_put_0 ++ dktX8_put_1
theorem dksX8_put_0 : cX8_put.data.toList.drop 0 = dktX8_put_0 := by decide +kernel
theorem dksX8_put_1 : cX8_put.data.toList.drop 24 = dktX8_put_1 := dk_seg dksX8_put_0 24 rfl rfl
theorem dksX8_put_2 : cX8_put.data.toList.drop 48 = dktX8_put_2 := dk_seg dksX8_put_1 24 rfl rfl
theorem dX8_put_0 : decode cX8_put 0 = .ok (.aload_n 0, 1) := dk_42 (dk_at dksX8_put_0 0 rfl rfl)
theorem dX8_put_1 : decode cX8_put 1 = .ok (.getfield 16, 3) := dk_180 0 16 (dk_at dksX8_put_0 1 rfl rfl)
theorem dX8_put_4 : decode cX8_put 4 = .ok (.aload_n 0, 1) := dk_42 (dk_at dksX8_put_0 4 rfl rfl)
theorem dX8_put_5 : decode cX8_put 5 = .ok (.getfield 16, 3) := dk_180 0 16 (dk_at dksX8_put_0 5 rfl rfl)
theorem dX8_put_8 : decode cX8_put 8 = .ok (.aload_n 0, 1) := dk_42 (dk_at dksX8_put_0 8 rfl rfl)
theorem dX8_put_9 : decode cX8_put 9 = .ok (.getfield 7, 3) := dk_180 0 7 (dk_at dksX8_put_0 9 rfl rfl)
theorem dX8_put_12 : decode cX8_put 12 = .ok (.iaload, 1) := dk_46 (dk_at dksX8_put_0 12 rfl rfl)
theorem dX8_put_13 : decode cX8_put 13 = .ok (.iload_n 1, 1) := dk_27 (dk_at dksX8_put_0 13 rfl rfl)
theorem dX8_put_14 : decode cX8_put 14 = .ok (.iload_n 2, 1) := dk_28 (dk_at dksX8_put_0 14 rfl rfl)
theorem dX8_put_15 : decode cX8_put 15 = .ok (.aload_n 0, 1) := dk_42 (dk_at dksX8_put_0 15 rfl rfl)
theorem dX8_put_16 : decode cX8_put 16 = .ok (.getfield 13, 3) := dk_180 0 13 (dk_at dksX8_put_0 16 rfl rfl)
theorem dX8_put_19 : decode cX8_put 19 = .ok (.imul, 1) := dk_104 (dk_at dksX8_put_0 19 rfl rfl)
theorem dX8_put_20 : decode cX8_put 20 = .ok (.bipush 100, 2) := dk_16 100 (dk_at dksX8_put_0 20 rfl rfl)
theorem dX8_put_22 : decode cX8_put 22 = .ok (.idiv, 1) := dk_108 (dk_at dksX8_put_0 22 rfl rfl)
theorem dX8_put_23 : decode cX8_put 23 = .ok (.iadd, 1) := dk_96 (dk_at dksX8_put_0 23 rfl rfl)
theorem dX8_put_24 : decode cX8_put 24 = .ok (.invokestatic 26, 3) := dk_184 0 26 (dk_at dksX8_put_1 0 rfl rfl)
theorem dX8_put_27 : decode cX8_put 27 = .ok (.iastore, 1) := dk_79 (dk_at dksX8_put_1 3 rfl rfl)
theorem dX8_put_28 : decode cX8_put 28 = .ok (.aload_n 0, 1) := dk_42 (dk_at dksX8_put_1 4 rfl rfl)
theorem dX8_put_29 : decode cX8_put 29 = .ok (.getfield 16, 3) := dk_180 0 16 (dk_at dksX8_put_1 5 rfl rfl)
theorem dX8_put_32 : decode cX8_put 32 = .ok (.aload_n 0, 1) := dk_42 (dk_at dksX8_put_1 8 rfl rfl)
theorem dX8_put_33 : decode cX8_put 33 = .ok (.getfield 7, 3) := dk_180 0 7 (dk_at dksX8_put_1 9 rfl rfl)
theorem dX8_put_36 : decode cX8_put 36 = .ok (.aload_n 0, 1) := dk_42 (dk_at dksX8_put_1 12 rfl rfl)
theorem dX8_put_37 : decode cX8_put 37 = .ok (.getfield 16, 3) := dk_180 0 16 (dk_at dksX8_put_1 13 rfl rfl)
theorem dX8_put_40 : decode cX8_put 40 = .ok (.aload_n 0, 1) := dk_42 (dk_at dksX8_put_1 16 rfl rfl)
theorem dX8_put_41 : decode cX8_put 41 = .ok (.getfield 7, 3) := dk_180 0 7 (dk_at dksX8_put_1 17 rfl rfl)
theorem dX8_put_44 : decode cX8_put 44 = .ok (.iaload, 1) := dk_46 (dk_at dksX8_put_1 20 rfl rfl)
theorem dX8_put_45 : decode cX8_put 45 = .ok (.iconst 1, 1) := dk_4 (dk_at dksX8_put_1 21 rfl rfl)
theorem dX8_put_46 : decode cX8_put 46 = .ok (.iadd, 1) := dk_96 (dk_at dksX8_put_1 22 rfl rfl)
theorem dX8_put_47 : decode cX8_put 47 = .ok (.aload_n 0, 1) := dk_42 (dk_at dksX8_put_1 23 rfl rfl)
theorem dX8_put_48 : decode cX8_put 48 = .ok (.getfield 7, 3) := dk_180 0 7 (dk_at dksX8_put_2 0 rfl rfl)
theorem dX8_put_51 : decode cX8_put 51 = .ok (.irem, 1) := dk_112 (dk_at dksX8_put_2 3 rfl rfl)
theorem dX8_put_52 : decode cX8_put 52 = .ok (.iastore, 1) := dk_79 (dk_at dksX8_put_2 4 rfl rfl)
theorem dX8_put_53 : decode cX8_put 53 = .ok (.return_, 1) := dk_177 (dk_at dksX8_put_2 5 rfl rfl)
abbrev cX8_fill : ByteArray := prog_5_method_4_code
def yX8_fill : MethodName := ⟨RX8, "fill", "(I)V"⟩
def dkwX8_fill_2 : List UInt8 := [46, 181, 0, 23, 177]
abbrev dktX8_fill_2 : List UInt8 := dkwX8_fill_2 ++ []
def dkwX8_fill_1 : List UInt8 := [46, 28, 96, 42, 180, 0, 7, 112, 46, 79, 132, 2, 1, 167, 255, 221, 42, 42, 180, 0, 20, 27, 4, 100]
abbrev dktX8_fill_1 : List UInt8 := dkwX8_fill_1 ++ dktX8_fill_2
def dkwX8_fill_0 : List UInt8 := [3, 61, 28, 27, 162, 0, 36, 42, 180, 0, 20, 28, 42, 180, 0, 16, 42, 180, 0, 16, 42, 180, 0, 7]
abbrev dktX8_fill_0 : List UInt8 := dkwX8_fill_0 ++ dktX8_fill_1
theorem dksX8_fill_0 : cX8_fill.data.toList.drop 0 = dktX8_fill_0 := by decide +kernel
theorem dksX8_fill_1 : cX8_fill.data.toList.drop 24 = dktX8_fill_1 := dk_seg dksX8_fill_0 24 rfl rfl
theorem dksX8_fill_2 : cX8_fill.data.toList.drop 48 = dktX8_fill_2 := dk_seg dksX8_fill_1 24 rfl rfl
theorem dX8_fill_0 : decode cX8_fill 0 = .ok (.iconst 0, 1) := dk_3 (dk_at dksX8_fill_0 0 rfl rfl)
theorem dX8_fill_1 : decode cX8_fill 1 = .ok (.istore_n 2, 1) := dk_61 (dk_at dksX8_fill_0 1 rfl rfl)
theorem dX8_fill_2 : decode cX8_fill 2 = .ok (.iload_n 2, 1) := dk_28 (dk_at dksX8_fill_0 2 rfl rfl)
theorem dX8_fill_3 : decode cX8_fill 3 = .ok (.iload_n 1, 1) := dk_27 (dk_at dksX8_fill_0 3 rfl rfl)
theorem dX8_fill_4 : decode cX8_fill 4 = .ok (.if_icmp .ge 36, 3) := dk_162 0 36 (dk_at dksX8_fill_0 4 rfl rfl)
theorem dX8_fill_7 : decode cX8_fill 7 = .ok (.aload_n 0, 1) := dk_42 (dk_at dksX8_fill_0 7 rfl rfl)
theorem dX8_fill_8 : decode cX8_fill 8 = .ok (.getfield 20, 3) := dk_180 0 20 (dk_at dksX8_fill_0 8 rfl rfl)
theorem dX8_fill_11 : decode cX8_fill 11 = .ok (.iload_n 2, 1) := dk_28 (dk_at dksX8_fill_0 11 rfl rfl)
theorem dX8_fill_12 : decode cX8_fill 12 = .ok (.aload_n 0, 1) := dk_42 (dk_at dksX8_fill_0 12 rfl rfl)
theorem dX8_fill_13 : decode cX8_fill 13 = .ok (.getfield 16, 3) := dk_180 0 16 (dk_at dksX8_fill_0 13 rfl rfl)
theorem dX8_fill_16 : decode cX8_fill 16 = .ok (.aload_n 0, 1) := dk_42 (dk_at dksX8_fill_0 16 rfl rfl)
theorem dX8_fill_17 : decode cX8_fill 17 = .ok (.getfield 16, 3) := dk_180 0 16 (dk_at dksX8_fill_0 17 rfl rfl)
theorem dX8_fill_20 : decode cX8_fill 20 = .ok (.aload_n 0, 1) := dk_42 (dk_at dksX8_fill_0 20 rfl rfl)
theorem dX8_fill_21 : decode cX8_fill 21 = .ok (.getfield 7, 3) := dk_180 0 7 (dk_at dksX8_fill_0 21 rfl rfl)
theorem dX8_fill_24 : decode cX8_fill 24 = .ok (.iaload, 1) := dk_46 (dk_at dksX8_fill_1 0 rfl rfl)
theorem dX8_fill_25 : decode cX8_fill 25 = .ok (.iload_n 2, 1) := dk_28 (dk_at dksX8_fill_1 1 rfl rfl)
theorem dX8_fill_26 : decode cX8_fill 26 = .ok (.iadd, 1) := dk_96 (dk_at dksX8_fill_1 2 rfl rfl)
theorem dX8_fill_27 : decode cX8_fill 27 = .ok (.aload_n 0, 1) := dk_42 (dk_at dksX8_fill_1 3 rfl rfl)
theorem dX8_fill_28 : decode cX8_fill 28 = .ok (.getfield 7, 3) := dk_180 0 7 (dk_at dksX8_fill_1 4 rfl rfl)
theorem dX8_fill_31 : decode cX8_fill 31 = .ok (.irem, 1) := dk_112 (dk_at dksX8_fill_1 7 rfl rfl)
theorem dX8_fill_32 : decode cX8_fill 32 = .ok (.iaload, 1) := dk_46 (dk_at dksX8_fill_1 8 rfl rfl)
theorem dX8_fill_33 : decode cX8_fill 33 = .ok (.iastore, 1) := dk_79 (dk_at dksX8_fill_1 9 rfl rfl)
theorem dX8_fill_34 : decode cX8_fill 34 = .ok (.iinc 2 1, 3) := dk_132 2 1 (dk_at dksX8_fill_1 10 rfl rfl)
theorem dX8_fill_37 : decode cX8_fill 37 = .ok (.goto (-35), 3) := dk_167 255 221 (dk_at dksX8_fill_1 13 rfl rfl)
theorem dX8_fill_40 : decode cX8_fill 40 = .ok (.aload_n 0, 1) := dk_42 (dk_at dksX8_fill_1 16 rfl rfl)
theorem dX8_fill_41 : decode cX8_fill 41 = .ok (.aload_n 0, 1) := dk_42 (dk_at dksX8_fill_1 17 rfl rfl)
theorem dX8_fill_42 : decode cX8_fill 42 = .ok (.getfield 20, 3) := dk_180 0 20 (dk_at dksX8_fill_1 18 rfl rfl)
theorem dX8_fill_45 : decode cX8_fill 45 = .ok (.iload_n 1, 1) := dk_27 (dk_at dksX8_fill_1 21 rfl rfl)
theorem dX8_fill_46 : decode cX8_fill 46 = .ok (.iconst 1, 1) := dk_4 (dk_at dksX8_fill_1 22 rfl rfl)
theorem dX8_fill_47 : decode cX8_fill 47 = .ok (.isub, 1) := dk_100 (dk_at dksX8_fill_1 23 rfl rfl)
theorem dX8_fill_48 : decode cX8_fill 48 = .ok (.iaload, 1) := dk_46 (dk_at dksX8_fill_2 0 rfl rfl)
theorem dX8_fill_49 : decode cX8_fill 49 = .ok (.putfield 23, 3) := dk_181 0 23 (dk_at dksX8_fill_2 1 rfl rfl)
theorem dX8_fill_52 : decode cX8_fill 52 = .ok (.return_, 1) := dk_177 (dk_at dksX8_fill_2 4 rfl rfl)
abbrev cX8_takeIn_2 : ByteArray := prog_5_method_7_code
def yX8_takeIn_2 : MethodName := ⟨RX8, "takeIn", "(I)V"⟩
def dkwX8_takeIn_2_1 : List UInt8 := [132, 2, 1, 167, 255, 233, 177]
abbrev dktX8_takeIn_2_1 : List UInt8 := dkwX8_takeIn_2_1 ++ []
def dkwX8_takeIn_2_0 : List UInt8 := [3, 61, 28, 27, 162, 0, 24, 42, 42, 28, 182, 0, 40, 42, 180, 0, 20, 28, 46, 182, 0, 36]
abbrev dktX8_takeIn_2_0 : List UInt8 := dkwX8_takeIn_2_0 ++ dktX8_takeIn_2_1
theorem dksX8_takeIn_2_0 : cX8_takeIn_2.data.toList.drop 0 = dktX8_takeIn_2_0 := by decide +kernel
theorem dksX8_takeIn_2_1 : cX8_takeIn_2.data.toList.drop 22 = dktX8_takeIn_2_1 := dk_seg dksX8_takeIn_2_0 22 rfl rfl
theorem dX8_takeIn_2_0 : decode cX8_takeIn_2 0 = .ok (.iconst 0, 1) := dk_3 (dk_at dksX8_takeIn_2_0 0 rfl rfl)
theorem dX8_takeIn_2_1 : decode cX8_takeIn_2 1 = .ok (.istore_n 2, 1) := dk_61 (dk_at dksX8_takeIn_2_0 1 rfl rfl)
theorem dX8_takeIn_2_2 : decode cX8_takeIn_2 2 = .ok (.iload_n 2, 1) := dk_28 (dk_at dksX8_takeIn_2_0 2 rfl rfl)
theorem dX8_takeIn_2_3 : decode cX8_takeIn_2 3 = .ok (.iload_n 1, 1) := dk_27 (dk_at dksX8_takeIn_2_0 3 rfl rfl)
theorem dX8_takeIn_2_4 : decode cX8_takeIn_2 4 = .ok (.if_icmp .ge 24, 3) := dk_162 0 24 (dk_at dksX8_takeIn_2_0 4 rfl rfl)
theorem dX8_takeIn_2_7 : decode cX8_takeIn_2 7 = .ok (.aload_n 0, 1) := dk_42 (dk_at dksX8_takeIn_2_0 7 rfl rfl)
theorem dX8_takeIn_2_8 : decode cX8_takeIn_2 8 = .ok (.aload_n 0, 1) := dk_42 (dk_at dksX8_takeIn_2_0 8 rfl rfl)
theorem dX8_takeIn_2_9 : decode cX8_takeIn_2 9 = .ok (.iload_n 2, 1) := dk_28 (dk_at dksX8_takeIn_2_0 9 rfl rfl)
theorem dX8_takeIn_2_10 : decode cX8_takeIn_2 10 = .ok (.invokevirtual 40, 3) := dk_182 0 40 (dk_at dksX8_takeIn_2_0 10 rfl rfl)
theorem dX8_takeIn_2_13 : decode cX8_takeIn_2 13 = .ok (.aload_n 0, 1) := dk_42 (dk_at dksX8_takeIn_2_0 13 rfl rfl)
theorem dX8_takeIn_2_14 : decode cX8_takeIn_2 14 = .ok (.getfield 20, 3) := dk_180 0 20 (dk_at dksX8_takeIn_2_0 14 rfl rfl)
theorem dX8_takeIn_2_17 : decode cX8_takeIn_2 17 = .ok (.iload_n 2, 1) := dk_28 (dk_at dksX8_takeIn_2_0 17 rfl rfl)
theorem dX8_takeIn_2_18 : decode cX8_takeIn_2 18 = .ok (.iaload, 1) := dk_46 (dk_at dksX8_takeIn_2_0 18 rfl rfl)
theorem dX8_takeIn_2_19 : decode cX8_takeIn_2 19 = .ok (.invokevirtual 36, 3) := dk_182 0 36 (dk_at dksX8_takeIn_2_0 19 rfl rfl)
theorem dX8_takeIn_2_22 : decode cX8_takeIn_2 22 = .ok (.iinc 2 1, 3) := dk_132 2 1 (dk_at dksX8_takeIn_2_1 0 rfl rfl)
theorem dX8_takeIn_2_25 : decode cX8_takeIn_2 25 = .ok (.goto (-23), 3) := dk_167 255 233 (dk_at dksX8_takeIn_2_1 3 rfl rfl)
theorem dX8_takeIn_2_28 : decode cX8_takeIn_2 28 = .ok (.return_, 1) := dk_177 (dk_at dksX8_takeIn_2_1 6 rfl rfl)
abbrev cX8_init : ByteArray := prog_5_method_1_code
def yX8_init : MethodName := ⟨RX8, "<init>", "(III)V"⟩
def dkwX8_init_0 : List UInt8 := [42, 27, 16, 100, 28, 4, 96, 188, 10, 183, 0, 1, 42, 28, 181, 0, 7, 42, 29, 181, 0, 13, 177]
abbrev dktX8_init_0 : List UInt8 := dkwX8_init_0 ++ []
theorem dksX8_init_0 : cX8_init.data.toList.drop 0 = dktX8_init_0 := by decide +kernel
theorem dX8_init_0 : decode cX8_init 0 = .ok (.aload_n 0, 1) := dk_42 (dk_at dksX8_init_0 0 rfl rfl)
theorem dX8_init_1 : decode cX8_init 1 = .ok (.iload_n 1, 1) := dk_27 (dk_at dksX8_init_0 1 rfl rfl)
theorem dX8_init_2 : decode cX8_init 2 = .ok (.bipush 100, 2) := dk_16 100 (dk_at dksX8_init_0 2 rfl rfl)
theorem dX8_init_4 : decode cX8_init 4 = .ok (.iload_n 2, 1) := dk_28 (dk_at dksX8_init_0 4 rfl rfl)
theorem dX8_init_5 : decode cX8_init 5 = .ok (.iconst 1, 1) := dk_4 (dk_at dksX8_init_0 5 rfl rfl)
theorem dX8_init_6 : decode cX8_init 6 = .ok (.iadd, 1) := dk_96 (dk_at dksX8_init_0 6 rfl rfl)
theorem dX8_init_7 : decode cX8_init 7 = .ok (.newarray .int, 2) := dk_188_10 (dk_at dksX8_init_0 7 rfl rfl)
theorem dX8_init_9 : decode cX8_init 9 = .ok (.invokespecial 1, 3) := dk_183 0 1 (dk_at dksX8_init_0 9 rfl rfl)
theorem dX8_init_12 : decode cX8_init 12 = .ok (.aload_n 0, 1) := dk_42 (dk_at dksX8_init_0 12 rfl rfl)
theorem dX8_init_13 : decode cX8_init 13 = .ok (.iload_n 2, 1) := dk_28 (dk_at dksX8_init_0 13 rfl rfl)
theorem dX8_init_14 : decode cX8_init 14 = .ok (.putfield 7, 3) := dk_181 0 7 (dk_at dksX8_init_0 14 rfl rfl)
theorem dX8_init_17 : decode cX8_init 17 = .ok (.aload_n 0, 1) := dk_42 (dk_at dksX8_init_0 17 rfl rfl)
theorem dX8_init_18 : decode cX8_init 18 = .ok (.iload_n 3, 1) := dk_29 (dk_at dksX8_init_0 18 rfl rfl)
theorem dX8_init_19 : decode cX8_init 19 = .ok (.putfield 13, 3) := dk_181 0 13 (dk_at dksX8_init_0 19 rfl rfl)
theorem dX8_init_22 : decode cX8_init 22 = .ok (.return_, 1) := dk_177 (dk_at dksX8_init_0 22 rfl rfl)
theorem q74 : (Jvm.Cond.initialized "ToneGraph$Delay") ∈ lw_all := lw_g (lw_at lw_m1 22 rfl) rfl
theorem q218 : (Jvm.Cond.fieldLinkNest "ToneGraph$Delay" (20 : Nat) "ToneGraph$Node" "row" "[I" "ToneGraph") ∈ lw_tbl := lw_at lw_m1 166 rfl
theorem q222 : (Jvm.Cond.fieldLinkNest "ToneGraph$Delay" (23 : Nat) "ToneGraph$Node" "now" "I" "ToneGraph") ∈ lw_tbl := lw_at lw_m1 170 rfl
theorem q227 : (Jvm.Cond.fieldLinkNest "ToneGraph$Delay" (16 : Nat) "ToneGraph$Node" "numbers" "[I" "ToneGraph") ∈ lw_tbl := lw_at lw_m1 175 rfl
theorem q286 : (Jvm.Cond.selects "ToneGraph$Delay" ({ cls := "java/lang/Object", name := "getClass", desc := "()Ljava/lang/Class;" } : Jvm.MethodName) ({ cls := "java/lang/Object", name := "getClass", desc := "()Ljava/lang/Class;" } : Jvm.MethodName)) ∈ lw_all := lw_g (lw_at lw_m1 234 rfl) rfl
theorem q388 : (Jvm.Cond.selects "ToneGraph$Delay" ({ cls := "ToneGraph$Node", name := "isDelay", desc := "()Z" } : Jvm.MethodName) ({ cls := "ToneGraph$Delay", name := "isDelay", desc := "()Z" } : Jvm.MethodName)) ∈ lw_all := lw_g (lw_at lw_m2 96 rfl) rfl
theorem q389 : (Jvm.Cond.instanceMethod ({ cls := "ToneGraph$Delay", name := "isDelay", desc := "()Z" } : Jvm.MethodName)) ∈ lw_all := lw_g (lw_at lw_m2 97 rfl) rfl
theorem q390 : (Jvm.Cond.code ({ cls := "ToneGraph$Delay", name := "isDelay", desc := "()Z" } : Jvm.MethodName) prog_5_method_2_code (1 : Nat) (Option.some Jvm.ClassFile.FieldType.boolean)) ∈ lw_all := lw_g (lw_at lw_m2 98 rfl) rfl
theorem q429 : (Jvm.Cond.selects "ToneGraph$Delay" ({ cls := "ToneGraph$Node", name := "tick", desc := "()V" } : Jvm.MethodName) ({ cls := "ToneGraph$Node", name := "tick", desc := "()V" } : Jvm.MethodName)) ∈ lw_all := lw_g (lw_at lw_m2 137 rfl) rfl
theorem q438 : (Jvm.Cond.selects "ToneGraph$Delay" ({ cls := "ToneGraph$Node", name := "input", desc := "()I" } : Jvm.MethodName) ({ cls := "ToneGraph$Node", name := "input", desc := "()I" } : Jvm.MethodName)) ∈ lw_all := lw_g (lw_at lw_m2 146 rfl) rfl
theorem q480 : (Jvm.Cond.selects "ToneGraph$Delay" ({ cls := "ToneGraph$Node", name := "made", desc := "(I)I" } : Jvm.MethodName) ({ cls := "ToneGraph$Delay", name := "made", desc := "(I)I" } : Jvm.MethodName)) ∈ lw_all := lw_g (lw_at lw_m2 188 rfl) rfl
theorem q481 : (Jvm.Cond.instanceMethod ({ cls := "ToneGraph$Delay", name := "made", desc := "(I)I" } : Jvm.MethodName)) ∈ lw_all := lw_g (lw_at lw_m2 189 rfl) rfl
theorem q482 : (Jvm.Cond.code ({ cls := "ToneGraph$Delay", name := "made", desc := "(I)I" } : Jvm.MethodName) prog_5_method_3_code (2 : Nat) (Option.some Jvm.ClassFile.FieldType.int)) ∈ lw_all := lw_g (lw_at lw_m2 190 rfl) rfl
theorem q499 : (Jvm.Cond.selects "ToneGraph$Delay" ({ cls := "ToneGraph$Node", name := "takeIn", desc := "()V" } : Jvm.MethodName) ({ cls := "ToneGraph$Delay", name := "takeIn", desc := "()V" } : Jvm.MethodName)) ∈ lw_all := lw_g (lw_at lw_m2 207 rfl) rfl
theorem q500 : (Jvm.Cond.instanceMethod ({ cls := "ToneGraph$Delay", name := "takeIn", desc := "()V" } : Jvm.MethodName)) ∈ lw_all := lw_g (lw_at lw_m2 208 rfl) rfl
theorem q501 : (Jvm.Cond.code ({ cls := "ToneGraph$Delay", name := "takeIn", desc := "()V" } : Jvm.MethodName) prog_5_method_6_code (1 : Nat) (Option.none : Option Jvm.ClassFile.FieldType)) ∈ lw_all := lw_g (lw_at lw_m2 209 rfl) rfl
theorem q502 : (Jvm.Cond.methodLink "ToneGraph$Delay" (32 : Nat) ({ cls := "ToneGraph$Delay", name := "input", desc := "()I" } : Jvm.MethodName)) ∈ lw_all := lw_g (lw_at lw_m2 210 rfl) rfl
theorem q503 : (Jvm.Cond.sameMethod "ToneGraph$Delay" "ToneGraph$Node" "input" "()I") ∈ lw_all := lw_g (lw_at lw_m2 211 rfl) rfl
theorem q505 : (Jvm.Cond.selects "ToneGraph$Delay" ({ cls := "ToneGraph$Delay", name := "input", desc := "()I" } : Jvm.MethodName) ({ cls := "ToneGraph$Node", name := "input", desc := "()I" } : Jvm.MethodName)) ∈ lw_all := lw_g (lw_at lw_m2 213 rfl) rfl
theorem q506 : (Jvm.Cond.methodLink "ToneGraph$Delay" (36 : Nat) ({ cls := "ToneGraph$Delay", name := "put", desc := "(II)V" } : Jvm.MethodName)) ∈ lw_all := lw_g (lw_at lw_m2 214 rfl) rfl
theorem q507 : (Jvm.Cond.privateMethod ({ cls := "ToneGraph$Delay", name := "put", desc := "(II)V" } : Jvm.MethodName)) ∈ lw_tbl := lw_at lw_m2 215 rfl
theorem q508 : (Jvm.Cond.instanceMethod ({ cls := "ToneGraph$Delay", name := "put", desc := "(II)V" } : Jvm.MethodName)) ∈ lw_all := lw_g (lw_at lw_m2 216 rfl) rfl
theorem q509 : (Jvm.Cond.instantiable "ToneGraph$Delay" (11 : Nat)) ∈ lw_all := lw_g (lw_at lw_m2 217 rfl) rfl
theorem q510 : (Jvm.Cond.code ({ cls := "ToneGraph$Delay", name := "put", desc := "(II)V" } : Jvm.MethodName) prog_5_method_5_code (3 : Nat) (Option.none : Option Jvm.ClassFile.FieldType)) ∈ lw_all := lw_g (lw_at lw_m2 218 rfl) rfl
theorem q511 : (Jvm.Cond.methodLinkNest "ToneGraph$Delay" (26 : Nat) ({ cls := "ToneGraph", name := "cut", desc := "(I)I" } : Jvm.MethodName) "ToneGraph") ∈ lw_tbl := lw_at lw_m2 219 rfl
theorem q638 : (Jvm.Cond.selects "ToneGraph$Delay" ({ cls := "ToneGraph$Node", name := "keep", desc := "()V" } : Jvm.MethodName) ({ cls := "ToneGraph$Node", name := "keep", desc := "()V" } : Jvm.MethodName)) ∈ lw_all := lw_g (lw_at lw_m3 106 rfl) rfl
theorem q658 : (Jvm.Cond.selects "ToneGraph$Delay" ({ cls := "ToneGraph$Node", name := "takeBack", desc := "()V" } : Jvm.MethodName) ({ cls := "ToneGraph$Node", name := "takeBack", desc := "()V" } : Jvm.MethodName)) ∈ lw_all := lw_g (lw_at lw_m3 126 rfl) rfl
theorem q689 : (Jvm.Cond.selects "ToneGraph$Delay" ({ cls := "ToneGraph$Node", name := "fill", desc := "(I)V" } : Jvm.MethodName) ({ cls := "ToneGraph$Delay", name := "fill", desc := "(I)V" } : Jvm.MethodName)) ∈ lw_all := lw_g (lw_at lw_m3 157 rfl) rfl
theorem q690 : (Jvm.Cond.instanceMethod ({ cls := "ToneGraph$Delay", name := "fill", desc := "(I)V" } : Jvm.MethodName)) ∈ lw_all := lw_g (lw_at lw_m3 158 rfl) rfl
theorem q691 : (Jvm.Cond.code ({ cls := "ToneGraph$Delay", name := "fill", desc := "(I)V" } : Jvm.MethodName) prog_5_method_4_code (3 : Nat) (Option.none : Option Jvm.ClassFile.FieldType)) ∈ lw_all := lw_g (lw_at lw_m3 159 rfl) rfl
theorem q700 : (Jvm.Cond.selects "ToneGraph$Delay" ({ cls := "ToneGraph$Node", name := "input", desc := "(I)I" } : Jvm.MethodName) ({ cls := "ToneGraph$Node", name := "input", desc := "(I)I" } : Jvm.MethodName)) ∈ lw_all := lw_g (lw_at lw_m3 168 rfl) rfl
theorem q709 : (Jvm.Cond.selects "ToneGraph$Delay" ({ cls := "ToneGraph$Node", name := "takeIn", desc := "(I)V" } : Jvm.MethodName) ({ cls := "ToneGraph$Delay", name := "takeIn", desc := "(I)V" } : Jvm.MethodName)) ∈ lw_all := lw_g (lw_at lw_m3 177 rfl) rfl
theorem q710 : (Jvm.Cond.instanceMethod ({ cls := "ToneGraph$Delay", name := "takeIn", desc := "(I)V" } : Jvm.MethodName)) ∈ lw_all := lw_g (lw_at lw_m3 178 rfl) rfl
theorem q711 : (Jvm.Cond.code ({ cls := "ToneGraph$Delay", name := "takeIn", desc := "(I)V" } : Jvm.MethodName) prog_5_method_7_code (3 : Nat) (Option.none : Option Jvm.ClassFile.FieldType)) ∈ lw_all := lw_g (lw_at lw_m3 179 rfl) rfl
theorem q712 : (Jvm.Cond.methodLink "ToneGraph$Delay" (40 : Nat) ({ cls := "ToneGraph$Delay", name := "input", desc := "(I)I" } : Jvm.MethodName)) ∈ lw_all := lw_g (lw_at lw_m3 180 rfl) rfl
theorem q713 : (Jvm.Cond.sameMethod "ToneGraph$Delay" "ToneGraph$Node" "input" "(I)I") ∈ lw_all := lw_g (lw_at lw_m3 181 rfl) rfl
theorem q715 : (Jvm.Cond.selects "ToneGraph$Delay" ({ cls := "ToneGraph$Delay", name := "input", desc := "(I)I" } : Jvm.MethodName) ({ cls := "ToneGraph$Node", name := "input", desc := "(I)I" } : Jvm.MethodName)) ∈ lw_all := lw_g (lw_at lw_m3 183 rfl) rfl
theorem q793 : (Jvm.Cond.instanceMethod ({ cls := "ToneGraph$Delay", name := "<init>", desc := "(III)V" } : Jvm.MethodName)) ∈ lw_all := lw_g (lw_at lw_m4 21 rfl) rfl
theorem q794 : (Jvm.Cond.code ({ cls := "ToneGraph$Delay", name := "<init>", desc := "(III)V" } : Jvm.MethodName) prog_5_method_1_code (4 : Nat) (Option.none : Option Jvm.ClassFile.FieldType)) ∈ lw_all := lw_g (lw_at lw_m4 22 rfl) rfl
theorem q795 : (Jvm.Cond.methodLink "ToneGraph$Delay" (1 : Nat) ({ cls := "ToneGraph$Node", name := "<init>", desc := "(IC[I)V" } : Jvm.MethodName)) ∈ lw_all := lw_g (lw_at lw_m4 23 rfl) rfl
theorem q796 : (Jvm.Cond.fieldLink "ToneGraph$Delay" (7 : Nat) "ToneGraph$Delay" "length" "I") ∈ lw_all := lw_g (lw_at lw_m4 24 rfl) rfl
theorem q798 : (Jvm.Cond.fieldLink "ToneGraph$Delay" (13 : Nat) "ToneGraph$Delay" "feedback" "I") ∈ lw_all := lw_g (lw_at lw_m4 26 rfl) rfl
theorem q799 : (Jvm.Cond.laysFinal "ToneGraph$Delay" "ToneGraph$Delay" "length" "I") ∈ lw_all := lw_g (lw_at lw_m4 27 rfl) rfl
theorem q800 : (Jvm.Cond.soleField "ToneGraph$Delay" "length") ∈ lw_all := lw_g (lw_at lw_m4 28 rfl) rfl
theorem q801 : (Jvm.Cond.laysFinal "ToneGraph$Delay" "ToneGraph$Delay" "feedback" "I") ∈ lw_all := lw_g (lw_at lw_m4 29 rfl) rfl
theorem q802 : (Jvm.Cond.soleField "ToneGraph$Delay" "feedback") ∈ lw_all := lw_g (lw_at lw_m4 30 rfl) rfl
theorem q803 : (Jvm.Cond.laysFinal "ToneGraph$Delay" "ToneGraph$Node" "number" "I") ∈ lw_all := lw_g (lw_at lw_m4 31 rfl) rfl
theorem q804 : (Jvm.Cond.laysFinal "ToneGraph$Delay" "ToneGraph$Node" "kind" "C") ∈ lw_all := lw_g (lw_at lw_m4 32 rfl) rfl
theorem q805 : (Jvm.Cond.laysFinal "ToneGraph$Delay" "ToneGraph$Node" "wires" "Ljava/util/ArrayList;") ∈ lw_all := lw_g (lw_at lw_m4 33 rfl) rfl
theorem q806 : (Jvm.Cond.laysFinal "ToneGraph$Delay" "ToneGraph$Node" "row" "[I") ∈ lw_all := lw_g (lw_at lw_m4 34 rfl) rfl
theorem q807 : (Jvm.Cond.lays "ToneGraph$Delay" "ToneGraph$Node" "now" "I") ∈ lw_all := lw_g (lw_at lw_m4 35 rfl) rfl
theorem q808 : (Jvm.Cond.lays "ToneGraph$Delay" "ToneGraph$Node" "nowKept" "I") ∈ lw_all := lw_g (lw_at lw_m4 36 rfl) rfl
theorem q809 : (Jvm.Cond.laysFinal "ToneGraph$Delay" "ToneGraph$Node" "numbers" "[I") ∈ lw_all := lw_g (lw_at lw_m4 37 rfl) rfl
theorem q810 : (Jvm.Cond.laysFinal "ToneGraph$Delay" "ToneGraph$Node" "numbersKept" "[I") ∈ lw_all := lw_g (lw_at lw_m4 38 rfl) rfl
theorem q811 : (Jvm.Cond.lays "ToneGraph$Delay" "ToneGraph$Node" "placed" "Z") ∈ lw_all := lw_g (lw_at lw_m4 39 rfl) rfl
theorem q812 : (Jvm.Cond.superclass "ToneGraph$Delay" "ToneGraph$Node") ∈ lw_all := lw_g (lw_at lw_m4 40 rfl) rfl
theorem q930 : (Jvm.Cond.selects "ToneGraph$Delay" ({ cls := "ToneGraph$Node", name := "wireFrom", desc := "(LToneGraph$Node;)LToneGraph$Wire;" } : Jvm.MethodName) ({ cls := "ToneGraph$Node", name := "wireFrom", desc := "(LToneGraph$Node;)LToneGraph$Wire;" } : Jvm.MethodName)) ∈ lw_all := lw_g (lw_at lw_m4 158 rfl) rfl
theorem q939 : (Jvm.Cond.selects "ToneGraph$Delay" ({ cls := "ToneGraph$Node", name := "follows", desc := "(LToneGraph$Node;)Z" } : Jvm.MethodName) ({ cls := "ToneGraph$Node", name := "follows", desc := "(LToneGraph$Node;)Z" } : Jvm.MethodName)) ∈ lw_all := lw_g (lw_at lw_m4 167 rfl) rfl
theorem q1615 : (Jvm.Cond.castable "ToneGraph$Delay" "ToneGraph$Node") ∈ lw_tbl := lw_at lw_m7 123 rfl
theorem q1627 : (Jvm.Cond.castable "ToneGraph$Delay" "java/lang/Object") ∈ lw_tbl := lw_at lw_m7 135 rfl
theorem in_X8 : ∀ w ∈ wsX80, w ∈ lw_all := lw_in wsX80 [803, 804, 805, 806, 807, 808, 809, 810, 811, 799, 801] (by decide +kernel) (by decide +kernel)

/-! ToneGraph$Filter -/
set_option maxRecDepth 100000
def RX9 : String := "ToneGraph$Filter"
def TX9 : u_T := fun k => match k with
  | 0 => ("ToneGraph$Node", "number", "I", true)
  | 1 => ("ToneGraph$Node", "kind", "C", true)
  | 2 => ("ToneGraph$Node", "wires", "Ljava/util/ArrayList;", true)
  | 3 => ("ToneGraph$Node", "row", "[I", true)
  | 4 => ("ToneGraph$Node", "now", "I", false)
  | 5 => ("ToneGraph$Node", "nowKept", "I", false)
  | 6 => ("ToneGraph$Node", "numbers", "[I", true)
  | 7 => ("ToneGraph$Node", "numbersKept", "[I", true)
  | 8 => ("ToneGraph$Node", "placed", "Z", false)
  | _ => ("ToneGraph$Filter", "coefficients", "[I", true)
def tyX9 : Nat → FieldType := fun k => match k with
  | 0 => .int
  | 1 => .char
  | 2 => .object "java/util/ArrayList"
  | 3 => .array .int
  | 4 => .int
  | 5 => .int
  | 6 => .array .int
  | 7 => .array .int
  | 8 => .boolean
  | _ => .array .int
abbrev wsX90 : List Cond := u_ws RX9 TX9 10
theorem nmX9 : ∀ a, a < 10 → ∀ b, b < 10 → a ≠ b → (TX9 a).2.1 ≠ (TX9 b).2.1 := by decide +kernel
theorem tyX9_ok : ∀ k, k < 10 → parseFieldDescriptor (TX9 k).2.2.1 = some (tyX9 k) := by decide +kernel
abbrev cX9_made : ByteArray := prog_7_method_2_code
def yX9_made : MethodName := ⟨RX9, "made", "(I)I"⟩
def dkwX9_made_2 : List UInt8 := [42, 180, 0, 13, 4, 28, 184, 0, 16, 79, 28, 172]
abbrev dktX9_made_2 : List UInt8 := dkwX9_made_2 ++ []
def dkwX9_made_1 : List UInt8 := [180, 0, 7, 5, 46, 42, 180, 0, 13, 4, 46, 104, 96, 16, 64, 108, 61, 42, 180, 0, 13, 3, 27, 79]
abbrev dktX9_made_1 : List UInt8 := dkwX9_made_1 ++ dktX9_made_2
def dkwX9_made_0 : List UInt8 := [42, 180, 0, 7, 3, 46, 27, 104, 42, 180, 0, 7, 4, 46, 42, 180, 0, 13, 3, 46, 104, 96, 42]
abbrev dktX9_made_0 : List UInt8 := dkwX9_made_0 ++ dktX9_made_1
theorem dksX9_made_0 : cX9_made.data.toList.drop 0 = dktX9_made_0 := by decide +kernel
theorem dksX9_made_1 : cX9_made.data.toList.drop 23 = dktX9_made_1 := dk_seg dksX9_made_0 23 rfl rfl
theorem dksX9_made_2 : cX9_made.data.toList.drop 47 = dktX9_made_2 := dk_seg dksX9_made_1 24 rfl rfl
theorem dX9_made_0 : decode cX9_made 0 = .ok (.aload_n 0, 1) := dk_42 (dk_at dksX9_made_0 0 rfl rfl)
theorem dX9_made_1 : decode cX9_made 1 = .ok (.getfield 7, 3) := dk_180 0 7 (dk_at dksX9_made_0 1 rfl rfl)
theorem dX9_made_4 : decode cX9_made 4 = .ok (.iconst 0, 1) := dk_3 (dk_at dksX9_made_0 4 rfl rfl)
theorem dX9_made_5 : decode cX9_made 5 = .ok (.iaload, 1) := dk_46 (dk_at dksX9_made_0 5 rfl rfl)
theorem dX9_made_6 : decode cX9_made 6 = .ok (.iload_n 1, 1) := dk_27 (dk_at dksX9_made_0 6 rfl rfl)
theorem dX9_made_7 : decode cX9_made 7 = .ok (.imul, 1) := dk_104 (dk_at dksX9_made_0 7 rfl rfl)
theorem dX9_made_8 : decode cX9_made 8 = .ok (.aload_n 0, 1) := dk_42 (dk_at dksX9_made_0 8 rfl rfl)
theorem dX9_made_9 : decode cX9_made 9 = .ok (.getfield 7, 3) := dk_180 0 7 (dk_at dksX9_made_0 9 rfl rfl)
theorem dX9_made_12 : decode cX9_made 12 = .ok (.iconst 1, 1) := dk_4 (dk_at dksX9_made_0 12 rfl rfl)
theorem dX9_made_13 : decode cX9_made 13 = .ok (.iaload, 1) := dk_46 (dk_at dksX9_made_0 13 rfl rfl)
theorem dX9_made_14 : decode cX9_made 14 = .ok (.aload_n 0, 1) := dk_42 (dk_at dksX9_made_0 14 rfl rfl)
theorem dX9_made_15 : decode cX9_made 15 = .ok (.getfield 13, 3) := dk_180 0 13 (dk_at dksX9_made_0 15 rfl rfl)
theorem dX9_made_18 : decode cX9_made 18 = .ok (.iconst 0, 1) := dk_3 (dk_at dksX9_made_0 18 rfl rfl)
theorem dX9_made_19 : decode cX9_made 19 = .ok (.iaload, 1) := dk_46 (dk_at dksX9_made_0 19 rfl rfl)
theorem dX9_made_20 : decode cX9_made 20 = .ok (.imul, 1) := dk_104 (dk_at dksX9_made_0 20 rfl rfl)
theorem dX9_made_21 : decode cX9_made 21 = .ok (.iadd, 1) := dk_96 (dk_at dksX9_made_0 21 rfl rfl)
theorem dX9_made_22 : decode cX9_made 22 = .ok (.aload_n 0, 1) := dk_42 (dk_at dksX9_made_0 22 rfl rfl)
theorem dX9_made_23 : decode cX9_made 23 = .ok (.getfield 7, 3) := dk_180 0 7 (dk_at dksX9_made_1 0 rfl rfl)
theorem dX9_made_26 : decode cX9_made 26 = .ok (.iconst 2, 1) := dk_5 (dk_at dksX9_made_1 3 rfl rfl)
theorem dX9_made_27 : decode cX9_made 27 = .ok (.iaload, 1) := dk_46 (dk_at dksX9_made_1 4 rfl rfl)
theorem dX9_made_28 : decode cX9_made 28 = .ok (.aload_n 0, 1) := dk_42 (dk_at dksX9_made_1 5 rfl rfl)
theorem dX9_made_29 : decode cX9_made 29 = .ok (.getfield 13, 3) := dk_180 0 13 (dk_at dksX9_made_1 6 rfl rfl)
theorem dX9_made_32 : decode cX9_made 32 = .ok (.iconst 1, 1) := dk_4 (dk_at dksX9_made_1 9 rfl rfl)
theorem dX9_made_33 : decode cX9_made 33 = .ok (.iaload, 1) := dk_46 (dk_at dksX9_made_1 10 rfl rfl)
theorem dX9_made_34 : decode cX9_made 34 = .ok (.imul, 1) := dk_104 (dk_at dksX9_made_1 11 rfl rfl)
theorem dX9_made_35 : decode cX9_made 35 = .ok (.iadd, 1) := dk_96 (dk_at dksX9_made_1 12 rfl rfl)
theorem dX9_made_36 : decode cX9_made 36 = .ok (.bipush 64, 2) := dk_16 64 (dk_at dksX9_made_1 13 rfl rfl)
theorem dX9_made_38 : decode cX9_made 38 = .ok (.idiv, 1) := dk_108 (dk_at dksX9_made_1 15 rfl rfl)
theorem dX9_made_39 : decode cX9_made 39 = .ok (.istore_n 2, 1) := dk_61 (dk_at dksX9_made_1 16 rfl rfl)
theorem dX9_made_40 : decode cX9_made 40 = .ok (.aload_n 0, 1) := dk_42 (dk_at dksX9_made_1 17 rfl rfl)
theorem dX9_made_41 : decode cX9_made 41 = .ok (.getfield 13, 3) := dk_180 0 13 (dk_at dksX9_made_1 18 rfl rfl)
theorem dX9_made_44 : decode cX9_made 44 = .ok (.iconst 0, 1) := dk_3 (dk_at dksX9_made_1 21 rfl rfl)
theorem dX9_made_45 : decode cX9_made 45 = .ok (.iload_n 1, 1) := dk_27 (dk_at dksX9_made_1 22 rfl rfl)
theorem dX9_made_46 : decode cX9_made 46 = .ok (.iastore, 1) := dk_79 (dk_at dksX9_made_1 23 rfl rfl)
theorem dX9_made_47 : decode cX9_made 47 = .ok (.aload_n 0, 1) := dk_42 (dk_at dksX9_made_2 0 rfl rfl)
theorem dX9_made_48 : decode cX9_made 48 = .ok (.getfield 13, 3) := dk_180 0 13 (dk_at dksX9_made_2 1 rfl rfl)
theorem dX9_made_51 : decode cX9_made 51 = .ok (.iconst 1, 1) := dk_4 (dk_at dksX9_made_2 4 rfl rfl)
theorem dX9_made_52 : decode cX9_made 52 = .ok (.iload_n 2, 1) := dk_28 (dk_at dksX9_made_2 5 rfl rfl)
theorem dX9_made_53 : decode cX9_made 53 = .ok (.invokestatic 16, 3) := dk_184 0 16 (dk_at dksX9_made_2 6 rfl rfl)
theorem dX9_made_56 : decode cX9_made 56 = .ok (.iastore, 1) := dk_79 (dk_at dksX9_made_2 9 rfl rfl)
theorem dX9_made_57 : decode cX9_made 57 = .ok (.iload_n 2, 1) := dk_28 (dk_at dksX9_made_2 10 rfl rfl)
theorem dX9_made_58 : decode cX9_made 58 = .ok (.ireturn, 1) := dk_172 (dk_at dksX9_made_2 11 rfl rfl)
abbrev cX9_init : ByteArray := prog_7_method_1_code
def yX9_init : MethodName := ⟨RX9, "<init>", "(I[I)V"⟩
def dkwX9_init_0 : List UInt8 := [42, 27, 16, 102, 5, 188, 10, 89, 3, 3, 79, 89, 4, 3, 79, 183, 0, 1, 42, 44, 181, 0, 7, 177]
abbrev dktX9_init_0 : List UInt8 := dkwX9_init_0 ++ []
theorem dksX9_init_0 : cX9_init.data.toList.drop 0 = dktX9_init_0 := by decide +kernel
theorem dX9_init_0 : decode cX9_init 0 = .ok (.aload_n 0, 1) := dk_42 (dk_at dksX9_init_0 0 rfl rfl)
theorem dX9_init_1 : decode cX9_init 1 = .ok (.iload_n 1, 1) := dk_27 (dk_at dksX9_init_0 1 rfl rfl)
theorem dX9_init_2 : decode cX9_init 2 = .ok (.bipush 102, 2) := dk_16 102 (dk_at dksX9_init_0 2 rfl rfl)
theorem dX9_init_4 : decode cX9_init 4 = .ok (.iconst 2, 1) := dk_5 (dk_at dksX9_init_0 4 rfl rfl)
theorem dX9_init_5 : decode cX9_init 5 = .ok (.newarray .int, 2) := dk_188_10 (dk_at dksX9_init_0 5 rfl rfl)
theorem dX9_init_7 : decode cX9_init 7 = .ok (.dup, 1) := dk_89 (dk_at dksX9_init_0 7 rfl rfl)
theorem dX9_init_8 : decode cX9_init 8 = .ok (.iconst 0, 1) := dk_3 (dk_at dksX9_init_0 8 rfl rfl)
theorem dX9_init_9 : decode cX9_init 9 = .ok (.iconst 0, 1) := dk_3 (dk_at dksX9_init_0 9 rfl rfl)
theorem dX9_init_10 : decode cX9_init 10 = .ok (.iastore, 1) := dk_79 (dk_at dksX9_init_0 10 rfl rfl)
theorem dX9_init_11 : decode cX9_init 11 = .ok (.dup, 1) := dk_89 (dk_at dksX9_init_0 11 rfl rfl)
theorem dX9_init_12 : decode cX9_init 12 = .ok (.iconst 1, 1) := dk_4 (dk_at dksX9_init_0 12 rfl rfl)
theorem dX9_init_13 : decode cX9_init 13 = .ok (.iconst 0, 1) := dk_3 (dk_at dksX9_init_0 13 rfl rfl)
theorem dX9_init_14 : decode cX9_init 14 = .ok (.iastore, 1) := dk_79 (dk_at dksX9_init_0 14 rfl rfl)
theorem dX9_init_15 : decode cX9_init 15 = .ok (.invokespecial 1, 3) := dk_183 0 1 (dk_at dksX9_init_0 15 rfl rfl)
theorem dX9_init_18 : decode cX9_init 18 = .ok (.aload_n 0, 1) := dk_42 (dk_at dksX9_init_0 18 rfl rfl)
theorem dX9_init_19 : decode cX9_init 19 = .ok (.aload_n 2, 1) := dk_44 (dk_at dksX9_init_0 19 rfl rfl)
theorem dX9_init_20 : decode cX9_init 20 = .ok (.putfield 7, 3) := dk_181 0 7 (dk_at dksX9_init_0 20 rfl rfl)
theorem dX9_init_23 : decode cX9_init 23 = .ok (.return_, 1) := dk_177 (dk_at dksX9_init_0 23 rfl rfl)
theorem q75 : (Jvm.Cond.initialized "ToneGraph$Filter") ∈ lw_all := lw_g (lw_at lw_m1 23 rfl) rfl
theorem q226 : (Jvm.Cond.fieldLinkNest "ToneGraph$Filter" (13 : Nat) "ToneGraph$Node" "numbers" "[I" "ToneGraph") ∈ lw_tbl := lw_at lw_m1 174 rfl
theorem q288 : (Jvm.Cond.selects "ToneGraph$Filter" ({ cls := "java/lang/Object", name := "getClass", desc := "()Ljava/lang/Class;" } : Jvm.MethodName) ({ cls := "java/lang/Object", name := "getClass", desc := "()Ljava/lang/Class;" } : Jvm.MethodName)) ∈ lw_all := lw_g (lw_at lw_m1 236 rfl) rfl
theorem q391 : (Jvm.Cond.selects "ToneGraph$Filter" ({ cls := "ToneGraph$Node", name := "isDelay", desc := "()Z" } : Jvm.MethodName) ({ cls := "ToneGraph$Node", name := "isDelay", desc := "()Z" } : Jvm.MethodName)) ∈ lw_all := lw_g (lw_at lw_m2 99 rfl) rfl
theorem q430 : (Jvm.Cond.selects "ToneGraph$Filter" ({ cls := "ToneGraph$Node", name := "tick", desc := "()V" } : Jvm.MethodName) ({ cls := "ToneGraph$Node", name := "tick", desc := "()V" } : Jvm.MethodName)) ∈ lw_all := lw_g (lw_at lw_m2 138 rfl) rfl
theorem q439 : (Jvm.Cond.selects "ToneGraph$Filter" ({ cls := "ToneGraph$Node", name := "input", desc := "()I" } : Jvm.MethodName) ({ cls := "ToneGraph$Node", name := "input", desc := "()I" } : Jvm.MethodName)) ∈ lw_all := lw_g (lw_at lw_m2 147 rfl) rfl
theorem q483 : (Jvm.Cond.selects "ToneGraph$Filter" ({ cls := "ToneGraph$Node", name := "made", desc := "(I)I" } : Jvm.MethodName) ({ cls := "ToneGraph$Filter", name := "made", desc := "(I)I" } : Jvm.MethodName)) ∈ lw_all := lw_g (lw_at lw_m2 191 rfl) rfl
theorem q484 : (Jvm.Cond.instanceMethod ({ cls := "ToneGraph$Filter", name := "made", desc := "(I)I" } : Jvm.MethodName)) ∈ lw_all := lw_g (lw_at lw_m2 192 rfl) rfl
theorem q485 : (Jvm.Cond.code ({ cls := "ToneGraph$Filter", name := "made", desc := "(I)I" } : Jvm.MethodName) prog_7_method_2_code (3 : Nat) (Option.some Jvm.ClassFile.FieldType.int)) ∈ lw_all := lw_g (lw_at lw_m2 193 rfl) rfl
theorem q486 : (Jvm.Cond.methodLinkNest "ToneGraph$Filter" (16 : Nat) ({ cls := "ToneGraph", name := "cut", desc := "(I)I" } : Jvm.MethodName) "ToneGraph") ∈ lw_tbl := lw_at lw_m2 194 rfl
theorem q512 : (Jvm.Cond.selects "ToneGraph$Filter" ({ cls := "ToneGraph$Node", name := "takeIn", desc := "()V" } : Jvm.MethodName) ({ cls := "ToneGraph$Node", name := "takeIn", desc := "()V" } : Jvm.MethodName)) ∈ lw_all := lw_g (lw_at lw_m2 220 rfl) rfl
theorem q639 : (Jvm.Cond.selects "ToneGraph$Filter" ({ cls := "ToneGraph$Node", name := "keep", desc := "()V" } : Jvm.MethodName) ({ cls := "ToneGraph$Node", name := "keep", desc := "()V" } : Jvm.MethodName)) ∈ lw_all := lw_g (lw_at lw_m3 107 rfl) rfl
theorem q659 : (Jvm.Cond.selects "ToneGraph$Filter" ({ cls := "ToneGraph$Node", name := "takeBack", desc := "()V" } : Jvm.MethodName) ({ cls := "ToneGraph$Node", name := "takeBack", desc := "()V" } : Jvm.MethodName)) ∈ lw_all := lw_g (lw_at lw_m3 127 rfl) rfl
theorem q692 : (Jvm.Cond.selects "ToneGraph$Filter" ({ cls := "ToneGraph$Node", name := "fill", desc := "(I)V" } : Jvm.MethodName) ({ cls := "ToneGraph$Node", name := "fill", desc := "(I)V" } : Jvm.MethodName)) ∈ lw_all := lw_g (lw_at lw_m3 160 rfl) rfl
theorem q701 : (Jvm.Cond.selects "ToneGraph$Filter" ({ cls := "ToneGraph$Node", name := "input", desc := "(I)I" } : Jvm.MethodName) ({ cls := "ToneGraph$Node", name := "input", desc := "(I)I" } : Jvm.MethodName)) ∈ lw_all := lw_g (lw_at lw_m3 169 rfl) rfl
theorem q716 : (Jvm.Cond.selects "ToneGraph$Filter" ({ cls := "ToneGraph$Node", name := "takeIn", desc := "(I)V" } : Jvm.MethodName) ({ cls := "ToneGraph$Node", name := "takeIn", desc := "(I)V" } : Jvm.MethodName)) ∈ lw_all := lw_g (lw_at lw_m3 184 rfl) rfl
theorem q821 : (Jvm.Cond.instantiable "ToneGraph$Filter" (10 : Nat)) ∈ lw_all := lw_g (lw_at lw_m4 49 rfl) rfl
theorem q823 : (Jvm.Cond.instanceMethod ({ cls := "ToneGraph$Filter", name := "<init>", desc := "(I[I)V" } : Jvm.MethodName)) ∈ lw_all := lw_g (lw_at lw_m4 51 rfl) rfl
theorem q824 : (Jvm.Cond.code ({ cls := "ToneGraph$Filter", name := "<init>", desc := "(I[I)V" } : Jvm.MethodName) prog_7_method_1_code (3 : Nat) (Option.none : Option Jvm.ClassFile.FieldType)) ∈ lw_all := lw_g (lw_at lw_m4 52 rfl) rfl
theorem q825 : (Jvm.Cond.methodLink "ToneGraph$Filter" (1 : Nat) ({ cls := "ToneGraph$Node", name := "<init>", desc := "(IC[I)V" } : Jvm.MethodName)) ∈ lw_all := lw_g (lw_at lw_m4 53 rfl) rfl
theorem q826 : (Jvm.Cond.fieldLink "ToneGraph$Filter" (7 : Nat) "ToneGraph$Filter" "coefficients" "[I") ∈ lw_all := lw_g (lw_at lw_m4 54 rfl) rfl
theorem q827 : (Jvm.Cond.laysFinal "ToneGraph$Filter" "ToneGraph$Filter" "coefficients" "[I") ∈ lw_all := lw_g (lw_at lw_m4 55 rfl) rfl
theorem q828 : (Jvm.Cond.soleField "ToneGraph$Filter" "coefficients") ∈ lw_all := lw_g (lw_at lw_m4 56 rfl) rfl
theorem q829 : (Jvm.Cond.laysFinal "ToneGraph$Filter" "ToneGraph$Node" "number" "I") ∈ lw_all := lw_g (lw_at lw_m4 57 rfl) rfl
theorem q830 : (Jvm.Cond.laysFinal "ToneGraph$Filter" "ToneGraph$Node" "kind" "C") ∈ lw_all := lw_g (lw_at lw_m4 58 rfl) rfl
theorem q831 : (Jvm.Cond.laysFinal "ToneGraph$Filter" "ToneGraph$Node" "wires" "Ljava/util/ArrayList;") ∈ lw_all := lw_g (lw_at lw_m4 59 rfl) rfl
theorem q832 : (Jvm.Cond.laysFinal "ToneGraph$Filter" "ToneGraph$Node" "row" "[I") ∈ lw_all := lw_g (lw_at lw_m4 60 rfl) rfl
theorem q833 : (Jvm.Cond.lays "ToneGraph$Filter" "ToneGraph$Node" "now" "I") ∈ lw_all := lw_g (lw_at lw_m4 61 rfl) rfl
theorem q834 : (Jvm.Cond.lays "ToneGraph$Filter" "ToneGraph$Node" "nowKept" "I") ∈ lw_all := lw_g (lw_at lw_m4 62 rfl) rfl
theorem q835 : (Jvm.Cond.laysFinal "ToneGraph$Filter" "ToneGraph$Node" "numbers" "[I") ∈ lw_all := lw_g (lw_at lw_m4 63 rfl) rfl
theorem q836 : (Jvm.Cond.laysFinal "ToneGraph$Filter" "ToneGraph$Node" "numbersKept" "[I") ∈ lw_all := lw_g (lw_at lw_m4 64 rfl) rfl
theorem q837 : (Jvm.Cond.lays "ToneGraph$Filter" "ToneGraph$Node" "placed" "Z") ∈ lw_all := lw_g (lw_at lw_m4 65 rfl) rfl
theorem q838 : (Jvm.Cond.superclass "ToneGraph$Filter" "ToneGraph$Node") ∈ lw_all := lw_g (lw_at lw_m4 66 rfl) rfl
theorem q931 : (Jvm.Cond.selects "ToneGraph$Filter" ({ cls := "ToneGraph$Node", name := "wireFrom", desc := "(LToneGraph$Node;)LToneGraph$Wire;" } : Jvm.MethodName) ({ cls := "ToneGraph$Node", name := "wireFrom", desc := "(LToneGraph$Node;)LToneGraph$Wire;" } : Jvm.MethodName)) ∈ lw_all := lw_g (lw_at lw_m4 159 rfl) rfl
theorem q940 : (Jvm.Cond.selects "ToneGraph$Filter" ({ cls := "ToneGraph$Node", name := "follows", desc := "(LToneGraph$Node;)Z" } : Jvm.MethodName) ({ cls := "ToneGraph$Node", name := "follows", desc := "(LToneGraph$Node;)Z" } : Jvm.MethodName)) ∈ lw_all := lw_g (lw_at lw_m4 168 rfl) rfl
theorem q1616 : (Jvm.Cond.castable "ToneGraph$Filter" "ToneGraph$Node") ∈ lw_tbl := lw_at lw_m7 124 rfl
theorem q1628 : (Jvm.Cond.castable "ToneGraph$Filter" "java/lang/Object") ∈ lw_tbl := lw_at lw_m7 136 rfl
theorem in_X9 : ∀ w ∈ wsX90, w ∈ lw_all := lw_in wsX90 [829, 830, 831, 832, 833, 834, 835, 836, 837, 827] (by decide +kernel) (by decide +kernel)

/-! ToneGraph$Bus -/
set_option maxRecDepth 100000
def RX10 : String := "ToneGraph$Bus"
def TX10 : u_T := fun k => match k with
  | 0 => ("ToneGraph$Node", "number", "I", true)
  | 1 => ("ToneGraph$Node", "kind", "C", true)
  | 2 => ("ToneGraph$Node", "wires", "Ljava/util/ArrayList;", true)
  | 3 => ("ToneGraph$Node", "row", "[I", true)
  | 4 => ("ToneGraph$Node", "now", "I", false)
  | 5 => ("ToneGraph$Node", "nowKept", "I", false)
  | 6 => ("ToneGraph$Node", "numbers", "[I", true)
  | 7 => ("ToneGraph$Node", "numbersKept", "[I", true)
  | 8 => ("ToneGraph$Node", "placed", "Z", false)
  | _ => ("ToneGraph$Bus", "limit", "I", true)
def tyX10 : Nat → FieldType := fun k => match k with
  | 0 => .int
  | 1 => .char
  | 2 => .object "java/util/ArrayList"
  | 3 => .array .int
  | 4 => .int
  | 5 => .int
  | 6 => .array .int
  | 7 => .array .int
  | 8 => .boolean
  | _ => .int
abbrev wsX100 : List Cond := u_ws RX10 TX10 10
theorem nmX10 : ∀ a, a < 10 → ∀ b, b < 10 → a ≠ b → (TX10 a).2.1 ≠ (TX10 b).2.1 := by decide +kernel
theorem tyX10_ok : ∀ k, k < 10 → parseFieldDescriptor (TX10 k).2.2.1 = some (tyX10 k) := by decide +kernel
abbrev cX10_made : ByteArray := prog_2_method_2_code
def yX10_made : MethodName := ⟨RX10, "made", "(I)I"⟩
def dkwX10_made_1 : List UInt8 := [180, 0, 7, 100, 7, 108, 96, 62, 27, 156, 0, 8, 29, 116, 167, 0, 4, 29, 172]
abbrev dktX10_made_1 : List UInt8 := dkwX10_made_1 ++ []
def dkwX10_made_0 : List UInt8 := [27, 184, 0, 13, 61, 28, 42, 180, 0, 7, 163, 0, 7, 28, 167, 0, 16, 42, 180, 0, 7, 28, 42]
abbrev dktX10_made_0 : List UInt8 := dkwX10_made_0 ++ dktX10_made_1
theorem dksX10_made_0 : cX10_made.data.toList.drop 0 = dktX10_made_0 := by decide +kernel
theorem dksX10_made_1 : cX10_made.data.toList.drop 23 = dktX10_made_1 := dk_seg dksX10_made_0 23 rfl rfl
theorem dX10_made_0 : decode cX10_made 0 = .ok (.iload_n 1, 1) := dk_27 (dk_at dksX10_made_0 0 rfl rfl)
theorem dX10_made_1 : decode cX10_made 1 = .ok (.invokestatic 13, 3) := dk_184 0 13 (dk_at dksX10_made_0 1 rfl rfl)
theorem dX10_made_4 : decode cX10_made 4 = .ok (.istore_n 2, 1) := dk_61 (dk_at dksX10_made_0 4 rfl rfl)
theorem dX10_made_5 : decode cX10_made 5 = .ok (.iload_n 2, 1) := dk_28 (dk_at dksX10_made_0 5 rfl rfl)
theorem dX10_made_6 : decode cX10_made 6 = .ok (.aload_n 0, 1) := dk_42 (dk_at dksX10_made_0 6 rfl rfl)
theorem dX10_made_7 : decode cX10_made 7 = .ok (.getfield 7, 3) := dk_180 0 7 (dk_at dksX10_made_0 7 rfl rfl)
theorem dX10_made_10 : decode cX10_made 10 = .ok (.if_icmp .gt 7, 3) := dk_163 0 7 (dk_at dksX10_made_0 10 rfl rfl)
theorem dX10_made_13 : decode cX10_made 13 = .ok (.iload_n 2, 1) := dk_28 (dk_at dksX10_made_0 13 rfl rfl)
theorem dX10_made_14 : decode cX10_made 14 = .ok (.goto 16, 3) := dk_167 0 16 (dk_at dksX10_made_0 14 rfl rfl)
theorem dX10_made_17 : decode cX10_made 17 = .ok (.aload_n 0, 1) := dk_42 (dk_at dksX10_made_0 17 rfl rfl)
theorem dX10_made_18 : decode cX10_made 18 = .ok (.getfield 7, 3) := dk_180 0 7 (dk_at dksX10_made_0 18 rfl rfl)
theorem dX10_made_21 : decode cX10_made 21 = .ok (.iload_n 2, 1) := dk_28 (dk_at dksX10_made_0 21 rfl rfl)
theorem dX10_made_22 : decode cX10_made 22 = .ok (.aload_n 0, 1) := dk_42 (dk_at dksX10_made_0 22 rfl rfl)
theorem dX10_made_23 : decode cX10_made 23 = .ok (.getfield 7, 3) := dk_180 0 7 (dk_at dksX10_made_1 0 rfl rfl)
theorem dX10_made_26 : decode cX10_made 26 = .ok (.isub, 1) := dk_100 (dk_at dksX10_made_1 3 rfl rfl)
theorem dX10_made_27 : decode cX10_made 27 = .ok (.iconst 4, 1) := dk_7 (dk_at dksX10_made_1 4 rfl rfl)
theorem dX10_made_28 : decode cX10_made 28 = .ok (.idiv, 1) := dk_108 (dk_at dksX10_made_1 5 rfl rfl)
theorem dX10_made_29 : decode cX10_made 29 = .ok (.iadd, 1) := dk_96 (dk_at dksX10_made_1 6 rfl rfl)
theorem dX10_made_30 : decode cX10_made 30 = .ok (.istore_n 3, 1) := dk_62 (dk_at dksX10_made_1 7 rfl rfl)
theorem dX10_made_31 : decode cX10_made 31 = .ok (.iload_n 1, 1) := dk_27 (dk_at dksX10_made_1 8 rfl rfl)
theorem dX10_made_32 : decode cX10_made 32 = .ok (.ifCond .ge 8, 3) := dk_156 0 8 (dk_at dksX10_made_1 9 rfl rfl)
theorem dX10_made_35 : decode cX10_made 35 = .ok (.iload_n 3, 1) := dk_29 (dk_at dksX10_made_1 12 rfl rfl)
theorem dX10_made_36 : decode cX10_made 36 = .ok (.ineg, 1) := dk_116 (dk_at dksX10_made_1 13 rfl rfl)
theorem dX10_made_37 : decode cX10_made 37 = .ok (.goto 4, 3) := dk_167 0 4 (dk_at dksX10_made_1 14 rfl rfl)
theorem dX10_made_40 : decode cX10_made 40 = .ok (.iload_n 3, 1) := dk_29 (dk_at dksX10_made_1 17 rfl rfl)
theorem dX10_made_41 : decode cX10_made 41 = .ok (.ireturn, 1) := dk_172 (dk_at dksX10_made_1 18 rfl rfl)
abbrev cX10_init : ByteArray := prog_2_method_1_code
def yX10_init : MethodName := ⟨RX10, "<init>", "(II)V"⟩
def dkwX10_init_0 : List UInt8 := [42, 27, 16, 98, 3, 188, 10, 183, 0, 1, 42, 28, 181, 0, 7, 177]
abbrev dktX10_init_0 : List UInt8 := dkwX10_init_0 ++ []
theorem dksX10_init_0 : cX10_init.data.toList.drop 0 = dktX10_init_0 := by decide +kernel
theorem dX10_init_0 : decode cX10_init 0 = .ok (.aload_n 0, 1) := dk_42 (dk_at dksX10_init_0 0 rfl rfl)
theorem dX10_init_1 : decode cX10_init 1 = .ok (.iload_n 1, 1) := dk_27 (dk_at dksX10_init_0 1 rfl rfl)
theorem dX10_init_2 : decode cX10_init 2 = .ok (.bipush 98, 2) := dk_16 98 (dk_at dksX10_init_0 2 rfl rfl)
theorem dX10_init_4 : decode cX10_init 4 = .ok (.iconst 0, 1) := dk_3 (dk_at dksX10_init_0 4 rfl rfl)
theorem dX10_init_5 : decode cX10_init 5 = .ok (.newarray .int, 2) := dk_188_10 (dk_at dksX10_init_0 5 rfl rfl)
theorem dX10_init_7 : decode cX10_init 7 = .ok (.invokespecial 1, 3) := dk_183 0 1 (dk_at dksX10_init_0 7 rfl rfl)
theorem dX10_init_10 : decode cX10_init 10 = .ok (.aload_n 0, 1) := dk_42 (dk_at dksX10_init_0 10 rfl rfl)
theorem dX10_init_11 : decode cX10_init 11 = .ok (.iload_n 2, 1) := dk_28 (dk_at dksX10_init_0 11 rfl rfl)
theorem dX10_init_12 : decode cX10_init 12 = .ok (.putfield 7, 3) := dk_181 0 7 (dk_at dksX10_init_0 12 rfl rfl)
theorem dX10_init_15 : decode cX10_init 15 = .ok (.return_, 1) := dk_177 (dk_at dksX10_init_0 15 rfl rfl)
theorem q76 : (Jvm.Cond.initialized "ToneGraph$Bus") ∈ lw_all := lw_g (lw_at lw_m1 24 rfl) rfl
theorem q284 : (Jvm.Cond.selects "ToneGraph$Bus" ({ cls := "java/lang/Object", name := "getClass", desc := "()Ljava/lang/Class;" } : Jvm.MethodName) ({ cls := "java/lang/Object", name := "getClass", desc := "()Ljava/lang/Class;" } : Jvm.MethodName)) ∈ lw_all := lw_g (lw_at lw_m1 232 rfl) rfl
theorem q386 : (Jvm.Cond.selects "ToneGraph$Bus" ({ cls := "ToneGraph$Node", name := "isDelay", desc := "()Z" } : Jvm.MethodName) ({ cls := "ToneGraph$Node", name := "isDelay", desc := "()Z" } : Jvm.MethodName)) ∈ lw_all := lw_g (lw_at lw_m2 94 rfl) rfl
theorem q427 : (Jvm.Cond.selects "ToneGraph$Bus" ({ cls := "ToneGraph$Node", name := "tick", desc := "()V" } : Jvm.MethodName) ({ cls := "ToneGraph$Node", name := "tick", desc := "()V" } : Jvm.MethodName)) ∈ lw_all := lw_g (lw_at lw_m2 135 rfl) rfl
theorem q436 : (Jvm.Cond.selects "ToneGraph$Bus" ({ cls := "ToneGraph$Node", name := "input", desc := "()I" } : Jvm.MethodName) ({ cls := "ToneGraph$Node", name := "input", desc := "()I" } : Jvm.MethodName)) ∈ lw_all := lw_g (lw_at lw_m2 144 rfl) rfl
theorem q448 : (Jvm.Cond.selects "ToneGraph$Bus" ({ cls := "ToneGraph$Node", name := "made", desc := "(I)I" } : Jvm.MethodName) ({ cls := "ToneGraph$Bus", name := "made", desc := "(I)I" } : Jvm.MethodName)) ∈ lw_all := lw_g (lw_at lw_m2 156 rfl) rfl
theorem q449 : (Jvm.Cond.instanceMethod ({ cls := "ToneGraph$Bus", name := "made", desc := "(I)I" } : Jvm.MethodName)) ∈ lw_all := lw_g (lw_at lw_m2 157 rfl) rfl
theorem q450 : (Jvm.Cond.code ({ cls := "ToneGraph$Bus", name := "made", desc := "(I)I" } : Jvm.MethodName) prog_2_method_2_code (4 : Nat) (Option.some Jvm.ClassFile.FieldType.int)) ∈ lw_all := lw_g (lw_at lw_m2 158 rfl) rfl
theorem q451 : (Jvm.Cond.methodLink "ToneGraph$Bus" (13 : Nat) ({ cls := "java/lang/Math", name := "abs", desc := "(I)I" } : Jvm.MethodName)) ∈ lw_all := lw_g (lw_at lw_m2 159 rfl) rfl
theorem q497 : (Jvm.Cond.selects "ToneGraph$Bus" ({ cls := "ToneGraph$Node", name := "takeIn", desc := "()V" } : Jvm.MethodName) ({ cls := "ToneGraph$Node", name := "takeIn", desc := "()V" } : Jvm.MethodName)) ∈ lw_all := lw_g (lw_at lw_m2 205 rfl) rfl
theorem q627 : (Jvm.Cond.selects "ToneGraph$Bus" ({ cls := "ToneGraph$Node", name := "keep", desc := "()V" } : Jvm.MethodName) ({ cls := "ToneGraph$Node", name := "keep", desc := "()V" } : Jvm.MethodName)) ∈ lw_all := lw_g (lw_at lw_m3 95 rfl) rfl
theorem q648 : (Jvm.Cond.selects "ToneGraph$Bus" ({ cls := "ToneGraph$Node", name := "takeBack", desc := "()V" } : Jvm.MethodName) ({ cls := "ToneGraph$Node", name := "takeBack", desc := "()V" } : Jvm.MethodName)) ∈ lw_all := lw_g (lw_at lw_m3 116 rfl) rfl
theorem q673 : (Jvm.Cond.selects "ToneGraph$Bus" ({ cls := "ToneGraph$Node", name := "fill", desc := "(I)V" } : Jvm.MethodName) ({ cls := "ToneGraph$Node", name := "fill", desc := "(I)V" } : Jvm.MethodName)) ∈ lw_all := lw_g (lw_at lw_m3 141 rfl) rfl
theorem q698 : (Jvm.Cond.selects "ToneGraph$Bus" ({ cls := "ToneGraph$Node", name := "input", desc := "(I)I" } : Jvm.MethodName) ({ cls := "ToneGraph$Node", name := "input", desc := "(I)I" } : Jvm.MethodName)) ∈ lw_all := lw_g (lw_at lw_m3 166 rfl) rfl
theorem q707 : (Jvm.Cond.selects "ToneGraph$Bus" ({ cls := "ToneGraph$Node", name := "takeIn", desc := "(I)V" } : Jvm.MethodName) ({ cls := "ToneGraph$Node", name := "takeIn", desc := "(I)V" } : Jvm.MethodName)) ∈ lw_all := lw_g (lw_at lw_m3 175 rfl) rfl
theorem q847 : (Jvm.Cond.instantiable "ToneGraph$Bus" (10 : Nat)) ∈ lw_all := lw_g (lw_at lw_m4 75 rfl) rfl
theorem q849 : (Jvm.Cond.instanceMethod ({ cls := "ToneGraph$Bus", name := "<init>", desc := "(II)V" } : Jvm.MethodName)) ∈ lw_all := lw_g (lw_at lw_m4 77 rfl) rfl
theorem q850 : (Jvm.Cond.code ({ cls := "ToneGraph$Bus", name := "<init>", desc := "(II)V" } : Jvm.MethodName) prog_2_method_1_code (3 : Nat) (Option.none : Option Jvm.ClassFile.FieldType)) ∈ lw_all := lw_g (lw_at lw_m4 78 rfl) rfl
theorem q851 : (Jvm.Cond.methodLink "ToneGraph$Bus" (1 : Nat) ({ cls := "ToneGraph$Node", name := "<init>", desc := "(IC[I)V" } : Jvm.MethodName)) ∈ lw_all := lw_g (lw_at lw_m4 79 rfl) rfl
theorem q852 : (Jvm.Cond.fieldLink "ToneGraph$Bus" (7 : Nat) "ToneGraph$Bus" "limit" "I") ∈ lw_all := lw_g (lw_at lw_m4 80 rfl) rfl
theorem q853 : (Jvm.Cond.laysFinal "ToneGraph$Bus" "ToneGraph$Bus" "limit" "I") ∈ lw_all := lw_g (lw_at lw_m4 81 rfl) rfl
theorem q854 : (Jvm.Cond.soleField "ToneGraph$Bus" "limit") ∈ lw_all := lw_g (lw_at lw_m4 82 rfl) rfl
theorem q855 : (Jvm.Cond.laysFinal "ToneGraph$Bus" "ToneGraph$Node" "number" "I") ∈ lw_all := lw_g (lw_at lw_m4 83 rfl) rfl
theorem q856 : (Jvm.Cond.laysFinal "ToneGraph$Bus" "ToneGraph$Node" "kind" "C") ∈ lw_all := lw_g (lw_at lw_m4 84 rfl) rfl
theorem q857 : (Jvm.Cond.laysFinal "ToneGraph$Bus" "ToneGraph$Node" "wires" "Ljava/util/ArrayList;") ∈ lw_all := lw_g (lw_at lw_m4 85 rfl) rfl
theorem q858 : (Jvm.Cond.laysFinal "ToneGraph$Bus" "ToneGraph$Node" "row" "[I") ∈ lw_all := lw_g (lw_at lw_m4 86 rfl) rfl
theorem q859 : (Jvm.Cond.lays "ToneGraph$Bus" "ToneGraph$Node" "now" "I") ∈ lw_all := lw_g (lw_at lw_m4 87 rfl) rfl
theorem q860 : (Jvm.Cond.lays "ToneGraph$Bus" "ToneGraph$Node" "nowKept" "I") ∈ lw_all := lw_g (lw_at lw_m4 88 rfl) rfl
theorem q861 : (Jvm.Cond.laysFinal "ToneGraph$Bus" "ToneGraph$Node" "numbers" "[I") ∈ lw_all := lw_g (lw_at lw_m4 89 rfl) rfl
theorem q862 : (Jvm.Cond.laysFinal "ToneGraph$Bus" "ToneGraph$Node" "numbersKept" "[I") ∈ lw_all := lw_g (lw_at lw_m4 90 rfl) rfl
theorem q863 : (Jvm.Cond.lays "ToneGraph$Bus" "ToneGraph$Node" "placed" "Z") ∈ lw_all := lw_g (lw_at lw_m4 91 rfl) rfl
theorem q864 : (Jvm.Cond.superclass "ToneGraph$Bus" "ToneGraph$Node") ∈ lw_all := lw_g (lw_at lw_m4 92 rfl) rfl
theorem q928 : (Jvm.Cond.selects "ToneGraph$Bus" ({ cls := "ToneGraph$Node", name := "wireFrom", desc := "(LToneGraph$Node;)LToneGraph$Wire;" } : Jvm.MethodName) ({ cls := "ToneGraph$Node", name := "wireFrom", desc := "(LToneGraph$Node;)LToneGraph$Wire;" } : Jvm.MethodName)) ∈ lw_all := lw_g (lw_at lw_m4 156 rfl) rfl
theorem q937 : (Jvm.Cond.selects "ToneGraph$Bus" ({ cls := "ToneGraph$Node", name := "follows", desc := "(LToneGraph$Node;)Z" } : Jvm.MethodName) ({ cls := "ToneGraph$Node", name := "follows", desc := "(LToneGraph$Node;)Z" } : Jvm.MethodName)) ∈ lw_all := lw_g (lw_at lw_m4 165 rfl) rfl
theorem q1613 : (Jvm.Cond.castable "ToneGraph$Bus" "ToneGraph$Node") ∈ lw_tbl := lw_at lw_m7 121 rfl
theorem q1629 : (Jvm.Cond.castable "ToneGraph$Bus" "java/lang/Object") ∈ lw_tbl := lw_at lw_m7 137 rfl
theorem in_X10 : ∀ w ∈ wsX100, w ∈ lw_all := lw_in wsX100 [855, 856, 857, 858, 859, 860, 861, 862, 863, 853] (by decide +kernel) (by decide +kernel)

/-! ToneGraph$Wire -/
set_option maxRecDepth 100000
def RX11 : String := "ToneGraph$Wire"
def TX11 : u_T := fun k => match k with
  | 0 => ("ToneGraph$Wire", "from", "LToneGraph$Node;", true)
  | _ => ("ToneGraph$Wire", "percent", "I", true)
def tyX11 : Nat → FieldType := fun k => match k with
  | 0 => .object "ToneGraph$Node"
  | _ => .int
abbrev wsX110 : List Cond := u_ws RX11 TX11 2
theorem nmX11 : ∀ a, a < 2 → ∀ b, b < 2 → a ≠ b → (TX11 a).2.1 ≠ (TX11 b).2.1 := by decide +kernel
theorem tyX11_ok : ∀ k, k < 2 → parseFieldDescriptor (TX11 k).2.2.1 = some (tyX11 k) := by decide +kernel
abbrev cX11_init : ByteArray := prog_12_method_1_code
def yX11_init : MethodName := ⟨RX11, "<init>", "(LToneGraph$Node;I)V"⟩
def dkwX11_init_0 : List UInt8 := [42, 183, 0, 1, 42, 43, 181, 0, 7, 42, 28, 181, 0, 13, 177]
abbrev dktX11_init_0 : List UInt8 := dkwX11_init_0 ++ []
theorem dksX11_init_0 : cX11_init.data.toList.drop 0 = dktX11_init_0 := by decide +kernel
theorem dX11_init_0 : decode cX11_init 0 = .ok (.aload_n 0, 1) := dk_42 (dk_at dksX11_init_0 0 rfl rfl)
theorem dX11_init_1 : decode cX11_init 1 = .ok (.invokespecial 1, 3) := dk_183 0 1 (dk_at dksX11_init_0 1 rfl rfl)
theorem dX11_init_4 : decode cX11_init 4 = .ok (.aload_n 0, 1) := dk_42 (dk_at dksX11_init_0 4 rfl rfl)
theorem dX11_init_5 : decode cX11_init 5 = .ok (.aload_n 1, 1) := dk_43 (dk_at dksX11_init_0 5 rfl rfl)
theorem dX11_init_6 : decode cX11_init 6 = .ok (.putfield 7, 3) := dk_181 0 7 (dk_at dksX11_init_0 6 rfl rfl)
theorem dX11_init_9 : decode cX11_init 9 = .ok (.aload_n 0, 1) := dk_42 (dk_at dksX11_init_0 9 rfl rfl)
theorem dX11_init_10 : decode cX11_init 10 = .ok (.iload_n 2, 1) := dk_28 (dk_at dksX11_init_0 10 rfl rfl)
theorem dX11_init_11 : decode cX11_init 11 = .ok (.putfield 13, 3) := dk_181 0 13 (dk_at dksX11_init_0 11 rfl rfl)
theorem dX11_init_14 : decode cX11_init 14 = .ok (.return_, 1) := dk_177 (dk_at dksX11_init_0 14 rfl rfl)
theorem q81 : (Jvm.Cond.initialized "ToneGraph$Wire") ∈ lw_all := lw_g (lw_at lw_m1 29 rfl) rfl
theorem q291 : (Jvm.Cond.selects "ToneGraph$Wire" ({ cls := "java/lang/Object", name := "getClass", desc := "()Ljava/lang/Class;" } : Jvm.MethodName) ({ cls := "java/lang/Object", name := "getClass", desc := "()Ljava/lang/Class;" } : Jvm.MethodName)) ∈ lw_all := lw_g (lw_at lw_m1 239 rfl) rfl
theorem q960 : (Jvm.Cond.instantiable "ToneGraph$Wire" (2 : Nat)) ∈ lw_all := lw_g (lw_at lw_m4 188 rfl) rfl
theorem q962 : (Jvm.Cond.instanceMethod ({ cls := "ToneGraph$Wire", name := "<init>", desc := "(LToneGraph$Node;I)V" } : Jvm.MethodName)) ∈ lw_all := lw_g (lw_at lw_m4 190 rfl) rfl
theorem q963 : (Jvm.Cond.code ({ cls := "ToneGraph$Wire", name := "<init>", desc := "(LToneGraph$Node;I)V" } : Jvm.MethodName) prog_12_method_1_code (3 : Nat) (Option.none : Option Jvm.ClassFile.FieldType)) ∈ lw_all := lw_g (lw_at lw_m4 191 rfl) rfl
theorem q964 : (Jvm.Cond.methodLink "ToneGraph$Wire" (1 : Nat) ({ cls := "java/lang/Object", name := "<init>", desc := "()V" } : Jvm.MethodName)) ∈ lw_all := lw_g (lw_at lw_m4 192 rfl) rfl
theorem q965 : (Jvm.Cond.fieldLink "ToneGraph$Wire" (7 : Nat) "ToneGraph$Wire" "from" "LToneGraph$Node;") ∈ lw_all := lw_g (lw_at lw_m4 193 rfl) rfl
theorem q968 : (Jvm.Cond.fieldLink "ToneGraph$Wire" (13 : Nat) "ToneGraph$Wire" "percent" "I") ∈ lw_all := lw_g (lw_at lw_m4 196 rfl) rfl
theorem q971 : (Jvm.Cond.laysFinal "ToneGraph$Wire" "ToneGraph$Wire" "from" "LToneGraph$Node;") ∈ lw_all := lw_g (lw_at lw_m4 199 rfl) rfl
theorem q972 : (Jvm.Cond.soleField "ToneGraph$Wire" "from") ∈ lw_all := lw_g (lw_at lw_m4 200 rfl) rfl
theorem q973 : (Jvm.Cond.laysFinal "ToneGraph$Wire" "ToneGraph$Wire" "percent" "I") ∈ lw_all := lw_g (lw_at lw_m4 201 rfl) rfl
theorem q974 : (Jvm.Cond.soleField "ToneGraph$Wire" "percent") ∈ lw_all := lw_g (lw_at lw_m4 202 rfl) rfl
theorem q975 : (Jvm.Cond.superclass "ToneGraph$Wire" "java/lang/Object") ∈ lw_all := lw_g (lw_at lw_m4 203 rfl) rfl
theorem q1633 : (Jvm.Cond.castable "ToneGraph$Wire" "java/lang/Object") ∈ lw_tbl := lw_at lw_m7 141 rfl
theorem in_X11 : ∀ w ∈ wsX110, w ∈ lw_all := lw_in wsX110 [971, 973] (by decide +kernel) (by decide +kernel)
